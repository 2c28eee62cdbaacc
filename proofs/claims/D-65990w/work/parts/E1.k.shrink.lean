/-! L3: walls (desk): a solid shrinks, wide sides apart -/
section SHL
variable {gv : Nat → Int} {B n d a : Nat} {h : AH} {R : Nat → Nat → Bool}
theorem cnN {α : Type} {b : Bool} {x y : α} : cond (!b) x y = if b = true then y else x := by cases b <;> rfl
theorem o_bit : ∀ o : Fin 64, tst 0 (bop32 126 ((o : Nat) : Int) 1) 0 = !decide ((o : Nat) % 2 = 1) ∧ tst 0 (bop32 126 ((o : Nat) : Int) 2) 0 = !decide ((o : Nat) / 2 % 2 = 1) := by decide +kernel
/-- what is left of a line -/
def eo (n : Nat) (lo hi : Bool) (f : Nat → Bool) (i : Nat) : Bool := f i && ((if i = 0 then lo else f (i - 1)) && (if i + 1 < n then f (i + 1) else hi))
theorem tb_full {b : Bool} {x : Nat} (hn : n ≤ 52) : tb (if b = true then (2 ^ n - 1 : Int) else 0) x = (decide (x < n) && b) := by
  cases b
  · rw [if_neg Bool.false_ne_true, tb_0, Bool.and_false]
  · rw [if_pos rfl, tb_mask hn, Bool.and_true]
theorem c_shrinkLine307 {p st o : Nat} (l : LX B n h) (hd : 10 ≤ d) (hn : n ≤ 52) (sa : Sol n h a R) (ha : B + 246 ≤ a) (e12 : hv h (B + 92) 12 = rf a) (hs : 0 < st) (hat : ∀ k, k < n → p + k * st < 24 * n * n) (ho : o < 64) :
    Vd (cll PP (ev PP (gsF gv) B) d 307 [(2, rf (B + 92)), (0, (p : Int)), (0, (st : Int)), (0, (o : Int))] h) (fun h' => Fr (fun c => c = a ∨ c = B + 111) h h' ∧ Sol n h' a (fun j x => if onl n p st j = true then eo n (decide (o % 2 = 1)) (decide (o / 2 % 2 = 1)) (fun k => R (p + k * st) x) ((j - p) / st) else R j x)) := by
  have hN := rows_le hn
  have ka := sa.1
  have k111 : hk h (B + 111) = (3, 64) := lk_111 l
  have hne : a ≠ B + 111 := by omega
  have ix : ∀ k : Nat, k < n → bop32 96 (p : Int) (bop32 104 (k : Int) (st : Int)) = ((p + k * st : Nat) : Int) := by
    intro k hk
    have := hat k hk
    rw [mulN (by omega), addN (by omega)]
  have arr : ∀ c, (c = a ∨ c = B + 111) → 2 ≤ (hk h c).1 := by
    rintro c (rfl | rfl)
    · rw [ka]; exact (by decide : 2 ≤ 3)
    · rw [k111]; exact (by decide : 2 ≤ 3)
  obtain ⟨ob1, ob2⟩ := o_bit ⟨o, ho⟩
  simp only at ob1 ob2
  refine Vd.inq (D := 9) hd (Nat.le_of_ble_eq_true rfl) rfl (fun d hd Q K => ?_)
  refine Ends.eq (b307_0 l (by omega)) ?_
  rw [ob1, ob2, cnN, cnN]
  generalize elo : decide (o % 2 = 1) = lo
  generalize ehi : decide (o / 2 % 2 = 1) = hi
  rw [elo, ehi] at K
  -- each gets what is beside it
  have l2 : ∀ (c i : Nat) (s : AH), i + c = n → LX B n s → Fr (fun c => c = a ∨ c = B + 111) h s → (∀ k, k < n → hv s (B + 111) k = hv h a (p + k * st)) → Sol n s a (fun j x => if (onl n p st j && decide ((j - p) / st < i)) = true then eo n lo hi (fun k => R (p + k * st) x) ((j - p) / st) else R j x) → Ends (ev PP (gsF gv) B d 307 77 [(2, rf (B + 92)), (0, (p : Int)), (0, (st : Int)), (0, (o : Int)), (1, if lo = true then (2 ^ n - 1 : Int) else 0), (9, 0), (1, if hi = true then (2 ^ n - 1 : Int) else 0), (9, 0), (0, (i : Int))] [] s) Q := by
    intro c
    induction c with
    | zero =>
      intro i s e ls hG hM hS
      obtain rfl : i = n := by omega
      refine Ends.eq (b307_77 (by decide) ls (by omega)) (Ends.b3 (fun _ => Ends.sm (K _ ⟨hG, hS.congr (fun j x _ _ => ?_)⟩)) (fun z => by omega))
      cases hj : onl i p st j
      · rfl
      · rw [decide_eq_true (onl_is hj).2]; rfl
    | succ c ih =>
      intro i s e ls hG hM hS
      have hi' : i < n := by omega
      have hp := hat i hi'
      obtain ⟨i1, i2⟩ := idx_at (p := p) (k := i) hs
      have e12' : hv s (B + 92) 12 = rf a := by rw [hG.1 _ (by omega)]; exact e12
      have prev : (if i = 0 then (if lo = true then (2 ^ n - 1 : Int) else 0) else hv h a (p + (i - 1) * st)) = cond (tst 5 (i : Int) 0) (if lo = true then (2 ^ n - 1 : Int) else 0) (hv s (B + 111) (Int.toNat (bop32 100 (i : Int) 1))) := by
        rw [ct5]
        by_cases h0 : i = 0
        · rw [if_pos h0, if_neg (show ¬ (0 : Int) < (i : Int) by omega)]
        · rw [if_neg h0, if_pos (by omega), subN (by omega) (by omega) (by decide) (by decide), show ((i : Int) - 1).toNat = i - 1 by omega, hM (i - 1) (by omega)]
      have nxt : (if i + 1 < n then hv h a (p + (i + 1) * st) else (if hi = true then (2 ^ n - 1 : Int) else 0)) = cond (tst 3 (bop32 96 (i : Int) 1) (n : Int)) (if hi = true then (2 ^ n - 1 : Int) else 0) (hv s (B + 111) (Int.toNat (bop32 96 (i : Int) 1))) := by
        rw [ct3, show bop32 96 (i : Int) 1 = ((i + 1 : Nat) : Int) from addN (b := 1) (by omega)]
        by_cases h0 : i + 1 < n
        · rw [if_pos h0, if_pos (by omega), tn, hM (i + 1) h0]
        · rw [if_neg h0, if_neg (show ¬ ((i + 1 : Nat) : Int) < (n : Int) by omega)]
      refine Ends.eq (b307_77 (by decide) ls (by omega)) ?_
      rw [e12', ← prev, ← nxt]
      simp only [ad_rf, hG.2.1, ka, ix i hi', tn, an1]
      refine Ends.b3 (fun _ => by omega) (fun _ => Ends.g ⟨rf_pos _, by first | trivial | rfl, by omega, by omega⟩ (Ends.g ?_ (Ends.g ?_ (Ends.g ⟨rf_pos _, by first | trivial | rfl, by omega, by omega, by omega⟩ ?_))))
      · rw [ct5]
        by_cases h0 : (0 : Int) < (i : Int)
        · rw [if_pos h0, subN (by omega) (by omega) (by decide) (by decide)]
          exact ⟨by omega, by omega⟩
        · rw [if_neg h0]; trivial
      · rw [ct3, show bop32 96 (i : Int) 1 = ((i + 1 : Nat) : Int) from addN (b := 1) (by omega)]
        by_cases h0 : ((i + 1 : Nat) : Int) < (n : Int)
        · rw [if_pos h0]
          exact ⟨by omega, by omega⟩
        · rw [if_neg h0]; trivial
      · rw [w_succ (by omega)]
        refine ih (i + 1) _ (by omega) (lxA (t := 1) ls (by rw [hG.2.1]; exact ka)) (hG.tr (Fr.set (Or.inl rfl))) (fun k hk => ?_) ⟨by rw [hk_set, hG.2.1]; exact ka, fun j hj => ?_⟩
        · rw [hv_na (Ne.symm hne)]; exact hM k hk
        · rw [hv_set, if_pos rfl]
          by_cases e : j = p + i * st
          · subst e
            rw [if_pos rfl]
            refine ⟨cn_bop64, fun x hx => ?_⟩
            have o : onl n p st (p + i * st) = true := by
              unfold onl
              rw [i1, i2]
              exact decide_eq_true ⟨Nat.le_add_right _ _, rfl, hi'⟩
            have t1 : tb (if i = 0 then (if lo = true then (2 ^ n - 1 : Int) else 0) else hv h a (p + (i - 1) * st)) x = (decide (x < n) && (if i = 0 then lo else R (p + (i - 1) * st) x)) := by
              split
              · exact tb_full hn
              · rw [(sa.2 _ (hat (i - 1) (by omega))).2 x hx]
            have t2 : tb (if i + 1 < n then hv h a (p + (i + 1) * st) else (if hi = true then (2 ^ n - 1 : Int) else 0)) x = (decide (x < n) && (if i + 1 < n then R (p + (i + 1) * st) x else hi)) := by
              split
              · next q => rw [(sa.2 _ (hat (i + 1) q)).2 x hx]
              · exact tb_full hn
            rw [tb_and, tb_and, (hS.2 _ hp).2 x hx, t1, t2]
            dsimp only
            rw [i1, o, decide_eq_false (Nat.lt_irrefl i), decide_eq_true (Nat.lt_succ_self i)]
            show (decide (x < n) && R (p + i * st) x && _) = (decide (x < n) && eo n lo hi (fun k => R (p + k * st) x) i)
            unfold eo
            cases decide (x < n) <;> rfl
          · rw [if_neg e]
            refine ⟨(hS.2 j hj).1, fun x hx => ?_⟩
            rw [(hS.2 j hj).2 x hx]
            dsimp only
            have : (onl n p st j && decide ((j - p) / st < i + 1)) = (onl n p st j && decide ((j - p) / st < i)) := by
              cases ho : onl n p st j
              · rfl
              · have h3 := (onl_is ho).1
                have h4 : (j - p) / st ≠ i := fun q => e (by rw [← q]; exact h3)
                congr 1
                by_cases h5 : (j - p) / st < i
                · rw [decide_eq_true h5, decide_eq_true (by omega)]
                · rw [decide_eq_false h5, decide_eq_false (by omega)]
            rw [this]
  -- the line is noted
  have l1 : ∀ (c i : Nat) (s : AH), i + c = n → LX B n s → Fr (fun c => c = B + 111) h s → (∀ k, k < i → hv s (B + 111) k = hv h a (p + k * st)) → Ends (ev PP (gsF gv) B d 307 41 [(2, rf (B + 92)), (0, (p : Int)), (0, (st : Int)), (0, (o : Int)), (1, if lo = true then (2 ^ n - 1 : Int) else 0), (9, 0), (1, if hi = true then (2 ^ n - 1 : Int) else 0), (9, 0), (0, (i : Int))] [] s) Q := by
    intro c
    induction c with
    | zero =>
      intro i s e ls hF hL
      obtain rfl : i = n := by omega
      refine Ends.eq (b307_41 (by decide) ls (by omega)) (Ends.b3 (fun _ => ?_) (fun z => by omega))
      refine l2 i 0 s (by omega) ls (hF.sub (fun c z => Or.inr z)) hL ((sa.fr hF hne).congr (fun j x _ _ => ?_))
      rw [decide_eq_false (Nat.not_lt_zero _), Bool.and_false]; rfl
    | succ c ih =>
      intro i s e ls hF hL
      have hi' : i < n := by omega
      have := hat i hi'
      refine Ends.eq (b307_41 (by decide) ls (by omega)) ?_
      rw [hF.1 _ (show ¬ B + 92 = B + 111 by omega), e12]
      simp only [ad_rf, hF.2.1, ka, ix i hi', tn, an1]
      refine Ends.b3 (fun _ => by omega) (fun _ => Ends.g ⟨rf_pos _, by first | trivial | rfl, by omega, by omega⟩ (Ends.g ⟨by omega, by omega⟩ ?_))
      rw [w_succ (by omega)]
      refine ih (i + 1) _ (by omega) (ls.setS rfl) (hF.tr (Fr.set rfl)) (fun k hk => ?_)
      rw [hv_set, if_pos rfl]
      by_cases e : k = i
      · rw [if_pos e, e, hF.1 a hne]
      · rw [if_neg e]; exact hL k (by omega)
  exact l1 n 0 h (by omega) l Fr.rf (fun k hk => absurd hk (Nat.not_lt_zero k))
end SHL
section SHO
variable {gv : Nat → Int} {B n d a op : Nat} {h : AH} {M : Nat → Nat → Nat → Nat → Bool} {en : Nat → Int}
/-- beyond, in wide directions -/
def byd (o : Nat) (lo hi at_ : Int) : Bool := decide ((o % 2 = 1 ∧ at_ < 4 * lo) ∨ (o / 2 % 2 = 1 ∧ 4 * hi < at_))
theorem v273_is {o : Nat} {lo hi at_ : Int} (ho : o < 64) (b1 : -1000 ≤ lo ∧ lo ≤ 1000) (b2 : -1000 ≤ hi ∧ hi ≤ 1000) : v273 at_ (o : Int) lo hi = if byd o lo hi at_ = true then 1 else 0 := by
  obtain ⟨ob1, ob2⟩ := o_bit ⟨o, ho⟩
  simp only at ob1 ob2
  unfold v273 byd
  rw [ob1, ob2, show bop32 104 4 lo = 4 * lo from mul32 (by omega) (by omega), show bop32 104 4 hi = 4 * hi from mul32 (by omega) (by omega), cnN, cnN, ct2, ct5]
  simp only [decide_eq_true_eq]
  by_cases c1 : o % 2 = 1 <;> by_cases c2 : o / 2 % 2 = 1 <;> by_cases c3 : at_ < 4 * lo <;> by_cases c4 : 4 * hi < at_ <;> simp [c1, c2, c3, c4]
def shX (n op : Nat) (bY bZ : Nat → Nat → Bool) (M : Nat → Nat → Nat → Nat → Bool) (t z y x : Nat) : Bool := if (bZ t z || bY t y) = true then M t z y x else eo n (decide (op % 2 = 1)) (decide (op / 2 % 2 = 1)) (M t z y) x
def shY (n op : Nat) (bZ : Nat → Nat → Bool) (M : Nat → Nat → Nat → Nat → Bool) (t z y x : Nat) : Bool := if bZ t z = true then M t z y x else eo n (decide (op / 4 % 2 = 1)) (decide (op / 4 / 2 % 2 = 1)) (fun y' => M t z y' x) y
def shZ (n op : Nat) (M : Nat → Nat → Nat → Nat → Bool) (t z y x : Nat) : Bool := eo n (decide (op / 16 % 2 = 1)) (decide (op / 16 / 2 % 2 = 1)) (fun z' => M t z' y x) z
def shR (n op : Nat) (bY bZ : Nat → Nat → Bool) (M : Nat → Nat → Nat → Nat → Bool) : Nat → Nat → Nat → Nat → Bool := shZ n op (shY n op bZ (shX n op bY bZ M))
theorem ex_bits {v lw hw : Int} {r : Nat → Bool} {lo hi : Bool} (hn : n ≤ 52) (vb : ∀ y, y < 64 → tb v y = (decide (y < n) && r y)) (lb : ∀ y, y < 64 → tb lw y = (lo && decide (y = 0))) (hb : ∀ y, y < 64 → tb hw y = (hi && decide (y + 1 = n))) {x : Nat} (hx : x < 64) :
    tb (bop64 127 v (bop64 127 (bop64 129 (sop64 121 v 1) lw) (bop64 129 (sop64 125 v 1) hw))) x = (decide (x < n) && eo n lo hi r x) := by
  have s1 : tb (sop64 121 v 1) x = (decide (1 ≤ x) && tb v (x - 1)) := tb_shl v (k := 1) (by decide) hx
  have s2 : tb (sop64 125 v 1) x = tb v (1 + x) := tb_shr v (k := 1) (by decide)
  rw [tb_and, tb_and, tb_or, tb_or, s1, s2, vb x hx, vb (x - 1) (by omega), lb x hx, hb x hx]
  have s3 : tb v (1 + x) = (decide (x + 1 < n) && r (x + 1)) := by
    by_cases q : 1 + x < 64
    · rw [vb _ q, Nat.add_comm 1 x]
    · rw [tb_big (by omega), decide_eq_false (by omega)]; rfl
  rw [s3]
  unfold eo
  by_cases c1 : x < n
  · have c4 : x - 1 < n := by omega
    by_cases c2 : x = 0
    · subst c2
      by_cases c5 : 0 + 1 < n
      · have c6 : ¬ 0 + 1 = n := by omega
        simp only [decide_eq_true c1, decide_eq_false (show ¬ 1 ≤ 0 by decide), decide_eq_true c5, decide_eq_false c6, if_pos c5, if_true, Bool.true_and, Bool.false_and, Bool.false_or, Bool.and_false, Bool.or_false, decide_true, Bool.and_true]
      · have c6 : 0 + 1 = n := by omega
        simp only [decide_eq_true c1, decide_eq_false (show ¬ 1 ≤ 0 by decide), decide_eq_false c5, decide_eq_true c6, if_neg c5, if_true, Bool.true_and, Bool.false_and, Bool.false_or, Bool.and_false, Bool.or_false, decide_true, Bool.and_true]
    · have c3 : 1 ≤ x := by omega
      by_cases c5 : x + 1 < n
      · have c6 : ¬ x + 1 = n := by omega
        simp only [decide_eq_true c1, decide_eq_true c3, decide_eq_true c4, decide_eq_true c5, decide_eq_false c6, decide_eq_false c2, if_pos c5, if_neg c2, Bool.true_and, Bool.and_false, Bool.or_false]
      · have c6 : x + 1 = n := by omega
        simp only [decide_eq_true c1, decide_eq_true c3, decide_eq_true c4, decide_eq_false c5, decide_eq_true c6, decide_eq_false c2, if_neg c5, if_neg c2, Bool.true_and, Bool.and_false, Bool.or_false, Bool.false_and, Bool.false_or, Bool.and_true]
  · rw [decide_eq_false c1]; rfl
/-- while rows of plane (t, z) are done: F, Y, X, M: whole, planes, rows, not yet -/
def phC (F Y X M : Nat → Nat → Nat → Nat → Bool) (t z y : Nat) (t' z' y' x : Nat) : Bool := if t' < t then F t' z' y' x else if t' = t ∧ z' < z then Y t' z' y' x else if t' = t ∧ z' = z ∧ y' < y then X t' z' y' x else M t' z' y' x
theorem eo_y {p : Nat} {lo hi : Bool} {t z y x : Nat} (hz : z < n) (hy : y < n) (e : p = rw3 n t z 0) : eo n lo hi (fun k => onK n M (p + k * 1) x) ((rw3 n t z y - p) / 1) = eo n lo hi (fun y' => M t z y' x) y := by
  subst e
  have e : rw3 n t z y - rw3 n t z 0 = y := by have : rw3 n t z y = rw3 n t z 0 + y := rfl
                                               omega
  rw [Nat.div_one, e]
  have f : ∀ k, k < n → onK n M (rw3 n t z 0 + k * 1) x = M t z k x := fun k hk => by
    rw [Nat.mul_one, show rw3 n t z 0 + k = rw3 n t z k from rfl, onK_at hz hk]
  unfold eo
  simp only
  rw [f y hy]
  congr 2
  · split
    · rfl
    · rw [f _ (by omega)]
  · split
    · rw [f _ (by assumption)]
    · rfl
theorem eo_z {p : Nat} {lo hi : Bool} {t z y x : Nat} (hz : z < n) (hy : y < n) (e : p = rw3 n t 0 y) : eo n lo hi (fun k => onK n M (p + k * n) x) ((rw3 n t z y - p) / n) = eo n lo hi (fun z' => M t z' y x) z := by
  subst e
  obtain ⟨i1, i2⟩ := idx_at (p := rw3 n t 0 y) (k := z) (st := n) (by omega)
  rw [rw3_zn (z := z), i1]
  have f : ∀ k, k < n → onK n M (rw3 n t 0 y + k * n) x = M t k y x := fun k hk => by
    rw [← rw3_zn, onK_at hk hy]
  unfold eo
  simp only
  rw [f z hz]
  congr 2
  · split
    · rfl
    · rw [f _ (by omega)]
  · split
    · rw [f _ (by assumption)]
    · rfl
theorem eo_congr {lo hi : Bool} {f g : Nat → Bool} {i : Nat} (hi' : i < n) (e : ∀ k, k < n → f k = g k) : eo n lo hi f i = eo n lo hi g i := by
  unfold eo
  rw [e i hi']
  congr 2
  · split
    · rfl
    · rw [e _ (by omega)]
  · split
    · rw [e _ (by assumption)]
    · rfl
def bYo (op : Nat) (en : Nat → Int) (t y : Nat) : Bool := byd (op / 4) (en 2) (en 3) ((8 * y + rT t 1 : Nat) : Int)
def bZo (op : Nat) (en : Nat → Int) (t z : Nat) : Bool := byd (op / 16) (en 4) (en 5) ((8 * z + rT t 2 : Nat) : Int)
set_option maxHeartbeats 2000000 in
theorem c_shrinkOnce308 (l : LX B n h) (hd : 12 ≤ d) (hn0 : 0 < n) (hn : n ≤ 52) (m : TbC B h) (sa : Sol n h a (onK n M)) (ha : B + 246 ≤ a) (e12 : hv h (B + 92) 12 = rf a) (ho : op < 64) (ee : ∀ k, k < 6 → hv h (B + 109) k = en k) (eb : ∀ k, k < 6 → 0 ≤ en k ∧ en k ≤ 200) :
    Vd (cll PP (ev PP (gsF gv) B) d 308 [(2, rf (B + 92)), (0, (op : Int)), (2, rf (B + 109))] h) (fun h' => Fr (fun c => c = a ∨ c = B + 111) h h' ∧ Sol n h' a (onK n (shR n op (bYo op en) (bZo op en) M))) := by
  have hN := rows_le hn
  have ka := sa.1
  obtain ⟨ob1, ob2⟩ := o_bit ⟨op, ho⟩
  simp only at ob1 ob2
  have o2 : bop32 122 (op : Int) 2 = ((op / 4 : Nat) : Int) := shrN (k := 2) (by omega) (by decide)
  have o4 : bop32 122 (op : Int) 4 = ((op / 16 : Nat) : Int) := shrN (k := 4) (by omega) (by decide)
  have k109 : ∀ {s : AH}, LX B n s → hk s (B + 109) = (2, 16) := fun ls => lk_109 ls
  refine Vd.inq (D := 11) hd (Nat.le_of_ble_eq_true rfl) rfl (fun d hd Q K => ?_)
  refine Ends.eq (b308_0 l (by omega)) ?_
  rw [ob1, ob2, cnN, cnN, show bop32 100 (n : Int) 1 = ((n - 1 : Nat) : Int) from by rw [sub32 (by omega) (by omega)]; omega]
  obtain ⟨lw, elw⟩ : ∃ lw : Int, lw = if decide (op % 2 = 1) = true then (1 : Int) else 0 := ⟨_, rfl⟩
  obtain ⟨hw, ehw⟩ : ∃ hw : Int, hw = if decide (op / 2 % 2 = 1) = true then sop64 121 1 ((n - 1 : Nat) : Int) else 0 := ⟨_, rfl⟩
  rw [← elw, ← ehw]
  have lb : ∀ y, y < 64 → tb lw y = (decide (op % 2 = 1) && decide (y = 0)) := fun y hy => by
    rw [elw]
    cases decide (op % 2 = 1)
    · rw [if_neg Bool.false_ne_true, tb_0]; rfl
    · rw [if_pos rfl, show (1 : Int) = sop64 121 1 ((0 : Nat) : Int) from by decide +kernel, one_bit (by decide) hy]; rfl
  have hb : ∀ y, y < 64 → tb hw y = (decide (op / 2 % 2 = 1) && decide (y + 1 = n)) := fun y hy => by
    rw [ehw]
    cases decide (op / 2 % 2 = 1)
    · rw [if_neg Bool.false_ne_true, tb_0]; rfl
    · rw [if_pos rfl, one_bit (by omega) hy, Bool.true_and, decide_eq_decide]; omega
  obtain ⟨X, eX⟩ : ∃ X, X = shX n op (bYo op en) (bZo op en) M := ⟨_, rfl⟩
  obtain ⟨Y, eY⟩ : ∃ Y, Y = shY n op (bZo op en) X := ⟨_, rfl⟩
  obtain ⟨F, eF⟩ : ∃ F, F = shZ n op Y := ⟨_, rfl⟩
  have eR : shR n op (bYo op en) (bZo op en) M = F := by rw [eF, eY, eX]; rfl
  rw [eR] at K
  have rest : ∀ {s : AH}, Fr (fun c => c = a ∨ c = B + 111) h s → ∀ t k, t < 24 → k < 3 → hv s (B + 37) (3 * t + k) = (rT t k : Nat) := fun f t k ht hk => by rw [f.1 _ (by omega)]; exact (m.1 t ht).1 k hk
  have ens : ∀ {s : AH}, Fr (fun c => c = a ∨ c = B + 111) h s → ∀ k, k < 6 → hv s (B + 109) k = en k := fun f k hk => by rw [f.1 _ (by omega)]; exact ee k hk
  have e12s : ∀ {s : AH}, Fr (fun c => c = a ∨ c = B + 111) h s → hv s (B + 92) 12 = rf a := fun f => by rw [f.1 _ (by omega)]; exact e12
  have kas : ∀ {s : AH}, Fr (fun c => c = a ∨ c = B + 111) h s → hk s a = (3, 24 * n * n) := fun f => by rw [f.2.1]; exact ka
  -- the lines along z
  have ll : ∀ (t : Nat), t < 24 → (∀ (s : AH) (y : Nat) (u9 u10 u11 : AV), LX B n s → Fr (fun c => c = a ∨ c = B + 111) h s → Sol n s a (onK n (phA F Y M (t + 1) 0)) → Ends (ev PP (gsF gv) B d 308 35 [(2, rf (B + 92)), (0, (op : Int)), (2, rf (B + 109)), (1, lw), (9, 0), (1, hw), (9, 0), (0, ((t + 1 : Nat) : Int)), (0, (y : Int)), u9, u10, u11] [] s) Q) → ∀ (c y : Nat) (s : AH) (u9 u10 u11 : AV), y + c = n → LX B n s → Fr (fun c => c = a ∨ c = B + 111) h s → Sol n s a (onK n (phB F Y M t y)) → Ends (ev PP (gsF gv) B d 308 229 [(2, rf (B + 92)), (0, (op : Int)), (2, rf (B + 109)), (1, lw), (9, 0), (1, hw), (9, 0), (0, (t : Int)), (0, (y : Int)), u9, u10, u11] [] s) Q := by
    intro t ht go c
    induction c with
    | zero =>
      intro y s u9 u10 u11 e ls fs ss
      obtain rfl : n = y := by omega
      refine Ends.eq (b308_229 (by decide) ls (by omega)) (Ends.b3 (fun _ => ?_) (fun z => by omega))
      rw [w_succ (by omega)]
      refine go s _ _ _ _ ls fs (ss.byM hn0 (fun t' z' y' x h1 h2 h3 h4 => ?_))
      rw [onK_at h2 h3]
      unfold phA phB
      grind
    | succ c ih =>
      intro y s u9 u10 u11 e ls fs ss
      have hy : y < n := by omega
      refine Ends.eq (b308_229 (by decide) ls (by omega)) (Ends.b3 (fun z => by omega) (fun _ => ?_))
      rw [show v238 n (t : Int) 0 (y : Int) = ((rw3 n t 0 y : Nat) : Int) from row_eq hn ht hn0 hy, o4]
      refine Ends.cv ls (by decide +kernel) (c_shrinkLine307 (o := op / 16) (st := n) ls (by omega) hn ss ha (e12s fs) hn0 (lat_z ht hy) (by omega)) (fun s2 l2 _ _ _ ⟨f2, s2'⟩ => ?_)
      refine Ends.eq (b308_261 l2 (by omega)) ?_
      rw [w_succ (by omega)]
      refine ih (y + 1) s2 _ _ _ (by omega) l2 (fs.tr f2) (s2'.byM hn0 (fun t' z' y' x h1 h2 h3 h4 => ?_))
      rw [onK_at h2 h3, onl_z hy h2 h3]
      by_cases e2 : t' = t ∧ y' = y
      · obtain ⟨rfl, rfl⟩ := e2
        rw [if_pos (decide_eq_true ⟨rfl, rfl⟩), eo_z h2 h3 rfl]
        have : phB F Y M t' (y' + 1) t' z' y' x = F t' z' y' x := by unfold phB; rw [if_neg (Nat.lt_irrefl _), if_pos rfl, if_pos (Nat.lt_succ_self _)]
        rw [this, eF]
        unfold shZ
        refine eo_congr h2 (fun k hk => ?_)
        show phB (shZ n op Y) Y M t' y' t' k y' x = Y t' k y' x
        unfold phB
        rw [if_neg (Nat.lt_irrefl _), if_pos rfl, if_neg (Nat.lt_irrefl _)]
      · rw [if_neg (fun z => e2 (of_decide_eq_true z))]
        unfold phB
        grind
  -- the rows of a plane
  have yl : ∀ (t z : Nat), t < 24 → z < n → (∀ (s : AH) (u9 u10 u11 : AV), LX B n s → Fr (fun c => c = a ∨ c = B + 111) h s → Sol n s a (onK n (phA F Y M t (z + 1))) → Ends (ev PP (gsF gv) B d 308 45 [(2, rf (B + 92)), (0, (op : Int)), (2, rf (B + 109)), (1, lw), (9, 0), (1, hw), (9, 0), (0, (t : Int)), (0, ((z + 1 : Nat) : Int)), u9, u10, u11] [] s) Q) → ∀ (c y : Nat) (s : AH) (u11 : AV), y + c = n → LX B n s → Fr (fun c => c = a ∨ c = B + 111) h s → Sol n s a (onK n (phC F Y X M t z y)) → Ends (ev PP (gsF gv) B d 308 91 [(2, rf (B + 92)), (0, (op : Int)), (2, rf (B + 109)), (1, lw), (9, 0), (1, hw), (9, 0), (0, (t : Int)), (0, (z : Int)), (0, if bZo op en t z = true then 1 else 0), (0, (y : Int)), u11] [] s) Q := by
    intro t z ht hz go c
    have go2 : ∀ (s : AH) (u9 u10 u11 : AV), LX B n s → Fr (fun c => c = a ∨ c = B + 111) h s → Sol n s a (onK n (phA F Y M t (z + 1))) → ∀ (v y : Int), Ends (ev PP (gsF gv) B d 308 220 [(2, rf (B + 92)), (0, (op : Int)), (2, rf (B + 109)), (1, lw), (9, 0), (1, hw), (9, 0), (0, (t : Int)), (0, (z : Int)), (0, v), (0, y), u11] [] s) Q := fun s u9 u10 u11 ls fs ss v y => by
      refine Ends.eq (b308_220 ls (by omega)) ?_
      rw [w_succ (by omega)]
      exact go s _ _ _ ls fs ss
    induction c with
    | zero =>
      intro y s u11 e ls fs ss
      obtain rfl : n = y := by omega
      refine Ends.eq (b308_91 ls (by omega)) (Ends.b3 (fun _ => ?_) (fun z => by omega))
      cases bz : bZo op en t z
      · refine Ends.b1 (fun z => absurd rfl z) (fun _ => ?_)
        rw [show v238 n (t : Int) (z : Int) 0 = ((rw3 n t z 0 : Nat) : Int) from row_eq hn ht hz hn0, o2]
        refine Ends.cv ls (by decide +kernel) (c_shrinkLine307 (o := op / 4) (st := 1) ls (by omega) hn ss ha (e12s fs) (by decide) (lat_y ht hz) (by omega)) (fun s2 l2 _ _ _ ⟨f2, s2'⟩ => ?_)
        refine go2 s2 (9, 0) (9, 0) _ l2 (fs.tr f2) (s2'.byM hn0 (fun t' z' y' x h1 h2 h3 h4 => ?_)) _ _
        rw [onK_at h2 h3, onl_y hz h2 h3]
        by_cases e2 : t' = t ∧ z' = z
        · obtain ⟨rfl, rfl⟩ := e2
          rw [if_pos (decide_eq_true ⟨rfl, rfl⟩), eo_y h2 h3 rfl]
          have : phA F Y M t' (z' + 1) t' z' y' x = Y t' z' y' x := by unfold phA; rw [if_neg (Nat.lt_irrefl _), if_pos ⟨rfl, Nat.lt_succ_self _⟩]
          rw [this, eY]
          unfold shY
          rw [bz, if_neg Bool.false_ne_true]
          refine eo_congr h3 (fun k hk => ?_)
          show phC F (shY n op (bZo op en) X) X M t' z' n t' z' k x = X t' z' k x
          unfold phC
          rw [if_neg (Nat.lt_irrefl _), if_neg (fun z => Nat.lt_irrefl _ z.2), if_pos ⟨rfl, rfl, hk⟩]
        · rw [if_neg (fun z => e2 (of_decide_eq_true z))]
          unfold phA phC
          grind
      · refine Ends.b1 (fun _ => ?_) (fun z => by rw [if_pos rfl] at z; exact absurd z (by decide))
        refine go2 s (9, 0) (9, 0) _ ls fs (ss.byM hn0 (fun t' z' y' x h1 h2 h3 h4 => ?_)) _ _
        rw [onK_at h2 h3]
        have : ∀ y x, Y t z y x = X t z y x := fun y x => by rw [eY]; unfold shY; rw [bz, if_pos rfl]
        unfold phA phC
        grind
    | succ c ih =>
      intro y s u11 e ls fs ss
      have hy : y < n := by omega
      have hr := rw3_lt ht hz hy
      have nxt : ∀ (s : AH), LX B n s → Fr (fun c => c = a ∨ c = B + 111) h s → Sol n s a (onK n (phC F Y X M t z (y + 1))) → Ends (ev PP (gsF gv) B d 308 189 [(2, rf (B + 92)), (0, (op : Int)), (2, rf (B + 109)), (1, lw), (9, 0), (1, hw), (9, 0), (0, (t : Int)), (0, (z : Int)), (0, if bZo op en t z = true then 1 else 0), (0, (y : Int)), (0, ((rw3 n t z y : Nat) : Int))] [] s) Q := fun s ls fs ss => by
        refine Ends.eq (b308_189 ls (by omega)) ?_
        rw [w_succ (by omega)]
        exact ih (y + 1) s _ (by omega) ls fs ss
      have skip : (bZo op en t z || bYo op en t y) = true → Ends (ev PP (gsF gv) B d 308 189 [(2, rf (B + 92)), (0, (op : Int)), (2, rf (B + 109)), (1, lw), (9, 0), (1, hw), (9, 0), (0, (t : Int)), (0, (z : Int)), (0, if bZo op en t z = true then 1 else 0), (0, (y : Int)), (0, ((rw3 n t z y : Nat) : Int))] [] s) Q := fun w => by
        refine nxt s ls fs (ss.byM hn0 (fun t' z' y' x h1 h2 h3 h4 => ?_))
        rw [onK_at h2 h3]
        have : ∀ x, X t z y x = M t z y x := fun x => by rw [eX]; unfold shX; rw [if_pos w]
        unfold phC
        grind
      refine Ends.eq (b308_91 ls (by omega)) ?_
      rw [show v238 n (t : Int) (z : Int) (y : Int) = ((rw3 n t z y : Nat) : Int) from row_eq hn ht hz hy]
      refine Ends.b3 (fun z => by omega) (fun _ => ?_)
      cases bz : bZo op en t z
      · have rr : rT t 1 < 8 := (rT_lt ⟨t, ht⟩ ⟨1, by decide⟩).2
        have i1 : bop32 96 (bop32 104 (3 : Int) (t : Int)) 1 = ((3 * t + 1 : Nat) : Int) := by rw [show bop32 104 (3 : Int) (t : Int) = ((3 * t : Nat) : Int) from mulNN (x := 3) (by omega)]; exact addNN (y := 1) (by omega)
        have a8 : bop32 96 (bop32 104 (8 : Int) (y : Int)) ((rT t 1 : Nat) : Int) = ((8 * y + rT t 1 : Nat) : Int) := by rw [show bop32 104 (8 : Int) (y : Int) = ((8 * y : Nat) : Int) from mulNN (x := 8) (by omega)]; exact addNN (by omega)
        refine Ends.b1 (fun z => absurd rfl z) (fun _ => ?_)
        rw [i1, tn, rest fs t 1 ht (by decide), a8, o2, show Int.toNat 2 = 2 from rfl, show Int.toNat 3 = 3 from rfl, ad_rf, ens fs 2 (by decide), ens fs 3 (by decide), k109 ls, v273_is (by omega) (by have := eb 2 (by decide); omega) (by have := eb 3 (by decide); omega)]
        refine Ends.g ⟨by omega, by omega⟩ (Ends.g ⟨rf_pos _, rfl, by decide, by decide⟩ (Ends.g ⟨rf_pos _, rfl, by decide, by decide⟩ ?_))
        have eyo : byd (op / 4) (en 2) (en 3) ((8 * y + rT t 1 : Nat) : Int) = bYo op en t y := rfl
        rw [eyo]
        cases bw : bYo op en t y
        · refine Ends.b1 (fun z => absurd rfl z) (fun _ => ?_)
          rw [e12s fs, ad_rf, kas fs, tn, an1]
          refine Ends.g ⟨rf_pos _, rfl, by omega, by show _ < ((24 * n * n : Nat) : Int); omega⟩ (Ends.g ⟨rf_pos _, rfl, by omega, by show _ < ((24 * n * n : Nat) : Int); omega, by omega⟩ ?_)
          have := nxt (hset s a (rw3 n t z y) (bop64 127 (hv s a (rw3 n t z y)) (bop64 127 (bop64 129 (sop64 121 (hv s a (rw3 n t z y)) 1) lw) (bop64 129 (sop64 125 (hv s a (rw3 n t z y)) 1) hw)))) (lxA (t := 1) ls (kas fs)) (fs.tr (Fr.set (Or.inl rfl))) ?_
          · rw [bz] at this; exact this
          · refine (ss.put hr cn_bop64 (r := fun x => X t z y x) (fun x hx => ?_)).byM hn0 (fun t' z' y' x h1 h2 h3 h4 => ?_)
            · rw [ex_bits (r := fun x => onK n (phC F Y X M t z y) (rw3 n t z y) x) hn (fun y' hy' => (ss.2 _ hr).2 y' hy') lb hb hx]
              by_cases hxn : x < n
              · refine congrArg (fun z => decide (x < n) && z) ?_
                show _ = X t z y x
                rw [eX]
                unfold shX
                rw [bz, bw, if_neg (by decide)]
                refine eo_congr hxn (fun k hk => ?_)
                rw [onK_at hz hy]
                show phC F Y (shX n op (bYo op en) (bZo op en) M) M t z y t z y k = M t z y k
                unfold phC
                rw [if_neg (Nat.lt_irrefl _), if_neg (fun z => Nat.lt_irrefl _ z.2), if_neg (fun z => Nat.lt_irrefl _ z.2.2)]
              · rw [decide_eq_false hxn]; rfl
            · by_cases e2 : rw3 n t' z' y' = rw3 n t z y
              · rw [if_pos e2]
                have e3 : t' = t := by have := congrArg (fun q => q / (n * n)) e2; rwa [dec_t h2 h3, dec_t hz hy] at this
                have e4 : y' = y := by have := congrArg (fun q => q % n) e2; rwa [dec_y h3, dec_y hy] at this
                subst e3 e4
                have e5 : z' = z := by have := congrArg (fun q => q / n % n) e2; rwa [dec_z h2 h3, dec_z hz hy] at this
                subst e5
                unfold phC
                rw [if_neg (Nat.lt_irrefl _), if_neg (fun z => Nat.lt_irrefl _ z.2), if_pos ⟨rfl, rfl, Nat.lt_succ_self _⟩]
              · rw [if_neg e2, onK_at h2 h3]
                have : ¬ (t' = t ∧ z' = z ∧ y' = y) := fun ⟨q1, q2, q3⟩ => e2 (by rw [q1, q2, q3])
                unfold phC
                grind
        · refine Ends.b1 (fun _ => ?_) (fun z => by rw [if_pos rfl] at z; exact absurd z (by decide))
          have := skip (by rw [bw, Bool.or_true])
          rw [bz] at this; exact this
      · refine Ends.b1 (fun _ => ?_) (fun z => by rw [if_pos rfl] at z; exact absurd z (by decide))
        have := skip (by rw [bz]; rfl)
        rw [bz] at this; exact this
  -- the planes of a sort
  have zl : ∀ (t : Nat), t < 24 → (∀ (s : AH) (u8 u9 u10 u11 : AV), LX B n s → Fr (fun c => c = a ∨ c = B + 111) h s → Sol n s a (onK n (phA F Y M (t + 1) 0)) → Ends (ev PP (gsF gv) B d 308 35 [(2, rf (B + 92)), (0, (op : Int)), (2, rf (B + 109)), (1, lw), (9, 0), (1, hw), (9, 0), (0, ((t + 1 : Nat) : Int)), u8, u9, u10, u11] [] s) Q) → ∀ (c z : Nat) (s : AH) (u9 u10 u11 : AV), z + c = n → LX B n s → Fr (fun c => c = a ∨ c = B + 111) h s → Sol n s a (onK n (phA F Y M t z)) → Ends (ev PP (gsF gv) B d 308 45 [(2, rf (B + 92)), (0, (op : Int)), (2, rf (B + 109)), (1, lw), (9, 0), (1, hw), (9, 0), (0, (t : Int)), (0, (z : Int)), u9, u10, u11] [] s) Q := by
    intro t ht go c
    induction c with
    | zero =>
      intro z s u9 u10 u11 e ls fs ss
      obtain rfl : n = z := by omega
      refine Ends.eq (b308_45 ls (by omega)) (Ends.b3 (fun _ => ?_) (fun z => by omega))
      refine ll t ht (fun s y u9 u10 u11 ls fs ss => go s _ _ _ _ ls fs ss) n 0 s _ _ _ (by omega) ls fs (ss.byM hn0 (fun t' z' y' x h1 h2 h3 h4 => ?_))
      rw [onK_at h2 h3]
      unfold phA phB
      grind
    | succ c ih =>
      intro z s u9 u10 u11 e ls fs ss
      have hz : z < n := by omega
      have rr : rT t 2 < 8 := (rT_lt ⟨t, ht⟩ ⟨2, by decide⟩).2
      have i1 : bop32 96 (bop32 104 (3 : Int) (t : Int)) 2 = ((3 * t + 2 : Nat) : Int) := by rw [show bop32 104 (3 : Int) (t : Int) = ((3 * t : Nat) : Int) from mulNN (x := 3) (by omega)]; exact addNN (y := 2) (by omega)
      have a8 : bop32 96 (bop32 104 (8 : Int) (z : Int)) ((rT t 2 : Nat) : Int) = ((8 * z + rT t 2 : Nat) : Int) := by rw [show bop32 104 (8 : Int) (z : Int) = ((8 * z : Nat) : Int) from mulNN (x := 8) (by omega)]; exact addNN (by omega)
      refine Ends.eq (b308_45 ls (by omega)) (Ends.b3 (fun z => by omega) (fun _ => ?_))
      rw [i1, tn, rest fs t 2 ht (by decide), a8, o4, show Int.toNat 4 = 4 from rfl, show Int.toNat 5 = 5 from rfl, ad_rf, ens fs 4 (by decide), ens fs 5 (by decide), k109 ls, v273_is (by omega) (by have := eb 4 (by decide); omega) (by have := eb 5 (by decide); omega)]
      refine Ends.g ⟨by omega, by omega⟩ (Ends.g ⟨rf_pos _, rfl, by decide, by decide⟩ (Ends.g ⟨rf_pos _, rfl, by decide, by decide⟩ ?_))
      refine yl t z ht hz (fun s u9 u10 u11 ls fs ss => ih (z + 1) s _ _ _ (by omega) ls fs ss) n 0 s _ (by omega) ls fs (ss.byM hn0 (fun t' z' y' x h1 h2 h3 h4 => ?_))
      rw [onK_at h2 h3]
      unfold phA phC
      grind
  have tl : ∀ (c t : Nat) (s : AH) (u8 u9 u10 u11 : AV), t + c = 24 → LX B n s → Fr (fun c => c = a ∨ c = B + 111) h s → Sol n s a (onK n (phA F Y M t 0)) → Ends (ev PP (gsF gv) B d 308 35 [(2, rf (B + 92)), (0, (op : Int)), (2, rf (B + 109)), (1, lw), (9, 0), (1, hw), (9, 0), (0, (t : Int)), u8, u9, u10, u11] [] s) Q := by
    intro c
    induction c with
    | zero =>
      intro t s u8 u9 u10 u11 e ls fs ss
      obtain rfl : t = 24 := by omega
      refine Ends.eq (b308_35 ls (by omega)) (Ends.b3 (fun _ => Ends.sm (K _ ⟨fs, ss.byM hn0 (fun t' z' y' x h1 h2 h3 h4 => ?_)⟩)) (fun z => absurd z (by decide)))
      rw [onK_at h2 h3]
      unfold phA
      rw [if_pos h1]
    | succ c ih =>
      intro t s u8 u9 u10 u11 e ls fs ss
      refine Ends.eq (b308_35 ls (by omega)) (Ends.b3 (fun z => by omega) (fun _ => ?_))
      exact zl t (by omega) (fun s u8 u9 u10 u11 ls fs ss => ih (t + 1) s _ _ _ _ (by omega) ls fs ss) n 0 s _ _ _ (by omega) ls fs ss
  refine tl 24 0 h _ _ _ _ rfl l Fr.rf (sa.byM hn0 (fun t' z' y' x h1 h2 h3 h4 => ?_))
  rw [onK_at h2 h3]
  unfold phA
  grind
end SHO
