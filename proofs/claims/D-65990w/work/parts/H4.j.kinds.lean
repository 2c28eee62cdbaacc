/-! L3: kinds of features: their fields, names, bounds (desk, model) -/
noncomputable section KIN
variable {gv : Nat → Int} {B n d k kd : Nat} {h t : AH} {w : Nat → Int} {x lo hi : Int}
/-- a kind's fields, by letters: f a formula, n a name -/
def kfL : List (List Int) := [[102, 102, 102, 102, 102, 102], [102, 102], [102, 102], [102], [102, 102, 102, 102, 102], [102, 102, 102, 102, 102, 102, 102], [102, 102, 102, 102, 102], [102, 102, 102, 102, 102, 102, 102], [102, 102, 102], [102], [102, 102, 102, 102], [102, 102, 102, 102], [102, 102], [], [102, 102, 102], [102], [102], [102], [102, 102], [102, 102, 102, 102], [110, 110, 102], [110, 110, 102], [], [110], [110, 102], [110, 102, 102, 102, 102], [102, 102, 102], [102, 102], [], [102], [102]]
def kfS (kd : Nat) : List Int := kfL.getD kd []
def fnN (kd : Nat) : Nat := (kfS kd).length
def kNm (kd k : Nat) : Bool := decide ((kfS kd)[k]? = some 110)
theorem fn_7 : ∀ kd : Fin 31, fnN kd ≤ 7 := by decide
theorem kf_at : ∀ kd : Fin 31, ∀ k : Fin 7, (k : Nat) < fnN kd → (kfS kd)[(k : Nat)]? = some (if kNm kd k = true then 110 else 102) := by decide
def KnB (gv : Nat → Int) (B : Nat) (h : AH) : Prop := ∀ kd, kd < 31 → StB gv B h (hv h (B + 24) kd) (kfS kd)
theorem KnB.agr {W : Nat → Nat → Prop} (K : KnB gv B h) (g : Agr W h t) (hW : ∀ c k, c < B ∨ c = B + 24 → ¬ W c k) : KnB gv B t := fun kd hk => by
  rw [g.at _ _ (hW _ _ (Or.inr rfl))]
  exact (K kd hk).agr g (fun c k z => hW c k (Or.inl z))
theorem v243_is (K : KnB gv B h) (hk : kd < 31) : q243 gv B h (kd : Int) ∧ v243 gv B h (kd : Int) = ((fnN kd : Nat) : Int) := by
  have S := (K kd hk).1
  unfold q243 v243
  rw [tn]
  exact ⟨⟨⟨by omega, by omega⟩, ⟨S.1, S.2.1⟩, S.q901⟩, S.v901⟩
theorem c_isName245 (l : LX B n h) (hd : 15 ≤ d) (K : KnB gv B h) (hk : kd < 31) (hf : k < fnN kd) :
    Vt 0 (cll PP (ev PP (gsF gv) B) d 245 [(2, rf (B + 23)), (0, (kd : Int)), (0, (k : Int))] h) (fun v h' => h' = h ∧ v = if kNm kd k = true then 1 else 0) := by
  have S := (K kd hk).1
  have k7 : k < 7 := by have : fnN kd ≤ 7 := fn_7 ⟨kd, hk⟩; omega
  refine Vt.inq (D := 14) hd (Nat.le_of_ble_eq_true rfl) rfl (fun d hd Q KK => ?_)
  refine Ends.eq (b245_0 l (by omega)) (Ends.g ⟨by omega, by omega⟩ ?_)
  rw [tn]
  refine Ends.g ⟨S.1, S.2.1⟩ ?_
  refine Ends.ct l (by decide +kernel) (by decide) (c_charAt (i := k) (c := if kNm kd k = true then 110 else 102) l (by omega) S (kf_at ⟨kd, hk⟩ ⟨k, k7⟩ hf)) (fun v q lq _ _ _ ⟨e1, e2⟩ => ?_)
  subst e2
  refine Ends.eq (b245_10 lq (by omega)) (Ends.sm (KK _ _ ⟨rfl, ?_⟩))
  rw [e1, ct1]
  by_cases z : kNm kd k = true
  · rw [if_pos z, if_pos z]; rfl
  · rw [if_neg z, if_neg z]; rfl
/-- the model's -/
theorem nm_703 : ∀ kd : Fin 31, ∀ k : Fin 7, v703 ((kd : Nat) : Int) ((k : Nat) : Int) = if kNm kd k = true then 1 else 0 := by decide +kernel
theorem v703_is (hk : kd < 31) (h7 : k < 7) : v703 (kd : Int) (k : Int) = if kNm kd k = true then 1 else 0 := nm_703 ⟨kd, hk⟩ ⟨k, h7⟩
theorem sw_628 : ∀ kd : Fin 31, (sw628_1 ((kd : Nat) : Int) = 132 ∧ fnN kd = 6) ∨ (sw628_1 ((kd : Nat) : Int) = 135 ∧ fnN kd = 2) ∨ (sw628_1 ((kd : Nat) : Int) = 137 ∧ fnN kd = 5) ∨ (sw628_1 ((kd : Nat) : Int) = 139 ∧ fnN kd = 7) ∨ (sw628_1 ((kd : Nat) : Int) = 142 ∧ fnN kd = 3) ∨ (sw628_1 ((kd : Nat) : Int) = 144 ∧ fnN kd = 4) ∨ (sw628_1 ((kd : Nat) : Int) = 146 ∧ fnN kd = 0) ∨ (sw628_1 ((kd : Nat) : Int) = 148 ∧ fnN kd = 1) := by decide
theorem c_fieldsOf628 (l : LX B n h) (hd : 10 ≤ d) (hk : kd < 31) : Vt 0 (cll PP (ev PP (gsF gv) B) d 628 [(0, (kd : Int))] h) (fun v h' => h' = h ∧ v = ((fnN kd : Nat) : Int)) := by
  refine Vt.inq (D := 9) hd (Nat.le_of_ble_eq_true rfl) rfl (fun d hd Q K => ?_)
  refine Ends.eq (b628_0 l (by omega)) ?_
  rcases sw_628 ⟨kd, hk⟩ with ⟨e, f⟩ | ⟨e, f⟩ | ⟨e, f⟩ | ⟨e, f⟩ | ⟨e, f⟩ | ⟨e, f⟩ | ⟨e, f⟩ | ⟨e, f⟩
  · have e : sw628_1 (kd : Int) = 132 := e
    have f : fnN kd = 6 := f
    rw [e]; exact Ends.eq (b628_132 l (by omega)) (Ends.sm (K _ _ ⟨rfl, by rw [f]; rfl⟩))
  · have e : sw628_1 (kd : Int) = 135 := e
    have f : fnN kd = 2 := f
    rw [e]; exact Ends.eq (b628_135 l (by omega)) (Ends.sm (K _ _ ⟨rfl, by rw [f]; rfl⟩))
  · have e : sw628_1 (kd : Int) = 137 := e
    have f : fnN kd = 5 := f
    rw [e]; exact Ends.eq (b628_137 l (by omega)) (Ends.sm (K _ _ ⟨rfl, by rw [f]; rfl⟩))
  · have e : sw628_1 (kd : Int) = 139 := e
    have f : fnN kd = 7 := f
    rw [e]; exact Ends.eq (b628_139 l (by omega)) (Ends.sm (K _ _ ⟨rfl, by rw [f]; rfl⟩))
  · have e : sw628_1 (kd : Int) = 142 := e
    have f : fnN kd = 3 := f
    rw [e]; exact Ends.eq (b628_142 l (by omega)) (Ends.sm (K _ _ ⟨rfl, by rw [f]; rfl⟩))
  · have e : sw628_1 (kd : Int) = 144 := e
    have f : fnN kd = 4 := f
    rw [e]; exact Ends.eq (b628_144 l (by omega)) (Ends.sm (K _ _ ⟨rfl, by rw [f]; rfl⟩))
  · have e : sw628_1 (kd : Int) = 146 := e
    have f : fnN kd = 0 := f
    rw [e]; exact Ends.eq (b628_146 l (by omega)) (Ends.sm (K _ _ ⟨rfl, by rw [f]; rfl⟩))
  · have e : sw628_1 (kd : Int) = 148 := e
    have f : fnN kd = 1 := f
    rw [e]; exact Ends.eq (b628_148 l (by omega)) (Ends.sm (K _ _ ⟨rfl, by rw [f]; rfl⟩))
/-- a number within bounds; whether a field's number is good -/
def inBd (x lo hi : Int) : Bool := decide (lo ≤ x ∧ x ≤ hi)
def gdB (kd k : Nat) (w : Nat → Int) : Bool := if kd = 4 ∨ kd = 6 ∨ kd = 25 then decide (k ≠ 4) || inBd (w k) 1 64 else if kd = 5 then decide (k ≠ 4 ∧ k ≠ 6) || inBd (w k) 1 64 else if kd = 7 then decide (k ≠ 6) || inBd (w k) 0 11 else if kd = 8 then decide (k ≠ 0) || inBd (w k) 1 64 else if kd = 9 then inBd (w k) 0 1 else if kd = 10 then decide (k ≠ 0) || inBd (w k) 2 64 else if kd = 11 then (if k = 0 then inBd (w k) 0 2 else if k = 2 then decide ((w 1 + w k) % 2 = 0) else decide (k ≠ 3) || inBd (w k) 2 4) else if kd = 12 ∨ kd = 27 then decide (k ≠ 0) || inBd (w k) 0 2 else if kd = 15 then inBd (w k) 0 47 else if kd = 16 ∨ kd = 17 then inBd (w k) 1 8 else if kd = 18 then (if k = 0 then inBd (w k) 1 8 else inBd (w k) 0 63) else if kd = 19 then decide (k = 3) || (inBd (w k) (-1) 1 && (decide (k ≠ 2) || !decide ((w 0 = 0 ∧ w 1 = 0 ∧ w k = 0) ∨ (w 0 ≠ 0 ∧ w 1 ≠ 0 ∧ w k ≠ 0)))) else if kd = 20 ∨ kd = 21 then inBd (w k) 1 64 else if kd = 26 then decide (k ≠ 2) || inBd (w k) 1 64 else if kd = 29 then inBd (w k) 1 4 else true
def bI01 (p : Bool) : Int := if p = true then 1 else 0
theorem v321_is : v321 x lo hi = bI01 (inBd x lo hi) := by
  unfold v321 bI01 inBd
  rw [ct2, ct4]
  by_cases a : x < lo
  · rw [if_pos a, if_neg (by rw [decide_eq_true_iff]; omega)]
  · rw [if_neg a]
    by_cases b : hi < x
    · rw [if_pos b, if_neg (by rw [decide_eq_true_iff]; omega)]
    · rw [if_neg b, if_pos (by rw [decide_eq_true_iff]; omega)]
theorem bI01_0 {p : Bool} : cond (tst 0 (bI01 p) 0) (0 : Int) 1 = bI01 p := by cases p <;> rfl
theorem bI01_k {p : Bool} {m : Nat} : cond (tst 1 (k : Int) (m : Int)) (1 : Int) (bI01 p) = bI01 (decide (k ≠ m) || p) := by
  rw [ct1]
  by_cases z : k = m
  · rw [if_pos (by omega), decide_eq_false (fun w => w z), Bool.false_or]
  · rw [if_neg (by omega), decide_eq_true z]; rfl
/-- the model's: out of bounds -/
theorem o01 : cond (tst 2 x lo) (1 : Int) (cond (tst 5 x hi) 0 1) = bI01 (!inBd x lo hi) := by
  unfold bI01 inBd
  rw [ct2, ct5]
  by_cases a : x < lo
  · rw [if_pos a, decide_eq_false (by omega)]; rfl
  · rw [if_neg a]
    by_cases b : hi < x
    · rw [if_pos b, decide_eq_false (by omega)]; rfl
    · rw [if_neg b, decide_eq_true (by omega)]; rfl
theorem o01_k {p : Bool} {m : Nat} : cond (tst 1 (k : Int) (m : Int)) (0 : Int) (bI01 (!p)) = bI01 (!(decide (k ≠ m) || p)) := by
  rw [ct1]
  by_cases z : k = m
  · rw [if_pos (by omega), decide_eq_false (fun w => w z), Bool.false_or]
  · rw [if_neg (by omega), decide_eq_true z]; rfl
theorem tm_2 (x : Int) : (-1 ≤ Int.tmod x 2 ∧ Int.tmod x 2 ≤ 1) ∧ (Int.tmod x 2 = 0 ↔ x % 2 = 0) := by
  rcases Int.le_total 0 x with z | z
  · rw [Int.tmod_eq_emod_of_nonneg z]; omega
  · obtain ⟨y, e⟩ : ∃ y, x = -y := ⟨-x, by omega⟩
    subst e
    rw [Int.neg_tmod, Int.tmod_eq_emod_of_nonneg (by omega)]
    omega
theorem rem_2 {a b : Int} (ha : -200 ≤ a ∧ a ≤ 200) (hb : -200 ≤ b ∧ b ≤ 200) : bop32 112 (bop32 96 a b) 2 = 0 ↔ (a + b) % 2 = 0 := by
  rw [add32 (by omega) (by omega)]
  obtain ⟨⟨t1, t2⟩, t3⟩ := tm_2 (a + b)
  have e : bop32 112 (a + b) 2 = Int.tmod (a + b) 2 := w32_id ⟨by omega, by omega⟩
  rw [e]
  exact t3
theorem sw_275 : ∀ kd : Fin 31, ((kd.val = 4 ∨ kd.val = 6) ∧ sw275_8 ((kd : Nat) : Int) = 128) ∨ (kd.val = 5 ∧ sw275_8 ((kd : Nat) : Int) = 150) ∨ (kd.val = 7 ∧ sw275_8 ((kd : Nat) : Int) = 178) ∨ (kd.val = 8 ∧ sw275_8 ((kd : Nat) : Int) = 201) ∨ (kd.val = 9 ∧ sw275_8 ((kd : Nat) : Int) = 222) ∨ (kd.val = 10 ∧ sw275_8 ((kd : Nat) : Int) = 230) ∨ (kd.val = 11 ∧ sw275_8 ((kd : Nat) : Int) = 251) ∨ ((kd.val = 12 ∨ kd.val = 27) ∧ sw275_8 ((kd : Nat) : Int) = 312) ∨ (kd.val = 15 ∧ sw275_8 ((kd : Nat) : Int) = 332) ∨ ((kd.val = 16 ∨ kd.val = 17) ∧ sw275_8 ((kd : Nat) : Int) = 341) ∨ (kd.val = 18 ∧ sw275_8 ((kd : Nat) : Int) = 350) ∨ (kd.val = 19 ∧ sw275_8 ((kd : Nat) : Int) = 374) ∨ ((kd.val = 20 ∨ kd.val = 21) ∧ sw275_8 ((kd : Nat) : Int) = 444) ∨ (kd.val = 25 ∧ sw275_8 ((kd : Nat) : Int) = 453) ∨ (kd.val = 26 ∧ sw275_8 ((kd : Nat) : Int) = 475) ∨ (kd.val = 29 ∧ sw275_8 ((kd : Nat) : Int) = 497) ∨ ((kd.val ≤ 3 ∨ kd.val = 13 ∨ kd.val = 14 ∨ (22 ≤ kd.val ∧ kd.val ≤ 24) ∨ kd.val = 28 ∨ kd.val = 30) ∧ sw275_8 ((kd : Nat) : Int) = 505) := by decide
theorem sw_714 : ∀ kd : Fin 31, ((kd.val = 4) ∧ sw714_1 ((kd : Nat) : Int) = 120) ∨ (kd.val = 5 ∧ sw714_1 ((kd : Nat) : Int) = 142) ∨ (kd.val = 6 ∧ sw714_1 ((kd : Nat) : Int) = 170) ∨ (kd.val = 7 ∧ sw714_1 ((kd : Nat) : Int) = 192) ∨ (kd.val = 8 ∧ sw714_1 ((kd : Nat) : Int) = 214) ∨ (kd.val = 9 ∧ sw714_1 ((kd : Nat) : Int) = 235) ∨ (kd.val = 10 ∧ sw714_1 ((kd : Nat) : Int) = 250) ∨ (kd.val = 11 ∧ sw714_1 ((kd : Nat) : Int) = 271) ∨ ((kd.val = 12 ∨ kd.val = 27) ∧ sw714_1 ((kd : Nat) : Int) = 339) ∨ (kd.val = 15 ∧ sw714_1 ((kd : Nat) : Int) = 358) ∨ ((kd.val = 16 ∨ kd.val = 17) ∧ sw714_1 ((kd : Nat) : Int) = 374) ∨ (kd.val = 18 ∧ sw714_1 ((kd : Nat) : Int) = 391) ∨ (kd.val = 19 ∧ sw714_1 ((kd : Nat) : Int) = 430) ∨ ((kd.val = 20 ∨ kd.val = 21) ∧ sw714_1 ((kd : Nat) : Int) = 463) ∨ (kd.val = 25 ∧ sw714_1 ((kd : Nat) : Int) = 480) ∨ (kd.val = 26 ∧ sw714_1 ((kd : Nat) : Int) = 502) ∨ (kd.val = 29 ∧ sw714_1 ((kd : Nat) : Int) = 524) ∨ ((kd.val ≤ 3 ∨ kd.val = 13 ∨ kd.val = 14 ∨ (22 ≤ kd.val ∧ kd.val ≤ 24) ∨ kd.val = 28 ∨ kd.val = 30) ∧ sw714_1 ((kd : Nat) : Int) = 540) := by decide
/-- a SPLIT's numbers: some, not all -/
theorem abs_1 (hx : -1 ≤ x ∧ x ≤ 1) : v886 x = if x = 0 then 0 else 1 := by
  rcases (by omega : x = -1 ∨ x = 0 ∨ x = 1) with rfl | rfl | rfl <;> decide
theorem sp_good {a b c : Int} {kk : Nat} (hk : kk < 3) (hab : kk = 2 → (-1 ≤ a ∧ a ≤ 1) ∧ -1 ≤ b ∧ b ≤ 1) : cond (tst 0 (v321 c (-1) 1) 0) (0 : Int) (cond (tst 2 (cond (tst 3 (kk : Int) 2) (bop32 96 (bop32 96 (v886 a) (v886 b)) (v886 c)) (1 : Int)) 1) 0 (cond (tst 4 (cond (tst 3 (kk : Int) 2) (bop32 96 (bop32 96 (v886 a) (v886 b)) (v886 c)) (1 : Int)) 2) 0 1)) = bI01 (inBd c (-1) 1 && (decide (kk ≠ 2) || !decide ((a = 0 ∧ b = 0 ∧ c = 0) ∨ (a ≠ 0 ∧ b ≠ 0 ∧ c ≠ 0)))) := by
  rw [v321_is, ct0]
  cases z : inBd c (-1) 1
  · rfl
  · rw [show bI01 true = 1 from rfl, if_neg (by decide), Bool.true_and, ct3]
    by_cases k2 : kk = 2
    · obtain ⟨ha, hb⟩ := hab k2
      rw [if_neg (by omega), decide_eq_false (fun w => w k2), Bool.false_or]
      unfold inBd at z
      rw [decide_eq_true_iff] at z
      rw [abs_1 ha, abs_1 hb, abs_1 z]
      by_cases a0 : a = 0 <;> by_cases b0 : b = 0 <;> by_cases c0 : c = 0 <;> simp [a0, b0, c0] <;> decide
    · rw [if_pos (by omega), decide_eq_true k2]; rfl
theorem sp_odd {a b c : Int} : cond (tst 0 (bop32 96 (bop32 96 (cond (tst 0 a 0) (0 : Int) (1 : Int)) (cond (tst 0 b 0) (0 : Int) (1 : Int))) (cond (tst 0 c 0) (0 : Int) (1 : Int))) 0) (1 : Int) (cond (tst 1 (bop32 96 (bop32 96 (cond (tst 0 a 0) (0 : Int) (1 : Int)) (cond (tst 0 b 0) (0 : Int) (1 : Int))) (cond (tst 0 c 0) (0 : Int) (1 : Int))) (3 : Int)) (0 : Int) (1 : Int)) = bI01 (decide ((a = 0 ∧ b = 0 ∧ c = 0) ∨ (a ≠ 0 ∧ b ≠ 0 ∧ c ≠ 0))) := by
  rw [ct0 (a := a), ct0 (a := b), ct0 (a := c)]
  by_cases a0 : a = 0 <;> by_cases b0 : b = 0 <;> by_cases c0 : c = 0 <;> simp [a0, b0, c0] <;> decide
theorem sp_bad {c u : Int} {p : Bool} {kk : Nat} (hk : kk < 3) (hu : u = bI01 p) : cond (tst 3 (kk : Int) 3) (cond (tst 1 (kk : Int) 2) (0 : Int) (cond (tst 0 u 0) (0 : Int) 1)) (cond (tst 2 c (-1)) (1 : Int) (cond (tst 4 c 1) (1 : Int) (cond (tst 1 (kk : Int) 2) (0 : Int) (cond (tst 0 u 0) (0 : Int) 1)))) = bI01 (!(inBd c (-1) 1 && (decide (kk ≠ 2) || !p))) := by
  rw [ct3, if_pos (by omega), ct2, ct4, ct1, hu, bI01_0]
  unfold inBd
  by_cases z1 : c < -1
  · rw [if_pos z1, decide_eq_false (by omega)]; rfl
  · rw [if_neg z1]
    by_cases z2 : 1 < c
    · rw [if_pos z2, decide_eq_false (by omega)]; rfl
    · rw [if_neg z2, decide_eq_true (by omega), Bool.true_and]
      by_cases k2 : kk = 2
      · rw [if_pos (by omega), decide_eq_false (fun w => w k2), Bool.false_or, Bool.not_not]
      · rw [if_neg (by omega), decide_eq_true k2]; rfl
end KIN
