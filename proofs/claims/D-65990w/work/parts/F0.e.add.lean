/-! L3: equations (desk): rows are reduced, one after the other -/
section DCH
variable {m k : Nat} {w : Nat → (Nat → Bool) → Int} {C : Nat → Nat → Bool} {t : Nat → Int} {R : Nat → Nat → Int} {col : Nat → Nat}
/-- rows that were kept: products, places, signs; the rows; the places -/
def Dch (m k : Nat) (w : Nat → (Nat → Bool) → Int) (C : Nat → Nat → Bool) (t : Nat → Int) (R : Nat → Nat → Int) (col : Nat → Nat) : Prop :=
  (w 0 = w0 (m + 1) ∧ C 0 = (fun _ => false) ∧ t 0 = 1) ∧ ∀ i, i < k → (col i < m ∧ C i (col i) = false ∧ rho (m + 1) (w i) (C i) (t i) (R i) (col i) ≠ 0) ∧ (w (i + 1) = wdg (m + 1) (w i) (R i) ∧ C (i + 1) = pls (C i) (col i) ∧ t (i + 1) = t i * sgp (pls (C i) (col i)) (col i) (m + 1)) ∧ rl m (R i) ≤ 4 ∧ (R i m).natAbs ≤ 200
/-- a row after i of them -/
def rI (m : Nat) (w : Nat → (Nat → Bool) → Int) (C : Nat → Nat → Bool) (t : Nat → Int) (i : Nat) (v : Nat → Int) (j : Nat) : Int := rho (m + 1) (w i) (C i) (t i) v j
/-- the determinant after i of them -/
def De (w : Nat → (Nat → Bool) → Int) (C : Nat → Nat → Bool) (t : Nat → Int) (i : Nat) : Int := t i * w i (C i)
theorem Dch.cra (D : Dch m k w C t R col) : ∀ i, i ≤ k → Cra (m + 1) (w i) (C i) (t i)
  | 0, _ => by rw [D.1.1, D.1.2.1, D.1.2.2]; exact Cra.ini
  | i + 1, h => by
    obtain ⟨⟨a1, a2, a3⟩, ⟨b1, b2, b3⟩, -⟩ := D.2 i (by omega)
    rw [b1, b2, b3]
    exact ((D.cra i (by omega)).step (by omega) a2 a3).2.2.2
theorem Dch.bd (D : Dch m k w C t R col) : ∀ i, i ≤ k → Bd1 m 200 i (w i)
  | 0, _ => by rw [D.1.1]; exact Bd1.ini
  | i + 1, h => by
    obtain ⟨-, ⟨b1, -⟩, c1, c2⟩ := D.2 i (by omega)
    rw [b1]
    exact (D.bd i (by omega)).step c1 c2
theorem Dch.cm (D : Dch m k w C t R col) : ∀ i, i ≤ k → C i m = false
  | 0, _ => by rw [D.1.2.1]
  | i + 1, h => by
    obtain ⟨⟨a1, -⟩, ⟨-, b2, -⟩, -⟩ := D.2 i (by omega)
    rw [b2]
    unfold pls
    rw [D.cm i (by omega), decide_eq_false (by omega)]; rfl
theorem cnt_pls {S : Nat → Bool} {c : Nat} (hc : S c = false) : ∀ n, cntN (pls S c) n = cntN S n + if c < n then 1 else 0
  | 0 => by rw [if_neg (Nat.not_lt_zero c)]; rfl
  | n + 1 => by
    rw [cntN_s, cntN_s, cnt_pls hc n]
    by_cases e : n = c
    · subst e
      have : pls S n n = true := pls_at
      rw [this, hc, if_neg (Nat.lt_irrefl n), if_pos rfl, if_neg Bool.false_ne_true, if_pos (Nat.lt_succ_self n)]
    · have : pls S c n = S n := by unfold pls; simp [e]
      rw [this]
      by_cases c1 : c < n
      · rw [if_pos c1, if_pos (show c < n + 1 by omega)]; omega
      · rw [if_neg c1, if_neg (show ¬ c < n + 1 by omega)]; omega
theorem Dch.cnt (D : Dch m k w C t R col) : ∀ i, i ≤ k → cntN (C i) m = i
  | 0, _ => by rw [D.1.2.1]; exact cntN_none _ (fun _ _ => rfl)
  | i + 1, h => by
    obtain ⟨⟨a1, a2, -⟩, ⟨-, b2, -⟩, -⟩ := D.2 i (by omega)
    rw [b2, cnt_pls a2, D.cnt i (by omega), if_pos a1]
theorem Dch.le (D : Dch m k w C t R col) : k ≤ m := by
  have := D.cnt k (Nat.le_refl k)
  have := cntN_le (C k) m
  omega
theorem cnt_full {S : Nat → Bool} : ∀ n, cntN S n = n → ∀ i, i < n → S i = true
  | 0, _, i, hi => absurd hi (Nat.not_lt_zero i)
  | n + 1, e, i, hi => by
    rw [cntN_s] at e
    have := cntN_le S n
    cases c : S n
    · rw [c, if_neg Bool.false_ne_true] at e; omega
    · rw [c, if_pos rfl] at e
      by_cases h : i = n
      · rw [h]; exact c
      · exact cnt_full n (by omega) i (by omega)
/-- a place that does not tell yet: there is room for one row more -/
theorem Dch.lt (D : Dch m k w C t R col) {c : Nat} (hc : c < m) (cc : C k c = false) : k < m := by
  have h1 := D.cnt k (Nat.le_refl k)
  have h2 := D.le
  by_cases e : k = m
  · have := cnt_full m (by rw [h1, e]) c hc
    rw [this] at cc; cases cc
  · omega
theorem one_t {t : Int} (h : t * t = 1) : t.natAbs = 1 := by
  have : (t - 1) * (t + 1) = 0 := by grind
  rcases Int.mul_eq_zero.mp this with z | z <;> omega
theorem big_c {x : Int} {i : Nat} (hi : i ≤ 25) (h : x.natAbs ≤ (i * 200 + 1) * 4 ^ i) : -6000000000000000000 ≤ x ∧ x ≤ 6000000000000000000 := by
  have h1 : 4 ^ i ≤ 4 ^ 25 := Nat.pow_le_pow_right (by decide) hi
  have h2 : (i * 200 + 1) * 4 ^ i ≤ (25 * 200 + 1) * 4 ^ 25 := Nat.mul_le_mul (by omega) h1
  have h3 : (25 * 200 + 1) * 4 ^ 25 = 5630625779294208001 - 5630625779294208001 + (25 * 200 + 1) * 4 ^ 25 := by omega
  have h4 : (25 * 200 + 1) * 4 ^ 25 ≤ 6000000000000000000 := by decide +kernel
  omega
theorem Dch.rho_b (D : Dch m k w C t R col) (hm : m ≤ 24) {v : Nat → Int} (h1 : rl m v ≤ 4) (h2 : (v m).natAbs ≤ 200) {i j : Nat} (hi : i ≤ k) (hj : j ≤ m) : -6000000000000000000 ≤ rI m w C t i v j ∧ rI m w C t i v j ≤ 6000000000000000000 := by
  have kl := D.le
  unfold rI
  cases cj : C i j
  · have b := (D.bd i hi).step h1 h2
    rw [rho_out (by omega) cj]
    refine big_c (i := i + 1) (by omega) ?_
    rw [Int.natAbs_mul, Int.natAbs_mul, one_t (D.cra i hi).1, sgp_abs, Nat.one_mul, Nat.one_mul]
    exact (b _).2
  · rw [rho_in (by omega) cj]; decide
theorem Dch.de_s (D : Dch m k w C t R col) {i : Nat} (hi : i < k) : De w C t (i + 1) = rI m w C t i (R i) (col i) := by
  obtain ⟨⟨a1, a2, a3⟩, ⟨b1, b2, b3⟩, -⟩ := D.2 i hi
  unfold De rI
  rw [b1, b2, b3]
  exact ((D.cra i (by omega)).step (by omega) a2 a3).1
theorem Dch.de_0 (D : Dch m k w C t R col) : De w C t 0 = 1 := by
  unfold De
  rw [D.1.1, D.1.2.1, D.1.2.2]
  unfold w0
  rw [if_pos (emS_iff.mpr (fun _ _ => rfl))]; rfl
theorem Dch.de_b (D : Dch m k w C t R col) (hm : m ≤ 24) {i : Nat} (hi : i ≤ k) : De w C t i ≠ 0 ∧ cn 1 (De w C t i) := by
  refine ⟨(D.cra i hi).2.1, ?_⟩
  cases i with
  | zero => rw [D.de_0]; exact ⟨by decide, by decide⟩
  | succ i =>
    obtain ⟨⟨a1, -⟩, -, c1, c2⟩ := D.2 i (by omega)
    rw [D.de_s (by omega)]
    have := D.rho_b hm c1 c2 (i := i) (j := col i) (by omega) (by omega)
    exact ⟨by omega, by omega⟩
/-- one step of a row -/
theorem Dch.step (D : Dch m k w C t R col) {i j : Nat} (hi : i < k) (hj : j ≤ m) (v : Nat → Int) : rI m w C t i v j * De w C t (i + 1) - rI m w C t i v (col i) * rI m w C t i (R i) j = De w C t i * rI m w C t (i + 1) v j := by
  obtain ⟨⟨a1, a2, a3⟩, ⟨b1, b2, b3⟩, -⟩ := D.2 i hi
  have e := (D.cra i (by omega)).row (v := v) (c := col i) (j := j) (by omega) a2 a3 (by omega)
  rw [← b1, ← b3, ← b2] at e
  rw [D.de_s hi]
  unfold De rI
  rw [e, Int.mul_comm (rho (m + 1) (w i) (C i) (t i) v j)]
theorem Dch.r0 (D : Dch m k w C t R col) {v : Nat → Int} {j : Nat} : rI m w C t 0 v j = v j := by
  unfold rI
  rw [D.1.1, D.1.2.1, D.1.2.2]
  exact rho_ini
end DCH
section ADD
variable {gv : Nat → Int} {B n d m k : Nat} {h : AH} {w : Nat → (Nat → Bool) → Int} {C : Nat → Nat → Bool} {t : Nat → Int} {R : Nat → Nat → Int} {col : Nat → Nat} {v : Nat → Int}
theorem ixr25 {k j : Nat} (hk : k < 25) (hj : j < 26) : bop32 96 (bop32 104 (k : Int) 25) (j : Int) = ((k * 25 + j : Nat) : Int) := by
  rw [show bop32 104 (k : Int) 25 = ((k * 25 : Nat) : Int) from mulNN (y := 25) (by omega)]; exact addNN (by omega)
theorem c_empty132 (l : LX B n h) (hd : 10 ≤ d) : Vd (cll PP (ev PP (gsF gv) B) d 132 [(2, rf (B + 57))] h) (fun h' => Agr (fun c _ => c = B + 58) h h' ∧ ∀ j, j < 25 → hv h' (B + 58) j = 0) := by
  refine Vd.inq (D := 9) hd (Nat.le_of_ble_eq_true rfl) rfl (fun d hd Q K => ?_)
  have key : ∀ (c i : Nat) (q : AH), i + c = 25 → LX B n q → Agr (fun c _ => c = B + 58) h q → (∀ j, j < i → hv q (B + 58) j = 0) → Ends (ev PP (gsF gv) B d 132 2 [(2, rf (B + 57)), (0, (i : Int))] [] q) Q := by
    intro c
    induction c with
    | zero =>
      intro i q e lq gq z
      obtain rfl : i = 25 := by omega
      exact Ends.eq (b132_2 lq (by omega)) (Ends.b4 (fun _ => Ends.sm (K _ ⟨gq, z⟩)) (fun z => absurd z (by decide)))
    | succ c ih =>
      intro i q e lq gq z
      refine Ends.eq (b132_2 lq (by omega)) (Ends.b4 (fun z => by omega) (fun _ => Ends.g ⟨by omega, by omega⟩ ?_))
      rw [tn, an1, w_succ (by omega)]
      refine ih (i + 1) _ (by omega) (lq.setS rfl) (gq.set rfl) (fun j hj => ?_)
      by_cases e : j = i
      · rw [e, hv_set_at]
      · rw [hv_set_ne (by omega)]; exact z j (by omega)
  refine Ends.eq (b132_0 l (by omega)) ?_
  exact key 25 0 h rfl l Agr.rf (fun j hj => absurd hj (Nat.not_lt_zero j))
/-- the desk's equations hold such rows -/
def EqS (B : Nat) (h : AH) (m k : Nat) (w : Nat → (Nat → Bool) → Int) (C : Nat → Nat → Bool) (t : Nat → Int) (R : Nat → Nat → Int) (col : Nat → Nat) : Prop :=
  (hv h (B + 57) 0 = (m : Int) ∧ hv h (B + 57) 1 = (k : Int)) ∧ (∀ i, i < k → hv h (B + 61) i = ((col i : Nat) : Int) ∧ hv h (B + 60) i = De w C t (i + 1) ∧ ∀ j, j ≤ m → hv h (B + 59) (i * 25 + j) = rI m w C t i (R i) j) ∧ Dch m k w C t R col
def adW (B : Nat) : Nat → Nat → Prop := fun c k => (c = B + 57 ∧ (k = 1 ∨ k = 2 ∨ k = 8 ∨ k = 9)) ∨ c = B + 58 ∨ c = B + 59 ∨ c = B + 60 ∨ c = B + 61
set_option maxHeartbeats 2000000 in
theorem c_add127 (l : LX B n h) (hd : 15 ≤ d) (hm : m ≤ 24) (S : EqS B h m k w C t R col) (hv_ : ∀ j, j ≤ m → hv h (B + 58) j = v j) (h1 : rl m v ≤ 4) (h2 : (v m).natAbs ≤ 200) :
    Vt 0 (cll PP (ev PP (gsF gv) B) d 127 [(2, rf (B + 57))] h) (fun x h' => Agr (adW B) h h' ∧ (∀ j, j < 25 → hv h' (B + 58) j = 0) ∧ (((∀ j, j < m → rI m w C t k v j = 0) ∧ x = (if rI m w C t k v m = 0 then 0 else 2) ∧ EqS B h' m k w C t R col ∧ hv h' (B + 57) 2 = if hv h (B + 57) 2 ≠ 0 ∨ rI m w C t k v m ≠ 0 then 1 else 0) ∨
      ∃ c w' C' t' R' col', (c < m ∧ C k c = false ∧ rI m w C t k v c ≠ 0) ∧ x = 1 ∧ EqS B h' m (k + 1) w' C' t' R' col' ∧ hv h' (B + 57) 2 = hv h (B + 57) 2 ∧ (∀ i, i ≤ k → w' i = w i ∧ C' i = C i ∧ t' i = t i) ∧ (∀ i, i < k → R' i = R i ∧ col' i = col i) ∧ R' k = v ∧ col' k = c)) := by
  obtain ⟨⟨s0, s1⟩, sk, D⟩ := S
  have kl := D.le
  have cb : ∀ i j, i ≤ k → j ≤ m → cn 1 (rI m w C t i v j) := fun i j hi hj => by have := D.rho_b hm h1 h2 hi hj; exact ⟨by omega, by omega⟩
  have kb : ∀ i j, i < k → j ≤ m → cn 1 (rI m w C t i (R i) j) := fun i j hi hj => by
    obtain ⟨-, -, c1, c2⟩ := D.2 i hi
    have := D.rho_b hm c1 c2 (i := i) (j := j) (by omega) hj; exact ⟨by omega, by omega⟩
  refine Vt.inq (D := 14) hd (Nat.le_of_ble_eq_true rfl) rfl (fun d hd Q K => ?_)
  -- the fixed cells
  have fx : ∀ {q : AH}, Agr (fun c k => (c = B + 57 ∧ (k = 8 ∨ k = 9)) ∨ c = B + 58) h q → (hv q (B + 57) 0 = (m : Int) ∧ hv q (B + 57) 1 = (k : Int)) ∧ (∀ i, i < k → hv q (B + 61) i = ((col i : Nat) : Int) ∧ hv q (B + 60) i = De w C t (i + 1) ∧ ∀ j, j ≤ m → hv q (B + 59) (i * 25 + j) = rI m w C t i (R i) j) := fun g => by
    refine ⟨⟨?_, ?_⟩, fun i hi => ⟨?_, ?_, fun j hj => ?_⟩⟩
    · rw [g.at _ _ (by omega)]; exact s0
    · rw [g.at _ _ (by omega)]; exact s1
    · rw [g.at _ _ (by omega)]; exact (sk i hi).1
    · rw [g.at _ _ (by omega)]; exact (sk i hi).2.1
    · rw [g.at _ _ (by omega)]; exact (sk i hi).2.2 j hj
  -- what is left, kept
  have keep : ∀ (c : Nat), c < m → rI m w C t k v c ≠ 0 → ∀ (r j : Nat) (q : AH) (u1 u5 u6 u7 u8 : AV) (x1 : Int), j + r = m + 1 → LX B n q → Agr (fun c k => (c = B + 57 ∧ (k = 8 ∨ k = 9)) ∨ c = B + 58 ∨ (c = B + 59 ∧ k = k)) h q → (∀ i, i < k → ∀ j, j ≤ m → hv q (B + 59) (i * 25 + j) = rI m w C t i (R i) j) → (∀ j', j' ≤ m → hv q (B + 58) j' = rI m w C t k v j') → (∀ j', j' < j → hv q (B + 59) (k * 25 + j') = rI m w C t k v j') → Ends (ev PP (gsF gv) B d 127 194 [(2, rf (B + 57)), (1, x1), (9, 0), (0, (c : Int)), (0, (j : Int)), u5, u6, u7, u8] [] q) Q := by
    intro c hc hz r
    have ck : C k c = false := by
      cases e : C k c
      · rfl
      · exact absurd (rho_in (show c < m + 1 by omega) e) hz
    have klt := D.lt hc ck
    induction r with
    | zero =>
      intro j q u1 u5 u6 u7 u8 x1 e lq gq kq rq nq
      obtain rfl : j = m + 1 := by omega
      have q0 : hv q (B + 57) 0 = (m : Int) := by rw [gq.at _ _ (by omega)]; exact s0
      have q1 : hv q (B + 57) 1 = (k : Int) := by rw [gq.at _ _ (by omega)]; exact s1
      have q2 : hv q (B + 57) 2 = hv h (B + 57) 2 := gq.at _ _ (by omega)
      refine Ends.eq (b127_194 lq (by omega)) ?_
      rw [q0, q1, tn, tn, an0, an1, b96_1 (by omega), rq c (by omega)]
      refine Ends.b4 (fun _ => Ends.g ⟨by omega, by omega⟩ (Ends.g ⟨by omega, by omega⟩ ?_)) (fun z => by omega)
      have l3 : LX B n (hset (hset (hset q (B + 61) k (c : Int)) (B + 60) k (rI m w C t k v c)) (B + 57) 1 ((k + 1 : Nat) : Int)) := LX.setF 57 1 ((lq.setS rfl).setS rfl) (by decide +kernel)
      refine Ends.cv l3 (by decide +kernel) (c_empty132 l3 (by omega)) (fun q4 l4 _ _ _ ⟨g4, z4⟩ => ?_)
      refine Ends.eq (b127_270 l4 (by omega)) ?_
      refine Ends.sm (K _ _ ⟨((((gq.sub (W' := adW B) (fun c k z => by unfold adW; omega)).set (Or.inr (Or.inr (Or.inr (Or.inr rfl))))).set (Or.inr (Or.inr (Or.inr (Or.inl rfl))))).set (Or.inl ⟨rfl, Or.inl rfl⟩)).tr g4 (fun c k z => Or.inr (Or.inl z)), z4, Or.inr ⟨c, fun i => if i = k + 1 then wdg (m + 1) (w k) v else w i, fun i => if i = k + 1 then pls (C k) c else C i, fun i => if i = k + 1 then t k * sgp (pls (C k) c) c (m + 1) else t i, fun i => if i = k then v else R i, fun i => if i = k then c else col i, ⟨hc, ck, hz⟩, rfl, ?_, ?_, fun i hi => ?_, fun i hi => ?_, if_pos rfl, if_pos rfl⟩⟩)
      · have ne : ∀ i, i ≤ k → ¬ i = k + 1 := fun i hi => by omega
        have rr : ∀ i j (x : Nat → Int), i ≤ k → rI m (fun i => if i = k + 1 then wdg (m + 1) (w k) v else w i) (fun i => if i = k + 1 then pls (C k) c else C i) (fun i => if i = k + 1 then t k * sgp (pls (C k) c) c (m + 1) else t i) i x j = rI m w C t i x j := fun i j x hi => by
          unfold rI
          simp only [if_neg (ne i hi)]
        have dd : ∀ i, i ≤ k → De (fun i => if i = k + 1 then wdg (m + 1) (w k) v else w i) (fun i => if i = k + 1 then pls (C k) c else C i) (fun i => if i = k + 1 then t k * sgp (pls (C k) c) c (m + 1) else t i) i = De w C t i := fun i hi => by
          unfold De
          simp only [if_neg (ne i hi)]
        have D' : Dch m (k + 1) (fun i => if i = k + 1 then wdg (m + 1) (w k) v else w i) (fun i => if i = k + 1 then pls (C k) c else C i) (fun i => if i = k + 1 then t k * sgp (pls (C k) c) c (m + 1) else t i) (fun i => if i = k then v else R i) (fun i => if i = k then c else col i) := by
          refine ⟨?_, fun i hi => ?_⟩
          · simp only [if_neg (ne 0 (Nat.zero_le k))]
            exact D.1
          · simp only [if_neg (ne i (by omega))]
            by_cases e : i = k
            · subst e
              simp only [if_true]
              exact ⟨⟨hc, ck, hz⟩, ⟨by trivial, by trivial, by trivial⟩, h1, h2⟩
            · have hi' : i < k := by omega
              simp only [if_neg e, if_neg (show ¬ i + 1 = k + 1 by omega)]
              exact D.2 i hi'
        refine ⟨⟨?_, ?_⟩, fun i hi => ⟨?_, ?_, fun j hj => ?_⟩, D'⟩
        · rw [g4.at _ _ (by omega), hv_set_ne (by omega), hv_set_ne (by omega), hv_set_ne (by omega)]; exact q0
        · rw [g4.at _ _ (by omega), hv_set_at]
        · rw [g4.at _ _ (by omega), hv_set_ne (by omega), hv_set_ne (by omega)]
          show _ = ((if i = k then c else col i : Nat) : Int)
          by_cases e : i = k
          · rw [if_pos e, e, hv_set_at]
          · rw [if_neg e, hv_set_ne (by omega), gq.at _ _ (by omega)]; exact (sk i (by omega)).1
        · rw [g4.at _ _ (by omega), hv_set_ne (by omega)]
          by_cases e : i = k
          · subst e
            rw [hv_set_at, D'.de_s (by omega), rr _ _ _ (Nat.le_refl _)]
            simp only [if_true]
          · rw [hv_set_ne (by omega), hv_set_ne (by omega), gq.at _ _ (by omega), dd _ (by omega)]; exact (sk i (by omega)).2.1
        · rw [g4.at _ _ (by omega), hv_set_ne (by omega), hv_set_ne (by omega), hv_set_ne (by omega), rr _ _ _ (by omega)]
          by_cases e : i = k
          · subst e
            simp only [if_true]
            exact nq j (by omega)
          · simp only [if_neg e]
            exact kq i (by omega) j hj
      · rw [g4.at _ _ (by omega), hv_set_ne (by omega), hv_set_ne (by omega), hv_set_ne (by omega)]; exact q2
      · simp only [if_neg (show ¬ i = k + 1 by omega)]; exact ⟨trivial, trivial, trivial⟩
      · simp only [if_neg (show ¬ i = k by omega)]; exact ⟨trivial, trivial⟩
    | succ r ih =>
      intro j q u1 u5 u6 u7 u8 x1 e lq gq kq rq nq
      have q0 : hv q (B + 57) 0 = (m : Int) := by rw [gq.at _ _ (by omega)]; exact s0
      have q1 : hv q (B + 57) 1 = (k : Int) := by rw [gq.at _ _ (by omega)]; exact s1
      refine Ends.eq (b127_194 lq (by omega)) ?_
      rw [q0, q1, ixr25 (by omega) (by omega)]
      simp only [tn]
      rw [an1, rq j (by omega), w_succ (by omega)]
      refine Ends.b4 (fun z => by omega) (fun _ => Ends.g ⟨by omega, by omega⟩ (Ends.g ⟨by omega, by omega⟩ ?_))
      refine ih (j + 1) _ u1 _ _ _ _ _ (by omega) (lq.setS rfl) (gq.set (Or.inr (Or.inr ⟨rfl, rfl⟩))) (fun i hi j' hj' => ?_) (fun j' hj' => ?_) (fun j' hj' => ?_)
      · rw [hv_set_ne (by omega)]; exact kq i hi j' hj'
      · rw [hv_set_ne (by omega)]; exact rq j' hj'
      · by_cases e2 : j' = j
        · rw [e2, hv_set_at, an1]
        · rw [hv_set_ne (by omega)]; exact nq j' (by omega)
  -- the first place that is not nothing
  have find : ∀ (r c : Nat) (q : AH) (x1 : Int) (u4 u5 u6 u7 u8 : AV), c + r = m → LX B n q → Agr (fun c k => (c = B + 57 ∧ (k = 8 ∨ k = 9)) ∨ c = B + 58) h q → (∀ j, j ≤ m → hv q (B + 58) j = rI m w C t k v j) → (∀ j, j < c → rI m w C t k v j = 0) → Ends (ev PP (gsF gv) B d 127 101 [(2, rf (B + 57)), (1, x1), (9, 0), (0, (c : Int)), u4, u5, u6, u7, u8] [] q) Q := by
    intro r
    have stop : ∀ (c : Nat) (q : AH) (x1 : Int) (u4 u5 u6 u7 u8 : AV), c ≤ m → LX B n q → Agr (fun c k => (c = B + 57 ∧ (k = 8 ∨ k = 9)) ∨ c = B + 58) h q → (∀ j, j ≤ m → hv q (B + 58) j = rI m w C t k v j) → (∀ j, j < c → rI m w C t k v j = 0) → (c < m → rI m w C t k v c ≠ 0) → Ends (ev PP (gsF gv) B d 127 126 [(2, rf (B + 57)), (1, x1), (9, 0), (0, (c : Int)), u4, u5, u6, u7, u8] [] q) Q := by
      intro c q x1 u4 u5 u6 u7 u8 hc lq gq rq lo nz
      obtain ⟨⟨q0, q1⟩, qk⟩ := fx gq
      refine Ends.eq (b127_126 lq (by omega)) ?_
      rw [q0, tn]
      refine Ends.b1 (fun z => ?_) (fun z => ?_)
      · have hc' : c < m := by omega
        exact keep c hc' (nz hc') (m + 1) 0 q (9, 0) _ _ _ _ _ (by omega) lq (gq.sub (fun c k z => by omega)) (fun i hi j hj => (qk i hi).2.2 j hj) rq (fun j hj => absurd hj (Nat.not_lt_zero j))
      · obtain rfl : c = m := by omega
        have q2 : hv q (B + 57) 2 = hv h (B + 57) 2 := gq.at _ _ (by omega)
        rw [rq c (Nat.le_refl c), q2]
        have ec : cond (tst 0 (cmp64 (rI c w C t k v c) 0) 0) (0 : Int) 1 = if rI c w C t k v c = 0 then 0 else 1 := by
          rw [ct0]
          by_cases e : rI c w C t k v c = 0
          · rw [if_pos e, if_pos (cmp64_z.mpr e)]
          · rw [if_neg e, if_neg (fun z => e (cmp64_z.mp z))]
        rw [ec]
        refine Ends.g ⟨by omega, by omega⟩ ?_
        have l3 : LX B n (hset q (B + 57) 2 (cond (tst 1 (hv h (B + 57) 2) 0) 1 (cond (tst 0 (if rI c w C t k v c = 0 then (0 : Int) else 1) 0) 0 1))) := LX.setF 57 2 lq (by decide +kernel)
        refine Ends.cv l3 (by decide +kernel) (c_empty132 l3 (by omega)) (fun q4 l4 _ _ _ ⟨g4, z4⟩ => ?_)
        refine Ends.eq (b127_180 l4 (by omega)) ?_
        refine Ends.sm (K _ _ ⟨((gq.sub (W' := adW B) (fun c k z => by unfold adW; omega)).set (Or.inl ⟨rfl, Or.inr (Or.inl rfl)⟩)).tr g4 (fun c k z => Or.inr (Or.inl z)), z4, Or.inl ⟨lo, ?_, ⟨⟨?_, ?_⟩, fun i hi => ⟨?_, ?_, fun j hj => ?_⟩, D⟩, ?_⟩⟩)
        · rw [ct0]
          by_cases e : rI c w C t k v c = 0
          · rw [if_pos e, if_pos rfl, if_pos e]
          · rw [if_neg e, if_neg (by decide), if_neg e]
        · rw [g4.at _ _ (by omega), hv_set_ne (by omega)]; exact q0
        · rw [g4.at _ _ (by omega), hv_set_ne (by omega)]; exact q1
        · rw [g4.at _ _ (by omega), hv_set_ne (by omega)]; exact (qk i hi).1
        · rw [g4.at _ _ (by omega), hv_set_ne (by omega)]; exact (qk i hi).2.1
        · rw [g4.at _ _ (by omega), hv_set_ne (by omega)]; exact (qk i hi).2.2 j hj
        · rw [g4.at _ _ (by omega), hv_set_at, ct1, ct0]
          by_cases e1 : hv h (B + 57) 2 = 0
          · rw [if_pos e1]
            by_cases e2 : rI c w C t k v c = 0
            · rw [if_pos e2, if_pos rfl, if_neg (fun z => by rcases z with z | z; exact z e1; exact z e2)]
            · rw [if_neg e2, if_neg (by decide), if_pos (Or.inr e2)]
          · rw [if_neg e1, if_pos (Or.inl e1)]
    induction r with
    | zero =>
      intro c q x1 u4 u5 u6 u7 u8 e lq gq rq lo
      obtain rfl : c = m := by omega
      obtain ⟨⟨q0, q1⟩, qk⟩ := fx gq
      refine Ends.eq (b127_101 (by decide) lq (by omega)) ?_
      rw [q0]
      exact Ends.b3 (fun _ => stop c q _ _ _ _ _ _ (Nat.le_refl c) lq gq rq lo (fun z => absurd z (Nat.lt_irrefl c))) (fun z => by omega)
    | succ r ih =>
      intro c q x1 u4 u5 u6 u7 u8 e lq gq rq lo
      obtain ⟨⟨q0, q1⟩, qk⟩ := fx gq
      refine Ends.eq (b127_101 (by decide) lq (by omega)) ?_
      rw [q0, tn, rq c (by omega), w_succ (by omega)]
      refine Ends.b3 (fun z => by omega) (fun _ => Ends.g ⟨by omega, by omega⟩ (Ends.b1 (fun z => ?_) (fun z => ?_)))
      · exact stop c q _ _ _ _ _ _ (by omega) lq gq rq lo (fun _ z2 => z (cmp64_z.mpr z2))
      · refine ih (c + 1) q _ _ _ _ _ _ (by omega) lq gq rq (fun j hj => ?_)
        by_cases e2 : j = c
        · rw [e2]; exact cmp64_z.mp z
        · exact lo j (by omega)
  -- one kept row after the other
  have red : ∀ (r i : Nat) (q : AH) (u4 u5 u6 u7 u8 : AV), i + r = k → LX B n q → Agr (fun c k => (c = B + 57 ∧ (k = 8 ∨ k = 9)) ∨ c = B + 58) h q → (∀ j, j ≤ m → hv q (B + 58) j = rI m w C t i v j) → Ends (ev PP (gsF gv) B d 127 4 [(2, rf (B + 57)), (1, De w C t i), (9, 0), (0, (i : Int)), u4, u5, u6, u7, u8] [] q) Q := by
    intro r
    induction r with
    | zero =>
      intro i q u4 u5 u6 u7 u8 e lq gq rq
      obtain rfl : i = k := by omega
      obtain ⟨⟨q0, q1⟩, qk⟩ := fx gq
      refine Ends.eq (b127_4 (by decide) lq (by omega)) ?_
      rw [q1]
      exact Ends.b3 (fun _ => find m 0 q _ _ _ _ _ _ (by omega) lq gq rq (fun j hj => absurd hj (Nat.not_lt_zero j))) (fun z => by omega)
    | succ r ih =>
      intro i q u4 u5 u6 u7 u8 e lq gq rq
      have hi : i < k := by omega
      obtain ⟨⟨q0, q1⟩, qk⟩ := fx gq
      have ci := (D.2 i hi).1.1
      refine Ends.eq (b127_4 (by decide) lq (by omega)) ?_
      rw [q1, tn, (qk i hi).1, (qk i hi).2.1, tn, rq (col i) (by omega)]
      refine Ends.b3 (fun z => by omega) (fun _ => Ends.g ⟨by omega, by omega⟩ (Ends.g ⟨by omega, by omega⟩ ?_))
      have js : ∀ (s j : Nat) (q : AH), j + s = m + 1 → LX B n q → Agr (fun c k => (c = B + 57 ∧ (k = 8 ∨ k = 9)) ∨ c = B + 58) h q → (∀ j', j' ≤ m → hv q (B + 58) j' = if j' < j then rI m w C t (i + 1) v j' else rI m w C t i v j') → Ends (ev PP (gsF gv) B d 127 36 [(2, rf (B + 57)), (1, De w C t i), (9, 0), (0, (i : Int)), (1, De w C t (i + 1)), (9, 0), (1, rI m w C t i v (col i)), (9, 0), (0, (j : Int))] [] q) Q := by
        intro s
        induction s with
        | zero =>
          intro j q e lq gq rq
          obtain rfl : j = m + 1 := by omega
          obtain ⟨⟨q0, q1⟩, qk⟩ := fx gq
          refine Ends.eq (b127_36 lq (by omega)) ?_
          rw [q0, w_succ (by omega)]
          refine Ends.b4 (fun _ => ih (i + 1) q _ _ _ _ _ (by omega) lq gq (fun j' hj' => ?_)) (fun z => by omega)
          rw [rq j' hj', if_pos (by omega)]
        | succ s ihs =>
          intro j q e lq gq rq
          have hj : j ≤ m := by omega
          obtain ⟨⟨q0, q1⟩, qk⟩ := fx gq
          refine Ends.eq (b127_36 lq (by omega)) ?_
          rw [q0, ixr25 (by omega) (by omega), tn, tn, rq j hj, if_neg (Nat.lt_irrefl j), (qk i hi).2.2 j hj]
          refine Ends.b4 (fun z => by omega) (fun _ => Ends.g ⟨by omega, by omega⟩ (Ends.g ⟨by omega, by omega⟩ ?_))
          refine Ends.cv lq (by decide +kernel) (c_cross129 lq (by omega) (cb i j (by omega) hj) (D.de_b hm (by omega)).2 (cb i (col i) (by omega) (by omega)) (kb i j hi hj)) (fun q3 l3 _ _ _ ⟨g3, w3⟩ => ?_)
          refine Ends.eq (b127_72 l3 (by omega)) ?_
          refine Ends.ct l3 (by decide +kernel) (by decide) (c_divided131 (Y := rI m w C t (i + 1) v j) l3 (by omega) (D.de_b hm (by omega)).2 (D.de_b hm (by omega)).1 w3 (D.step hi hj v) (cb (i + 1) j (by omega) hj)) (fun y q4 l4 _ _ _ ⟨e4, ey⟩ => ?_)
          obtain rfl := e4
          rw [ey]
          refine Ends.eq (b127_83 (by decide) l4 (by omega)) ?_
          rw [ad_rf, lk_58 l4, tn, an1, w_succ (by omega)]
          refine Ends.g ⟨rf_pos _, rfl, by omega, by show ((j : Nat) : Int) < ((25 : Nat) : Int); omega, by omega⟩ ?_
          have G4 : Agr (fun c k => (c = B + 57 ∧ (k = 8 ∨ k = 9)) ∨ c = B + 58) h q4 := gq.tr g3 (fun c k z => Or.inl z)
          refine ihs (j + 1) _ (by omega) (l4.setS rfl) (G4.set (Or.inr rfl)) (fun j' hj' => ?_)
          by_cases e2 : j' = j
          · rw [e2, hv_set_at, if_pos (Nat.lt_succ_self j)]
          · rw [hv_set_ne (by omega), g3.at _ _ (by omega), rq j' hj']
            by_cases e3 : j' < j
            · rw [if_pos e3, if_pos (by omega)]
            · rw [if_neg e3, if_neg (by omega)]
      exact js (m + 1) 0 q (by omega) lq gq (fun j' hj' => by rw [if_neg (Nat.not_lt_zero _)]; exact rq j' hj')
  refine Ends.eq (b127_0 l (by omega)) ?_
  have := red k 0 h (9, 0) (9, 0) (9, 0) (9, 0) (9, 0) (by omega) l Agr.rf (fun j hj => by rw [D.r0]; exact hv_ j hj)
  rw [D.de_0] at this
  exact this
end ADD
