/-! L3: equations (desk): solved from the last kept row to the first -/
section SOLV
variable {gv : Nat → Int} {B n d m k : Nat} {h : AH} {w : Nat → (Nat → Bool) → Int} {C : Nat → Nat → Bool} {t : Nat → Int} {R : Nat → Nat → Int} {col : Nat → Nat}
/-- over the places that tell = over the rows -/
theorem Dch.sum (D : Dch m k w C t R col) {G : Nat → Int} : ∀ i, i ≤ k → sI (fun c => if C i c = true then G c else 0) (m + 1) = sI (fun l => G (col l)) i
  | 0, _ => by rw [D.1.2.1]; exact sI_zero _ (fun _ _ => if_neg Bool.false_ne_true)
  | i + 1, h => by
    obtain ⟨⟨a1, a2, -⟩, ⟨-, b2, -⟩, -⟩ := D.2 i (by omega)
    rw [b2, sI_pls (G := G) (by omega) a2, D.sum i (by omega), sI_s, Int.add_comm]
/-- places stay -/
theorem Dch.mono (D : Dch m k w C t R col) {c : Nat} : ∀ i j, i ≤ j → j ≤ k → C i c = true → C j c = true := by
  intro i j
  induction j with
  | zero => intro h _ e; rw [show i = 0 by omega] at e; exact e
  | succ j ih =>
    intro h1 h2 e
    by_cases z : i = j + 1
    · rw [← z]; exact e
    · obtain ⟨-, ⟨-, b2, -⟩, -⟩ := D.2 j (by omega)
      rw [b2]
      unfold pls
      rw [ih (by omega) (by omega) e]; rfl
theorem Dch.col_in (D : Dch m k w C t R col) {i j : Nat} (hi : i < j) (hj : j ≤ k) : C j (col i) = true := by
  refine D.mono (i + 1) j hi hj ?_
  obtain ⟨-, ⟨-, b2, -⟩, -⟩ := D.2 i (by omega)
  rw [b2]
  exact pls_at
/-- a row that follows from the first i, follows from more -/
theorem Dch.up (D : Dch m k w C t R col) {v : Nat → Int} {i : Nat} : ∀ j, i ≤ j → j ≤ k → (∀ S, wdg (m + 1) (w i) v S = 0) → ∀ S, wdg (m + 1) (w j) v S = 0 := by
  intro j
  induction j with
  | zero => intro h _ e; rw [show i = 0 by omega] at e; exact e
  | succ j ih =>
    intro h1 h2 e S
    by_cases z : i = j + 1
    · rw [← z]; exact e S
    · obtain ⟨-, ⟨b1, -⟩, -⟩ := D.2 j (by omega)
      rw [b1]
      exact rho_wdg (D.cra j (by omega)) (ih (by omega) (by omega) e) (R j) S
theorem Dch.kept0 (D : Dch m k w C t R col) {i : Nat} (hi : i < k) : ∀ S, wdg (m + 1) (w k) (rI m w C t i (R i)) S = 0 := by
  refine D.up k hi (Nat.le_refl k) (fun S => ?_)
  obtain ⟨⟨a1, a2, a3⟩, ⟨b1, b2, b3⟩, -⟩ := D.2 i hi
  have st := (D.cra i (by omega)).step (c := col i) (by omega) a2 a3
  show wdg (m + 1) (w (i + 1)) (rho (m + 1) (w i) (C i) (t i) (R i)) S = 0
  rw [b1, ← wdg_congr (a := jac (m + 1) (wdg (m + 1) (w i) (R i)) (pls (C i) (col i)) (t i * sgp (pls (C i) (col i)) (col i) (m + 1)) (col i)) (fun j hj => st.2.1 j hj)]
  exact st.2.2.2.2.2 (col i) (by omega) pls_at S
/-- what an unknown is, times the determinant -/
def An (m : Nat) (w : Nat → (Nat → Bool) → Int) (C : Nat → Nat → Bool) (t : Nat → Int) (k c : Nat) : Int := jac (m + 1) (w k) (C k) (t k) c m
theorem Dch.back (D : Dch m k w C t R col) {i : Nat} (hi : i < k) : rI m w C t i (R i) m * De w C t k = De w C t (i + 1) * An m w C t k (col i) + sI (fun l => if i < l then rI m w C t i (R i) (col l) * An m w C t k (col l) else 0) k := by
  have z := rho_zero (C := C k) (t := t k) (D.kept0 hi) (j := m) (by omega)
  unfold rho at z
  rw [D.sum (G := fun c => rI m w C t i (R i) c * jac (m + 1) (w k) (C k) (t k) c m) k (Nat.le_refl k), sI_pick (k := i) k hi] at z
  rw [D.de_s hi]
  have e : sI (fun l => if l = i then 0 else rI m w C t i (R i) (col l) * jac (m + 1) (w k) (C k) (t k) (col l) m) k = sI (fun l => if i < l then rI m w C t i (R i) (col l) * An m w C t k (col l) else 0) k := by
    refine sI_congr k (fun l hl => ?_)
    by_cases e1 : l = i
    · rw [if_pos e1, if_neg (by omega)]
    · rw [if_neg e1]
      by_cases e2 : i < l
      · rw [if_pos e2]; rfl
      · rw [if_neg e2, show rI m w C t i (R i) (col l) = 0 from rho_in (by have := (D.2 l hl).1.1; omega) (D.col_in (by omega) (by omega)), Int.zero_mul]
  rw [e] at z
  unfold De
  show _ = _ * jac (m + 1) (w k) (C k) (t k) (col i) m + _
  rw [Int.mul_comm]
  omega
theorem Dch.an_b (D : Dch m k w C t R col) (hm : m ≤ 24) {c : Nat} (hc : c < m) : cn 1 (An m w C t k c) := by
  have kl := D.le
  have cm := D.cm k (Nat.le_refl k)
  unfold An jac
  rw [cm, if_neg Bool.false_ne_true]
  have := big_c (x := -(t k * (sgp (pls (C k) m) m (m + 1) * (sgp (pls (C k) m) c (m + 1) * w k (mns (pls (C k) m) c))))) (i := k) (by omega) (by
    rw [Int.natAbs_neg, Int.natAbs_mul, Int.natAbs_mul, Int.natAbs_mul, one_t (D.cra k (Nat.le_refl k)).1, sgp_abs, sgp_abs, Nat.one_mul, Nat.one_mul, Nat.one_mul]
    exact ((D.bd k (Nat.le_refl k)) _).2)
  exact ⟨by omega, by omega⟩
def soW (B : Nat) : Nat → Nat → Prop := fun c k => (c = B + 57 ∧ (k = 8 ∨ k = 9)) ∨ c = B + 62
set_option maxHeartbeats 2000000 in
theorem c_solve133 (l : LX B n h) (hd : 15 ≤ d) (hm : m ≤ 24) (S : EqS B h m k w C t R col) :
    Vd (cll PP (ev PP (gsF gv) B) d 133 [(2, rf (B + 57))] h) (fun h' => Agr (soW B) h h' ∧ ∀ i, i < k → hv h' (B + 62) (col i) = An m w C t k (col i)) := by
  obtain ⟨⟨s0, s1⟩, sk, D⟩ := S
  have kl := D.le
  have kb : ∀ i j, i < k → j ≤ m → cn 1 (rI m w C t i (R i) j) := fun i j hi hj => by
    obtain ⟨-, -, c1, c2⟩ := D.2 i hi
    have := D.rho_b hm c1 c2 (i := i) (j := j) (by omega) hj; exact ⟨by omega, by omega⟩
  have db := D.de_b hm (Nat.le_refl k)
  have cl : ∀ i, i < k → col i < m := fun i hi => (D.2 i hi).1.1
  have cj : ∀ i j, i < k → j < k → i ≠ j → col i ≠ col j := fun i j hi hj hij e => by
    rcases Nat.lt_or_gt_of_ne hij with z | z
    · have := D.col_in z (by omega)
      rw [e, (D.2 j hj).1.2.1] at this; cases this
    · have := D.col_in z (by omega)
      rw [← e, (D.2 i hi).1.2.1] at this; cases this
  refine Vd.inq (D := 14) hd (Nat.le_of_ble_eq_true rfl) rfl (fun d hd Q K => ?_)
  have fx : ∀ {q : AH}, Agr (soW B) h q → (hv q (B + 57) 0 = (m : Int) ∧ hv q (B + 57) 1 = (k : Int)) ∧ (∀ i, i < k → hv q (B + 61) i = ((col i : Nat) : Int) ∧ hv q (B + 60) i = De w C t (i + 1) ∧ ∀ j, j ≤ m → hv q (B + 59) (i * 25 + j) = rI m w C t i (R i) j) := fun g => by
    refine ⟨⟨?_, ?_⟩, fun i hi => ⟨?_, ?_, fun j hj => ?_⟩⟩
    · rw [g.at _ _ (fun z => by unfold soW at z; omega)]; exact s0
    · rw [g.at _ _ (fun z => by unfold soW at z; omega)]; exact s1
    · rw [g.at _ _ (fun z => by unfold soW at z; omega)]; exact (sk i hi).1
    · rw [g.at _ _ (fun z => by unfold soW at z; omega)]; exact (sk i hi).2.1
    · rw [g.at _ _ (fun z => by unfold soW at z; omega)]; exact (sk i hi).2.2 j hj
  -- one row after the other, from the last
  have rows : ∀ (r : Nat) (q : AH) (u4 u5 u6 u7 u8 u9 u10 u11 u12 : AV), r ≤ k → LX B n q → Agr (soW B) h q → (∀ i, i < k → r ≤ i → hv q (B + 62) (col i) = An m w C t k (col i)) → Ends (ev PP (gsF gv) B d 133 12 [(2, rf (B + 57)), (1, De w C t k), (9, 0), (0, (r : Int) - 1), u4, u5, u6, u7, u8, u9, u10, u11, u12] [] q) Q := by
    intro r
    induction r with
    | zero =>
      intro q u4 u5 u6 u7 u8 u9 u10 u11 u12 hr lq gq aq
      exact Ends.eq (b133_12 lq (by omega)) (Ends.b2 (fun _ => Ends.sm (K _ ⟨gq, fun i hi => aq i hi (Nat.zero_le i)⟩)) (fun z => absurd z (by decide)))
    | succ r ih =>
      intro q u4 u5 u6 u7 u8 u9 u10 u11 u12 hr lq gq aq
      have hrk : r < k := by omega
      obtain ⟨⟨q0, q1⟩, qk⟩ := fx gq
      have i25 : bop32 104 (r : Int) 25 = ((r * 25 : Nat) : Int) := mulNN (y := 25) (by omega)
      have ix : ∀ j : Nat, j ≤ 24 → bop32 96 ((r * 25 : Nat) : Int) (j : Int) = ((r * 25 + j : Nat) : Int) := fun j hj => addNN (by omega)
      refine Ends.eq (b133_12 lq (by omega)) ?_
      rw [show ((r + 1 : Nat) : Int) - 1 = (r : Int) by omega, q0, i25, ix m hm, tn, (qk r hrk).2.2 m (Nat.le_refl m), b96_1 (by omega)]
      refine Ends.b2 (fun z => by omega) (fun _ => Ends.g ⟨by omega, by omega⟩ ?_)
      have js : ∀ (s l_ : Nat) (q : AH) (x5 x7 : Int) (u6 u8 u10 u11 u12 : AV), l_ + s = k → r < l_ → LX B n q → Agr (soW B) h q → (∀ i, i < k → r + 1 ≤ i → hv q (B + 62) (col i) = An m w C t k (col i)) → W2 x5 x7 (rI m w C t r (R r) m * De w C t k - sI (fun l => if r < l then rI m w C t r (R r) (col l) * An m w C t k (col l) else 0) l_) → Ends (ev PP (gsF gv) B d 133 61 [(2, rf (B + 57)), (1, De w C t k), (9, 0), (0, (r : Int)), (0, ((r * 25 : Nat) : Int)), (1, x5), u6, (1, x7), u8, (0, (l_ : Int)), u10, u11, u12] [] q) Q := by
        intro s
        induction s with
        | zero =>
          intro l_ q x5 x7 u6 u8 u10 u11 u12 e hl lq gq aq wq
          obtain rfl : l_ = k := by omega
          obtain ⟨⟨q0, q1⟩, qk⟩ := fx gq
          refine Ends.eq (b133_61 lq (by omega)) ?_
          rw [q1, tn, (qk r hrk).1, (qk r hrk).2.1]
          refine Ends.b3 (fun _ => Ends.g ⟨by omega, by omega⟩ ?_) (fun z => by omega)
          have l3 : LX B n (hset (hset q (B + 57) 8 x5) (B + 57) 9 x7) := LX.setF 57 9 (LX.setF 57 8 lq (by decide +kernel)) (by decide +kernel)
          have G3 : Agr (soW B) h (hset (hset q (B + 57) 8 x5) (B + 57) 9 x7) := (gq.set (Or.inl ⟨rfl, Or.inl rfl⟩)).set (Or.inl ⟨rfl, Or.inr rfl⟩)
          have db1 := D.de_b hm (i := r + 1) (by omega)
          refine Ends.ct l3 (by decide +kernel) (by decide) (c_divided131 (Y := An m w C t l_ (col r)) l3 (by omega) db1.2 db1.1 (X := rI m w C t r (R r) m * De w C t l_ - sI (fun l => if r < l then rI m w C t r (R r) (col l) * An m w C t l_ (col l) else 0) l_) (by rw [hv_set_ne (by omega), hv_set_at, hv_set_at]; exact wq) (by rw [D.back hrk]; omega) (D.an_b hm (cl r hrk))) (fun y q4 l4 _ _ _ ⟨e4, ey⟩ => ?_)
          rw [e4, ey]
          rw [e4] at l4
          refine Ends.eq (b133_178 (by decide) l4 (by omega)) ?_
          have c24 := cl r hrk
          rw [ad_rf, lk_62 l4, tn, an1]
          refine Ends.g ⟨rf_pos _, rfl, by omega, by show ((col r : Nat) : Int) < ((24 : Nat) : Int); omega, by omega⟩ ?_
          rw [show w32 ((r : Int) + -1) = (r : Int) - 1 from by rw [show (r : Int) + -1 = (r : Int) - 1 by omega]; exact w32_id ⟨by omega, by omega⟩]
          refine ih _ _ _ _ _ _ _ _ _ _ (by omega) (l4.setS rfl) (G3.set (Or.inr rfl)) (fun i hi hri => ?_)
          by_cases e2 : i = r
          · rw [e2, hv_set_at]
          · rw [hv_set_ne (fun z => cj i r hi hrk e2 z.2), hv_set_ne (by omega), hv_set_ne (by omega)]
            exact aq i hi (by omega)
        | succ s ihs =>
          intro l_ q x5 x7 u6 u8 u10 u11 u12 e hl lq gq aq wq
          have hlk : l_ < k := by omega
          obtain ⟨⟨q0, q1⟩, qk⟩ := fx gq
          have c24 := cl l_ hlk
          refine Ends.eq (b133_61 lq (by omega)) ?_
          rw [q1]
          simp only [tn]
          rw [(qk l_ hlk).1, ix (col l_) (by omega)]
          simp only [tn]
          rw [(qk r hrk).2.2 (col l_) (by omega), aq l_ hlk (by omega)]
          refine Ends.b3 (fun z => by omega) (fun _ => Ends.g ⟨by omega, by omega⟩ (Ends.g ⟨by omega, by omega⟩ (Ends.g ⟨by omega, by omega⟩ ?_)))
          refine Ends.cv lq (by decide +kernel) (c_cross129 (a := 0) (b := 0) lq (by omega) ⟨by decide, by decide⟩ ⟨by decide, by decide⟩ (kb r (col l_) hrk (by omega)) (D.an_b hm c24)) (fun q3 l3 _ _ _ ⟨g3, w3⟩ => ?_)
          refine Ends.eq (b133_102 l3 (by omega)) ?_
          rw [w_succ (by omega)]
          have w4 := wq.add w3
          refine ihs (l_ + 1) q3 _ _ _ _ _ _ _ (by omega) (by omega) l3 (gq.tr g3 (fun c k z => Or.inl z)) (fun i hi hri => by rw [g3.at _ _ (by omega)]; exact aq i hi hri) ?_
          rw [sI_s, if_pos hl]
          have : rI m w C t r (R r) m * De w C t k - sI (fun l => if r < l then rI m w C t r (R r) (col l) * An m w C t k (col l) else 0) l_ + (0 * 0 - rI m w C t r (R r) (col l_) * An m w C t k (col l_)) = rI m w C t r (R r) m * De w C t k - (sI (fun l => if r < l then rI m w C t r (R r) (col l) * An m w C t k (col l) else 0) l_ + rI m w C t r (R r) (col l_) * An m w C t k (col l_)) := by omega
          rw [← this]
          exact w4
      refine js (k - (r + 1)) (r + 1) q _ _ _ _ _ _ _ (by omega) (by omega) lq gq (fun i hi hri => aq i hi hri) ?_
      have z0 : sI (fun l => if r < l then rI m w C t r (R r) (col l) * An m w C t k (col l) else 0) (r + 1) = 0 := sI_zero _ (fun i hi => if_neg (by omega))
      rw [z0, Int.sub_zero]
      exact W2.mul (kb r m hrk (Nat.le_refl m)) db.2
  have e130 : q130 B h ∧ v130 B h = De w C t k := by
    unfold q130 v130
    rw [s1, ct1, ct1]
    by_cases k0 : k = 0
    · subst k0
      rw [if_pos (show ((0 : Nat) : Int) = 0 from rfl), if_pos (show ((0 : Nat) : Int) = 0 from rfl), D.de_0]
      exact ⟨trivial, rfl⟩
    · have e : bop32 100 (k : Int) 1 = ((k - 1 : Nat) : Int) := by rw [sub32 (by omega) (by omega)]; omega
      rw [if_neg (by omega), if_neg (by omega), e, tn, (sk (k - 1) (by omega)).2.1, show k - 1 + 1 = k by omega]
      exact ⟨⟨by omega, by omega⟩, rfl⟩
  refine Ends.eq (b133_0 l (by omega)) (Ends.g e130.1 ?_)
  rw [e130.2, s1, show bop32 100 (k : Int) 1 = (k : Int) - 1 from sub32 (by omega) (by omega)]
  exact rows k h _ _ _ _ _ _ _ _ _ (Nat.le_refl k) l Agr.rf (fun i hi z => by omega)
end SOLV
