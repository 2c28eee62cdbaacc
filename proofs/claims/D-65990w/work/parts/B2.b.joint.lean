/-! L3: joints: what they want, how they are made (both sides) -/
theorem rem0 {w y : Int} (hy : 0 < y) (hy2 : y ≤ 1000) : bop32 112 w y = 0 ↔ y ∣ w := by
  show w32 (w.tmod y) = 0 ↔ _
  have b : -y < w.tmod y ∧ w.tmod y < y := by
    by_cases h : 0 ≤ w
    · rw [Int.tmod_eq_emod_of_nonneg h]
      have := Int.emod_nonneg w (by omega : y ≠ 0)
      have := Int.emod_lt_of_pos w hy
      omega
    · have e : w.tmod y = -((-w).tmod y) := by rw [Int.neg_tmod, Int.neg_neg]
      rw [e, Int.tmod_eq_emod_of_nonneg (by omega)]
      have := Int.emod_nonneg (-w) (by omega : y ≠ 0)
      have := Int.emod_lt_of_pos (-w) hy
      omega
  rw [w32_id ⟨by omega, by omega⟩]
  exact ⟨Int.dvd_of_tmod_eq_zero, Int.tmod_eq_zero_of_dvd⟩
theorem dv_ex {k y : Int} (hy : 0 < y) (h : -1000000 ≤ k ∧ k ≤ 1000000) : bop32 108 (y * k) y = k := by
  show w32 ((y * k).tdiv y) = k
  rw [Int.mul_tdiv_cancel_left _ (by omega)]
  exact w32_id ⟨by omega, by omega⟩
/-- is a kind of joints for one place alone -/
def isG (k : Int) : Bool := decide (k = 0) || (decide (7 ≤ k) && decide (k ≤ 9))
theorem v112_is {k : Int} : v112 k = if isG k = true then 1 else 0 := by
  unfold v112 isG
  by_cases a : k = 0
  · subst a; rfl
  · by_cases b : k < 7
    · have : ¬ 7 ≤ k := by omega
      simp [tst0, tst1, tst2, tst3, tst4, tst5, a, b, this]
    · by_cases c : 9 < k
      · have : ¬ k ≤ 9 := by omega
        simp [tst0, tst1, tst2, tst3, tst4, tst5, a, b, c, this]
      · have c1 : k ≤ 9 := by omega
        have c2 : 7 ≤ k := by omega
        simp [tst0, tst1, tst2, tst3, tst4, tst5, a, b, c, c1, c2]
theorem v680_is {k : Int} : v680 k = if isG k = true then 1 else 0 := v112_is
/-- four times what a joint wants -/
def jW (k li hi lj hj v : Int) : Int := if k = 2 then 2 * (hi - hj) + 4 * v else if k = 3 then 2 * (li - lj) + 4 * v else if k = 4 then 2 * (hi - lj) + 4 * v else if k = 5 then 2 * (li - hj) + 4 * v else if k = 6 then li + hi - lj - hj + 4 * v else if k = 7 then 4 * v - 2 * hi else if k = 8 then 4 * v - 2 * li else if k = 9 then 4 * v - li - hi else 4 * v
theorem jW_bd {k li hi lj hj v : Int} (b : (0 ≤ li ∧ li ≤ 104) ∧ (0 ≤ hi ∧ hi ≤ 104) ∧ (0 ≤ lj ∧ lj ≤ 104) ∧ 0 ≤ hj ∧ hj ≤ 104) (hv5 : -500 ≤ v ∧ v ≤ 500) : -3000 ≤ jW k li hi lj hj v ∧ jW k li hi lj hj v ≤ 3000 := by
  unfold jW
  repeat' split
  all_goals omega
section JNT
variable {gv : Nat → Int} {B n d : Nat} {h : AH} {pl jn : Nat} {ja jb jx : Nat → Nat} {js : Nat → Int} {k v j' : Int} {i j a : Nat} {lw hg : Nat → Nat → Nat}
/-- whom the second end is: nobody (-1), or place j -/
def JoE (B : Nat) (h : AH) (a : Nat) (j' lj hj : Int) : Prop := (j' = -1 ∧ lj = 0 ∧ hj = 0) ∨ ∃ j : Nat, j' = (j : Int) ∧ j < 12 ∧ lj = hv h (B + 122) (3 * j + a) ∧ hj = hv h (B + 123) (3 * j + a)
def bd104 (li hi lj hj : Int) : Prop := (0 ≤ li ∧ li ≤ 104) ∧ (0 ≤ hi ∧ hi ≤ 104) ∧ (0 ≤ lj ∧ lj ≤ 104) ∧ 0 ≤ hj ∧ hj ≤ 104
theorem c_wanted125 {li hi lj hj : Int} (l : LX B n h) (hd : 10 ≤ d) (hk : 0 ≤ k ∧ k ≤ 10) (hv5 : -500 ≤ v ∧ v ≤ 500) (hi12 : i < 12) (ha : a < 3) (eli : hv h (B + 122) (3 * i + a) = li) (ehi : hv h (B + 123) (3 * i + a) = hi) (E : JoE B h a j' lj hj) (bb : bd104 li hi lj hj) : Vt 0 (cll PP (ev PP (gsF gv) B) d 125 [(2, rf (B + 118)), (0, k), (0, (i : Int)), (0, j'), (0, (a : Int)), (0, v)] h) (fun x h' => h' = h ∧ x = jW k li hi lj hj v) := by
  refine Vt.inq (D := 9) hd (Nat.le_of_ble_eq_true rfl) rfl (fun d hd Q K => ?_)
  obtain ⟨b1, b2, b3, b4⟩ := bb
  have step : ∀ u6 u7 u8 u9 : AV, Ends (ev PP (gsF gv) B d 125 (sw125_69 k) [(2, rf (B + 118)), (0, k), (0, (i : Int)), (0, j'), (0, (a : Int)), (0, v), (0, li), (0, hi), (0, lj), (0, hj)] [] h) Q := fun u6 u7 u8 u9 => by
    have c : k = 0 ∨ k = 1 ∨ k = 2 ∨ k = 3 ∨ k = 4 ∨ k = 5 ∨ k = 6 ∨ k = 7 ∨ k = 8 ∨ k = 9 ∨ k = 10 := by omega
    rcases c with rfl | rfl | rfl | rfl | rfl | rfl | rfl | rfl | rfl | rfl | rfl
    · rw [show sw125_69 (0 : Int) = 216 from rfl]
      refine Ends.eq (b125_216 (n := n) (by (repeat' first | assumption | refine LX.setF _ _ ?_ (by decide +kernel) | refine LX.setS ?_ rfl | refine LX.setA ?_ (by first | assumption | omega))) (by first | assumption | omega)) ?_
      exact Ends.sm (K _ _ ⟨rfl, by rw [mul32 (by omega) (by omega)]; rfl⟩)
    · rw [show sw125_69 (1 : Int) = 216 from rfl]
      refine Ends.eq (b125_216 (n := n) (by (repeat' first | assumption | refine LX.setF _ _ ?_ (by decide +kernel) | refine LX.setS ?_ rfl | refine LX.setA ?_ (by first | assumption | omega))) (by first | assumption | omega)) ?_
      exact Ends.sm (K _ _ ⟨rfl, by rw [mul32 (by omega) (by omega)]; rfl⟩)
    · rw [show sw125_69 (2 : Int) = 116 from rfl]
      refine Ends.eq (b125_116 (n := n) (by (repeat' first | assumption | refine LX.setF _ _ ?_ (by decide +kernel) | refine LX.setS ?_ rfl | refine LX.setA ?_ (by first | assumption | omega))) (by first | assumption | omega)) ?_
      exact Ends.sm (K _ _ ⟨rfl, by rw [sub32 (by omega) (by omega), mul32 (x := 2) (by omega) (by omega), mul32 (x := 4) (by omega) (by omega), add32 (by omega) (by omega)]; rfl⟩)
    · rw [show sw125_69 (3 : Int) = 129 from rfl]
      refine Ends.eq (b125_129 (n := n) (by (repeat' first | assumption | refine LX.setF _ _ ?_ (by decide +kernel) | refine LX.setS ?_ rfl | refine LX.setA ?_ (by first | assumption | omega))) (by first | assumption | omega)) ?_
      exact Ends.sm (K _ _ ⟨rfl, by rw [sub32 (by omega) (by omega), mul32 (x := 2) (by omega) (by omega), mul32 (x := 4) (by omega) (by omega), add32 (by omega) (by omega)]; rfl⟩)
    · rw [show sw125_69 (4 : Int) = 142 from rfl]
      refine Ends.eq (b125_142 (n := n) (by (repeat' first | assumption | refine LX.setF _ _ ?_ (by decide +kernel) | refine LX.setS ?_ rfl | refine LX.setA ?_ (by first | assumption | omega))) (by first | assumption | omega)) ?_
      exact Ends.sm (K _ _ ⟨rfl, by rw [sub32 (by omega) (by omega), mul32 (x := 2) (by omega) (by omega), mul32 (x := 4) (by omega) (by omega), add32 (by omega) (by omega)]; rfl⟩)
    · rw [show sw125_69 (5 : Int) = 155 from rfl]
      refine Ends.eq (b125_155 (n := n) (by (repeat' first | assumption | refine LX.setF _ _ ?_ (by decide +kernel) | refine LX.setS ?_ rfl | refine LX.setA ?_ (by first | assumption | omega))) (by first | assumption | omega)) ?_
      exact Ends.sm (K _ _ ⟨rfl, by rw [sub32 (by omega) (by omega), mul32 (x := 2) (by omega) (by omega), mul32 (x := 4) (by omega) (by omega), add32 (by omega) (by omega)]; rfl⟩)
    · rw [show sw125_69 (6 : Int) = 168 from rfl]
      refine Ends.eq (b125_168 (n := n) (by (repeat' first | assumption | refine LX.setF _ _ ?_ (by decide +kernel) | refine LX.setS ?_ rfl | refine LX.setA ?_ (by first | assumption | omega))) (by first | assumption | omega)) ?_
      exact Ends.sm (K _ _ ⟨rfl, by rw [add32 (x := li) (by omega) (by omega), sub32 (y := lj) (by omega) (by omega), sub32 (y := hj) (by omega) (by omega), mul32 (by omega) (by omega), add32 (by omega) (by omega)]; rfl⟩)
    · rw [show sw125_69 (7 : Int) = 185 from rfl]
      refine Ends.eq (b125_185 (n := n) (by (repeat' first | assumption | refine LX.setF _ _ ?_ (by decide +kernel) | refine LX.setS ?_ rfl | refine LX.setA ?_ (by first | assumption | omega))) (by first | assumption | omega)) ?_
      exact Ends.sm (K _ _ ⟨rfl, by rw [mul32 (x := 4) (by omega) (by omega), mul32 (x := 2) (by omega) (by omega), sub32 (by omega) (by omega)]; rfl⟩)
    · rw [show sw125_69 (8 : Int) = 195 from rfl]
      refine Ends.eq (b125_195 (n := n) (by (repeat' first | assumption | refine LX.setF _ _ ?_ (by decide +kernel) | refine LX.setS ?_ rfl | refine LX.setA ?_ (by first | assumption | omega))) (by first | assumption | omega)) ?_
      exact Ends.sm (K _ _ ⟨rfl, by rw [mul32 (x := 4) (by omega) (by omega), mul32 (x := 2) (by omega) (by omega), sub32 (by omega) (by omega)]; rfl⟩)
    · rw [show sw125_69 (9 : Int) = 205 from rfl]
      refine Ends.eq (b125_205 (n := n) (by (repeat' first | assumption | refine LX.setF _ _ ?_ (by decide +kernel) | refine LX.setS ?_ rfl | refine LX.setA ?_ (by first | assumption | omega))) (by first | assumption | omega)) ?_
      exact Ends.sm (K _ _ ⟨rfl, by rw [mul32 (by omega) (by omega), sub32 (y := li) (by omega) (by omega), sub32 (by omega) (by omega)]; rfl⟩)
    · rw [show sw125_69 (10 : Int) = 216 from rfl]
      refine Ends.eq (b125_216 (n := n) (by (repeat' first | assumption | refine LX.setF _ _ ?_ (by decide +kernel) | refine LX.setS ?_ rfl | refine LX.setA ?_ (by first | assumption | omega))) (by first | assumption | omega)) ?_
      exact Ends.sm (K _ _ ⟨rfl, by rw [mul32 (by omega) (by omega)]; rfl⟩)
  refine Ends.eq (b125_0 (n := n) (by (repeat' first | assumption | refine LX.setF _ _ ?_ (by decide +kernel) | refine LX.setS ?_ rfl | refine LX.setA ?_ (by first | assumption | omega))) (by first | assumption | omega)) ?_
  rcases E with ⟨rfl, rfl, rfl⟩ | ⟨j, rfl, hj12, rfl, rfl⟩
  · rw [show tst 3 (-1 : Int) 0 = false from rfl, ix3 (by omega) ha, tn, eli, ehi]
    exact Ends.g ⟨by omega, by omega⟩ (Ends.g trivial (Ends.g trivial (step (9, 0) (9, 0) (9, 0) (9, 0))))
  · rw [show tst 3 ((j : Nat) : Int) 0 = true from by rw [tst3, decide_eq_false (by omega)]; rfl, ix3 (i := i) (by omega) ha, ix3 (i := j) (by omega) ha, tn, tn, eli, ehi]
    exact Ends.g ⟨by omega, by omega⟩ (Ends.g (show _ ∧ _ from ⟨by omega, by omega⟩) (Ends.g (show _ ∧ _ from ⟨by omega, by omega⟩) (step (9, 0) (9, 0) (9, 0) (9, 0))))
theorem jc_g {j : Int} : cond (tst 0 (v112 k) 0) j (-1 : Int) = if isG k = true then -1 else j := by
  rw [v112_is]
  cases isG k <;> rfl
theorem jc_12 {j : Int} : cond (tst 0 (v112 k) 0) j (12 : Int) = if isG k = true then 12 else j := by
  rw [v112_is]
  cases isG k <;> rfl
theorem c_isHalf113 {li hi lj hj j : Int} (l : LX B n h) (hd : 12 ≤ d) (hk : 0 ≤ k ∧ k ≤ 10) (hv5 : -500 ≤ v ∧ v ≤ 500) (hi12 : i < 12) (ha : a < 3) (eli : hv h (B + 122) (3 * i + a) = li) (ehi : hv h (B + 123) (3 * i + a) = hi) (E : JoE B h a (if isG k = true then -1 else j) lj hj) (bb : bd104 li hi lj hj) : Vt 0 (cll PP (ev PP (gsF gv) B) d 113 [(2, rf (B + 118)), (0, k), (0, (i : Int)), (0, j), (0, (a : Int)), (0, v)] h) (fun x h' => h' = h ∧ x = if decide ((4 : Int) ∣ jW k li hi lj hj v) = true then 0 else 1) := by
  refine Vt.inq (D := 11) hd (Nat.le_of_ble_eq_true rfl) rfl (fun d hd Q K => ?_)
  refine Ends.eq (b113_0 (n := n) (by (repeat' first | assumption | refine LX.setF _ _ ?_ (by decide +kernel) | refine LX.setS ?_ rfl | refine LX.setA ?_ (by first | assumption | omega))) (by first | assumption | omega)) ?_
  rw [jc_g]
  refine Ends.ct l (by decide +kernel) (by decide) (c_wanted125 l (by omega) hk hv5 hi12 ha eli ehi E bb) (fun x h1 l1 _ _ _ ⟨e1, ex⟩ => ?_)
  subst e1
  refine Ends.eq (b113_22 (n := n) (by (repeat' first | assumption | refine LX.setF _ _ ?_ (by decide +kernel) | refine LX.setS ?_ rfl | refine LX.setA ?_ (by first | assumption | omega))) (by first | assumption | omega)) ?_
  refine Ends.sm (K _ _ ⟨rfl, ?_⟩)
  have r := rem0 (w := x) (y := 4) (by decide) (by decide)
  rw [← ex, tst0]
  by_cases z : (4 : Int) ∣ x
  · rw [decide_eq_true (r.mpr z), decide_eq_true z, if_pos rfl]; rfl
  · rw [decide_eq_false (fun y => z (r.mp y)), decide_eq_false z, if_neg Bool.false_ne_true]; rfl
theorem ax_ex : ∀ a : Fin 3, bop32 120 1 ((a : Nat) : Int) = 2 ^ (a : Nat) := by decide +kernel
/-- a joint more -/
theorem AsJ.one {i0 j0 x0 : Nat} {s0 : Int} {q : AH} (J : AsJ B h pl jn ja jb jx js) (hjn : jn < 24) (h1 : i0 < pl) (h2 : j0 < pl ∨ j0 = 12) (h3 : x0 ≤ 3) (h4 : -1000 ≤ s0 ∧ s0 ≤ 1000) (g : Agr (fun c k => ((B + 124 ≤ c ∧ c ≤ B + 127) ∧ k = jn) ∨ (c = B + 118 ∧ k = 4)) h q) (e1 : hv q (B + 118) 4 = ((jn + 1 : Nat) : Int)) (e2 : hv q (B + 124) jn = (i0 : Int)) (e3 : hv q (B + 125) jn = (j0 : Int)) (e4 : hv q (B + 126) jn = axm x0) (e5 : hv q (B + 127) jn = s0) : AsJ B q pl (jn + 1) (ex1 ja jn i0) (ex1 jb jn j0) (ex1 jx jn x0) (ex1 js jn s0) := by
  obtain ⟨j1, j2, j3, j4, j5⟩ := J
  refine ⟨by rw [g.at _ _ (by omega)]; exact j1, e1, j3, by omega, fun k hk => ?_⟩
  by_cases z : k = jn
  · rw [z, ex1_at, ex1_at, ex1_at, ex1_at]
    exact ⟨e2, e3, e4, e5, h1, h2, h3, h4⟩
  · rw [ex1_ne z, ex1_ne z, ex1_ne z, ex1_ne z, g.at _ _ (by omega), g.at _ _ (by omega), g.at _ _ (by omega), g.at _ _ (by omega)]
    exact j5 k (by omega)
theorem c_joint114 {li hi lj hj : Int} {j0 : Nat} (l : LX B n h) (hd : 12 ≤ d) (J : AsJ B h pl jn ja jb jx js) (hjn : jn < 24) (hk : 0 ≤ k ∧ k ≤ 10) (hv5 : -500 ≤ v ∧ v ≤ 500) (hi12 : i < pl) (ha : a < 3) {j : Int} (ej : (if isG k = true then 12 else j) = (j0 : Int)) (hj0 : j0 < pl ∨ j0 = 12) (eli : hv h (B + 122) (3 * i + a) = li) (ehi : hv h (B + 123) (3 * i + a) = hi) (E : JoE B h a (if isG k = true then -1 else j) lj hj) (bb : bd104 li hi lj hj) {s0 : Int} (es : jW k li hi lj hj v = 4 * s0) : Vt 0 (cll PP (ev PP (gsF gv) B) d 114 [(2, rf (B + 118)), (0, k), (0, (i : Int)), (0, j), (0, (a : Int)), (0, v)] h) (fun x h' => x = (jn : Int) ∧ AsJ B h' pl (jn + 1) (ex1 ja jn i) (ex1 jb jn j0) (ex1 jx jn (if k = 10 then 3 else a)) (ex1 js jn s0) ∧ Agr (fun c k => ((B + 124 ≤ c ∧ c ≤ B + 127) ∧ k = jn) ∨ (c = B + 118 ∧ k = 4)) h h') := by
  have e4 := J.2.1
  have pl12 := J.2.2.1
  refine Vt.inq (D := 11) hd (Nat.le_of_ble_eq_true rfl) rfl (fun d hd Q K => ?_)
  refine Ends.eq (b114_0 (n := n) (by (repeat' first | assumption | refine LX.setF _ _ ?_ (by decide +kernel) | refine LX.setS ?_ rfl | refine LX.setA ?_ (by first | assumption | omega))) (by first | assumption | omega)) ?_
  rw [jc_g]
  refine Ends.ct l (by decide +kernel) (by decide) (c_wanted125 l (by omega) hk hv5 (by omega) ha eli ehi E bb) (fun x h1 l1 _ _ _ ⟨e1, ex⟩ => ?_)
  subst e1
  have bw := jW_bd (k := k) bb hv5
  refine Ends.eq (b114_22 (n := n) (by (repeat' first | assumption | refine LX.setF _ _ ?_ (by decide +kernel) | refine LX.setS ?_ rfl | refine LX.setA ?_ (by first | assumption | omega))) (by first | assumption | omega)) ?_
  rw [e4, tn, jc_12, ej, ex, es, dv_ex (by decide) (by omega), show bop32 96 (jn : Int) 1 = ((jn + 1 : Nat) : Int) from addNN (y := 1) (by omega)]
  have eax : cond (tst 1 k 10) (bop32 120 1 (a : Int)) (7 : Int) = axm (if k = 10 then 3 else a) := by
    by_cases z : k = 10
    · rw [if_pos z, tst1f z]; rfl
    · rw [if_neg z, tst1t z]
      have := ax_ex ⟨a, ha⟩
      unfold axm
      rw [if_neg (by omega)]
      exact this
  rw [eax]
  simp only [an0]
  have g : Agr (fun c k => ((B + 124 ≤ c ∧ c ≤ B + 127) ∧ k = jn) ∨ (c = B + 118 ∧ k = 4)) h1 (hset (hset (hset (hset (hset h1 (B + 124) jn (i : Int)) (B + 125) jn (j0 : Int)) (B + 126) jn (axm (if k = 10 then 3 else a))) (B + 127) jn s0) (B + 118) 4 ((jn + 1 : Nat) : Int)) :=
    ((((Agr.rf.set (Or.inl ⟨by omega, rfl⟩)).set (Or.inl ⟨by omega, rfl⟩)).set (Or.inl ⟨by omega, rfl⟩)).set (Or.inl ⟨by omega, rfl⟩)).set (Or.inr ⟨rfl, rfl⟩)
  refine Ends.g ⟨by omega, by omega⟩ (Ends.sm (K _ _ ⟨?_, J.one hjn hi12 hj0 ?_ (by omega) g (hv_set_at ..) ?_ ?_ ?_ ?_, g⟩))
  · exact (subNN (x := jn + 1) (y := 1) (by omega) (by omega)).trans (by omega)
  · split <;> omega
  · rw [hv_na (by omega), hv_na (by omega), hv_na (by omega), hv_na (by omega), hv_set_at]
  · rw [hv_na (by omega), hv_na (by omega), hv_na (by omega), hv_set_at]
  · rw [hv_na (by omega), hv_na (by omega), hv_set_at]
  · rw [hv_na (by omega), hv_set_at]
theorem c_bill107 {bd : Nat → Nat} {b : Int} (l : LX B n h) (hd : 10 ≤ d) (e3 : hv h (B + 118) 3 = (pl : Int)) (hpl : pl ≤ 12) (eb : ∀ x, x < pl → hv h (B + 119) x = (bd x : Int)) : Vt 0 (cll PP (ev PP (gsF gv) B) d 107 [(2, rf (B + 118)), (0, b)] h) (fun x h' => h' = h ∧ x = ((cntN (fun x => decide ((bd x : Int) = b)) pl : Nat) : Int)) := by
  refine Vt.inq (D := 9) hd (Nat.le_of_ble_eq_true rfl) rfl (fun d hd Q K => ?_)
  refine Ends.eq (b107_0 (n := n) (by (repeat' first | assumption | refine LX.setF _ _ ?_ (by decide +kernel) | refine LX.setS ?_ rfl | refine LX.setA ?_ (by first | assumption | omega))) (by first | assumption | omega)) ?_
  have key : ∀ (r i : Nat), i + r = pl → Ends (ev PP (gsF gv) B d 107 4 [(2, rf (B + 118)), (0, b), (0, ((cntN (fun x => decide ((bd x : Int) = b)) i : Nat) : Int)), (0, (i : Int))] [] h) Q := by
    intro r
    induction r with
    | zero =>
      intro i hi
      obtain rfl : i = pl := by omega
      refine Ends.eq (b107_4 (n := n) (by (repeat' first | assumption | refine LX.setF _ _ ?_ (by decide +kernel) | refine LX.setS ?_ rfl | refine LX.setA ?_ (by first | assumption | omega))) (by first | assumption | omega)) ?_
      rw [e3]
      exact Ends.b3 (fun _ => Ends.sm (K _ _ ⟨rfl, rfl⟩)) (fun z => by omega)
    | succ r ih =>
      intro i hi
      have cl := cntN_le (fun x => decide ((bd x : Int) = b)) i
      refine Ends.eq (b107_4 (n := n) (by (repeat' first | assumption | refine LX.setF _ _ ?_ (by decide +kernel) | refine LX.setS ?_ rfl | refine LX.setA ?_ (by first | assumption | omega))) (by first | assumption | omega)) ?_
      rw [e3, tn, eb i (by omega), w_succ (by omega)]
      refine Ends.b3 (fun z => by omega) (fun _ => Ends.g ⟨by omega, by omega⟩ ?_)
      have e : bop32 96 ((cntN (fun x => decide ((bd x : Int) = b)) i : Nat) : Int) (cond (tst 1 (bd i : Int) b) (0 : Int) 1) = ((cntN (fun x => decide ((bd x : Int) = b)) (i + 1) : Nat) : Int) := by
        rw [cntN_s]
        by_cases z : (bd i : Int) = b
        · rw [tst1f z, decide_eq_true z]; exact addNN (y := 1) (by omega)
        · rw [tst1t z, decide_eq_false z]; exact addNN (y := 0) (by omega)
      rw [e]
      clear e
      exact ih (i + 1) (by omega)
  exact key pl 0 (by omega)
end JNT
