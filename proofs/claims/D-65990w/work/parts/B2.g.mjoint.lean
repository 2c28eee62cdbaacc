/-! L3: the model's joint -/
theorem hset2 {h : AH} {a k : Nat} {x y : Int} : hset (hset h a k x) a k y = hset h a k y := by
  refine Prod.ext rfl (Prod.ext (funext fun b => funext fun j => ?_) rfl)
  show (if b = a then (if j = k then y else (if b = a then (if j = k then x else h.2.1 b j) else h.2.1 b j)) else (if b = a then (if j = k then x else h.2.1 b j) else h.2.1 b j)) = (if b = a then (if j = k then y else h.2.1 b j) else h.2.1 b j)
  by_cases e : b = a <;> by_cases f : j = k <;> simp [e, f]
section MJO
variable {gv : Nat → Int} {B n d : Nat} {h : AH} {is : Nat → Bool} {pl jn : Nat} {bd wy : Nat → Nat} {sh : Nat → Nat → Int} {lw hg : Nat → Nat → Nat} {ja jb jx : Nat → Nat} {js : Nat → Int} {M : Int} {k i j a v : Int}
/-- what a joint's numbers must be -/
def jok (k i j a v : Int) : Bool := decide ((0 ≤ k ∧ k ≤ 10) ∧ (0 ≤ a ∧ a ≤ 2) ∧ -500 ≤ v ∧ v ≤ 500) && (isG k || decide (i ≠ j))
def isPl (pl : Nat) (x : Int) : Bool := decide (0 ≤ x ∧ x < (pl : Int))
theorem jok_n (e : ¬ ((0 ≤ k ∧ k ≤ 10) ∧ (0 ≤ a ∧ a ≤ 2) ∧ -500 ≤ v ∧ v ≤ 500)) : (if jok k i j a v = true then (0 : Int) else 1) = 1 := by
  unfold jok
  rw [decide_eq_false e, Bool.false_and]; rfl
theorem jbad : (cond (tst 2 k 0) (1 : Int) (cond (tst 4 k 10) 1 (cond (tst 2 a 0) 1 (cond (tst 4 a 2) 1 (cond (tst 2 v (-500)) 1 (cond (tst 4 v 500) 1 (cond (tst 1 (v680 k) 0) 0 (cond (tst 1 i j) 0 1)))))))) = if jok k i j a v = true then 0 else 1 := by
  rw [v680_is]
  by_cases h1 : k < 0
  · rw [jok_n (by omega)]; simp [tst0, tst1, tst2, tst3, tst4, tst5, h1]
  by_cases h2 : 10 < k
  · rw [jok_n (by omega)]; simp [tst0, tst1, tst2, tst3, tst4, tst5, h2]
  by_cases h3 : a < 0
  · rw [jok_n (by omega)]; simp [tst0, tst1, tst2, tst3, tst4, tst5, h3]
  by_cases h4 : 2 < a
  · rw [jok_n (by omega)]; simp [tst0, tst1, tst2, tst3, tst4, tst5, h4]
  by_cases h5 : v < -500
  · rw [jok_n (by omega)]; simp [tst0, tst1, tst2, tst3, tst4, tst5, h5]
  by_cases h6 : 500 < v
  · rw [jok_n (by omega)]; simp [tst0, tst1, tst2, tst3, tst4, tst5, h6]
  unfold jok
  rw [decide_eq_true (by omega), Bool.true_and]
  cases isG k
  · by_cases h7 : i = j
    · simp [tst0, tst1, tst2, tst3, tst4, tst5, h1, h2, h3, h4, h5, h6, h7]
    · simp [tst0, tst1, tst2, tst3, tst4, tst5, h1, h2, h3, h4, h5, h6, h7]
  · simp [tst0, tst1, tst2, tst3, tst4, tst5, h1, h2, h3, h4, h5, h6]
/-- the first answer of failing -/
def jCode (pl : Nat) (k i j a v : Int) : Nat := if (isPl pl i && (isG k || isPl pl j)) = true then (if jok k i j a v = true then 0 else 2) else 1
theorem v762_p (e120 : hv h (B + 149) 120 = (pl : Int)) : v762 B h i = if isPl pl i = true then 0 else 1 := by
  rw [v762_is e120]
  unfold isPl
  by_cases z : 0 ≤ i ∧ i < (pl : Int)
  · rw [if_pos z, decide_eq_true z]; rfl
  · rw [if_neg z, decide_eq_false z]; rfl
theorem jfirst (e120 : hv h (B + 149) 120 = (pl : Int)) : cond (tst 1 (v762 B h i) 0) (1 : Int) (cond (tst 1 (v680 k) 0) (cond (tst 0 (if jok k i j a v = true then (0 : Int) else 1) 0) (0 : Int) 2) (cond (tst 0 (v762 B h j) 0) (cond (tst 0 (if jok k i j a v = true then (0 : Int) else 1) 0) (0 : Int) 2) 1)) = ((jCode pl k i j a v : Nat) : Int) := by
  rw [v762_p e120, v762_p e120, v680_is]
  unfold jCode
  cases isPl pl i <;> cases isG k <;> cases isPl pl j <;> cases jok k i j a v <;> rfl
theorem isPl_c {x : Int} (e : isPl pl x = true) : ∃ y : Nat, y < pl ∧ x = (y : Int) := by
  unfold isPl at e
  have := of_decide_eq_true e
  exact ⟨x.toNat, by omega, by omega⟩
/-- the second end of a joint in the picture -/
def jE (lw hg : Nat → Nat → Nat) (k j : Int) (a : Nat) : Int × Int := if isG k = true then (0, 0) else ((lw a j.toNat : Int), (hg a j.toNat : Int))
def jWW (lw hg : Nat → Nat → Nat) (k i j : Int) (a : Nat) (v : Int) : Int := jW k (lw a i.toNat : Int) (hg a i.toNat : Int) (jE lw hg k j a).1 (jE lw hg k j a).2 v
/-- a joint more -/
theorem AsM.one {i0 j0 x0 : Nat} {s0 : Int} {q : AH} (J : AsM B h pl jn ja jb jx js) (hjn : jn < 24) (h1 : i0 < pl) (h2 : j0 < pl ∨ j0 = 12) (h3 : x0 ≤ 3) (h4 : -1000 ≤ s0 ∧ s0 ≤ 1000) (h5 : j0 = 12 → x0 < 3) (g : Agr (fun c k => ((B + 210 ≤ c ∧ c ≤ B + 213) ∧ k = jn) ∨ (c = B + 149 ∧ (k = 0 ∨ k = 121))) h q) (e1 : hv q (B + 149) 121 = ((jn + 1 : Nat) : Int)) (e2 : hv q (B + 210) jn = if j0 = 12 then -1 else (i0 : Int)) (e3 : hv q (B + 211) jn = if j0 = 12 then (i0 : Int) else (j0 : Int)) (e4 : hv q (B + 212) jn = (x0 : Int)) (e5 : hv q (B + 213) jn = s0) : AsM B q pl (jn + 1) (ex1 ja jn i0) (ex1 jb jn j0) (ex1 jx jn x0) (ex1 js jn s0) := by
  obtain ⟨j1, j2, j3, j4, j5⟩ := J
  refine ⟨by rw [g.at _ _ (by omega)]; exact j1, e1, j3, by omega, fun k hk => ?_⟩
  by_cases z : k = jn
  · rw [z, ex1_at, ex1_at, ex1_at, ex1_at]
    exact ⟨e2, e3, e4, e5, h1, h2, h3, h4.1, h4.2, h5⟩
  · rw [ex1_ne z, ex1_ne z, ex1_ne z, ex1_ne z, g.at _ _ (by omega), g.at _ _ (by omega), g.at _ _ (by omega), g.at _ _ (by omega)]
    exact j5 k (by omega)
def mjW (B jn : Nat) : Nat → Nat → Prop := fun c k => ((B + 210 ≤ c ∧ c ≤ B + 213) ∧ k = jn) ∨ (c = B + 149 ∧ (k = 0 ∨ k = 121))
/-- what comes of a new joint in the picture -/
def jNew (k j : Int) : Nat := if isG k = true then 12 else j.toNat
def jAx (k a : Int) : Nat := if k = 10 then 3 else a.toNat
theorem c_joint725 (l : LX B n h) (hd : 12 ≤ d) (hn : n ≤ 52) (P : AsQ B h pl bd wy sh lw hg) (V : AsV n is M pl bd wy sh lw hg) (J : AsM B h pl jn ja jb jx js) :
    Vt 0 (cll PP (ev PP (gsF gv) B) d 725 [(2, rf (B + 149)), (0, k), (0, i), (0, j), (0, a), (0, v)] h) (fun x h' => (jCode pl k i j a v ≠ 0 ∧ MdA B h (jCode pl k i j a v) x h') ∨ (jCode pl k i j a v = 0 ∧ ¬ (4 : Int) ∣ jWW lw hg k i j a.toNat v ∧ MdA B h 2 x h') ∨ (jCode pl k i j a v = 0 ∧ (4 : Int) ∣ jWW lw hg k i j a.toNat v ∧ jn = 24 ∧ MdA B h 3 x h') ∨ (jCode pl k i j a v = 0 ∧ jn < 24 ∧ ∃ s0, jWW lw hg k i j a.toNat v = 4 * s0 ∧ x = (jn : Int) ∧ hv h' (B + 149) 0 = 0 ∧ AsM B h' pl (jn + 1) (ex1 ja jn i.toNat) (ex1 jb jn (jNew k j)) (ex1 jx jn (jAx k a)) (ex1 js jn s0) ∧ Agr (mjW B jn) h h')) := by
  have hp := V.1
  have e120 := J.1
  refine Vt.inq (D := 11) hd (Nat.le_of_ble_eq_true rfl) rfl (fun d hd Q K => ?_)
  refine Ends.eq (b725_0 (n := n) (by (repeat' first | assumption | refine LX.setF _ _ ?_ (by decide +kernel) | refine LX.setS ?_ rfl | refine LX.setA ?_ (by first | assumption | omega))) (by first | assumption | omega)) ?_
  rw [jbad, jfirst e120]
  refine Ends.fails l (by omega) rfl ?_
  by_cases c0 : jCode pl k i j a v = 0
  rotate_left
  · rw [if_neg c0]
    have l2 : LX B n (hset h (B + 149) 0 ((jCode pl k i j a v : Nat) : Int)) := LX.setF 149 0 l (by decide +kernel)
    refine Ends.eq (b725_99 (n := n) (by (repeat' first | assumption | refine LX.setF _ _ ?_ (by decide +kernel) | refine LX.setS ?_ rfl | refine LX.setA ?_ (by first | assumption | omega))) (by first | assumption | omega)) ?_
    exact Ends.b0 (fun z => absurd z (by decide)) (fun _ => Ends.sm (K _ _ (Or.inl ⟨c0, rfl, rfl⟩)))
  rw [if_pos c0, c0]
  have oks : isPl pl i = true ∧ (isG k = true ∨ isPl pl j = true) ∧ jok k i j a v = true := by
    unfold jCode at c0
    split at c0
    · next z =>
      split at c0
      · next y =>
        rw [Bool.and_eq_true, Bool.or_eq_true] at z
        exact ⟨z.1, z.2, y⟩
      · exact absurd c0 (by decide)
    · exact absurd c0 (by decide)
  obtain ⟨oi, oj, ok⟩ := oks
  obtain ⟨i0, hi0, rfl⟩ := isPl_c oi
  have okk := ok
  unfold jok at okk
  rw [Bool.and_eq_true, decide_eq_true_eq] at okk
  obtain ⟨⟨hk, ha, hv5⟩, hij⟩ := okk
  obtain ⟨a0, rfl⟩ : ∃ c : Nat, a = (c : Int) := ⟨a.toNat, by omega⟩
  have ha0 : a0 < 3 := by omega
  have Vi := V.2 i0 hi0
  have Pi := (P i0 hi0).2.2 a0 ha0
  have Vl := Vi.2.2.2 a0 ha0
  -- the second end
  obtain ⟨j2, hj2, cj, j0, ej0, hj0⟩ : ∃ j2 : Nat, j2 < 12 ∧ cond (tst 0 (v680 k) 0) (bop32 96 (bop32 104 3 j) (a0 : Int)) (bop32 96 (bop32 104 3 (i0 : Int)) (a0 : Int)) = ((3 * j2 + a0 : Nat) : Int) ∧ ∃ j0 : Nat, jNew k j = j0 ∧ ((isG k = true ∧ j0 = 12 ∧ j2 = i0) ∨ (isG k = false ∧ j = (j0 : Int) ∧ j0 < pl ∧ j2 = j0)) := by
    rw [v680_is]
    unfold jNew
    cases g : isG k
    · rw [g] at oj
      obtain ⟨y, hy, rfl⟩ := isPl_c (oj.resolve_left Bool.false_ne_true)
      refine ⟨y, by omega, ?_, y, rfl, Or.inr ⟨rfl, rfl, hy, rfl⟩⟩
      rw [if_neg Bool.false_ne_true, show tst 0 (0 : Int) 0 = true from rfl, cond_true]
      exact ix3 (by omega) ha0
    · refine ⟨i0, by omega, ?_, 12, rfl, Or.inl ⟨rfl, rfl, rfl⟩⟩
      rw [if_pos rfl, show tst 0 (1 : Int) 0 = false from rfl, cond_false]
      exact ix3 (by omega) ha0
  have ew : jWW lw hg k (i0 : Int) j a0 v = jW k (lw a0 i0 : Int) (hg a0 i0 : Int) (jE lw hg k j a0).1 (jE lw hg k j a0).2 v := rfl
  obtain ⟨lj, hj, eE, Ej⟩ : ∃ lj hj : Int, jE lw hg k j a0 = (lj, hj) ∧ ((isG k = true ∧ lj = 0 ∧ hj = 0) ∨ (isG k = false ∧ j2 < pl ∧ lj = (lw a0 j2 : Int) ∧ hj = (hg a0 j2 : Int))) := by
    unfold jE
    rcases hj0 with ⟨g, x1, x2⟩ | ⟨g, x1, x2, x3⟩
    · rw [g]; exact ⟨0, 0, rfl, Or.inl ⟨rfl, rfl, rfl⟩⟩
    · rw [g, x1, x3]; exact ⟨_, _, rfl, Or.inr ⟨rfl, x2, rfl, rfl⟩⟩
  rw [eE] at ew
  have hw : jWW lw hg k (i0 : Int) j ((a0 : Nat) : Int).toNat v = jW k (lw a0 i0 : Int) (hg a0 i0 : Int) lj hj v := ew
  have bb : bd104 (lw a0 i0 : Int) (hg a0 i0 : Int) lj hj := by
    rcases Ej with ⟨_, x1, x2⟩ | ⟨_, x0, x1, x2⟩
    · exact ⟨by omega, by omega, by omega, by omega⟩
    · have := (V.2 j2 x0).2.2.2 a0 ha0
      exact ⟨by omega, by omega, by omega, by omega⟩
  rw [hw] at K
  have bw := jW_bd (k := k) bb hv5
  have l0 : LX B n (hset h (B + 149) 0 ((0 : Nat) : Int)) := LX.setF 149 0 l (by decide +kernel)
  have fr : ∀ c q, c ≠ B + 149 → hv (hset h (B + 149) 0 ((0 : Nat) : Int)) c q = hv h c q := fun c q hc => hv_na hc
  -- the end, with what is due
  have fin : ∀ x : Int, x = 4 * jW k (lw a0 i0 : Int) (hg a0 i0 : Int) lj hj v → Ends (ev PP (gsF gv) B d 725 380 [(2, rf (B + 149)), (0, k), (0, (i0 : Int)), (0, j), (0, (a0 : Int)), (0, v), (0, v680 k), (0, if jok k (i0 : Int) j (a0 : Int) v = true then (0 : Int) else 1), (0, ((3 * i0 + a0 : Nat) : Int)), (0, ((3 * j2 + a0 : Nat) : Int)), (0, x)] [] (hset h (B + 149) 0 ((0 : Nat) : Int))) Q := fun x ex => by
    have jn24 := J.2.2.2.1
    refine Ends.eq (b725_380 (n := n) (by (repeat' first | assumption | refine LX.setF _ _ ?_ (by decide +kernel) | refine LX.setS ?_ rfl | refine LX.setA ?_ (by first | assumption | omega))) (by first | assumption | omega)) ?_
    rw [show hv (hset h (B + 149) 0 ((0 : Nat) : Int)) (B + 149) 121 = (jn : Int) from by rw [hv_set_ne (by omega)]; exact J.2.1]
    generalize jW k (lw a0 i0 : Int) (hg a0 i0 : Int) lj hj v = W at K ex bw
    have r := rem0 (w := x) (y := 16) (by decide) (by decide)
    by_cases d4 : (4 : Int) ∣ W
    rotate_left
    · have nz : bop32 112 x 16 ≠ 0 := fun z => d4 (by have := r.mp z; omega)
      refine Ends.mbad l0 (by omega) (c := 2) (by decide) (by rw [tst0, decide_eq_false nz]; rfl) ?_
      rw [hset2]
      have l2 : LX B n (hset h (B + 149) 0 ((2 : Nat) : Int)) := LX.setF 149 0 l (by decide +kernel)
      refine Ends.eq (b725_410 (n := n) (by (repeat' first | assumption | refine LX.setF _ _ ?_ (by decide +kernel) | refine LX.setS ?_ rfl | refine LX.setA ?_ (by first | assumption | omega))) (by first | assumption | omega)) ?_
      exact Ends.b0 (fun z => absurd z (by decide)) (fun _ => Ends.sm (K _ _ (Or.inr (Or.inl ⟨c0, d4, rfl, rfl⟩))))
    have ez : bop32 112 x 16 = 0 := r.mpr (by omega)
    rw [ez]
    by_cases j24 : jn = 24
    · refine Ends.mbad l0 (by omega) (c := 3) (by decide) (by rw [j24]; rfl) ?_
      rw [hset2]
      have l2 : LX B n (hset h (B + 149) 0 ((3 : Nat) : Int)) := LX.setF 149 0 l (by decide +kernel)
      refine Ends.eq (b725_410 (n := n) (by (repeat' first | assumption | refine LX.setF _ _ ?_ (by decide +kernel) | refine LX.setS ?_ rfl | refine LX.setA ?_ (by first | assumption | omega))) (by first | assumption | omega)) ?_
      exact Ends.b0 (fun z => absurd z (by decide)) (fun _ => Ends.sm (K _ _ (Or.inr (Or.inr (Or.inl ⟨c0, d4, j24, rfl, rfl⟩)))))
    refine Ends.mok l0 (by omega) (by rw [tst1t (show ((jn : Nat) : Int) ≠ 24 by omega)]; rfl) ?_
    rw [hset2]
    have l2 : LX B n (hset h (B + 149) 0 0) := LX.setF 149 0 l (by decide +kernel)
    refine Ends.eq (b725_410 (n := n) (by (repeat' first | assumption | refine LX.setF _ _ ?_ (by decide +kernel) | refine LX.setS ?_ rfl | refine LX.setA ?_ (by first | assumption | omega))) (by first | assumption | omega)) ?_
    rw [show hv (hset h (B + 149) 0 0) (B + 149) 121 = (jn : Int) from by rw [hv_set_ne (by omega)]; exact J.2.1]
    obtain ⟨s0, es⟩ : ∃ s0, W = 4 * s0 := ⟨W / 4, by omega⟩
    have ex16 : x = 16 * s0 := by omega
    rw [tn, ex16, dv_ex (by decide) (by omega), show bop32 96 (jn : Int) 1 = ((jn + 1 : Nat) : Int) from addNN (y := 1) (by omega)]
    simp only [an0]
    have e210 : cond (tst 0 (v680 k) 0) (i0 : Int) (-1 : Int) = if j0 = 12 then -1 else (i0 : Int) := by
      rw [v680_is]
      rcases hj0 with ⟨g, x1, x2⟩ | ⟨g, x1, x2, x3⟩
      · rw [g, if_pos x1]; rfl
      · rw [g, if_neg Bool.false_ne_true, if_neg (show ¬ j0 = 12 by omega)]; rfl
    have e211 : cond (tst 0 (v680 k) 0) j (i0 : Int) = if j0 = 12 then (i0 : Int) else (j0 : Int) := by
      rw [v680_is]
      rcases hj0 with ⟨g, x1, x2⟩ | ⟨g, x1, x2, x3⟩
      · rw [g, if_pos x1]; rfl
      · rw [g, if_neg Bool.false_ne_true, if_neg (show ¬ j0 = 12 by omega), x1]; rfl
    have e212 : cond (tst 1 k 10) (a0 : Int) (3 : Int) = ((jAx k (a0 : Int) : Nat) : Int) := by
      unfold jAx
      by_cases z : k = 10
      · rw [if_pos z, tst1f z]; rfl
      · rw [if_neg z, tst1t z]; rfl
    rw [e210, e211, e212]
    have g : Agr (mjW B jn) h (hset (hset (hset (hset (hset (hset h (B + 149) 0 0) (B + 210) jn (if j0 = 12 then -1 else (i0 : Int))) (B + 211) jn (if j0 = 12 then (i0 : Int) else (j0 : Int))) (B + 212) jn ((jAx k (a0 : Int) : Nat) : Int)) (B + 213) jn s0) (B + 149) 121 ((jn + 1 : Nat) : Int)) :=
      (((((Agr.rf.set (Or.inr ⟨rfl, Or.inl rfl⟩)).set (Or.inl ⟨by omega, rfl⟩)).set (Or.inl ⟨by omega, rfl⟩)).set (Or.inl ⟨by omega, rfl⟩)).set (Or.inl ⟨by omega, rfl⟩)).set (Or.inr ⟨rfl, Or.inr rfl⟩)
    refine Ends.b0 (fun _ => Ends.g ⟨by omega, by omega⟩ (Ends.sm (K _ _ (Or.inr (Or.inr (Or.inr ⟨c0, by omega, s0, es, ?_, ?_, ?_, g⟩)))))) (fun z => absurd rfl z)
    · exact (subNN (x := jn + 1) (y := 1) (by omega) (by omega)).trans (by omega)
    · rw [hv_set_ne (by omega), hv_na (by omega), hv_na (by omega), hv_na (by omega), hv_na (by omega), hv_set_at]
    · rw [ej0]
      refine AsM.one J (by omega) hi0 ?_ ?_ (by omega) ?_ g (hv_set_at ..) ?_ ?_ ?_ ?_
      · rcases hj0 with ⟨g, x1, x2⟩ | ⟨g, x1, x2, x3⟩
        · exact Or.inr x1
        · exact Or.inl x2
      · unfold jAx; split <;> omega
      · intro z
        rcases hj0 with ⟨g, x1, x2⟩ | ⟨g, x1, x2, x3⟩
        · unfold isG at g
          rw [Bool.or_eq_true, Bool.and_eq_true, decide_eq_true_eq, decide_eq_true_eq, decide_eq_true_eq] at g
          unfold jAx
          rw [if_neg (by omega)]
          omega
        · omega
      · rw [hv_na (by omega), hv_na (by omega), hv_na (by omega), hv_na (by omega), hv_set_at]; rfl
      · rw [hv_na (by omega), hv_na (by omega), hv_na (by omega), hv_set_at]; rfl
      · rw [hv_na (by omega), hv_na (by omega), hv_set_at]
      · rw [hv_na (by omega), hv_set_at]
  refine Ends.eq (b725_99 (n := n) (by (repeat' first | assumption | refine LX.setF _ _ ?_ (by decide +kernel) | refine LX.setS ?_ rfl | refine LX.setA ?_ (by first | assumption | omega))) (by first | assumption | omega)) ?_
  rw [ix3 (by omega) ha0, show bop32 104 (16 : Int) v = 16 * v from mul32 (by omega) (by omega)]
  rw [ix3 (by omega) ha0] at cj
  rw [cj]
  refine Ends.b0 (fun _ => ?_) (fun z => absurd rfl z)
  have ck : k = 0 ∨ k = 1 ∨ k = 2 ∨ k = 3 ∨ k = 4 ∨ k = 5 ∨ k = 6 ∨ k = 7 ∨ k = 8 ∨ k = 9 ∨ k = 10 := by omega
  have a8 : hv (hset h (B + 149) 0 ((0 : Nat) : Int)) (B + 208) (3 * i0 + a0) = ((4 * lw a0 i0 : Nat) : Int) := by rw [fr _ _ (by omega)]; exact Pi.2.1
  have a9 : hv (hset h (B + 149) 0 ((0 : Nat) : Int)) (B + 209) (3 * i0 + a0) = ((4 * hg a0 i0 : Nat) : Int) := by rw [fr _ _ (by omega)]; exact Pi.2.2
  obtain ⟨b1, b2, b3, b4⟩ := bb
  rcases ck with rfl | rfl | rfl | rfl | rfl | rfl | rfl | rfl | rfl | rfl | rfl
  · rw [show sw725_138 (0 : Int) = 380 from rfl]
    exact fin _ (show 16 * v = 4 * (4 * v) by omega)
  · rw [show sw725_138 (1 : Int) = 380 from rfl]
    exact fin _ (show 16 * v = 4 * (4 * v) by omega)
  · rw [show sw725_138 (2 : Int) = 184 from rfl]
    obtain ⟨_, x0, x1, x2⟩ := Ej.resolve_left (fun z => Bool.false_ne_true z.1)
    have c8 : hv (hset h (B + 149) 0 ((0 : Nat) : Int)) (B + 208) (3 * j2 + a0) = 4 * lj := by rw [fr _ _ (by omega), ((P j2 x0).2.2 a0 ha0).2.1]; omega
    have c9 : hv (hset h (B + 149) 0 ((0 : Nat) : Int)) (B + 209) (3 * j2 + a0) = 4 * hj := by rw [fr _ _ (by omega), ((P j2 x0).2.2 a0 ha0).2.2]; omega
    refine Ends.eq (b725_184 (n := n) (by (repeat' first | assumption | refine LX.setF _ _ ?_ (by decide +kernel) | refine LX.setS ?_ rfl | refine LX.setA ?_ (by first | assumption | omega))) (by first | assumption | omega)) ?_
    rw [tn, tn, a9, c9, sub32 (by omega) (by omega), mul32 (by omega) (by omega), add32 (by omega) (by omega)]
    exact Ends.g ⟨by omega, by omega⟩ (Ends.g ⟨by omega, by omega⟩ (fin _ (show _ = 4 * (2 * ((hg a0 i0 : Int) - hj) + 4 * v) by omega)))
  · rw [show sw725_138 (3 : Int) = 209 from rfl]
    obtain ⟨_, x0, x1, x2⟩ := Ej.resolve_left (fun z => Bool.false_ne_true z.1)
    have c8 : hv (hset h (B + 149) 0 ((0 : Nat) : Int)) (B + 208) (3 * j2 + a0) = 4 * lj := by rw [fr _ _ (by omega), ((P j2 x0).2.2 a0 ha0).2.1]; omega
    have c9 : hv (hset h (B + 149) 0 ((0 : Nat) : Int)) (B + 209) (3 * j2 + a0) = 4 * hj := by rw [fr _ _ (by omega), ((P j2 x0).2.2 a0 ha0).2.2]; omega
    refine Ends.eq (b725_209 (n := n) (by (repeat' first | assumption | refine LX.setF _ _ ?_ (by decide +kernel) | refine LX.setS ?_ rfl | refine LX.setA ?_ (by first | assumption | omega))) (by first | assumption | omega)) ?_
    rw [tn, tn, a8, c8, sub32 (by omega) (by omega), mul32 (by omega) (by omega), add32 (by omega) (by omega)]
    exact Ends.g ⟨by omega, by omega⟩ (Ends.g ⟨by omega, by omega⟩ (fin _ (show _ = 4 * (2 * ((lw a0 i0 : Int) - lj) + 4 * v) by omega)))
  · rw [show sw725_138 (4 : Int) = 234 from rfl]
    obtain ⟨_, x0, x1, x2⟩ := Ej.resolve_left (fun z => Bool.false_ne_true z.1)
    have c8 : hv (hset h (B + 149) 0 ((0 : Nat) : Int)) (B + 208) (3 * j2 + a0) = 4 * lj := by rw [fr _ _ (by omega), ((P j2 x0).2.2 a0 ha0).2.1]; omega
    have c9 : hv (hset h (B + 149) 0 ((0 : Nat) : Int)) (B + 209) (3 * j2 + a0) = 4 * hj := by rw [fr _ _ (by omega), ((P j2 x0).2.2 a0 ha0).2.2]; omega
    refine Ends.eq (b725_234 (n := n) (by (repeat' first | assumption | refine LX.setF _ _ ?_ (by decide +kernel) | refine LX.setS ?_ rfl | refine LX.setA ?_ (by first | assumption | omega))) (by first | assumption | omega)) ?_
    rw [tn, tn, a9, c8, sub32 (by omega) (by omega), mul32 (by omega) (by omega), add32 (by omega) (by omega)]
    exact Ends.g ⟨by omega, by omega⟩ (Ends.g ⟨by omega, by omega⟩ (fin _ (show _ = 4 * (2 * ((hg a0 i0 : Int) - lj) + 4 * v) by omega)))
  · rw [show sw725_138 (5 : Int) = 259 from rfl]
    obtain ⟨_, x0, x1, x2⟩ := Ej.resolve_left (fun z => Bool.false_ne_true z.1)
    have c8 : hv (hset h (B + 149) 0 ((0 : Nat) : Int)) (B + 208) (3 * j2 + a0) = 4 * lj := by rw [fr _ _ (by omega), ((P j2 x0).2.2 a0 ha0).2.1]; omega
    have c9 : hv (hset h (B + 149) 0 ((0 : Nat) : Int)) (B + 209) (3 * j2 + a0) = 4 * hj := by rw [fr _ _ (by omega), ((P j2 x0).2.2 a0 ha0).2.2]; omega
    refine Ends.eq (b725_259 (n := n) (by (repeat' first | assumption | refine LX.setF _ _ ?_ (by decide +kernel) | refine LX.setS ?_ rfl | refine LX.setA ?_ (by first | assumption | omega))) (by first | assumption | omega)) ?_
    rw [tn, tn, a8, c9, sub32 (by omega) (by omega), mul32 (by omega) (by omega), add32 (by omega) (by omega)]
    exact Ends.g ⟨by omega, by omega⟩ (Ends.g ⟨by omega, by omega⟩ (fin _ (show _ = 4 * (2 * ((lw a0 i0 : Int) - hj) + 4 * v) by omega)))
  · rw [show sw725_138 (6 : Int) = 284 from rfl]
    obtain ⟨_, x0, x1, x2⟩ := Ej.resolve_left (fun z => Bool.false_ne_true z.1)
    have c8 : hv (hset h (B + 149) 0 ((0 : Nat) : Int)) (B + 208) (3 * j2 + a0) = 4 * lj := by rw [fr _ _ (by omega), ((P j2 x0).2.2 a0 ha0).2.1]; omega
    have c9 : hv (hset h (B + 149) 0 ((0 : Nat) : Int)) (B + 209) (3 * j2 + a0) = 4 * hj := by rw [fr _ _ (by omega), ((P j2 x0).2.2 a0 ha0).2.2]; omega
    refine Ends.eq (b725_284 (n := n) (by (repeat' first | assumption | refine LX.setF _ _ ?_ (by decide +kernel) | refine LX.setS ?_ rfl | refine LX.setA ?_ (by first | assumption | omega))) (by first | assumption | omega)) ?_
    rw [tn, tn, a8, a9, c8, c9, add32 (x := ((4 * lw a0 i0 : Nat) : Int)) (by omega) (by omega), sub32 (y := 4 * lj) (by omega) (by omega), sub32 (y := 4 * hj) (by omega) (by omega), add32 (by omega) (by omega)]
    exact Ends.g ⟨by omega, by omega⟩ (Ends.g ⟨by omega, by omega⟩ (fin _ (show _ = 4 * ((lw a0 i0 : Int) + (hg a0 i0 : Int) - lj - hj + 4 * v) by omega)))
  · rw [show sw725_138 (7 : Int) = 323 from rfl]
    refine Ends.eq (b725_323 (n := n) (by (repeat' first | assumption | refine LX.setF _ _ ?_ (by decide +kernel) | refine LX.setS ?_ rfl | refine LX.setA ?_ (by first | assumption | omega))) (by first | assumption | omega)) ?_
    rw [tn, a9, mul32 (by omega) (by omega), sub32 (by omega) (by omega)]
    exact Ends.g ⟨by omega, by omega⟩ (fin _ (show _ = 4 * (4 * v - 2 * (hg a0 i0 : Int)) by omega))
  · rw [show sw725_138 (8 : Int) = 340 from rfl]
    refine Ends.eq (b725_340 (n := n) (by (repeat' first | assumption | refine LX.setF _ _ ?_ (by decide +kernel) | refine LX.setS ?_ rfl | refine LX.setA ?_ (by first | assumption | omega))) (by first | assumption | omega)) ?_
    rw [tn, a8, mul32 (by omega) (by omega), sub32 (by omega) (by omega)]
    exact Ends.g ⟨by omega, by omega⟩ (fin _ (show _ = 4 * (4 * v - 2 * (lw a0 i0 : Int)) by omega))
  · rw [show sw725_138 (9 : Int) = 357 from rfl]
    refine Ends.eq (b725_357 (n := n) (by (repeat' first | assumption | refine LX.setF _ _ ?_ (by decide +kernel) | refine LX.setS ?_ rfl | refine LX.setA ?_ (by first | assumption | omega))) (by first | assumption | omega)) ?_
    rw [tn, a8, a9, add32 (by omega) (by omega), sub32 (by omega) (by omega)]
    exact Ends.g ⟨by omega, by omega⟩ (fin _ (show _ = 4 * (4 * v - (lw a0 i0 : Int) - (hg a0 i0 : Int)) by omega))
  · rw [show sw725_138 (10 : Int) = 380 from rfl]
    exact fin _ (show 16 * v = 4 * (4 * v) by omega)
end MJO
