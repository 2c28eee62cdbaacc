/-! L3: the desk's public calls of the assembly -/
section PUB
variable {gv : Nat → Int} {B n d : Nat} {h : AH} {is : Nat → Bool} {cl : Nat → Nat} {S : Nat → Nat → Bool} {pl jn : Nat} {bd wy : Nat → Nat} {sh : Nat → Nat → Int} {lw hg : Nat → Nat → Nat} {M : Int} {ja jb jx : Nat → Nat} {js : Nat → Int} {o w i j a v k y t : Int}
theorem v42_d {x lo hi : Int} : v42 x lo hi = if decide (lo ≤ x ∧ x ≤ hi) = true then 1 else 0 := by
  rw [v42_in]
  by_cases z : lo ≤ x ∧ x ≤ hi
  · rw [if_pos z, decide_eq_true z]; rfl
  · rw [if_neg z, decide_eq_false z]; rfl
theorem lt_d {x m : Nat} : cond (tst 3 (x : Int) (m : Int)) (0 : Int) 1 = if decide (x < m) = true then 1 else 0 := by
  rw [tst3]
  by_cases z : x < m
  · rw [decide_eq_true z, decide_eq_true (show (x : Int) < (m : Int) by omega)]; rfl
  · rw [decide_eq_false z, decide_eq_false (show ¬ (x : Int) < (m : Int) by omega)]; rfl
theorem v47_p {B : Nat} {h : AH} {pl : Nat} {x : Int} (e3 : hv h (B + 118) 3 = (pl : Int)) (hp : pl ≤ 12) : v47 B h x = if isPl pl x = true then 1 else 0 := by
  unfold v47 isPl
  rw [e3, sub32 (by omega) (by omega), v42_d]
  have : (0 ≤ x ∧ x ≤ (pl : Int) - 1) ↔ (0 ≤ x ∧ x < (pl : Int)) := by omega
  by_cases z : 0 ≤ x ∧ x < (pl : Int)
  · rw [decide_eq_true z, decide_eq_true (this.mpr z)]
  · rw [decide_eq_false z, decide_eq_false (fun y => z (this.mp y))]
theorem c_place71 (l : LX B n h) (hd : 21 ≤ d) (hn0 : 0 < n) (hn : n ≤ 52) (m : TbC B h) (b : BdC B n h is cl S) (R : Reg B n h) (P : AsP B h pl bd wy sh lw hg) (V : AsV n is M pl bd wy sh lw hg) (e3 : hv h (B + 118) 3 = (pl : Int)) :
    Opx 0 (cll PP (ev PP (gsF gv) B) d 71 [(2, rf (B + 0)), (0, o), (0, w)] h) (fun x h' => isB is o = true ∧ (0 ≤ w ∧ w ≤ 47) ∧ pl < 12 ∧ x = (pl : Int) ∧ hv h' (B + 118) 3 = ((pl + 1 : Nat) : Int) ∧ (∃ (T : Nat → Bool) (lo hi : Nat → Nat), TuR n w.toNat (S o.toNat) T ∧ (∀ a, a < 3 → EdS false (enP n T a 24) (lo a) ∧ EdS true (enP n T a 24) (hi a)) ∧ AsP B h' (pl + 1) (ex1 bd pl o.toNat) (ex1 wy pl w.toNat) (fun a => ex1 (sh a) pl 0) (fun a => ex1 (lw a) pl (lo a)) (fun a => ex1 (hg a) pl (hi a))) ∧ ScE B n (plcW B h pl) 2 (24 * n * n + 24 * n * n) h h')
      (fun c q => q = h ∧ ((c = 31 ∧ isB is o = false) ∨ (c = 27 ∧ isB is o = true ∧ ¬ (0 ≤ w ∧ w ≤ 47)) ∨ (c = 28 ∧ isB is o = true ∧ (0 ≤ w ∧ w ≤ 47) ∧ pl = 12))) := by
  have hp := V.1
  refine Opx.inq (D := 20) hd (Nat.le_of_ble_eq_true rfl) rfl (fun d hd Q K KE => ?_)
  refine Ends.eq (b71_0 (n := n) (by (repeat' first | assumption | refine LX.setF _ _ ?_ (by decide +kernel) | refine LX.setS ?_ rfl | refine LX.setA ?_ (by first | assumption | omega))) (by first | assumption | omega)) ?_
  refine Ends.g q44_ok ?_
  refine Ends.there l (by omega) (p := isB is o) (v44_is (fun i hi => (b.1 i hi).1)) (fun ho => ?_) (fun ho => Ends.thn rfl (KE _ _ ⟨rfl, Or.inl ⟨rfl, ho⟩⟩))
  refine Ends.eq (b71_8 (n := n) (by (repeat' first | assumption | refine LX.setF _ _ ?_ (by decide +kernel) | refine LX.setS ?_ rfl | refine LX.setA ?_ (by first | assumption | omega))) (by first | assumption | omega)) ?_
  refine Ends.need l (by omega) v42_d (fun hw => ?_) (fun hw => Ends.thn rfl (KE _ _ ⟨rfl, Or.inr (Or.inl ⟨rfl, ho, of_decide_eq_false hw⟩)⟩))
  have hw := of_decide_eq_true hw
  refine Ends.eq (b71_18 (n := n) (by (repeat' first | assumption | refine LX.setF _ _ ?_ (by decide +kernel) | refine LX.setS ?_ rfl | refine LX.setA ?_ (by first | assumption | omega))) (by first | assumption | omega)) ?_
  rw [e3]
  refine Ends.state l (by omega) (p := decide (pl < 12)) (lt_d (m := 12)) (fun hl => ?_) (fun hl => Ends.thn rfl (KE _ _ ⟨rfl, Or.inr (Or.inr ⟨rfl, ho, hw, by have := of_decide_eq_false hl; omega⟩)⟩))
  have hl := of_decide_eq_true hl
  obtain ⟨b0, hb, rfl, ib⟩ := isB_c ho
  obtain ⟨w0, rfl⟩ : ∃ k : Nat, w = (k : Int) := ⟨w.toNat, by omega⟩
  refine Ends.eq (b71_38 (n := n) (by (repeat' first | assumption | refine LX.setF _ _ ?_ (by decide +kernel) | refine LX.setS ?_ rfl | refine LX.setA ?_ (by first | assumption | omega))) (by first | assumption | omega)) ?_
  refine Ends.ct l (by decide +kernel) (by decide) (c_place118 l (by omega) hn0 hn m b R P V e3 hl hb ib (by omega)) (fun x h1 l1 _ _ _ ⟨ex, r1, r2, r3⟩ => ?_)
  refine Ends.eq (b71_47 (n := n) (by (repeat' first | assumption | refine LX.setF _ _ ?_ (by decide +kernel) | refine LX.setS ?_ rfl | refine LX.setA ?_ (by first | assumption | omega))) (by first | assumption | omega)) ?_
  exact Ends.sm (K _ _ ⟨ho, hw, hl, ex, r1, r2, r3⟩)
theorem jth (e3 : hv h (B + 118) 3 = (pl : Int)) (hp : pl ≤ 12) : cond (tst 0 (v47 B h i) 0) (0 : Int) (cond (tst 1 (v112 k) 0) 1 (cond (tst 0 (v47 B h j) 0) 0 1)) = if (isPl pl i && (isG k || isPl pl j)) = true then 1 else 0 := by
  rw [v47_p e3 hp, v47_p e3 hp, v112_is]
  cases isPl pl i <;> cases isG k <;> cases isPl pl j <;> rfl
theorem jnd : cond (tst 0 (v42 k 0 10) 0) (0 : Int) (cond (tst 0 (v42 a 0 2) 0) 0 (cond (tst 0 (v42 v (-500) 500) 0) 0 (cond (tst 1 (v112 k) 0) 1 (cond (tst 0 i j) 0 1)))) = if jok k i j a v = true then 1 else 0 := by
  have e : jok k i j a v = (decide (0 ≤ k ∧ k ≤ 10) && (decide (0 ≤ a ∧ a ≤ 2) && (decide (-500 ≤ v ∧ v ≤ 500) && (isG k || decide (i ≠ j))))) := by
    unfold jok
    by_cases h1 : 0 ≤ k ∧ k ≤ 10
    · by_cases h2 : 0 ≤ a ∧ a ≤ 2
      · by_cases h3 : -500 ≤ v ∧ v ≤ 500
        · rw [decide_eq_true h1, decide_eq_true h2, decide_eq_true h3, decide_eq_true (show (0 ≤ k ∧ k ≤ 10) ∧ (0 ≤ a ∧ a ≤ 2) ∧ -500 ≤ v ∧ v ≤ 500 from ⟨h1, h2, h3⟩)]; rfl
        · rw [decide_eq_true h1, decide_eq_true h2, decide_eq_false h3, decide_eq_false (show ¬ ((0 ≤ k ∧ k ≤ 10) ∧ (0 ≤ a ∧ a ≤ 2) ∧ -500 ≤ v ∧ v ≤ 500) from fun z => h3 z.2.2)]; rfl
      · rw [decide_eq_true h1, decide_eq_false h2, decide_eq_false (show ¬ ((0 ≤ k ∧ k ≤ 10) ∧ (0 ≤ a ∧ a ≤ 2) ∧ -500 ≤ v ∧ v ≤ 500) from fun z => h2 z.2.1)]; rfl
    · rw [decide_eq_false h1, decide_eq_false (show ¬ ((0 ≤ k ∧ k ≤ 10) ∧ (0 ≤ a ∧ a ≤ 2) ∧ -500 ≤ v ∧ v ≤ 500) from fun z => h1 z.1)]; rfl
  rw [e, v112_is, v42_d, v42_d, v42_d]
  generalize decide (0 ≤ k ∧ k ≤ 10) = p1
  generalize decide (0 ≤ a ∧ a ≤ 2) = p2
  generalize decide (-500 ≤ v ∧ v ≤ 500) = p3
  by_cases z : i = j
  · rw [tst0 (x := i), decide_eq_true z, decide_eq_false (show ¬ i ≠ j from fun y => y z)]
    cases p1 <;> cases p2 <;> cases p3 <;> cases isG k <;> rfl
  · rw [tst0 (x := i), decide_eq_false z, decide_eq_true (show i ≠ j from z)]
    cases p1 <;> cases p2 <;> cases p3 <;> cases isG k <;> rfl
theorem hlf {p : Bool} : cond (tst 1 (if p = true then (0 : Int) else 1) 0) (0 : Int) 1 = if p = true then 1 else 0 := by cases p <;> rfl
theorem jCode0 : jCode pl k i j a v = 0 ↔ isPl pl i = true ∧ (isG k = true ∨ isPl pl j = true) ∧ jok k i j a v = true := by
  unfold jCode
  cases isPl pl i <;> cases isG k <;> cases isPl pl j <;> cases jok k i j a v <;> simp
def jdW (B jn : Nat) : Nat → Nat → Prop := fun c k => ((B + 124 ≤ c ∧ c ≤ B + 127) ∧ k = jn) ∨ (c = B + 118 ∧ k = 4)
theorem c_joint50 (l : LX B n h) (hd : 14 ≤ d) (hn : n ≤ 52) (P : AsP B h pl bd wy sh lw hg) (V : AsV n is M pl bd wy sh lw hg) (J : AsJ B h pl jn ja jb jx js) :
    Opx 0 (cll PP (ev PP (gsF gv) B) d 50 [(2, rf (B + 0)), (0, k), (0, i), (0, j), (0, a), (0, v)] h) (fun x h' => jCode pl k i j a v = 0 ∧ jn < 24 ∧ ∃ s0, jWW lw hg k i j a.toNat v = 4 * s0 ∧ x = (jn : Int) ∧ AsJ B h' pl (jn + 1) (ex1 ja jn i.toNat) (ex1 jb jn (jNew k j)) (ex1 jx jn (jAx k a)) (ex1 js jn s0) ∧ Agr (jdW B jn) h h')
      (fun c q => q = h ∧ ((c = 31 ∧ jCode pl k i j a v = 1) ∨ (c = 27 ∧ jCode pl k i j a v = 2) ∨ (c = 27 ∧ jCode pl k i j a v = 0 ∧ ¬ (4 : Int) ∣ jWW lw hg k i j a.toNat v) ∨ (c = 28 ∧ jCode pl k i j a v = 0 ∧ (4 : Int) ∣ jWW lw hg k i j a.toNat v ∧ jn = 24))) := by
  have hp := V.1
  have e3 := J.1
  have e4 := J.2.1
  have j24 := J.2.2.2.1
  refine Opx.inq (D := 13) hd (Nat.le_of_ble_eq_true rfl) rfl (fun d hd Q K KE => ?_)
  refine Ends.eq (b50_0 (n := n) (by (repeat' first | assumption | refine LX.setF _ _ ?_ (by decide +kernel) | refine LX.setS ?_ rfl | refine LX.setA ?_ (by first | assumption | omega))) (by first | assumption | omega)) ?_
  refine Ends.there l (by omega) (jth e3 hp) (fun h1 => ?_) (fun h1 => Ends.thn rfl (KE _ _ ⟨rfl, Or.inl ⟨rfl, by unfold jCode; rw [h1]; rfl⟩⟩))
  refine Ends.eq (b50_35 (n := n) (by (repeat' first | assumption | refine LX.setF _ _ ?_ (by decide +kernel) | refine LX.setS ?_ rfl | refine LX.setA ?_ (by first | assumption | omega))) (by first | assumption | omega)) ?_
  refine Ends.need l (by omega) jnd (fun h2 => ?_) (fun h2 => Ends.thn rfl (KE _ _ ⟨rfl, Or.inr (Or.inl ⟨rfl, by unfold jCode; rw [h1, h2]; rfl⟩)⟩))
  have c0 : jCode pl k i j a v = 0 := by unfold jCode; rw [h1, h2]; rfl
  rw [Bool.and_eq_true, Bool.or_eq_true] at h1
  obtain ⟨oi, oj⟩ := h1
  obtain ⟨i0, hi0, rfl⟩ := isPl_c oi
  have okk := h2
  unfold jok at okk
  rw [Bool.and_eq_true, decide_eq_true_eq] at okk
  obtain ⟨⟨hk, ha, hv5⟩, hij⟩ := okk
  obtain ⟨a0, rfl⟩ : ∃ c : Nat, a = (c : Int) := ⟨a.toNat, by omega⟩
  have ha0 : a0 < 3 := by omega
  have Pi := (P i0 hi0).2.2 a0 ha0
  have Vl := (V.2 i0 hi0).2.2.2 a0 ha0
  obtain ⟨E, bb, ej⟩ : JoE B h a0 (if isG k = true then -1 else j) (jE lw hg k j a0).1 (jE lw hg k j a0).2 ∧ bd104 (lw a0 i0 : Int) (hg a0 i0 : Int) (jE lw hg k j a0).1 (jE lw hg k j a0).2 ∧ (if isG k = true then 12 else j) = ((jNew k j : Nat) : Int) ∧ (jNew k j < pl ∨ jNew k j = 12) := by
    unfold jE jNew
    cases g : isG k
    · rw [g] at oj
      obtain ⟨z, hz, rfl⟩ := isPl_c (oj.resolve_left Bool.false_ne_true)
      have Pj := (P z hz).2.2 a0 ha0
      have Vj := (V.2 z hz).2.2.2 a0 ha0
      refine ⟨Or.inr ⟨z, rfl, by omega, Pj.2.1.symm, Pj.2.2.symm⟩, ⟨by omega, by omega, ?_, ?_⟩, rfl, Or.inl hz⟩
      · show 0 ≤ ((lw a0 z : Nat) : Int) ∧ ((lw a0 z : Nat) : Int) ≤ 104
        omega
      · show 0 ≤ ((hg a0 z : Nat) : Int) ∧ ((hg a0 z : Nat) : Int) ≤ 104
        omega
    · exact ⟨Or.inl ⟨rfl, rfl, rfl⟩, ⟨by omega, by omega, (show (0 : Int) ≤ 0 ∧ (0 : Int) ≤ 104 by decide), (show (0 : Int) ≤ 0 ∧ (0 : Int) ≤ 104 by decide)⟩, rfl, Or.inr rfl⟩
  refine Ends.eq (b50_87 (n := n) (by (repeat' first | assumption | refine LX.setF _ _ ?_ (by decide +kernel) | refine LX.setS ?_ rfl | refine LX.setA ?_ (by first | assumption | omega))) (by first | assumption | omega)) ?_
  refine Ends.ct l (by decide +kernel) (by decide) (c_isHalf113 (j := j) l (by omega) hk hv5 (by omega) ha0 Pi.2.1 Pi.2.2 E bb) (fun x h3 l3 _ _ _ ⟨e, ex⟩ => ?_)
  subst e
  rw [ex]
  refine Ends.eq (b50_101 (n := n) (by (repeat' first | assumption | refine LX.setF _ _ ?_ (by decide +kernel) | refine LX.setS ?_ rfl | refine LX.setA ?_ (by first | assumption | omega))) (by first | assumption | omega)) ?_
  refine Ends.need l3 (by omega) hlf (fun h4 => ?_) (fun h4 => Ends.thn rfl (KE _ _ ⟨rfl, Or.inr (Or.inr (Or.inl ⟨rfl, c0, of_decide_eq_false h4⟩))⟩))
  have d4 := of_decide_eq_true h4
  refine Ends.eq (b50_112 (n := n) (by (repeat' first | assumption | refine LX.setF _ _ ?_ (by decide +kernel) | refine LX.setS ?_ rfl | refine LX.setA ?_ (by first | assumption | omega))) (by first | assumption | omega)) ?_
  rw [e4]
  refine Ends.state l3 (by omega) (p := decide (jn < 24)) (lt_d (m := 24)) (fun hl => ?_) (fun hl => Ends.thn rfl (KE _ _ ⟨rfl, Or.inr (Or.inr (Or.inr ⟨rfl, c0, d4, by have := of_decide_eq_false hl; omega⟩))⟩))
  have hl := of_decide_eq_true hl
  obtain ⟨s0, es⟩ : ∃ s0, jW k (lw a0 i0 : Int) (hg a0 i0 : Int) (jE lw hg k j a0).1 (jE lw hg k j a0).2 v = 4 * s0 := ⟨_, (Int.mul_ediv_cancel' d4).symm⟩
  refine Ends.eq (b50_132 (n := n) (by (repeat' first | assumption | refine LX.setF _ _ ?_ (by decide +kernel) | refine LX.setS ?_ rfl | refine LX.setA ?_ (by first | assumption | omega))) (by first | assumption | omega)) ?_
  refine Ends.ct l3 (by decide +kernel) (by decide) (c_joint114 (j := j) l3 (by omega) J hl hk hv5 hi0 ha0 ej.1 ej.2 Pi.2.1 Pi.2.2 E bb es) (fun x h5 l5 _ _ _ ⟨e5, J5, g5⟩ => ?_)
  refine Ends.eq (b50_146 (n := n) (by (repeat' first | assumption | refine LX.setF _ _ ?_ (by decide +kernel) | refine LX.setS ?_ rfl | refine LX.setA ?_ (by first | assumption | omega))) (by first | assumption | omega)) ?_
  exact Ends.sm (K _ _ ⟨c0, hl, s0, es, e5, J5, g5⟩)
theorem c_settle83 {old : Nat → Nat → Int} (l : LX B n h) (hd : 18 ≤ d) (J : AsJ B h pl jn ja jb jx js) (hs : ∀ x b, x < pl → b < 3 → hv h (B + 120) (3 * x + b) = old b x ∧ -1000000 ≤ old b x ∧ old b x ≤ 1000000) :
    Vt 0 (cll PP (ev PP (gsF gv) B) d 83 [(2, rf (B + 0))] h) (fun v h' => Agr (stW B) h h' ∧ ((v = 2 ∧ ¬ TiAll jn ja jb jx js none0 ∧ ∀ k, hv h' (B + 120) k = hv h (B + 120) k) ∨ ∃ ρ α, (∀ b, b < 3 → TieR pl jn ja jb (eS jb js) (aC' jx none0 b) (ρ b) (α b) false) ∧ (∀ x b, x < pl → b < 3 → hv h' (B + 120) (3 * x + b) = stN ρ α old b x) ∧ ((v = 0 ∧ ∀ x b, x < pl → b < 3 → ρ b x = 12) ∨ (v = 1 ∧ ∃ x b, x < pl ∧ b < 3 ∧ ρ b x ≠ 12)))) := by
  refine Vt.inq (D := 17) hd (Nat.le_of_ble_eq_true rfl) rfl (fun d hd Q K => ?_)
  refine Ends.eq (b83_0 (n := n) (by (repeat' first | assumption | refine LX.setF _ _ ?_ (by decide +kernel) | refine LX.setS ?_ rfl | refine LX.setA ?_ (by first | assumption | omega))) (by first | assumption | omega)) ?_
  refine Ends.ct l (by decide +kernel) (by decide) (c_settle119 l (by omega) J hs) (fun x h1 l1 _ _ _ r => ?_)
  refine Ends.eq (b83_7 (n := n) (by (repeat' first | assumption | refine LX.setF _ _ ?_ (by decide +kernel) | refine LX.setS ?_ rfl | refine LX.setA ?_ (by first | assumption | omega))) (by first | assumption | omega)) ?_
  exact Ends.sm (K _ _ r)
theorem c_least53 (l : LX B n h) (hd : 18 ≤ d) (hk32 : -2147483648 ≤ k ∧ k < 2147483648) (J : AsJ B h pl jn ja jb jx js) :
    Vt 0 (cll PP (ev PP (gsF gv) B) d 53 [(2, rf (B + 0)), (0, k)] h) (fun x h' => Agr (leW B) h h' ∧ LeS jn ja jb jx js k x) := by
  refine Vt.inq (D := 17) hd (Nat.le_of_ble_eq_true rfl) rfl (fun d hd Q K => ?_)
  refine Ends.eq (b53_0 (n := n) (by (repeat' first | assumption | refine LX.setF _ _ ?_ (by decide +kernel) | refine LX.setS ?_ rfl | refine LX.setA ?_ (by first | assumption | omega))) (by first | assumption | omega)) ?_
  refine Ends.ct l (by decide +kernel) (by decide) (c_least115 l (by omega) hk32 J) (fun x h1 l1 _ _ _ r => ?_)
  refine Ends.eq (b53_8 (n := n) (by (repeat' first | assumption | refine LX.setF _ _ ?_ (by decide +kernel) | refine LX.setS ?_ rfl | refine LX.setA ?_ (by first | assumption | omega))) (by first | assumption | omega)) ?_
  exact Ends.sm (K _ _ r)
theorem c_clash7 (l : LX B n h) (hd : 23 ≤ d) (hn0 : 0 < n) (hn : n ≤ 52) (m : TbC B h) (b : BdC B n h is cl S) (R : Reg B n h) (P : AsP B h pl bd wy sh lw hg) (V : AsV n is M pl bd wy sh lw hg) (hM : M ≤ 1000000) (e3 : hv h (B + 118) 3 = (pl : Int)) (hk32 : -2147483648 ≤ k ∧ k < 2147483648) :
    Vt 0 (cll PP (ev PP (gsF gv) B) d 7 [(2, rf (B + 0)), (0, k)] h) (fun x h' => ClA (MtI n S bd wy sh) pl k x ∧ ScE B n (clW B h) 2 (24 * n * n + 24 * n * n) h h') := by
  refine Vt.inq (D := 22) hd (Nat.le_of_ble_eq_true rfl) rfl (fun d hd Q K => ?_)
  refine Ends.eq (b7_0 (n := n) (by (repeat' first | assumption | refine LX.setF _ _ ?_ (by decide +kernel) | refine LX.setS ?_ rfl | refine LX.setA ?_ (by first | assumption | omega))) (by first | assumption | omega)) ?_
  refine Ends.ct l (by decide +kernel) (by decide) (c_clash109 l (by omega) hn0 hn m b R P V hM e3 hk32) (fun x h1 l1 _ _ _ r => ?_)
  refine Ends.eq (b7_8 (n := n) (by (repeat' first | assumption | refine LX.setF _ _ ?_ (by decide +kernel) | refine LX.setS ?_ rfl | refine LX.setA ?_ (by first | assumption | omega))) (by first | assumption | omega)) ?_
  exact Ends.sm (K _ _ r)
theorem and2 {p q : Bool} : cond (tst 0 (if p = true then (1 : Int) else 0) 0) (0 : Int) (cond (tst 0 (if q = true then (1 : Int) else 0) 0) 0 1) = if (p && q) = true then 1 else 0 := by cases p <;> cases q <;> rfl
theorem and3 {p q r : Bool} : cond (tst 0 (if p = true then (1 : Int) else 0) 0) (0 : Int) (cond (tst 0 (if q = true then (1 : Int) else 0) 0) 0 (cond (tst 0 (if r = true then (1 : Int) else 0) 0) 0 1)) = if (p && (q && r)) = true then 1 else 0 := by cases p <;> cases q <;> cases r <;> rfl
theorem c_slide88 (l : LX B n h) (hd : 20 ≤ d) (P : AsP B h pl bd wy sh lw hg) (V : AsV n is M pl bd wy sh lw hg) (hM : M ≤ 1000000) (J : AsJ B h pl jn ja jb jx js) :
    Opx 0 (cll PP (ev PP (gsF gv) B) d 88 [(2, rf (B + 0)), (0, i), (0, a), (0, y)] h) (fun x h' => isPl pl i = true ∧ ((0 ≤ a ∧ a ≤ 2) ∧ -500 ≤ y ∧ y ≤ 500) ∧ Agr (slW B) h h' ∧ ∃ G, GoG pl jn ja jb jx a.toNat i.toNat G ∧ x = ((cntN G pl : Nat) : Int) ∧ ∀ x b, x < pl → b < 3 → hv h' (B + 120) (3 * x + b) = if b = a.toNat ∧ G x = true then sh b x + y else sh b x)
      (fun c q => q = h ∧ ((c = 31 ∧ isPl pl i = false) ∨ (c = 27 ∧ isPl pl i = true ∧ ¬ ((0 ≤ a ∧ a ≤ 2) ∧ -500 ≤ y ∧ y ≤ 500)))) := by
  have hp := V.1
  refine Opx.inq (D := 19) hd (Nat.le_of_ble_eq_true rfl) rfl (fun d hd Q K KE => ?_)
  refine Ends.eq (b88_0 (n := n) (by (repeat' first | assumption | refine LX.setF _ _ ?_ (by decide +kernel) | refine LX.setS ?_ rfl | refine LX.setA ?_ (by first | assumption | omega))) (by first | assumption | omega)) ?_
  refine Ends.there l (by omega) (v47_p J.1 hp) (fun oi => ?_) (fun oi => Ends.thn rfl (KE _ _ ⟨rfl, Or.inl ⟨rfl, oi⟩⟩))
  refine Ends.eq (b88_8 (n := n) (by (repeat' first | assumption | refine LX.setF _ _ ?_ (by decide +kernel) | refine LX.setS ?_ rfl | refine LX.setA ?_ (by first | assumption | omega))) (by first | assumption | omega)) ?_
  rw [v42_d, v42_d]
  refine Ends.need l (by omega) and2 (fun h2 => ?_) (fun h2 => Ends.thn rfl (KE _ _ ⟨rfl, Or.inr ⟨rfl, oi, fun z => ?_⟩⟩))
  rotate_left
  · rw [decide_eq_true z.1, decide_eq_true z.2] at h2
    exact absurd h2 (by decide)
  rw [Bool.and_eq_true, decide_eq_true_eq, decide_eq_true_eq] at h2
  obtain ⟨i0, hi0, rfl⟩ := isPl_c oi
  obtain ⟨a0, rfl⟩ : ∃ c : Nat, a = (c : Int) := ⟨a.toNat, by omega⟩
  have ha0 : a0 < 3 := by omega
  refine Ends.eq (b88_38 (n := n) (by (repeat' first | assumption | refine LX.setF _ _ ?_ (by decide +kernel) | refine LX.setS ?_ rfl | refine LX.setA ?_ (by first | assumption | omega))) (by first | assumption | omega)) ?_
  refine Ends.ct l (by decide +kernel) (by decide) (c_slide120 (i := i0) (a := a0) (old := sh) l (by omega) J hi0 ha0 (fun x b hx hb => ⟨((P x hx).2.2 b hb).1, by have := (V.2 x hx).2.2.2 b hb; omega⟩) (by omega)) (fun x h1 l1 _ _ _ ⟨g1, ρ, α, w, t, hs1, ex⟩ => ?_)
  refine Ends.eq (b88_48 (n := n) (by (repeat' first | assumption | refine LX.setF _ _ ?_ (by decide +kernel) | refine LX.setS ?_ rfl | refine LX.setA ?_ (by first | assumption | omega))) (by first | assumption | omega)) ?_
  have gg : GoG pl jn ja jb jx a0 i0 (fun x => decide (ρ i0 ≠ 12) && decide (ρ x = ρ i0)) := fun x hx => t.go hp hi0 hx
  refine Ends.sm (K _ _ ⟨oi, h2, g1, _, gg, ?_, fun x b hx hb => ?_⟩)
  · rw [ex]
    by_cases z : ρ i0 = 12
    · rw [if_pos z, cntN_none pl (fun x _ => by rw [decide_eq_false (fun y => y z), Bool.false_and])]; rfl
    · have e : cntN (fun x => decide (ρ i0 ≠ 12) && decide (ρ x = ρ i0)) pl = cntN (fun x => decide (ρ x = ρ i0)) pl := cntN_congr pl (fun x _ => by rw [decide_eq_true (show ρ i0 ≠ 12 from z), Bool.true_and])
      rw [if_neg z, e]
  · rw [hs1 x b hx hb]
    have : (b = a0 ∧ ρ i0 ≠ 12 ∧ ρ x = ρ i0) ↔ (b = a0 ∧ (decide (ρ i0 ≠ 12) && decide (ρ x = ρ i0)) = true) := by
      rw [Bool.and_eq_true, decide_eq_true_eq, decide_eq_true_eq]
    by_cases z : b = a0 ∧ ρ i0 ≠ 12 ∧ ρ x = ρ i0
    · rw [if_pos z]
      exact (if_pos (this.mp z)).symm
    · rw [if_neg z]
      exact (if_neg (fun y => z (this.mpr y))).symm
theorem c_shift85 (l : LX B n h) (hd : 12 ≤ d) (P : AsP B h pl bd wy sh lw hg) (hp : pl ≤ 12) (e3 : hv h (B + 118) 3 = (pl : Int)) :
    Opx 0 (cll PP (ev PP (gsF gv) B) d 85 [(2, rf (B + 0)), (0, i), (0, a)] h) (fun x h' => isPl pl i = true ∧ (0 ≤ a ∧ a ≤ 2) ∧ x = sh a.toNat i.toNat ∧ h' = h)
      (fun c q => q = h ∧ ((c = 31 ∧ isPl pl i = false) ∨ (c = 27 ∧ isPl pl i = true ∧ ¬ (0 ≤ a ∧ a ≤ 2)))) := by
  refine Opx.inq (D := 11) hd (Nat.le_of_ble_eq_true rfl) rfl (fun d hd Q K KE => ?_)
  refine Ends.eq (b85_0 (n := n) (by (repeat' first | assumption | refine LX.setF _ _ ?_ (by decide +kernel) | refine LX.setS ?_ rfl | refine LX.setA ?_ (by first | assumption | omega))) (by first | assumption | omega)) ?_
  refine Ends.there l (by omega) (v47_p e3 hp) (fun oi => ?_) (fun oi => Ends.thn rfl (KE _ _ ⟨rfl, Or.inl ⟨rfl, oi⟩⟩))
  refine Ends.eq (b85_8 (n := n) (by (repeat' first | assumption | refine LX.setF _ _ ?_ (by decide +kernel) | refine LX.setS ?_ rfl | refine LX.setA ?_ (by first | assumption | omega))) (by first | assumption | omega)) ?_
  refine Ends.need l (by omega) v42_d (fun h2 => ?_) (fun h2 => Ends.thn rfl (KE _ _ ⟨rfl, Or.inr ⟨rfl, oi, of_decide_eq_false h2⟩⟩))
  have h2 := of_decide_eq_true h2
  refine Ends.eq (b85_17 (n := n) (by (repeat' first | assumption | refine LX.setF _ _ ?_ (by decide +kernel) | refine LX.setS ?_ rfl | refine LX.setA ?_ (by first | assumption | omega))) (by first | assumption | omega)) ?_
  obtain ⟨i0, hi0, rfl⟩ := isPl_c oi
  obtain ⟨a0, rfl⟩ : ∃ c : Nat, a = (c : Int) := ⟨a.toNat, by omega⟩
  rw [ix3 (by omega) (by omega), tn, ((P i0 hi0).2.2 a0 (by omega)).1]
  exact Ends.g ⟨by omega, by omega⟩ (Ends.sm (K _ _ ⟨oi, h2, rfl, rfl⟩))
theorem c_sweep97 (l : LX B n h) (hd : 24 ≤ d) (hn0 : 0 < n) (hn : n ≤ 52) (m : TbC B h) (b : BdC B n h is cl S) (R : Reg B n h) (P : AsP B h pl bd wy sh lw hg) (V : AsV n is M pl bd wy sh lw hg) (hM : M ≤ 1000000) (J : AsJ B h pl jn ja jb jx js) :
    Opx 0 (cll PP (ev PP (gsF gv) B) d 97 [(2, rf (B + 0)), (0, i), (0, a), (0, y), (0, t)] h) (fun x h' => isPl pl i = true ∧ swOK a y t ∧ SweA n S pl jn bd wy sh ja jb jx i.toNat a.toNat y t.toNat x ∧ ScE B n (clW B h) 2 (24 * n * n + 24 * n * n) h h')
      (fun c q => q = h ∧ ((c = 31 ∧ isPl pl i = false) ∨ (c = 27 ∧ isPl pl i = true ∧ ¬ swOK a y t))) := by
  have hp := V.1
  refine Opx.inq (D := 23) hd (Nat.le_of_ble_eq_true rfl) rfl (fun d hd Q K KE => ?_)
  refine Ends.eq (b97_0 (n := n) (by (repeat' first | assumption | refine LX.setF _ _ ?_ (by decide +kernel) | refine LX.setS ?_ rfl | refine LX.setA ?_ (by first | assumption | omega))) (by first | assumption | omega)) ?_
  refine Ends.there l (by omega) (v47_p J.1 hp) (fun oi => ?_) (fun oi => Ends.thn rfl (KE _ _ ⟨rfl, Or.inl ⟨rfl, oi⟩⟩))
  refine Ends.eq (b97_8 (n := n) (by (repeat' first | assumption | refine LX.setF _ _ ?_ (by decide +kernel) | refine LX.setS ?_ rfl | refine LX.setA ?_ (by first | assumption | omega))) (by first | assumption | omega)) ?_
  rw [v42_d, v42_d, v42_d]
  refine Ends.need l (by omega) and3 (fun h2 => ?_) (fun h2 => Ends.thn rfl (KE _ _ ⟨rfl, Or.inr ⟨rfl, oi, fun z => ?_⟩⟩))
  rotate_left
  · rw [decide_eq_true z.1, decide_eq_true z.2.1, decide_eq_true z.2.2] at h2
    exact absurd h2 (by decide)
  rw [Bool.and_eq_true, Bool.and_eq_true, decide_eq_true_eq, decide_eq_true_eq, decide_eq_true_eq] at h2
  obtain ⟨oa, oy, ot⟩ := h2
  obtain ⟨i0, hi0, rfl⟩ := isPl_c oi
  obtain ⟨a0, rfl⟩ : ∃ c : Nat, a = (c : Int) := ⟨a.toNat, by omega⟩
  obtain ⟨t0, rfl⟩ : ∃ c : Nat, t = (c : Int) := ⟨t.toNat, by omega⟩
  refine Ends.eq (b97_47 (n := n) (by (repeat' first | assumption | refine LX.setF _ _ ?_ (by decide +kernel) | refine LX.setS ?_ rfl | refine LX.setA ?_ (by first | assumption | omega))) (by first | assumption | omega)) ?_
  refine Ends.ct l (by decide +kernel) (by decide) (c_sweep122 (i := i0) (ax := a0) (tm := t0) l (by omega) hn0 hn m b R P V hM J hi0 (by omega) oy (by omega)) (fun x h1 l1 _ _ _ ⟨r1, r2⟩ => ?_)
  refine Ends.eq (b97_59 (n := n) (by (repeat' first | assumption | refine LX.setF _ _ ?_ (by decide +kernel) | refine LX.setS ?_ rfl | refine LX.setA ?_ (by first | assumption | omega))) (by first | assumption | omega)) ?_
  exact Ends.sm (K _ _ ⟨oi, ⟨oa, oy, ot⟩, r1, r2⟩)
theorem c_bill3 (l : LX B n h) (hd : 12 ≤ d) (b : BdC B n h is cl S) (P : AsP B h pl bd wy sh lw hg) (hp : pl ≤ 12) (e3 : hv h (B + 118) 3 = (pl : Int)) :
    Opx 0 (cll PP (ev PP (gsF gv) B) d 3 [(2, rf (B + 0)), (0, o)] h) (fun x h' => isB is o = true ∧ x = ((cntN (fun x => decide ((bd x : Int) = o)) pl : Nat) : Int) ∧ h' = h)
      (fun c q => q = h ∧ c = 31 ∧ isB is o = false) := by
  refine Opx.inq (D := 11) hd (Nat.le_of_ble_eq_true rfl) rfl (fun d hd Q K KE => ?_)
  refine Ends.eq (b3_0 (n := n) (by (repeat' first | assumption | refine LX.setF _ _ ?_ (by decide +kernel) | refine LX.setS ?_ rfl | refine LX.setA ?_ (by first | assumption | omega))) (by first | assumption | omega)) ?_
  refine Ends.g q44_ok ?_
  refine Ends.there l (by omega) (p := isB is o) (v44_is (fun i hi => (b.1 i hi).1)) (fun ho => ?_) (fun ho => Ends.thn rfl (KE _ _ ⟨rfl, rfl, ho⟩))
  refine Ends.eq (b3_8 (n := n) (by (repeat' first | assumption | refine LX.setF _ _ ?_ (by decide +kernel) | refine LX.setS ?_ rfl | refine LX.setA ?_ (by first | assumption | omega))) (by first | assumption | omega)) ?_
  refine Ends.ct l (by decide +kernel) (by decide) (c_bill107 (b := o) l (by omega) e3 hp (fun x hx => (P x hx).1)) (fun x h1 l1 _ _ _ ⟨e1, ex⟩ => ?_)
  refine Ends.eq (b3_16 (n := n) (by (repeat' first | assumption | refine LX.setF _ _ ?_ (by decide +kernel) | refine LX.setS ?_ rfl | refine LX.setA ?_ (by first | assumption | omega))) (by first | assumption | omega)) ?_
  exact Ends.sm (K _ _ ⟨ho, ex, e1⟩)
/-- the model's slide: all its answers -/
theorem c_slide834x (l : LX B n h) (hd : 12 ≤ d) (P : AsQ B h pl bd wy sh lw hg) (V : AsV n is M pl bd wy sh lw hg) (hM : M ≤ 1000000) (J : AsM B h pl jn ja jb jx js) :
    Vt 0 (cll PP (ev PP (gsF gv) B) d 834 [(2, rf (B + 149)), (0, i), (0, a), (0, y)] h) (fun x h' => (isPl pl i = false ∧ MdA B h 1 x h') ∨ (isPl pl i = true ∧ ¬ ((0 ≤ a ∧ a ≤ 2) ∧ -500 ≤ y ∧ y ≤ 500) ∧ MdA B h 2 x h') ∨ (isPl pl i = true ∧ ((0 ≤ a ∧ a ≤ 2) ∧ -500 ≤ y ∧ y ≤ 500) ∧ Agr (mslW B) h h' ∧ hv h' (B + 149) 0 = 0 ∧ ∃ G, GoG pl jn ja jb jx a.toNat i.toNat G ∧ x = ((cntN G pl : Nat) : Int) ∧ SlM B h' pl sh a.toNat y G)) := by
  have bad : ∀ c : Nat, c ≠ 0 → ∀ d, 10 ≤ d → ∀ Q : Rs → Prop, Q ((0, (0, 0)), hset h (B + 149) 0 (c : Int)) → Ends (ev PP (gsF gv) B d 834 44 [(2, rf (B + 149)), (0, i), (0, a), (0, y), (9, 0), (9, 0)] [(0, 1)] (hset h (B + 149) 0 (c : Int))) Q := fun c hc d hd Q q => by
    have l2 : LX B n (hset h (B + 149) 0 (c : Int)) := LX.setF 149 0 l (by decide +kernel)
    refine Ends.eq (b834_44 (n := n) (by (repeat' first | assumption | refine LX.setF _ _ ?_ (by decide +kernel) | refine LX.setS ?_ rfl | refine LX.setA ?_ (by first | assumption | omega))) (by first | assumption | omega)) ?_
    exact Ends.b0 (fun z => absurd z (by decide)) (fun _ => Ends.sm q)
  cases hi : isPl pl i
  · refine Vt.inq (D := 11) hd (Nat.le_of_ble_eq_true rfl) rfl (fun d hd Q K => ?_)
    refine Ends.eq (b834_0 (n := n) (by (repeat' first | assumption | refine LX.setF _ _ ?_ (by decide +kernel) | refine LX.setS ?_ rfl | refine LX.setA ?_ (by first | assumption | omega))) (by first | assumption | omega)) ?_
    rw [v762_p J.1, hi]
    exact Ends.mbad l (by omega) (c := 1) (by decide) rfl (bad 1 (by decide) _ (by omega) _ (K _ _ (Or.inl ⟨rfl, rfl, rfl⟩)))
  obtain ⟨i0, hi0, rfl⟩ := isPl_c hi
  by_cases ok : (0 ≤ a ∧ a ≤ 2) ∧ -500 ≤ y ∧ y ≤ 500
  rotate_left
  · refine Vt.inq (D := 11) hd (Nat.le_of_ble_eq_true rfl) rfl (fun d hd Q K => ?_)
    refine Ends.eq (b834_0 (n := n) (by (repeat' first | assumption | refine LX.setF _ _ ?_ (by decide +kernel) | refine LX.setS ?_ rfl | refine LX.setA ?_ (by first | assumption | omega))) (by first | assumption | omega)) ?_
    rw [v762_p J.1, hi]
    refine Ends.mbad l (by omega) (c := 2) (by decide) ?_ (bad 2 (by decide) _ (by omega) _ (K _ _ (Or.inr (Or.inl ⟨rfl, ok, rfl, rfl⟩))))
    by_cases h1 : a < 0
    · simp [tst0, tst1, tst2, tst3, tst4, tst5, h1]
    by_cases h2 : 2 < a
    · simp [tst0, tst1, tst2, tst3, tst4, tst5, h2]
    by_cases h3 : y < -500
    · simp [tst0, tst1, tst2, tst3, tst4, tst5, h3]
    have h4 : 500 < y := by omega
    simp [tst0, tst1, tst2, tst3, tst4, tst5, h4]
  obtain ⟨a0, rfl⟩ : ∃ c : Nat, a = (c : Int) := ⟨a.toNat, by omega⟩
  obtain ⟨x, h', e, g, z, G, g1, g2, g3⟩ := c_slide834 (gv := gv) (i := i0) (a := a0) (y := y) (old := sh) l hd J hi0 (by omega) (fun x b hx hb => ⟨((P x hx).2.2 b hb).1, by have := (V.2 x hx).2.2.2 b hb; omega⟩) ok.2
  exact ⟨x, h', e, Or.inr (Or.inr ⟨rfl, ok, g, z, G, g1, g2, g3⟩)⟩
end PUB
