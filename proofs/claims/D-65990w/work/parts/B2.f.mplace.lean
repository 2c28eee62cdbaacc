/-! L3: places of the model: the picture, a new one, bill, shift -/
section BOE
variable {n : Nat} {R : Nat → Bool} {lo mo : Nat → Int} {a : Nat}
theorem BoI.ed (b : BoI n (fun g k _ => g < gN n ∧ k < 4 ∧ R g = true) lo mo) (ha : a < 3) (hex : ∃ g, g < gN n ∧ R g = true) : ∃ v w : Nat, lo a = ((4 * v : Nat) : Int) ∧ mo a = ((4 * w : Nat) : Int) ∧ v ≤ 2 * n ∧ w ≤ 2 * n ∧ EdS false (enP n R a 24) v ∧ EdS true (enP n R a 24) w := by
  obtain ⟨g1, hg1, r1⟩ := hex
  obtain ⟨b1, b2, b3⟩ := b a ha
  have q1 := b1 g1 0 ⟨hg1, by decide, r1⟩
  have c1 := cv2_le (n := n) (k := 0) hg1 (by decide) ha
  have lo' : ∃ g k, (g < gN n ∧ k < 4 ∧ R g = true) ∧ lo a = ((4 * cv2 n g k a : Nat) : Int) := by
    rcases b2 with b2 | ⟨g, k, hp, e⟩
    · exact ⟨g1, 0, ⟨hg1, by decide, r1⟩, by omega⟩
    · exact ⟨g, k, hp, e⟩
  have mo' : ∃ g k, (g < gN n ∧ k < 4 ∧ R g = true) ∧ mo a = ((4 * cv2 n g k a : Nat) : Int) := by
    rcases b3 with b3 | ⟨g, k, hp, e⟩
    · exact ⟨g1, 0, ⟨hg1, by decide, r1⟩, by omega⟩
    · exact ⟨g, k, hp, e⟩
  obtain ⟨g, k, hp, e⟩ := lo'
  obtain ⟨g', k', hp', e'⟩ := mo'
  refine ⟨cv2 n g k a, cv2 n g' k' a, e, e', cv2_le hp.1 hp.2.1 ha, cv2_le hp'.1 hp'.2.1 ha, Or.inr ⟨enP_iff.mpr ⟨g, k, hp.1, hp.2.1, hp.2.2, rfl⟩, fun c hc => ?_⟩, Or.inr ⟨enP_iff.mpr ⟨g', k', hp'.1, hp'.2.1, hp'.2.2, rfl⟩, fun c hc => ?_⟩⟩
  · obtain ⟨x, y, h1, h2, h3, h4⟩ := enP_iff.mp hc
    have := (b1 x y ⟨h1, h2, h3⟩).1
    simp only [Bool.false_eq_true, if_false]
    omega
  · obtain ⟨x, y, h1, h2, h3, h4⟩ := enP_iff.mp hc
    have := (b1 x y ⟨h1, h2, h3⟩).2
    simp only [if_true]
    omega
theorem EdS.none {gr : Bool} (no : ∀ g, g < gN n → R g = false) : EdS gr (enP n R a 24) ((0 : Nat) : Int) := Or.inl ⟨rfl, fun c hc => by
  obtain ⟨x, y, h1, h2, h3, h4⟩ := enP_iff.mp hc
  rw [no x h1] at h3
  exact Bool.false_ne_true h3⟩
end BOE
section MPL
variable {gv : Nat → Int} {B n d : Nat} {h : AH} {is : Nat → Bool} {S : Nat → Nat → Bool} {pl jn : Nat} {bd wy : Nat → Nat} {sh : Nat → Nat → Int} {lw hg : Nat → Nat → Nat} {ja jb jx : Nat → Nat} {js : Nat → Int} {M : Int} {o w : Int}
/-- places of the model -/
def AsQ (B : Nat) (h : AH) (pl : Nat) (bd wy : Nat → Nat) (sh : Nat → Nat → Int) (lw hg : Nat → Nat → Nat) : Prop := ∀ x, x < pl → hv h (B + 205) x = (bd x : Int) ∧ hv h (B + 206) x = (wy x : Int) ∧ ∀ b, b < 3 → hv h (B + 207) (3 * x + b) = sh b x ∧ hv h (B + 208) (3 * x + b) = ((4 * lw b x : Nat) : Int) ∧ hv h (B + 209) (3 * x + b) = ((4 * hg b x : Nat) : Int)
theorem AsQ.agr {W : Nat → Nat → Prop} {q : AH} (P : AsQ B h pl bd wy sh lw hg) (g : Agr W h q) (hW : ∀ c k, B + 205 ≤ c → c ≤ B + 209 → ¬ W c k) : AsQ B q pl bd wy sh lw hg := fun x hx => by
  obtain ⟨p1, p2, p3⟩ := P x hx
  refine ⟨by rw [g.at _ _ (hW _ _ (by omega) (by omega))]; exact p1, by rw [g.at _ _ (hW _ _ (by omega) (by omega))]; exact p2, fun b hb => ?_⟩
  rw [g.at _ _ (hW _ _ (by omega) (by omega)), g.at _ _ (hW _ _ (by omega) (by omega)), g.at _ _ (hW _ _ (by omega) (by omega))]
  exact p3 b hb
/-- is a number a body's -/
def isB (is : Nat → Bool) (o : Int) : Bool := decide (0 ≤ o ∧ o < 10) && is o.toNat
theorem isB_c (hs : isB is o = true) : ∃ i : Nat, i < 10 ∧ o = (i : Int) ∧ is i = true := by
  unfold isB at hs
  rw [Bool.and_eq_true, decide_eq_true_eq] at hs
  exact ⟨o.toNat, by omega, by omega, hs.2⟩
def mplW (B n pl : Nat) : Nat → Nat → Prop := fun c k => wto B n 13 (wN n) c k ∨ c = B + 186 ∨ c = B + 189 ∨ c = B + 201 ∨ c = B + 202 ∨ (c = B + 149 ∧ (k = 78 ∨ k = 120)) ∨ ((c = B + 205 ∨ c = B + 206) ∧ k = pl) ∨ ((c = B + 207 ∨ c = B + 208 ∨ c = B + 209) ∧ 3 * pl ≤ k ∧ k < 3 * pl + 3)
theorem f777 {is : Nat → Bool} {pl : Nat} (hp : pl ≤ 12) : cond (tst 0 (if isB is o = true then (0 : Int) else 1) 0) (cond (tst 2 w 0) (2 : Int) (cond (tst 5 w 47) (cond (tst 1 (pl : Int) 12) (0 : Int) 3) 2)) 1 = (((if isB is o = false then 1 else if ¬ (0 ≤ w ∧ w ≤ 47) then 2 else if pl = 12 then 3 else 0 : Nat) : Nat) : Int) := by
  cases isB is o
  · rfl
  rw [if_pos rfl, if_neg (by decide)]
  by_cases a : w < 0
  · rw [if_pos (by omega)]; simp [tst0, tst1, tst2, tst3, tst4, tst5, a]
  · by_cases b : ¬ 47 < w
    · rw [if_neg (by omega)]
      by_cases c : pl = 12
      · rw [if_pos c, c]; simp [tst0, tst1, tst2, tst3, tst4, tst5, a, b]
      · have : ¬ ((pl : Nat) : Int) = 12 := by omega
        rw [if_neg c]; simp [tst0, tst1, tst2, tst3, tst4, tst5, a, b, this]
    · have b := Classical.not_not.mp b
      rw [if_pos (by omega)]; simp [tst0, tst1, tst2, tst3, tst4, tst5, a, b]
theorem c_place777 (l : LX B n h) (hd : 14 ≤ d) (hn : n ≤ 52) (m : TbM B h) (b : BdM B n h is S) (P : AsQ B h pl bd wy sh lw hg) (V : AsV n is M pl bd wy sh lw hg) (e120 : hv h (B + 149) 120 = (pl : Int)) (w32' : -2147483648 ≤ w ∧ w < 2147483648) :
    Vt 0 (cll PP (ev PP (gsF gv) B) d 777 [(2, rf (B + 149)), (0, o), (0, w)] h) (fun v h' => (isB is o = false ∧ MdA B h 1 v h') ∨ (isB is o = true ∧ ¬ (0 ≤ w ∧ w ≤ 47) ∧ MdA B h 2 v h') ∨ (isB is o = true ∧ (0 ≤ w ∧ w ≤ 47) ∧ pl = 12 ∧ MdA B h 3 v h') ∨ (isB is o = true ∧ (0 ≤ w ∧ w ≤ 47) ∧ pl < 12 ∧ v = (pl : Int) ∧ hv h' (B + 149) 120 = ((pl + 1 : Nat) : Int) ∧ (∃ (T : Nat → Bool) (lo hi : Nat → Nat), TuR n w.toNat (S o.toNat) T ∧ (∀ a, a < 3 → EdS false (enP n T a 24) (lo a) ∧ EdS true (enP n T a 24) (hi a)) ∧ AsQ B h' (pl + 1) (ex1 bd pl o.toNat) (ex1 wy pl w.toNat) (fun a => ex1 (sh a) pl 0) (fun a => ex1 (lw a) pl (lo a)) (fun a => ex1 (hg a) pl (hi a))) ∧ Agr (mplW B n pl) (hset h (B + 149) 0 0) h')) := by
  have hp := V.1
  refine Vt.inq (D := 13) hd (Nat.le_of_ble_eq_true rfl) rfl (fun d hd Q K => ?_)
  obtain ⟨v1, v2⟩ := v758_is (o := o) (fun i hi => (b.1 i hi).1)
  have v2' : v758 B h o = if isB is o = true then 0 else 1 := v2
  refine Ends.eq (b777_0 (n := n) (by (repeat' first | assumption | refine LX.setF _ _ ?_ (by decide +kernel) | refine LX.setS ?_ rfl | refine LX.setA ?_ (by first | assumption | omega))) (by first | assumption | omega)) ?_
  refine Ends.g v1 ?_
  obtain ⟨c0, ec⟩ : ∃ c : Nat, c = (if isB is o = false then 1 else if ¬ (0 ≤ w ∧ w ≤ 47) then 2 else if pl = 12 then 3 else 0) := ⟨_, rfl⟩
  rw [v2', e120, f777 hp, ← ec]
  refine Ends.fails l (by omega) rfl ?_
  have bad : ∀ c : Nat, c ≠ 0 → Q ((0, (0, 0)), hset h (B + 149) 0 (c : Int)) → Ends (ev PP (gsF gv) B d 777 44 [(2, rf (B + 149)), (0, o), (0, w), (9, 0)] [(0, if c = 0 then 0 else 1)] (hset h (B + 149) 0 (c : Int))) Q := fun c hc q => by
    have l2 : LX B n (hset h (B + 149) 0 (c : Int)) := LX.setF 149 0 l (by decide +kernel)
    rw [if_neg hc]
    refine Ends.eq (b777_44 (n := n) (by (repeat' first | assumption | refine LX.setF _ _ ?_ (by decide +kernel) | refine LX.setS ?_ rfl | refine LX.setA ?_ (by first | assumption | omega))) (by first | assumption | omega)) ?_
    exact Ends.b0 (fun z => absurd z (by decide)) (fun _ => Ends.sm q)
  by_cases hs : isB is o = false
  · rw [show c0 = 1 by rw [ec, if_pos hs]]
    exact bad 1 (by decide) (K _ _ (Or.inl ⟨hs, rfl, rfl⟩))
  have ht : isB is o = true := by cases e : isB is o; exact absurd e hs; rfl
  rw [if_neg hs] at ec
  by_cases hw : 0 ≤ w ∧ w ≤ 47
  rotate_left
  · rw [show c0 = 2 by rw [ec, if_pos hw]]
    exact bad 2 (by decide) (K _ _ (Or.inr (Or.inl ⟨ht, hw, rfl, rfl⟩)))
  rw [if_neg (fun z => z hw)] at ec
  by_cases p12 : pl = 12
  · rw [show c0 = 3 by rw [ec, if_pos p12]]
    exact bad 3 (by decide) (K _ _ (Or.inr (Or.inr (Or.inl ⟨ht, hw, p12, rfl, rfl⟩))))
  rw [if_neg p12] at ec
  subst ec
  rw [if_pos rfl]
  obtain ⟨b0, hb, rfl, ib⟩ := isB_c ht
  obtain ⟨w0, rfl⟩ : ∃ k : Nat, w = (k : Int) := ⟨w.toNat, by omega⟩
  have hw0 : w0 < 48 := by omega
  have hpl : pl < 12 := by omega
  have l0 : LX B n (hset h (B + 149) 0 ((0 : Nat) : Int)) := LX.setF 149 0 l (by decide +kernel)
  have a0 : Agr (fun c k => c = B + 149 ∧ k = 0) h (hset h (B + 149) 0 ((0 : Nat) : Int)) := Agr.rf.set ⟨rfl, rfl⟩
  have bb0 : BdM B n (hset h (B + 149) 0 ((0 : Nat) : Int)) is S := b.fset 0 0
  have m0 : TbM B (hset h (B + 149) 0 ((0 : Nat) : Int)) := m.agr a0 (fun c k h1 h2 h3 z => by omega)
  have e0 : hv (hset h (B + 149) 0 ((0 : Nat) : Int)) (B + 149) 120 = (pl : Int) := by rw [hv_set_ne (by omega)]; exact e120
  have P0 : AsQ B (hset h (B + 149) 0 ((0 : Nat) : Int)) pl bd wy sh lw hg := P.agr a0 (fun c k h1 h2 z => by omega)
  have K0 : ∀ v h', v = (pl : Int) → hv h' (B + 149) 120 = ((pl + 1 : Nat) : Int) → (∃ (T : Nat → Bool) (lo hi : Nat → Nat), TuR n w0 (S b0) T ∧ (∀ a, a < 3 → EdS false (enP n T a 24) (lo a) ∧ EdS true (enP n T a 24) (hi a)) ∧ AsQ B h' (pl + 1) (ex1 bd pl b0) (ex1 wy pl w0) (fun a => ex1 (sh a) pl 0) (fun a => ex1 (lw a) pl (lo a)) (fun a => ex1 (hg a) pl (hi a))) → Agr (mplW B n pl) (hset h (B + 149) 0 ((0 : Nat) : Int)) h' → Q ((0, (0, v)), h') := fun v h' h1 h2 h3 h4 => K _ _ (Or.inr (Or.inr (Or.inr ⟨ht, hw, hpl, h1, h2, h3, h4⟩)))
  generalize hset h (B + 149) 0 ((0 : Nat) : Int) = h0 at l0 bb0 m0 e0 P0 K0 ⊢
  refine Ends.eq (b777_44 (n := n) (by (repeat' first | assumption | refine LX.setF _ _ ?_ (by decide +kernel) | refine LX.setS ?_ rfl | refine LX.setA ?_ (by first | assumption | omega))) (by first | assumption | omega)) ?_
  rw [e0, tn, an0, an0]
  refine Ends.b0 (fun _ => Ends.g ⟨by omega, by omega⟩ ?_) (fun z => absurd rfl z)
  have l2 : LX B n (hset (hset h0 (B + 205) pl (b0 : Int)) (B + 206) pl (w0 : Int)) := LX.setS (LX.setS l0 rfl) rfl
  have g2 : Agr (fun c k => (c = B + 205 ∨ c = B + 206) ∧ k = pl) h0 (hset (hset h0 (B + 205) pl (b0 : Int)) (B + 206) pl (w0 : Int)) := (Agr.rf.set ⟨Or.inl rfl, rfl⟩).set ⟨Or.inr rfl, rfl⟩
  refine Ends.cv l2 (by decide +kernel) (c_turnM (s := b0) (t := 13) (w := w0) (dx := 0) (dy := 0) (dz := 0) l2 (by omega) hn (by omega) (by decide) (by omega) (m0.agr g2 (fun c k h1 h2 h3 z => by omega)) (((bb0.1 b0 hb).2 ib).agr g2 (fun k hk z => by omega)) hw0 (by omega) (by omega) (by omega)) (fun h3 l3 _ _ _ ⟨g3, ⟨T, s3, t3⟩, _, _⟩ => ?_)
  have t3' : TuR n w0 (S b0) T := fun g hg => by
    rw [t3 g hg]
    exact ⟨fun ⟨g0, x1, x2, x3⟩ => ⟨g0, x1, x2, x3⟩, fun ⟨g0, x1, x2, x3⟩ => ⟨g0, x1, x2, x3⟩⟩
  have m3 : TbM B h3 := (m0.agr g2 (fun c k h1 h2 h3 z => by omega)).agr g3 (fun c k h1 h2 h3 z => by unfold wTurn wto at z; omega)
  refine Ends.eq (b777_80 (n := n) (by (repeat' first | assumption | refine LX.setF _ _ ?_ (by decide +kernel) | refine LX.setS ?_ rfl | refine LX.setA ?_ (by first | assumption | omega))) (by first | assumption | omega)) ?_
  refine Ends.cv l3 (by decide +kernel) (c_bounds561 (s := 13) l3 (by omega) hn (by decide) m3 s3) (fun h4 l4 _ _ _ ⟨g4, lo, mo, bo, v4⟩ => ?_)
  refine Ends.eq (b777_86 (n := n) (by (repeat' first | assumption | refine LX.setF _ _ ?_ (by decide +kernel) | refine LX.setS ?_ rfl | refine LX.setA ?_ (by first | assumption | omega))) (by first | assumption | omega)) ?_
  have s4 : MB B n h4 13 T := s3.agr g4 (fun k hk z => by unfold boW at z; omega)
  have G4 : Agr (mplW B n pl) h0 h4 := ((g2.sub (fun c k z => by unfold mplW; omega)).tr g3 (fun c k z => by unfold wTurn at z; unfold mplW; rcases z with z | z | z <;> simp_all)).tr g4 (fun c k z => by unfold boW at z; unfold mplW; omega)
  have e4 : ∀ q, Agr (tri (B + 207) (B + 208) (B + 209) pl) h4 q → hv q (B + 149) 120 = (pl : Int) := fun q gq => by
    rw [gq.at _ _ (by unfold tri; omega), g4.at _ _ (by unfold boW; omega), g3.at _ _ (by unfold wTurn wto; omega), g2.at _ _ (by omega)]
    exact e0
  -- what the cells get
  obtain ⟨em, ee, lo2, hi2, ll, lh⟩ : ∃ (em : Int) (_ : (em = 1 ∧ ∀ g, g < gN n → T g = false) ∨ (em = 0 ∧ ∃ g, g < gN n ∧ T g = true)) (lo2 hi2 : Nat → Nat), (∀ a, a < 3 → EdS false (enP n T a 24) (lo2 a) ∧ cond (tst 0 em 0) (lo a) 0 = ((4 * lo2 a : Nat) : Int)) ∧ (∀ a, a < 3 → EdS true (enP n T a 24) (hi2 a) ∧ cond (tst 0 em 0) (mo a) 0 = ((4 * hi2 a : Nat) : Int)) := by
    by_cases ex : ∃ g, g < gN n ∧ T g = true
    · have q := fun a ha => bo.ed (a := a) ha ex
      refine ⟨0, Or.inr ⟨rfl, ex⟩, fun a => (lo a / 4).toNat, fun a => (mo a / 4).toNat, fun a ha => ?_, fun a ha => ?_⟩
      · obtain ⟨v, w, q1, q2, q3, q4, q5, q6⟩ := q a ha
        have : (lo a / 4).toNat = v := by omega
        dsimp only
        rw [this]
        exact ⟨q5, q1⟩
      · obtain ⟨v, w, q1, q2, q3, q4, q5, q6⟩ := q a ha
        have : (mo a / 4).toNat = w := by omega
        dsimp only
        rw [this]
        exact ⟨q6, q2⟩
    · have no : ∀ g, g < gN n → T g = false := fun g hg => by
        cases e : T g
        · rfl
        · exact absurd ⟨g, hg, e⟩ ex
      exact ⟨1, Or.inl ⟨rfl, no⟩, fun _ => 0, fun _ => 0, fun a ha => ⟨EdS.none no, rfl⟩, fun a ha => ⟨EdS.none no, rfl⟩⟩
  have emu : ∀ v : Int, ((v = 1 ∧ ∀ g, g < gN n → T g = false) ∨ (v = 0 ∧ ∃ g, g < gN n ∧ T g = true)) → v = em := fun v hv' => by
    rcases hv' with ⟨x1, x2⟩ | ⟨x1, g, x2, x3⟩ <;> rcases ee with ⟨y1, y2⟩ | ⟨y1, g', y2, y3⟩
    · omega
    · rw [x2 g' y2] at y3; exact absurd y3 Bool.false_ne_true
    · rw [y2 g x2] at x3; exact absurd x3 Bool.false_ne_true
    · omega
  have em01 : em = 0 ∨ em = 1 := by rcases ee with ⟨y1, _⟩ | ⟨y1, _⟩ <;> omega
  have key : ∀ (r a : Nat) (q : AH), a + r = 3 → LX B n q → Agr (tri (B + 207) (B + 208) (B + 209) pl) h4 q → (∀ x, x < a → hv q (B + 207) (3 * pl + x) = 0 ∧ hv q (B + 208) (3 * pl + x) = ((4 * lo2 x : Nat) : Int) ∧ hv q (B + 209) (3 * pl + x) = ((4 * hi2 x : Nat) : Int)) → Ends (ev PP (gsF gv) B d 777 88 [(2, rf (B + 149)), (0, (b0 : Int)), (0, (w0 : Int)), (0, (a : Int))] [] q) Q := by
    intro r
    induction r with
    | zero =>
      intro a q ha lq gq lo
      obtain rfl : a = 3 := by omega
      refine Ends.eq (b777_88 (n := n) (by (repeat' first | assumption | refine LX.setF _ _ ?_ (by decide +kernel) | refine LX.setS ?_ rfl | refine LX.setA ?_ (by first | assumption | omega))) (by first | assumption | omega)) ?_
      rw [e4 q gq, show bop32 96 (pl : Int) 1 = ((pl + 1 : Nat) : Int) from addNN (y := 1) (by omega)]
      refine Ends.b3 (fun _ => Ends.sm (K0 _ _ ((subNN (x := pl + 1) (y := 1) (by omega) (by omega)).trans (by omega)) (hv_set_at ..) ⟨T, lo2, hi2, t3', fun a ha => ⟨(ll a ha).1, (lh a ha).1⟩, fun x hx => ?_⟩ ?_)) (fun z => absurd z (by decide))
      · simp only [hv_na (show B + 205 ≠ B + 149 by omega), hv_na (show B + 206 ≠ B + 149 by omega), hv_na (show B + 207 ≠ B + 149 by omega), hv_na (show B + 208 ≠ B + 149 by omega), hv_na (show B + 209 ≠ B + 149 by omega)]
        by_cases z : x = pl
        · rw [z, ex1_at, ex1_at]
          refine ⟨?_, ?_, fun b hb => ?_⟩
          · rw [gq.at _ _ (by unfold tri; omega), g4.at _ _ (by unfold boW; omega), g3.at _ _ (by unfold wTurn wto; omega), hv_na (by omega)]; exact hv_set_at ..
          · rw [gq.at _ _ (by unfold tri; omega), g4.at _ _ (by unfold boW; omega), g3.at _ _ (by unfold wTurn wto; omega)]; exact hv_set_at ..
          · rw [ex1_at, ex1_at, ex1_at]
            exact lo b hb
        · rw [ex1_ne z, ex1_ne z]
          obtain ⟨p1, p2, p3⟩ := P0 x (by omega)
          refine ⟨?_, ?_, fun b hb => ?_⟩
          · rw [gq.at _ _ (by unfold tri; omega), g4.at _ _ (by unfold boW; omega), g3.at _ _ (by unfold wTurn wto; omega), g2.at _ _ (by omega)]; exact p1
          · rw [gq.at _ _ (by unfold tri; omega), g4.at _ _ (by unfold boW; omega), g3.at _ _ (by unfold wTurn wto; omega), g2.at _ _ (by omega)]; exact p2
          · rw [ex1_ne z, ex1_ne z, ex1_ne z]
            obtain ⟨p4, p5, p6⟩ := p3 b hb
            refine ⟨?_, ?_, ?_⟩
            · rw [gq.at _ _ (by unfold tri; omega), g4.at _ _ (by unfold boW; omega), g3.at _ _ (by unfold wTurn wto; omega), g2.at _ _ (by omega)]; exact p4
            · rw [gq.at _ _ (by unfold tri; omega), g4.at _ _ (by unfold boW; omega), g3.at _ _ (by unfold wTurn wto; omega), g2.at _ _ (by omega)]; exact p5
            · rw [gq.at _ _ (by unfold tri; omega), g4.at _ _ (by unfold boW; omega), g3.at _ _ (by unfold wTurn wto; omega), g2.at _ _ (by omega)]; exact p6
      · exact (G4.tr gq (fun c k z => by unfold tri at z; unfold mplW; omega)).set (by unfold mplW; omega)
    | succ r ih =>
      intro a q ha lq gq lo'
      have ha3 : a < 3 := by omega
      have sq : MB B n q 13 T := s4.agr gq (fun k hk z => by unfold tri at z; omega)
      obtain ⟨va1, va2⟩ := v4 a ha3
      refine Ends.eq (b777_88 (n := n) (by (repeat' first | assumption | refine LX.setF _ _ ?_ (by decide +kernel) | refine LX.setS ?_ rfl | refine LX.setA ?_ (by first | assumption | omega))) (by first | assumption | omega)) ?_
      rw [e4 q gq, ix3 (by omega) ha3, tn, an0]
      refine Ends.b3 (fun z => by omega) (fun _ => Ends.g ⟨by omega, by omega⟩ ?_)
      have l5 : LX B n (hset q (B + 207) (3 * pl + a) 0) := LX.setS lq rfl
      have s5 : MB B n (hset q (B + 207) (3 * pl + a) 0) 13 T := sq.agr (Agr.rf.set (W := fun c _ => c = B + 207) rfl) (fun k _ z => by omega)
      refine Ends.ct l5 (by decide +kernel) (by decide) (c_isEmptyM (s := 13) l5 (by omega) hn (by decide) s5) (fun v5 h5 l5 _ _ _ ⟨e5, d5⟩ => ?_)
      subst e5
      rw [emu v5 d5]
      have k208 : hk (hset q (B + 207) (3 * pl + a) 0) (B + 208) = (2, 36) := l5.1 208 _ rfl
      refine Ends.eq (b777_125 (n := n) (by (repeat' first | assumption | refine LX.setF _ _ ?_ (by decide +kernel) | refine LX.setS ?_ rfl | refine LX.setA ?_ (by first | assumption | omega))) (by first | assumption | omega)) ?_
      have c208 : hv (hset q (B + 207) (3 * pl + a) 0) (B + 201) a = lo a := by rw [hv_na (by omega), gq.at _ _ (by unfold tri; omega)]; exact va1
      rw [ad_rf, k208, tn, tn, an0, c208, (ll a ha3).2, hv_na (show B + 149 ≠ B + 207 by omega), e4 q gq, ix3 (by omega) ha3]
      refine Ends.g (by rcases em01 with rfl | rfl; exact ⟨by omega, by omega⟩; exact trivial) (Ends.g ⟨rf_pos _, rfl, by omega, by show ((3 * pl + a : Nat) : Int) < ((36 : Nat) : Int); omega, by omega⟩ ?_)
      have l6 : LX B n (hset (hset q (B + 207) (3 * pl + a) 0) (B + 208) (3 * pl + a) ((4 * lo2 a : Nat) : Int)) := LX.setS l5 rfl
      have s6 : MB B n (hset (hset q (B + 207) (3 * pl + a) 0) (B + 208) (3 * pl + a) ((4 * lo2 a : Nat) : Int)) 13 T := s5.agr (Agr.rf.set (W := fun c _ => c = B + 208) rfl) (fun k _ z => by omega)
      refine Ends.ct l6 (by decide +kernel) (by decide) (c_isEmptyM (s := 13) l6 (by omega) hn (by decide) s6) (fun v7 h7 l7 _ _ _ ⟨e7, d7⟩ => ?_)
      subst e7
      rw [emu v7 d7]
      have k209 : hk (hset (hset q (B + 207) (3 * pl + a) 0) (B + 208) (3 * pl + a) ((4 * lo2 a : Nat) : Int)) (B + 209) = (2, 36) := l7.1 209 _ rfl
      refine Ends.eq (b777_157 (n := n) (by (repeat' first | assumption | refine LX.setF _ _ ?_ (by decide +kernel) | refine LX.setS ?_ rfl | refine LX.setA ?_ (by first | assumption | omega))) (by first | assumption | omega)) ?_
      have c209 : hv (hset (hset q (B + 207) (3 * pl + a) 0) (B + 208) (3 * pl + a) ((4 * lo2 a : Nat) : Int)) (B + 202) a = mo a := by rw [hv_na (by omega), hv_na (by omega), gq.at _ _ (by unfold tri; omega)]; exact va2
      rw [ad_rf, k209, tn, tn, an0, c209, (lh a ha3).2, w_succ (by omega)]
      refine Ends.g (by rcases em01 with rfl | rfl; exact ⟨by omega, by omega⟩; exact trivial) (Ends.g ⟨rf_pos _, rfl, by omega, by show ((3 * pl + a : Nat) : Int) < ((36 : Nat) : Int); omega, by omega⟩ ?_)
      refine ih (a + 1) _ (by omega) (LX.setS l7 rfl) (((gq.set (by unfold tri; omega)).set (by unfold tri; omega)).set (by unfold tri; omega)) (fun x hx => ?_)
      rw [hv_na (show B + 207 ≠ B + 209 by omega), hv_na (show B + 207 ≠ B + 208 by omega), hv_na (show B + 208 ≠ B + 209 by omega)]
      by_cases z : x = a
      · rw [z, hv_set_at, hv_set_at, hv_set_at]
        exact ⟨rfl, rfl, rfl⟩
      · repeat rw [hv_set_ne (by omega)]
        exact lo' x (by omega)
  exact key 3 0 h4 rfl l4 Agr.rf (fun x hx => absurd hx (by omega))
theorem c_bill559 (l : LX B n h) (hd : 12 ≤ d) (b : BdM B n h is S) (e120 : hv h (B + 149) 120 = (pl : Int)) (hpl : pl ≤ 12) (eb : ∀ x, x < pl → hv h (B + 205) x = (bd x : Int)) : Vt 0 (cll PP (ev PP (gsF gv) B) d 559 [(2, rf (B + 149)), (0, o)] h) (fun x h' => (isB is o = false ∧ MdA B h 1 x h') ∨ (isB is o = true ∧ h' = hset h (B + 149) 0 0 ∧ x = ((cntN (fun x => decide ((bd x : Int) = o)) pl : Nat) : Int))) := by
  refine Vt.inq (D := 11) hd (Nat.le_of_ble_eq_true rfl) rfl (fun d hd Q K => ?_)
  obtain ⟨v1, v2⟩ := v758_is (o := o) (fun i hi => (b.1 i hi).1)
  have v2' : v758 B h o = if isB is o = true then 0 else 1 := v2
  refine Ends.eq (b559_0 (n := n) (by (repeat' first | assumption | refine LX.setF _ _ ?_ (by decide +kernel) | refine LX.setS ?_ rfl | refine LX.setA ?_ (by first | assumption | omega))) (by first | assumption | omega)) ?_
  refine Ends.g v1 ?_
  rw [v2']
  cases hs : isB is o
  · refine Ends.mbad l (by omega) (c := 1) (by decide) rfl ?_
    have l2 : LX B n (hset h (B + 149) 0 ((1 : Nat) : Int)) := LX.setF 149 0 l (by decide +kernel)
    refine Ends.eq (b559_17 (n := n) (by (repeat' first | assumption | refine LX.setF _ _ ?_ (by decide +kernel) | refine LX.setS ?_ rfl | refine LX.setA ?_ (by first | assumption | omega))) (by first | assumption | omega)) ?_
    exact Ends.b0 (fun z => absurd z (by decide)) (fun _ => Ends.sm (K _ _ (Or.inl ⟨hs, rfl, rfl⟩)))
  refine Ends.mok l (by omega) rfl ?_
  have l2 : LX B n (hset h (B + 149) 0 0) := LX.setF 149 0 l (by decide +kernel)
  refine Ends.eq (b559_17 (n := n) (by (repeat' first | assumption | refine LX.setF _ _ ?_ (by decide +kernel) | refine LX.setS ?_ rfl | refine LX.setA ?_ (by first | assumption | omega))) (by first | assumption | omega)) ?_
  refine Ends.b0 (fun _ => ?_) (fun z => absurd rfl z)
  have key : ∀ (r i : Nat), i + r = pl → Ends (ev PP (gsF gv) B d 559 26 [(2, rf (B + 149)), (0, o), (0, ((cntN (fun x => decide ((bd x : Int) = o)) i : Nat) : Int)), (0, (i : Int))] [] (hset h (B + 149) 0 0)) Q := by
    intro r
    induction r with
    | zero =>
      intro i hi
      obtain rfl : i = pl := by omega
      refine Ends.eq (b559_26 (n := n) (by (repeat' first | assumption | refine LX.setF _ _ ?_ (by decide +kernel) | refine LX.setS ?_ rfl | refine LX.setA ?_ (by first | assumption | omega))) (by first | assumption | omega)) ?_
      rw [hv_set_ne (by omega), e120]
      exact Ends.b3 (fun _ => Ends.sm (K _ _ (Or.inr ⟨hs, rfl, rfl⟩))) (fun z => by omega)
    | succ r ih =>
      intro i hi
      have cl := cntN_le (fun x => decide ((bd x : Int) = o)) i
      refine Ends.eq (b559_26 (n := n) (by (repeat' first | assumption | refine LX.setF _ _ ?_ (by decide +kernel) | refine LX.setS ?_ rfl | refine LX.setA ?_ (by first | assumption | omega))) (by first | assumption | omega)) ?_
      rw [hv_set_ne (by omega), e120, tn, hv_na (by omega), eb i (by omega), w_succ (by omega)]
      refine Ends.b3 (fun z => by omega) (fun _ => Ends.g ⟨by omega, by omega⟩ ?_)
      have e : bop32 96 ((cntN (fun x => decide ((bd x : Int) = o)) i : Nat) : Int) (cond (tst 1 (bd i : Int) o) (0 : Int) 1) = ((cntN (fun x => decide ((bd x : Int) = o)) (i + 1) : Nat) : Int) := by
        rw [cntN_s]
        by_cases z : (bd i : Int) = o
        · rw [tst1f z, decide_eq_true z]; exact addNN (y := 1) (by omega)
        · rw [tst1t z, decide_eq_false z]; exact addNN (y := 0) (by omega)
      rw [e]
      clear e
      exact ih (i + 1) (by omega)
  exact key pl 0 (by omega)
theorem c_shift823 {i a : Int} (l : LX B n h) (hd : 12 ≤ d) (P : AsQ B h pl bd wy sh lw hg) (hpl : pl ≤ 12) (e120 : hv h (B + 149) 120 = (pl : Int)) : Vt 0 (cll PP (ev PP (gsF gv) B) d 823 [(2, rf (B + 149)), (0, i), (0, a)] h) (fun x h' => (¬ (0 ≤ i ∧ i < (pl : Int)) ∧ MdA B h 1 x h') ∨ ((0 ≤ i ∧ i < (pl : Int)) ∧ ¬ (0 ≤ a ∧ a ≤ 2) ∧ MdA B h 2 x h') ∨ ((0 ≤ i ∧ i < (pl : Int)) ∧ (0 ≤ a ∧ a ≤ 2) ∧ x = sh a.toNat i.toNat ∧ h' = hset h (B + 149) 0 0)) := by
  refine Vt.inq (D := 11) hd (Nat.le_of_ble_eq_true rfl) rfl (fun d hd Q K => ?_)
  refine Ends.eq (b823_0 (n := n) (by (repeat' first | assumption | refine LX.setF _ _ ?_ (by decide +kernel) | refine LX.setS ?_ rfl | refine LX.setA ?_ (by first | assumption | omega))) (by first | assumption | omega)) ?_
  rw [v762_is e120]
  have go : ∀ c : Nat, c ≠ 0 → Q ((0, (0, 0)), hset h (B + 149) 0 (c : Int)) → Ends (ev PP (gsF gv) B d 823 30 [(2, rf (B + 149)), (0, i), (0, a)] [(0, 1)] (hset h (B + 149) 0 (c : Int))) Q := fun c hc q => by
    have l2 : LX B n (hset h (B + 149) 0 (c : Int)) := LX.setF 149 0 l (by decide +kernel)
    refine Ends.eq (b823_30 (n := n) (by (repeat' first | assumption | refine LX.setF _ _ ?_ (by decide +kernel) | refine LX.setS ?_ rfl | refine LX.setA ?_ (by first | assumption | omega))) (by first | assumption | omega)) ?_
    exact Ends.b0 (fun z => absurd z (by decide)) (fun _ => Ends.sm q)
  by_cases hi : 0 ≤ i ∧ i < (pl : Int)
  rotate_left
  · rw [if_neg hi]
    exact Ends.mbad l (by omega) (c := 1) (by decide) rfl (go 1 (by decide) (K _ _ (Or.inl ⟨hi, rfl, rfl⟩)))
  rw [if_pos hi]
  by_cases ha : 0 ≤ a ∧ a ≤ 2
  rotate_left
  · refine Ends.mbad l (by omega) (c := 2) (by decide) ?_ (go 2 (by decide) (K _ _ (Or.inr (Or.inl ⟨hi, ha, rfl, rfl⟩))))
    by_cases z : a < 0
    · simp [tst0, tst1, tst2, tst3, tst4, tst5, z]
    · have : 2 < a := by omega
      simp [tst0, tst1, tst2, tst3, tst4, tst5, z, this]
  refine Ends.mok l (by omega) ?_ ?_
  · have h1 : ¬ a < 0 := by omega
    have h2 : ¬ 2 < a := by omega
    simp [tst0, tst1, tst2, tst3, tst4, tst5, h1, h2]
  have l2 : LX B n (hset h (B + 149) 0 0) := LX.setF 149 0 l (by decide +kernel)
  refine Ends.eq (b823_30 (n := n) (by (repeat' first | assumption | refine LX.setF _ _ ?_ (by decide +kernel) | refine LX.setS ?_ rfl | refine LX.setA ?_ (by first | assumption | omega))) (by first | assumption | omega)) ?_
  obtain ⟨k, rfl⟩ : ∃ k : Nat, i = (k : Int) := ⟨i.toNat, by omega⟩
  obtain ⟨c, rfl⟩ : ∃ k : Nat, a = (k : Int) := ⟨a.toNat, by omega⟩
  rw [ix3 (by omega) (by omega), tn, hv_na (by omega), ((P k (by omega)).2.2 c (by omega)).1]
  exact Ends.b0 (fun _ => Ends.g ⟨by omega, by omega⟩ (Ends.sm (K _ _ (Or.inr (Or.inr ⟨hi, ha, rfl, rfl⟩))))) (fun z => absurd rfl z)
end MPL
