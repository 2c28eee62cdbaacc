/-! L3: sections, on both sides -/
section SUM4
variable {n : Nat} {f w : Nat → Nat}
theorem sumN_z : ∀ N, (∀ i, i < N → f i = 0) → sumN f N = 0
  | 0, _ => rfl
  | N + 1, h => by
    show sumN f N + f N = 0
    rw [sumN_z N (fun i hi => h i (by omega)), h N (by omega)]
theorem sumN_pick {k : Nat} : ∀ N, k < N → (∀ i, i < N → i ≠ k → f i = 0) → sumN f N = f k
  | 0, h, _ => absurd h (by omega)
  | N + 1, h, z => by
    show sumN f N + f N = f k
    by_cases e : N = k
    · rw [e, sumN_z k (fun i hi => z i (by omega) (by omega))]
      omega
    · rw [sumN_pick N (by omega) (fun i hi => z i (by omega)), z N (by omega) e]
      rfl
theorem sumG4 : sumN w (gN n) = sumN (fun t => sumN (fun z => sumN (fun y => sumN (fun x => w (gI n x y z t)) n) n) n) 24 := by
  rw [← sumG, sumN_prod n (24 * n), sumN_prod n 24]
  exact sumN_congr 24 (fun t ht => sumN_congr n (fun z hz => sumN_congr n (fun y hy => rwW_at hz hy)))
end SUM4
/-- whether grain g is at the section, on its lower side, and in both (one) of the two -/
def seP (n : Nat) (T : Nat → Bool) (ax at_ : Nat) (w : Bool) (g : Nat) : Bool := decide (aC (gSo g) = ax) && (hiC (gSo g) && (decide (gC n g ax + 1 = at_) && (if w = true then T g && nbS n T 0 g else T g != nbS n T 0 g)))
def secS (n : Nat) (T : Nat → Bool) (ax at_ : Nat) (what : Int) : Nat := cntN (seP n T ax at_ (decide (what = 0))) (gN n)
def seX (ax a p : Nat) : Nat := if ax = 0 then a else p
def seY (ax a p q : Nat) : Nat := if ax = 1 then a else if ax = 0 then p else q
def seZ (ax a q : Nat) : Nat := if ax = 2 then a else q
/-- the grain of sort t at p, q, and whether it counts -/
def seF (n : Nat) (T : Nat → Bool) (ax at_ : Nat) (w : Bool) (t p q : Nat) : Nat := if seP n T ax at_ w (gI n (seX ax (at_ - 1) p) (seY ax (at_ - 1) p q) (seZ ax (at_ - 1) q) t) = true then 1 else 0
def seG (n : Nat) (T : Nat → Bool) (ax at_ : Nat) (w : Bool) (t : Nat) : Nat := sumN (fun p => sumN (seF n T ax at_ w t p) n) n
section SECT
variable {gv : Nat → Int} {B n d : Nat} {h : AH} {is : Nat → Bool} {cl : Nat → Nat} {S : Nat → Nat → Bool} {T : Nat → Bool} {o : Int} {ax at_ t p q : Nat} {w : Bool}
theorem seF_le : seF n T ax at_ w t p q ≤ 1 := by
  unfold seF
  split <;> omega
theorem seR_le {k : Nat} : sumN (seF n T ax at_ w t p) k ≤ k := by
  have := sumN_le (f := seF n T ax at_ w t p) (g := fun _ => 1) k (fun i hi => seF_le)
  rw [sumN_c, Nat.one_mul] at this
  exact this
theorem seQ_le (hn : n ≤ 52) {k : Nat} (hk : k ≤ n) : sumN (fun p => sumN (seF n T ax at_ w t p) n) k ≤ 2704 := by
  have := sumN_le (f := fun p => sumN (seF n T ax at_ w t p) n) (g := fun _ => 52) k (fun i hi => Nat.le_trans seR_le hn)
  rw [sumN_c] at this
  omega
theorem seG_le (hn : n ≤ 52) : sumN (seG n T ax at_ w) t ≤ 2704 * t := by
  have := sumN_le (f := seG n T ax at_ w) (g := fun _ => 2704) t (fun i hi => seQ_le hn (Nat.le_refl n))
  rw [sumN_c] at this
  exact this
theorem sec_sum (ha : ax < 3) (h1 : 1 ≤ at_) (h2 : at_ < n) : cntN (seP n T ax at_ w) (gN n) = sumN (seG n T ax at_ w) 24 := by
  rw [← Nat.mul_one (cntN (seP n T ax at_ w) (gN n)), ← sumN_cnt, sumG4]
  refine sumN_congr 24 (fun t ht => ?_)
  have off : ∀ z y x, z < n → y < n → x < n → gc3 ax x y z ≠ at_ - 1 → (if seP n T ax at_ w (gI n x y z t) = true then 1 else 0) = 0 := fun z y x hz hy hx e => by
    rw [if_neg]
    unfold seP
    rw [gC_row ht hz hy hx ha, decide_eq_false (show ¬ gc3 ax x y z + 1 = at_ by omega), Bool.false_and, Bool.and_false, Bool.and_false]
    exact Bool.false_ne_true
  have : ax = 0 ∨ ax = 1 ∨ ax = 2 := by omega
  rcases this with rfl | rfl | rfl
  · rw [sumN_congr (g := fun z => sumN (fun y => if seP n T 0 at_ w (gI n (at_ - 1) y z t) = true then 1 else 0) n) n (fun z hz => sumN_congr n (fun y hy => sumN_pick (k := at_ - 1) n (by omega) (fun x hx e => off z y x hz hy hx e)))]
    exact sumN_swap (F := fun z y => if seP n T 0 at_ w (gI n (at_ - 1) y z t) = true then 1 else 0) n n
  · rw [sumN_congr (g := fun z => sumN (fun x => if seP n T 1 at_ w (gI n x (at_ - 1) z t) = true then 1 else 0) n) n (fun z hz => sumN_pick (f := fun y => sumN (fun x => if seP n T 1 at_ w (gI n x y z t) = true then 1 else 0) n) (k := at_ - 1) n (by omega) (fun y hy e => sumN_z n (fun x hx => off z y x hz hy hx e)))]
    exact sumN_swap (F := fun z x => if seP n T 1 at_ w (gI n x (at_ - 1) z t) = true then 1 else 0) n n
  · rw [sumN_pick (f := fun z => sumN (fun y => sumN (fun x => if seP n T 2 at_ w (gI n x y z t) = true then 1 else 0) n) n) (k := at_ - 1) n (by omega) (fun z hz e => sumN_z n (fun y hy => sumN_z n (fun x hx => off z y x hz hy hx e)))]
    exact sumN_swap (F := fun y x => if seP n T 2 at_ w (gI n x y (at_ - 1) t) = true then 1 else 0) n n
theorem seX_c {a : Nat} : cond (tst 1 ((ax : Nat) : Int) 0) (p : Int) (a : Int) = ((seX ax a p : Nat) : Int) := by
  rw [ct1]
  unfold seX
  by_cases e : ax = 0
  · rw [if_pos e, if_pos (by rw [e]; rfl)]
  · rw [if_neg e, if_neg (show ¬ ((ax : Nat) : Int) = 0 from fun w => e (Int.ofNat.inj w))]
theorem seY_c {a : Nat} : cond (tst 1 ((ax : Nat) : Int) 1) (cond (tst 1 ((ax : Nat) : Int) 0) (q : Int) (p : Int)) (a : Int) = ((seY ax a p q : Nat) : Int) := by
  rw [ct1, ct1]
  unfold seY
  by_cases e : ax = 1
  · rw [if_pos e, if_pos (by rw [e]; rfl)]
  · rw [if_neg e, if_neg (show ¬ ((ax : Nat) : Int) = 1 from fun w => e (Int.ofNat.inj w))]
    by_cases e0 : ax = 0
    · rw [if_pos e0, if_pos (by rw [e0]; rfl)]
    · rw [if_neg e0, if_neg (show ¬ ((ax : Nat) : Int) = 0 from fun w => e0 (Int.ofNat.inj w))]
theorem seZ_c {a : Nat} : cond (tst 1 ((ax : Nat) : Int) 2) (q : Int) (a : Int) = ((seZ ax a q : Nat) : Int) := by
  rw [ct1]
  unfold seZ
  by_cases e : ax = 2
  · rw [if_pos e, if_pos (by rw [e]; rfl)]
  · rw [if_neg e, if_neg (show ¬ ((ax : Nat) : Int) = 2 from fun w => e (Int.ofNat.inj w))]
theorem seX_lt {a : Nat} (h1 : a < n) (h2 : p < n) : seX ax a p < n := by unfold seX; split <;> omega
theorem seY_lt {a : Nat} (h1 : a < n) (h2 : p < n) (h3 : q < n) : seY ax a p q < n := by unfold seY; split; omega; split <;> omega
theorem seZ_lt {a : Nat} (h1 : a < n) (h2 : q < n) : seZ ax a q < n := by unfold seZ; split <;> omega
/-- the grain on the upper side -/
theorem se_nb (ht : t < 24) (ha : ax < 3) (h1 : 1 ≤ at_) (h2 : at_ < n) (hp : p < n) (hq : q < n) (hc : aC t = ax) (hh : hiC t = true) : nbS n T 0 (gI n (seX ax (at_ - 1) p) (seY ax (at_ - 1) p q) (seZ ax (at_ - 1) q) t) = T (gI n (seX ax at_ p) (seY ax at_ p q) (seZ ax at_ q) (nxt t 0)) ∧ gC n (gI n (seX ax (at_ - 1) p) (seY ax (at_ - 1) p q) (seZ ax (at_ - 1) q) t) ax + 1 = at_ := by
  have x1 := seX_lt (ax := ax) (n := n) (a := at_ - 1) (by omega) hp
  have y1 := seY_lt (ax := ax) (n := n) (a := at_ - 1) (by omega) hp hq
  have z1 := seZ_lt (ax := ax) (n := n) (a := at_ - 1) (by omega) hq
  have x2 := seX_lt (ax := ax) (n := n) (a := at_) h2 hp
  have y2 := seY_lt (ax := ax) (n := n) (a := at_) h2 hp hq
  have z2 := seZ_lt (ax := ax) (n := n) (a := at_) h2 hq
  have gx := gX_I (n := n) (x := seX ax (at_ - 1) p) (y := seY ax (at_ - 1) p q) (z := seZ ax (at_ - 1) q) (t := t) x1 ht
  have gy := gY_I (n := n) (x := seX ax (at_ - 1) p) (y := seY ax (at_ - 1) p q) (z := seZ ax (at_ - 1) q) (t := t) x1 y1 ht
  have gz := gZ_I (n := n) (x := seX ax (at_ - 1) p) (y := seY ax (at_ - 1) p q) (z := seZ ax (at_ - 1) q) (t := t) x1 y1 ht
  have gs := gSo_I (n := n) (x := seX ax (at_ - 1) p) (y := seY ax (at_ - 1) p q) (z := seZ ax (at_ - 1) q) (t := t) ht
  have st : ∀ a, stpC t a = if ax = a then 1 else 0 := fun a => by unfold stpC; rw [hc, hh]; rfl
  have three : ax = 0 ∨ ax = 1 ∨ ax = 2 := by omega
  constructor
  · have nb := nbr0_in (n := n) (g := gI n (seX ax (at_ - 1) p) (seY ax (at_ - 1) p q) (seZ ax (at_ - 1) q) t) (x' := seX ax at_ p) (y' := seY ax at_ p q) (z' := seZ ax at_ q) (by
      rw [gx, gs, st]
      rcases three with rfl | rfl | rfl
      · show ((at_ : Nat) : Int) = ((at_ - 1 : Nat) : Int) + 1
        omega
      · show ((p : Nat) : Int) = ((p : Nat) : Int) + 0
        omega
      · show ((p : Nat) : Int) = ((p : Nat) : Int) + 0
        omega) (by
      rw [gy, gs, st]
      rcases three with rfl | rfl | rfl
      · show ((p : Nat) : Int) = ((p : Nat) : Int) + 0
        omega
      · show ((at_ : Nat) : Int) = ((at_ - 1 : Nat) : Int) + 1
        omega
      · show ((q : Nat) : Int) = ((q : Nat) : Int) + 0
        omega) (by
      rw [gz, gs, st]
      rcases three with rfl | rfl | rfl
      · show ((q : Nat) : Int) = ((q : Nat) : Int) + 0
        omega
      · show ((q : Nat) : Int) = ((q : Nat) : Int) + 0
        omega
      · show ((at_ : Nat) : Int) = ((at_ - 1 : Nat) : Int) + 1
        omega) x2 y2 z2
    rw [gs] at nb
    unfold nbS
    rw [nb, decide_eq_true (Int.natCast_nonneg _), Bool.true_and, tn]
  · rw [gC_row ht z1 y1 x1 ha]
    rcases three with rfl | rfl | rfl
    · show at_ - 1 + 1 = at_
      omega
    · show at_ - 1 + 1 = at_
      omega
    · show at_ - 1 + 1 = at_
      omega
theorem c_section81 (l : LX B n h) (hd : 20 ≤ d) (hn : n ≤ 52) (m : TbC B h) (bd : BdC B n h is cl S) {a b v : Int} :
    Opx 0 (cll PP (ev PP (gsF gv) B) d 81 [(2, rf (B + 0)), (0, o), (0, a), (0, b), (0, v)] h) (fun x h' => thS is o = true ∧ ((0 ≤ a ∧ a ≤ 2) ∧ (1 ≤ b ∧ b ≤ (n : Int) - 1) ∧ 0 ≤ v ∧ v ≤ 1) ∧ x = ((secS n (S (rwS o)) a.toNat b.toNat v : Nat) : Int) ∧ h' = h) (fun c q => q = h ∧ ((c = 31 ∧ thS is o = false) ∨ (c = 27 ∧ thS is o = true ∧ ¬ ((0 ≤ a ∧ a ≤ 2) ∧ (1 ≤ b ∧ b ≤ (n : Int) - 1) ∧ 0 ≤ v ∧ v ≤ 1)))) := by
  refine Opx.inq (D := 19) hd (Nat.le_of_ble_eq_true rfl) rfl (fun d hd Q K KE => ?_)
  refine Ends.eq (b81_0 (n := n) (by (repeat' first | assumption | refine LX.setF _ _ ?_ (by decide +kernel) | refine LX.setS ?_ rfl | refine LX.setA ?_ (by first | assumption | omega))) (by first | assumption | omega)) ?_
  refine Ends.sol l (by omega) bd (fun ho => ?_) (fun ho => Ends.thn rfl (KE _ _ ⟨rfl, Or.inl ⟨rfl, ho⟩⟩))
  refine Ends.eq (b81_5 (n := n) (by (repeat' first | assumption | refine LX.setF _ _ ?_ (by decide +kernel) | refine LX.setS ?_ rfl | refine LX.setA ?_ (by first | assumption | omega))) (by first | assumption | omega)) ?_
  rw [show bop32 100 ((n : Nat) : Int) 1 = (n : Int) - 1 from sub32 (by omega) (by omega)]
  refine Ends.need (p := decide ((0 ≤ a ∧ a ≤ 2) ∧ (1 ≤ b ∧ b ≤ (n : Int) - 1) ∧ 0 ≤ v ∧ v ≤ 1)) l (by omega) (by
    rw [v42_in, v42_in, v42_in]
    simp only [ct0, decide_eq_true_eq]
    grind) (fun hp => ?_) (fun hp => Ends.thn rfl (KE _ _ ⟨rfl, Or.inr ⟨rfl, ho, of_decide_eq_false hp⟩⟩))
  have hp := of_decide_eq_true hp
  obtain ⟨s, s2, s3⟩ := bd.sol l ho
  have K2 := fun x e => K x h ⟨ho, hp, e, rfl⟩
  clear K KE
  generalize clS B cl o = s0 at *
  generalize S (rwS o) = T at *
  obtain ⟨ax, rfl⟩ : ∃ k : Nat, a = (k : Int) := ⟨a.toNat, by omega⟩
  obtain ⟨at_, rfl⟩ : ∃ k : Nat, b = (k : Int) := ⟨b.toNat, by omega⟩
  have ha : ax < 3 := by omega
  have h1 : 1 ≤ at_ := by omega
  have h2 : at_ < n := by omega
  rw [tn, tn] at K2
  have at1 : bop32 100 (at_ : Int) 1 = ((at_ - 1 : Nat) : Int) := by rw [show bop32 100 (at_ : Int) 1 = (at_ : Int) - 1 from sub32 (by omega) (by omega)]; omega
  have lt : ∀ (c t : Nat) (u9 u10 u11 u12 u13 : AV), t + c = 24 → Ends (ev PP (gsF gv) B d 81 57 [(2, rf (B + 0)), (0, o), (0, (ax : Int)), (0, (at_ : Int)), (0, v), (2, rf s0), (0, ((sumN (seG n T ax at_ true) t : Nat) : Int)), (0, ((sumN (seG n T ax at_ false) t : Nat) : Int)), (0, (t : Int)), u9, u10, u11, u12, u13] [] h) Q := by
    intro c
    induction c with
    | zero =>
      intro t u9 u10 u11 u12 u13 ht
      obtain rfl : t = 24 := by omega
      refine Ends.eq (b81_57 (n := n) (by (repeat' first | assumption | refine LX.setF _ _ ?_ (by decide +kernel) | refine LX.setS ?_ rfl | refine LX.setA ?_ (by first | assumption | omega))) (by first | assumption | omega)) ?_
      refine Ends.b3 (fun _ => Ends.sm (K2 _ ?_)) (fun z => absurd z (by decide))
      rw [ct1]
      unfold secS
      by_cases v0 : v = 0
      · rw [if_pos v0, decide_eq_true v0, sec_sum ha h1 h2]
      · rw [if_neg v0, decide_eq_false v0, sec_sum ha h1 h2]
    | succ c ih =>
      intro t u9 u10 u11 u12 u13 ht
      have ht' : t < 24 := by omega
      obtain ⟨-, -, -, m4, -, m6, m7, -⟩ := m.1 t ht'
      have mn := (m7 0 (by decide)).1
      have hnx : nxt t 0 < 24 := nxt_lt ⟨t, ht'⟩ ⟨0, by decide⟩
      have next : ∀ (x6 x7 : Int) (u9 u10 u11 u12 u13 : AV), x6 = ((sumN (seG n T ax at_ true) (t + 1) : Nat) : Int) → x7 = ((sumN (seG n T ax at_ false) (t + 1) : Nat) : Int) → Ends (ev PP (gsF gv) B d 81 287 [(2, rf (B + 0)), (0, o), (0, (ax : Int)), (0, (at_ : Int)), (0, v), (2, rf s0), (0, x6), (0, x7), (0, (t : Int)), u9, u10, u11, u12, u13] [] h) Q := fun x6 x7 u9 u10 u11 u12 u13 e6 e7 => by
        refine Ends.eq (b81_287 (n := n) (by (repeat' first | assumption | refine LX.setF _ _ ?_ (by decide +kernel) | refine LX.setS ?_ rfl | refine LX.setA ?_ (by first | assumption | omega))) (by first | assumption | omega)) ?_
        rw [w_succ (by omega), e6, e7]
        exact ih (t + 1) u9 u10 u11 u12 u13 (by omega)
      have skip : ¬ (aC t = ax ∧ hiC t = true) → ∀ w, sumN (seG n T ax at_ w) (t + 1) = sumN (seG n T ax at_ w) t := fun e w => by
        show sumN (seG n T ax at_ w) t + seG n T ax at_ w t = _
        have : seG n T ax at_ w t = 0 := sumN_z n (fun p hp' => sumN_z n (fun q hq => by
          unfold seF
          rw [if_neg]
          unfold seP
          rw [gSo_I ht']
          intro z
          rw [Bool.and_eq_true, Bool.and_eq_true, decide_eq_true_eq] at z
          exact e ⟨z.1, z.2.1⟩))
        omega
      have g1 : sumN (seG n T ax at_ true) t ≤ 2704 * t := seG_le hn
      have g2 : sumN (seG n T ax at_ false) t ≤ 2704 * t := seG_le hn
      refine Ends.eq (b81_57 (n := n) (by (repeat' first | assumption | refine LX.setF _ _ ?_ (by decide +kernel) | refine LX.setS ?_ rfl | refine LX.setA ?_ (by first | assumption | omega))) (by first | assumption | omega)) ?_
      rw [tn, m4, m6, show bop32 104 (4 : Int) (t : Int) = ((4 * t : Nat) : Int) from mulNN (x := 4) (by omega), tn]
      refine Ends.b3 (fun z => absurd z (by omega)) (fun _ => Ends.g ⟨by omega, by omega⟩ (Ends.b1 (fun z => ?_) (fun hc => Ends.b1 (fun hh => Ends.g ⟨by omega, by omega⟩ ?_) (fun z => ?_))))
      · have e := skip (fun w => z (congrArg (fun k : Nat => (k : Int)) w.1))
        exact next _ _ _ _ _ _ _ (by rw [e]) (by rw [e])
      · have hc : aC t = ax := Int.ofNat.inj hc
        have hh : hiC t = true := by
          cases e : hiC t
          · rw [e] at hh; exact absurd rfl hh
          · rfl
        rw [show hv h (B + 44) (4 * t) = ((nxt t 0 : Nat) : Int) from mn]
        have lp : ∀ (c p : Nat) (u11 u12 u13 : AV), p + c = n → Ends (ev PP (gsF gv) B d 81 111 [(2, rf (B + 0)), (0, o), (0, (ax : Int)), (0, (at_ : Int)), (0, v), (2, rf s0), (0, ((sumN (seG n T ax at_ true) t + sumN (fun p => sumN (seF n T ax at_ true t p) n) p : Nat) : Int)), (0, ((sumN (seG n T ax at_ false) t + sumN (fun p => sumN (seF n T ax at_ false t p) n) p : Nat) : Int)), (0, (t : Int)), (0, ((nxt t 0 : Nat) : Int)), (0, (p : Int)), u11, u12, u13] [] h) Q := by
          intro c
          induction c with
          | zero =>
            intro p u11 u12 u13 hpn
            obtain rfl : n = p := by omega
            refine Ends.eq (b81_111 (n := n) (by (repeat' first | assumption | refine LX.setF _ _ ?_ (by decide +kernel) | refine LX.setS ?_ rfl | refine LX.setA ?_ (by first | assumption | omega))) (by first | assumption | omega)) ?_
            exact Ends.b3 (fun _ => next _ _ _ _ _ _ _ rfl rfl) (fun z => absurd z (by omega))
          | succ c ihp =>
            intro p u11 u12 u13 hpn
            have hpp : p < n := by omega
            have q1 : sumN (fun p => sumN (seF n T ax at_ true t p) n) p ≤ 2704 := seQ_le hn (by omega)
            have q2 : sumN (fun p => sumN (seF n T ax at_ false t p) n) p ≤ 2704 := seQ_le hn (by omega)
            have lq : ∀ (c q : Nat) (u12 u13 : AV), q + c = n → Ends (ev PP (gsF gv) B d 81 123 [(2, rf (B + 0)), (0, o), (0, (ax : Int)), (0, (at_ : Int)), (0, v), (2, rf s0), (0, ((sumN (seG n T ax at_ true) t + sumN (fun p => sumN (seF n T ax at_ true t p) n) p + sumN (seF n T ax at_ true t p) q : Nat) : Int)), (0, ((sumN (seG n T ax at_ false) t + sumN (fun p => sumN (seF n T ax at_ false t p) n) p + sumN (seF n T ax at_ false t p) q : Nat) : Int)), (0, (t : Int)), (0, ((nxt t 0 : Nat) : Int)), (0, (p : Int)), (0, (q : Int)), u12, u13] [] h) Q := by
              intro c
              induction c with
              | zero =>
                intro q u12 u13 hqn
                obtain rfl : n = q := by omega
                refine Ends.eq (b81_123 (n := n) (by (repeat' first | assumption | refine LX.setF _ _ ?_ (by decide +kernel) | refine LX.setS ?_ rfl | refine LX.setA ?_ (by first | assumption | omega))) (by first | assumption | omega)) ?_
                refine Ends.b3 (fun _ => ?_) (fun z => absurd z (by omega))
                rw [w_succ (by omega), Nat.add_assoc, Nat.add_assoc]
                exact ihp (p + 1) _ u12 u13 (by omega)
              | succ c ihq =>
                intro q u12 u13 hqn
                have hqq : q < n := by omega
                have r1 : sumN (seF n T ax at_ true t p) q ≤ q := seR_le
                have r2 : sumN (seF n T ax at_ false t p) q ≤ q := seR_le
                obtain ⟨nb, gc⟩ := se_nb (T := T) ht' ha h1 h2 hpp hqq hc hh
                have x1 := seX_lt (ax := ax) (n := n) (a := at_ - 1) (by omega) hpp
                have y1 := seY_lt (ax := ax) (n := n) (a := at_ - 1) (by omega) hpp hqq
                have z1 := seZ_lt (ax := ax) (n := n) (a := at_ - 1) (by omega) hqq
                have x2 := seX_lt (ax := ax) (n := n) (a := at_) h2 hpp
                have y2 := seY_lt (ax := ax) (n := n) (a := at_) h2 hpp hqq
                have z2 := seZ_lt (ax := ax) (n := n) (a := at_) h2 hqq
                have F : ∀ w, seF n T ax at_ w t p q = if (if w = true then T (gI n (seX ax (at_ - 1) p) (seY ax (at_ - 1) p q) (seZ ax (at_ - 1) q) t) && T (gI n (seX ax at_ p) (seY ax at_ p q) (seZ ax at_ q) (nxt t 0)) else T (gI n (seX ax (at_ - 1) p) (seY ax (at_ - 1) p q) (seZ ax (at_ - 1) q) t) != T (gI n (seX ax at_ p) (seY ax at_ p q) (seZ ax at_ q) (nxt t 0))) = true then 1 else 0 := fun w => by
                  unfold seF seP
                  rw [gSo_I ht', hc, hh, gc, nb, decide_eq_true rfl, decide_eq_true rfl, Bool.true_and, Bool.true_and, Bool.true_and]
                have Ft := F true
                have Ff := F false
                rw [if_pos rfl] at Ft
                rw [if_neg Bool.false_ne_true] at Ff
                have va := has_eq hn ht' x1 y1 z1 s
                have vb := has_eq hn hnx x2 y2 z2 s
                rw [onK_at z1 y1] at va
                rw [onK_at z2 y2] at vb
                have nx : ∀ (x6 x7 : Int) (u12 u13 : AV), x6 = ((sumN (seG n T ax at_ true) t + sumN (fun p => sumN (seF n T ax at_ true t p) n) p + (sumN (seF n T ax at_ true t p) q + seF n T ax at_ true t p q) : Nat) : Int) → x7 = ((sumN (seG n T ax at_ false) t + sumN (fun p => sumN (seF n T ax at_ false t p) n) p + (sumN (seF n T ax at_ false t p) q + seF n T ax at_ false t p q) : Nat) : Int) → Ends (ev PP (gsF gv) B d 81 123 [(2, rf (B + 0)), (0, o), (0, (ax : Int)), (0, (at_ : Int)), (0, v), (2, rf s0), (0, x6), (0, x7), (0, (t : Int)), (0, ((nxt t 0 : Nat) : Int)), (0, (p : Int)), (0, ((q + 1 : Nat) : Int)), u12, u13] [] h) Q := fun x6 x7 u12 u13 e6 e7 => by
                  rw [e6, e7]
                  exact ihq (q + 1) u12 u13 (by omega)
                refine Ends.eq (b81_123 (n := n) (by (repeat' first | assumption | refine LX.setF _ _ ?_ (by decide +kernel) | refine LX.setS ?_ rfl | refine LX.setA ?_ (by first | assumption | omega))) (by first | assumption | omega)) ?_
                rw [at1, seY_c, seY_c, seX_c, seX_c, seZ_c, seZ_c]
                refine Ends.b3 (fun z => absurd z (by omega)) (fun _ => Ends.g (has_ok hn ht' y1 z1 s) (Ends.g (has_ok hn hnx y2 z2 s) ?_))
                rw [va, vb, ct0, ct0, ct0, ct1, ct0, ct0, w_succ (i := q) (by omega), w_succ (by omega), w_succ (by omega)]
                clear va vb nb F
                generalize T (gI n (seX ax (at_ - 1) p) (seY ax (at_ - 1) p q) (seZ ax (at_ - 1) q) t) = bl at *
                generalize T (gI n (seX ax at_ p) (seY ax at_ p q) (seZ ax at_ q) (nxt t 0)) = bh at *
                cases bl <;> cases bh
                · exact nx _ _ _ _ (by rw [Ft]; rfl) (by rw [Ff]; rfl)
                · exact nx _ _ _ _ (by rw [Ft]; rfl) (by rw [Ff]; rfl)
                · exact nx _ _ _ _ (by rw [Ft]; rfl) (by rw [Ff]; rfl)
                · exact nx _ _ _ _ (by rw [Ft]; rfl) (by rw [Ff]; rfl)
            refine Ends.eq (b81_111 (n := n) (by (repeat' first | assumption | refine LX.setF _ _ ?_ (by decide +kernel) | refine LX.setS ?_ rfl | refine LX.setA ?_ (by first | assumption | omega))) (by first | assumption | omega)) ?_
            exact Ends.b3 (fun z => absurd z (by omega)) (fun _ => lq n 0 _ _ (Nat.zero_add n))
        exact lp n 0 _ _ _ (Nat.zero_add n)
      · have hh : hiC t = false := by
          cases e : hiC t
          · rfl
          · rw [e] at z; exact absurd z (by decide)
        have e := skip (fun w => by rw [hh] at w; exact absurd w.2 (by decide))
        exact next _ _ _ _ _ _ _ (by rw [e]) (by rw [e])
  refine Ends.eq (b81_48 (n := n) (by (repeat' first | assumption | refine LX.setF _ _ ?_ (by decide +kernel) | refine LX.setS ?_ rfl | refine LX.setA ?_ (by first | assumption | omega))) (by first | assumption | omega)) ?_
  exact lt 24 0 _ _ _ _ _ rfl
theorem sec_b {x : Nat} (hx : x < 2147483647) {a b : Bool} : bop32 96 (x : Int) (cond (tst 0 (if a = true then (1 : Int) else 0) 0) (0 : Int) (cond (tst 0 (if b = true then (1 : Int) else 0) 0) 0 1)) = ((x + (if (a && b) = true then 1 else 0) : Nat) : Int) := by
  have e : cond (tst 0 (if a = true then (1 : Int) else 0) 0) (0 : Int) (cond (tst 0 (if b = true then (1 : Int) else 0) 0) 0 1) = (((if (a && b) = true then 1 else 0) : Nat) : Int) := by cases a <;> cases b <;> rfl
  rw [e]
  exact addNN (by split <;> omega)
theorem sec_o {x : Nat} (hx : x < 2147483647) {a b : Bool} : bop32 96 (x : Int) (cond (tst 0 (if a = true then (1 : Int) else 0) (if b = true then (1 : Int) else 0)) (0 : Int) 1) = ((x + (if (a != b) = true then 1 else 0) : Nat) : Int) := by
  have e : cond (tst 0 (if a = true then (1 : Int) else 0) (if b = true then (1 : Int) else 0)) (0 : Int) 1 = (((if (a != b) = true then 1 else 0) : Nat) : Int) := by cases a <;> cases b <;> rfl
  rw [e]
  exact addNN (by split <;> omega)
theorem c_section815 (l : LX B n h) (hd : 14 ≤ d) (hn : n ≤ 52) (m : TbM B h) (bd : BdM B n h is S) {a b v : Int} :
    Vt 0 (cll PP (ev PP (gsF gv) B) d 815 [(2, rf (B + 149)), (0, o), (0, a), (0, b), (0, v)] h) (fun x h' => (thS is o = false ∧ MdA B h 1 x h') ∨ (thS is o = true ∧ ¬ ((0 ≤ a ∧ a ≤ 2) ∧ (1 ≤ b ∧ b ≤ (n : Int) - 1) ∧ 0 ≤ v ∧ v ≤ 1) ∧ MdA B h 2 x h') ∨ (thS is o = true ∧ ((0 ≤ a ∧ a ≤ 2) ∧ (1 ≤ b ∧ b ≤ (n : Int) - 1) ∧ 0 ≤ v ∧ v ≤ 1) ∧ x = ((secS n (S (rwS o)) a.toNat b.toNat v : Nat) : Int) ∧ h' = hset h (B + 149) 0 0)) := by
  have hb0 := l.2.2
  refine Vt.inq (D := 13) hd (Nat.le_of_ble_eq_true rfl) rfl (fun d hd P K => ?_)
  refine Ends.eq (b815_0 (n := n) (by (repeat' first | assumption | refine LX.setF _ _ ?_ (by decide +kernel) | refine LX.setS ?_ rfl | refine LX.setA ?_ (by first | assumption | omega))) (by first | assumption | omega)) ?_
  obtain ⟨v1, v2⟩ := v765_is (o := o) (fun i hi => (bd.1 i hi).1)
  refine Ends.g v1 ?_
  rw [v2, show bop32 100 ((n : Nat) : Int) 1 = (n : Int) - 1 from sub32 (by omega) (by omega), ct0, ct2, ct4, ct2, ct4, ct2, ct5]
  have bad : ∀ (c : Nat), c ≠ 0 → P ((0, (0, 0)), hset h (B + 149) 0 (c : Int)) → Ends (ev PP (gsF gv) B d 815 56 [(2, rf (B + 149)), (0, o), (0, a), (0, b), (0, v), (9, 0), (9, 0), (9, 0), (9, 0), (9, 0)] [(0, 1)] (hset h (B + 149) 0 (c : Int))) P := fun c hc q => by
    have l2 : LX B n (hset h (B + 149) 0 (c : Int)) := LX.setF 149 0 l (by decide +kernel)
    refine Ends.eq (b815_56 (n := n) (by (repeat' first | assumption | refine LX.setF _ _ ?_ (by decide +kernel) | refine LX.setS ?_ rfl | refine LX.setA ?_ (by first | assumption | omega))) (by first | assumption | omega)) ?_
    exact Ends.b0 (fun z => absurd z (by decide)) (fun _ => Ends.sm q)
  cases ho : thS is o
  · rw [if_neg (show ¬ (if false = true then (0 : Int) else 1) = 0 by decide)]
    exact Ends.mbad l (by omega) (c := 1) (by decide) rfl (bad 1 (by decide) (K _ _ (Or.inl ⟨ho, rfl, rfl⟩)))
  rw [if_pos (show (if true = true then (0 : Int) else 1) = 0 by decide)]
  by_cases hp : (0 ≤ a ∧ a ≤ 2) ∧ (1 ≤ b ∧ b ≤ (n : Int) - 1) ∧ 0 ≤ v ∧ v ≤ 1
  rotate_left
  · rw [show (if a < 0 then (2 : Int) else if 2 < a then 2 else if b < 1 then 2 else if (n : Int) - 1 < b then 2 else if v < 0 then 2 else if 1 < v then 2 else 0) = ((2 : Nat) : Int) from by
      by_cases w1 : a < 0
      · rw [if_pos w1]; rfl
      rw [if_neg w1]
      by_cases w2 : 2 < a
      · rw [if_pos w2]; rfl
      rw [if_neg w2]
      by_cases w3 : b < 1
      · rw [if_pos w3]; rfl
      rw [if_neg w3]
      by_cases w4 : (n : Int) - 1 < b
      · rw [if_pos w4]; rfl
      rw [if_neg w4]
      by_cases w5 : v < 0
      · rw [if_pos w5]; rfl
      rw [if_neg w5, if_pos (by omega)]
      rfl]
    exact Ends.mbad l (by omega) (c := 2) (by decide) rfl (bad 2 (by decide) (K _ _ (Or.inr (Or.inl ⟨ho, hp, rfl, rfl⟩))))
  rw [if_neg (show ¬ a < 0 by omega), if_neg (show ¬ 2 < a by omega), if_neg (show ¬ b < 1 by omega), if_neg (show ¬ (n : Int) - 1 < b by omega), if_neg (show ¬ v < 0 by omega), if_neg (show ¬ 1 < v by omega)]
  refine Ends.mok l (by omega) rfl ?_
  have l2 : LX B n (hset h (B + 149) 0 0) := LX.setF 149 0 l (by decide +kernel)
  obtain ⟨s1, s2⟩ := (bd.fset 0 0).sol ho
  have m2 : TbM B (hset h (B + 149) 0 0) := m.agr (Agr.rf.set (W := fun c k => c = B + 149 ∧ k = 0) ⟨rfl, rfl⟩) (fun c k a1 a2 a3 w => by omega)
  have K2 := fun x e => K x (hset h (B + 149) 0 0) (Or.inr (Or.inr ⟨ho, hp, e, rfl⟩))
  clear K bad
  have vr := v806_is ho
  generalize hset h (B + 149) 0 0 = h2 at *
  generalize S (rwS o) = T at *
  generalize rwS o = ro at *
  obtain ⟨ax, rfl⟩ : ∃ k : Nat, a = (k : Int) := ⟨a.toNat, by omega⟩
  obtain ⟨at_, rfl⟩ : ∃ k : Nat, b = (k : Int) := ⟨b.toNat, by omega⟩
  have ha : ax < 3 := by omega
  have h1 : 1 ≤ at_ := by omega
  have h2' : at_ < n := by omega
  rw [tn, tn] at K2
  have gle := gN_le2 hn
  have at1 : bop32 100 (at_ : Int) 1 = ((at_ - 1 : Nat) : Int) := by rw [show bop32 100 (at_ : Int) 1 = (at_ : Int) - 1 from sub32 (by omega) (by omega)]; omega
  refine Ends.eq (b815_56 (n := n) (by (repeat' first | assumption | refine LX.setF _ _ ?_ (by decide +kernel) | refine LX.setS ?_ rfl | refine LX.setA ?_ (by first | assumption | omega))) (by first | assumption | omega)) ?_
  refine Ends.b0 (fun _ => ?_) (fun z => absurd rfl z)
  have lp : ∀ (c k : Nat) (u7 u8 u9 : AV), k + c = gN n → Ends (ev PP (gsF gv) B d 815 67 [(2, rf (B + 149)), (0, o), (0, (ax : Int)), (0, (at_ : Int)), (0, v), (0, ((cntN (seP n T ax at_ (decide (v = 0))) k : Nat) : Int)), (0, (k : Int)), u7, u8, u9] [] h2) P := by
    intro c
    induction c with
    | zero =>
      intro k u7 u8 u9 hk
      obtain rfl : k = gN n := by omega
      refine Ends.eq (b815_67 (n := n) (by (repeat' first | assumption | refine LX.setF _ _ ?_ (by decide +kernel) | refine LX.setS ?_ rfl | refine LX.setA ?_ (by first | assumption | omega))) (by first | assumption | omega)) ?_
      exact Ends.b3 (fun _ => Ends.sm (K2 _ rfl)) (fun z => absurd z (by omega))
    | succ c ih =>
      intro k u7 u8 u9 hk
      have hk4 : k < gN n := by omega
      obtain ⟨n0, hx, hy, hz, ht⟩ := g_lt hk4
      have cle := cntN_le (seP n T ax at_ (decide (v = 0))) k
      have un := cntN_s (seP n T ax at_ (decide (v = 0))) k
      have step : ∀ (x : Int) (u8 u9 : AV), x = ((cntN (seP n T ax at_ (decide (v = 0))) (k + 1) : Nat) : Int) → Ends (ev PP (gsF gv) B d 815 193 [(2, rf (B + 149)), (0, o), (0, (ax : Int)), (0, (at_ : Int)), (0, v), (0, x), (0, (k : Int)), (0, ((gSo k : Nat) : Int)), u8, u9] [] h2) P := fun x u8 u9 e => by
        refine Ends.eq (b815_193 (n := n) (by (repeat' first | assumption | refine LX.setF _ _ ?_ (by decide +kernel) | refine LX.setS ?_ rfl | refine LX.setA ?_ (by first | assumption | omega))) (by first | assumption | omega)) ?_
        rw [w_succ (by omega), e]
        exact ih (k + 1) _ u8 u9 (by omega)
      have m4 := (m2.1 (gSo k) ht).2.2.2.2.2.1
      obtain ⟨r1, r2⟩ := rest_is m2 (t := gSo k) ht ha
      obtain ⟨c1, c2⟩ := coord_is m2 hn hk4 ha
      obtain ⟨f1, f2⟩ := has_is s1 (by omega) hn hk4
      have g8b := g8_lt hk4 ax
      refine Ends.eq (b815_67 (n := n) (by (repeat' first | assumption | refine LX.setF _ _ ?_ (by decide +kernel) | refine LX.setS ?_ rfl | refine LX.setA ?_ (by first | assumption | omega))) (by first | assumption | omega)) ?_
      rw [gSo_is, tn, m4, r2, c2, shr3 (by omega), g8_div hk4 ha, at1, vr, f2]
      refine Ends.b3 (fun z => absurd z (by omega)) (fun _ => Ends.g ⟨by omega, by omega⟩ (Ends.b1 (fun z => ?_) (fun hc => Ends.g r1 (Ends.b1 (fun z => ?_) (fun hr => Ends.g c1 (Ends.b0 (fun hg => Ends.g f1 ?_) (fun z => ?_)))))))
      · refine step _ _ _ ?_
        rw [un]
        unfold seP
        rw [decide_eq_false (fun w => z (congrArg (fun k : Nat => (k : Int)) w)), Bool.false_and]
        rfl
      · have hc : aC (gSo k) = ax := Int.ofNat.inj hc
        have hh : hiC (gSo k) = false := by
          have := aC_rest ⟨gSo k, ht⟩
          simp only at this
          rw [hc] at this
          cases e : hiC (gSo k)
          · rfl
          · rw [e, if_pos rfl] at this
            exact absurd (congrArg (fun k : Nat => (k : Int)) this) z
        refine step _ _ _ ?_
        rw [un]
        unfold seP
        rw [hh, Bool.false_and, Bool.and_false]
        rfl
      · have hc : aC (gSo k) = ax := Int.ofNat.inj hc
        have hr : rT (gSo k) ax = 7 := Int.ofNat.inj hr
        have hg : gC n k ax = at_ - 1 := Int.ofNat.inj hg
        have hh : hiC (gSo k) = true := by
          have := aC_rest ⟨gSo k, ht⟩
          simp only at this
          rw [hc, hr] at this
          cases e : hiC (gSo k)
          · rw [e, if_neg Bool.false_ne_true] at this
            exact absurd this (by decide)
          · rfl
        obtain ⟨e1, e2⟩ := nbr_is m2 hn hk4 (f := 0) (by decide)
        have e1 : q756 B n h2 (k : Int) 0 := e1
        have e2 : v756 B n h2 (k : Int) 0 = nbr n k 0 := e2
        have st : ∀ a, stpC (gSo k) a = if ax = a then 1 else 0 := fun a => by unfold stpC; rw [hc, hh]; rfl
        have nb : ∃ j : Nat, nbr n k 0 = (j : Int) ∧ j < gN n := by
          unfold nbr
          rw [if_pos rfl, if_pos]
          · refine ⟨_, rfl, gI_lt ?_ ?_ ?_ (nxt_lt ⟨gSo k, ht⟩ ⟨0, by decide⟩)⟩
            · rw [st]
              by_cases z : ax = 0
              · rw [if_pos z]; rw [z] at hg; have hg : gX n k = at_ - 1 := hg; omega
              · rw [if_neg z]; omega
            · rw [st]
              by_cases z : ax = 1
              · rw [if_pos z]; rw [z] at hg; have hg : gY n k = at_ - 1 := hg; omega
              · rw [if_neg z]; omega
            · rw [st]
              by_cases z : ax = 2
              · rw [if_pos z]; rw [z] at hg; have hg : gZ n k = at_ - 1 := hg; omega
              · rw [if_neg z]; omega
          · rw [inRm_iff, st, st, st]
            have three : ax = 0 ∨ ax = 1 ∨ ax = 2 := by omega
            rcases three with rfl | rfl | rfl
            · have hg : gX n k = at_ - 1 := hg
              show _ ∧ _ ∧ _ ∧ _ ∧ _ ∧ _
              rw [if_pos rfl, if_neg (by decide), if_neg (by decide)]
              omega
            · have hg : gY n k = at_ - 1 := hg
              rw [if_neg (by decide), if_pos rfl, if_neg (by decide)]
              omega
            · have hg : gZ n k = at_ - 1 := hg
              rw [if_neg (by decide), if_neg (by decide), if_pos rfl]
              omega
        obtain ⟨j, ej, hj⟩ := nb
        obtain ⟨i1, i2⟩ := has_is s1 (by omega) hn hj
        rw [e2, ej, i2]
        refine Ends.g e1 (Ends.g i1 (step _ _ _ ?_))
        rw [un]
        unfold seP nbS
        rw [hc, hh, hg, ej, tn, decide_eq_true rfl, decide_eq_true (show at_ - 1 + 1 = at_ by omega), decide_eq_true (Int.natCast_nonneg j), Bool.true_and, Bool.true_and, Bool.true_and, Bool.true_and, ct1]
        have cc : cntN (seP n T ax at_ (decide (v = 0))) k < 2147483647 := by omega
        by_cases v0 : v = 0
        · rw [if_pos v0, if_pos (decide_eq_true v0)]
          exact sec_b cc
        · rw [if_neg v0, if_neg (show ¬ decide (v = 0) = true from by rw [decide_eq_false v0]; exact Bool.false_ne_true)]
          exact sec_o cc
      · have hg : gC n k ax + 1 ≠ at_ := fun e => z (by rw [← e]; show ((gC n k ax : Nat) : Int) = ((gC n k ax + 1 - 1 : Nat) : Int); rw [Nat.add_sub_cancel])
        refine step _ _ _ ?_
        rw [un]
        unfold seP
        rw [decide_eq_false hg, Bool.false_and, Bool.and_false, Bool.and_false]
        rfl
  exact lp (gN n) 0 _ _ _ (Nat.zero_add _)
end SECT
