/-! L3: the model settles, tells the least that can't hold -/
section MSET
variable {gv : Nat → Int} {B n d : Nat} {h : AH} {pl jn : Nat} {ja jb jx : Nat → Nat} {js : Nat → Int}
def msW (B : Nat) : Nat → Nat → Prop := fun c k => utW B c k ∨ c = B + 207 ∨ (c = B + 149 ∧ k = 0)
theorem in0 : InM B h jn 0 none0 := Or.inl ⟨rfl, fun _ => rfl⟩
/-- the outcome of the model's tie in the desk's words -/
def mρ (τ : Nat → Nat) (st : Nat → Bool) (x : Nat) : Nat := if st (τ x) = true then 12 else τ x
def mα (τ : Nat → Nat) (β : Nat → Int) (st : Nat → Bool) (sa : Nat → Int) (x : Nat) : Int := if st (τ x) = true then sa (τ x) + β x else β x
theorem c_settle818 (l : LX B n h) (hd : 16 ≤ d) (J : AsM B h pl jn ja jb jx js) {old : Nat → Nat → Int} (hs : ∀ x b, x < pl → b < 3 → hv h (B + 207) (3 * x + b) = old b x ∧ -1000000 ≤ old b x ∧ old b x ≤ 1000000) :
    Vt 0 (cll PP (ev PP (gsF gv) B) d 818 [(2, rf (B + 149))] h) (fun v h' => Agr (msW B) h h' ∧ hv h' (B + 149) 0 = 0 ∧ ((v = 2 ∧ ¬ TiAll jn ja jb jx js none0 ∧ ∀ k, hv h' (B + 207) k = hv h (B + 207) k) ∨ ∃ ρ α, (∀ b, b < 3 → TieR pl jn ja jb (eS jb js) (aC' jx none0 b) (ρ b) (α b) false) ∧ (∀ x b, x < pl → b < 3 → hv h' (B + 207) (3 * x + b) = stN ρ α old b x) ∧ ((v = 0 ∧ ∀ x b, x < pl → b < 3 → ρ b x = 12) ∨ (v = 1 ∧ ∃ x b, x < pl ∧ b < 3 ∧ ρ b x ≠ 12)))) := by
  have pl12 := J.2.2.1
  refine Vt.inq (D := 15) hd (Nat.le_of_ble_eq_true rfl) rfl (fun d hd Q K => ?_)
  have l0 : LX B n (hset h (B + 149) 0 0) := LX.setF 149 0 l (by decide +kernel)
  have G0 : Agr (msW B) h (hset h (B + 149) 0 0) := Agr.rf.set (Or.inr (Or.inr ⟨rfl, rfl⟩))
  have Jq : ∀ q, Agr (msW B) h q → AsM B q pl jn ja jb jx js := fun q g => J.agr g (by unfold msW utW; omega) (by unfold msW utW; omega) (fun c k h1 h2 => by unfold msW utW; omega)
  refine Ends.eq (b818_0 (n := n) (by (repeat' first | assumption | refine LX.setF _ _ ?_ (by decide +kernel) | refine LX.setS ?_ rfl | refine LX.setA ?_ (by first | assumption | omega))) (by first | assumption | omega)) ?_
  refine Ends.ct l0 (by decide +kernel) (by decide) (c_canHold566 l0 (by omega) (Jq _ G0) in0) (fun v h1 l1 _ _ _ ⟨g1, evv⟩ => ?_)
  have G1 : Agr (msW B) h h1 := G0.tr g1 (fun c k z => Or.inl z)
  have t1 : hv h1 (B + 149) 0 = 0 := by rw [g1.at _ _ (by unfold utW; omega)]; exact hv_set_at ..
  have s1 : ∀ k, hv h1 (B + 207) k = hv h (B + 207) k := fun k => by rw [g1.at _ _ (by unfold utW; omega), hv_na (by omega)]
  refine Ends.eq (b818_10 (n := n) (by (repeat' first | assumption | refine LX.setF _ _ ?_ (by decide +kernel) | refine LX.setS ?_ rfl | refine LX.setA ?_ (by first | assumption | omega))) (by first | assumption | omega)) ?_
  rcases evv with ⟨rfl, sat⟩ | ⟨rfl, sat⟩
  rotate_left
  · exact Ends.b1 (fun z => absurd rfl z) (fun _ => Ends.sm (K _ _ ⟨G1, t1, Or.inl ⟨rfl, sat, s1⟩⟩))
  refine Ends.b1 (fun _ => ?_) (fun z => absurd z (by decide))
  have ax : ∀ (r a : Nat) (q : AH) (al : Bool) (ρ : Nat → Nat → Nat) (α : Nat → Nat → Int) (u3 u4 u5 : AV), a + r = 3 → LX B n q → Agr (msW B) h q → hv q (B + 149) 0 = 0 → (∀ b, b < a → TieR pl jn ja jb (eS jb js) (aC' jx none0 b) (ρ b) (α b) false) → (∀ x b, x < pl → b < 3 → hv q (B + 207) (3 * x + b) = if b < a then stN ρ α old b x else old b x) → (al = false ↔ ∃ x b, x < pl ∧ b < a ∧ ρ b x ≠ 12) → Ends (ev PP (gsF gv) B d 818 19 [(2, rf (B + 149)), (0, if al = true then 1 else 0), (0, (a : Int)), u3, u4, u5] [] q) Q := by
    intro r
    induction r with
    | zero =>
      intro a q al ρ α u3 u4 u5 ha lq gq tq t sh hal
      obtain rfl : a = 3 := by omega
      refine Ends.eq (b818_19 (n := n) (by (repeat' first | assumption | refine LX.setF _ _ ?_ (by decide +kernel) | refine LX.setS ?_ rfl | refine LX.setA ?_ (by first | assumption | omega))) (by first | assumption | omega)) ?_
      refine Ends.b3 (fun _ => Ends.sm (K _ _ ⟨gq, tq, Or.inr ⟨ρ, α, t, fun x b hx hb => by rw [sh x b hx hb, if_pos hb], ?_⟩⟩)) (fun z => absurd z (by decide))
      cases e : al
      · exact Or.inr ⟨rfl, hal.mp e⟩
      · refine Or.inl ⟨rfl, fun x b hx hb => Classical.byContradiction (fun z => ?_)⟩
        rw [hal.mpr ⟨x, b, hx, hb, z⟩] at e
        exact absurd e (by decide)
    | succ r ih =>
      intro a q al ρ α u3 u4 u5 ha lq gq tq t sh hal
      refine Ends.eq (b818_19 (n := n) (by (repeat' first | assumption | refine LX.setF _ _ ?_ (by decide +kernel) | refine LX.setS ?_ rfl | refine LX.setA ?_ (by first | assumption | omega))) (by first | assumption | omega)) ?_
      refine Ends.b3 (fun z => by omega) (fun _ => ?_)
      refine Ends.ct lq (by decide +kernel) (by decide) (c_tie850 (a := a) lq (by omega) (Jq q gq) in0 (by omega)) (fun v q2 l2 _ _ _ ⟨g2, r2⟩ => ?_)
      rcases r2 with ⟨rfl, τ, β, st, sa, u, tu⟩ | ⟨rfl, ns⟩
      rotate_left
      · exact absurd (sat a (by omega)) ns
      have ta := u.fin pl12 J.hb
      have G2 := gq.tr g2 (fun c k z => Or.inl z)
      have e120 : hv q2 (B + 149) 120 = (pl : Int) := (Jq _ G2).1
      refine Ends.eq (b818_30 (n := n) (by (repeat' first | assumption | refine LX.setF _ _ ?_ (by decide +kernel) | refine LX.setS ?_ rfl | refine LX.setA ?_ (by first | assumption | omega))) (by first | assumption | omega)) ?_
      rw [e120, show bop32 100 (pl : Int) 1 = (pl : Int) - 1 from sub32 (by omega) (by omega)]
      let ρ' : Nat → Nat → Nat := fun b => if b = a then mρ τ st else ρ b
      let α' : Nat → Nat → Int := fun b => if b = a then mα τ β st sa else α b
      have ra : ρ' a = mρ τ st := if_pos rfl
      have aa : α' a = mα τ β st sa := if_pos rfl
      have sh2 : ∀ x b, x < pl → b < 3 → hv q2 (B + 207) (3 * x + b) = if b < a then stN ρ' α' old b x else old b x := fun x b hx hb => by
        rw [g2.at _ _ (by unfold utW; omega), sh x b hx hb]
        by_cases z : b < a
        · rw [if_pos z, if_pos z]
          have : b ≠ a := by omega
          simp only [stN, ρ', α', this, if_false]
        · rw [if_neg z, if_neg z]
      have t2 : ∀ b, b < a + 1 → TieR pl jn ja jb (eS jb js) (aC' jx none0 b) (ρ' b) (α' b) false := fun b hb => by
        by_cases z : b = a
        · rw [z, ra, aa]; exact ta
        · simp only [ρ', α', z, if_false]; exact t b (by omega)
      have hal2 : al = false ↔ ∃ x b, x < pl ∧ b < a ∧ ρ' b x ≠ 12 := by
        rw [hal]
        constructor
        · rintro ⟨x, b, hx, hb, e⟩
          refine ⟨x, b, hx, hb, ?_⟩
          have : b ≠ a := by omega
          simp only [ρ', this, if_false]; exact e
        · rintro ⟨x, b, hx, hb, e⟩
          refine ⟨x, b, hx, hb, ?_⟩
          have : b ≠ a := by omega
          simp only [ρ', this, if_false] at e; exact e
      have m12 : ∀ x, x < pl → (mρ τ st x = 12 ↔ st (τ x) = true) := fun x hx => by
        unfold mρ
        have := (u.bd pl12 hx).2.2.2
        split <;> simp_all <;> omega
      -- from the last place on; c places are still to be done
      have pls : ∀ (c : Nat) (q3 : AH) (al3 : Bool) (x3 : Int) (u5 : AV), c ≤ pl → LX B n q3 → Agr (fun c _ => c = B + 207) q2 q3 → (∀ x b, x < pl → b < 3 → hv q3 (B + 207) (3 * x + b) = if b < a ∨ (b = a ∧ c ≤ x) then stN ρ' α' old b x else old b x) → (al3 = false ↔ (al = false ∨ ∃ x, x < pl ∧ c ≤ x ∧ mρ τ st x ≠ 12)) → Ends (ev PP (gsF gv) B d 818 39 [(2, rf (B + 149)), (0, if al3 = true then 1 else 0), (0, (a : Int)), (0, x3), (0, (c : Int) - 1), u5] [] q3) Q := by
        intro c
        induction c with
        | zero =>
          intro q3 al3 u3 u5 hc l3 g3 sh3 hal3
          refine Ends.eq (b818_39 (n := n) (by (repeat' first | assumption | refine LX.setF _ _ ?_ (by decide +kernel) | refine LX.setS ?_ rfl | refine LX.setA ?_ (by first | assumption | omega))) (by first | assumption | omega)) ?_
          refine Ends.b2 (fun _ => ?_) (fun z => by omega)
          rw [w_succ (by omega)]
          refine ih (a + 1) q3 al3 ρ' α' _ _ _ (by omega) l3 (G2.tr g3 (fun c k z => Or.inr (Or.inl z))) (by rw [g3.at _ _ (by omega), g2.at _ _ (by unfold utW; omega)]; exact tq) t2 (fun x b hx hb => ?_) ?_
          · rw [sh3 x b hx hb]
            by_cases z : b < a + 1
            · rw [if_pos (by omega), if_pos z]
            · rw [if_neg (by omega), if_neg z]
          · rw [hal3, hal2]
            constructor
            · rintro (⟨x, b, hx, hb, e⟩ | ⟨x, hx, _, e⟩)
              · exact ⟨x, b, hx, by omega, e⟩
              · exact ⟨x, a, by omega, by omega, by rw [ra]; exact e⟩
            · rintro ⟨x, b, hx, hb, e⟩
              by_cases z : b = a
              · rw [z, ra] at e
                exact Or.inr ⟨x, by omega, by omega, e⟩
              · exact Or.inl ⟨x, b, hx, by omega, e⟩
        | succ c ihp =>
          intro q3 al3 u3 u5 hc l3 g3 sh3 hal3
          have hcp : c < pl := by omega
          have b1 := u.bd pl12 hcp
          have i1 := (u.1 c hcp)
          have tc := tu c hcp
          have tt := tu (τ c) b1.2.2.2
          have f : ∀ (b k : Nat), b ≠ 207 → hv q3 (B + b) k = hv q2 (B + b) k := fun b k hb => g3.at _ _ (by omega)
          have ix : ∀ x : Nat, x < 13 → bop32 96 (bop32 104 3 (x : Int)) (a : Int) = ((3 * x + a : Nat) : Int) := fun x hx => by
            rw [show bop32 104 (3 : Int) (x : Int) = ((3 * x : Nat) : Int) from mulNN (x := 3) (by omega), addNN (by omega)]
          rw [show ((c + 1 : Nat) : Int) - 1 = (c : Int) by omega]
          refine Ends.eq (b818_39 (n := n) (by (repeat' first | assumption | refine LX.setF _ _ ?_ (by decide +kernel) | refine LX.setS ?_ rfl | refine LX.setA ?_ (by first | assumption | omega))) (by first | assumption | omega)) ?_
          rw [tn, f 214 _ (by decide), tc.1, tn, f 216 _ (by decide), tt.2.2.1, ix (τ c) (by omega), ix c (by omega), f 215 _ (by decide), tc.2.1, tn, tn]
          refine Ends.b2 (fun z => by omega) (fun _ => Ends.g ⟨by omega, by omega⟩ (Ends.g ?_ (Ends.g ⟨by omega, by omega⟩ (Ends.g ?_ (Ends.g ⟨by omega, by omega⟩ ?_)))))
          · exact cT ⟨by omega, by omega⟩
          · exact cF ⟨by omega, by omega⟩
          rw [show w32 ((c : Int) + (-1)) = (c : Int) - 1 from by rw [inc32 (by omega) (by omega)]; omega]
          have nv : anar 0 (bop32 96 (cond (tst 0 (if st (τ c) = true then (1 : Int) else 0) 0) (hv q3 (B + 207) (3 * τ c + a)) (hv q3 (B + 217) (τ c))) (β c)) = stN ρ' α' old a c := by
            rw [an0]
            unfold stN
            rw [ra, aa]
            unfold mρ mα
            cases es : st (τ c)
            · rw [if_neg (by decide), if_neg Bool.false_ne_true, if_neg Bool.false_ne_true]
              have hne : ¬ τ c = 12 := by omega
              rw [if_neg hne]
              show bop32 96 (hv q3 (B + 207) (3 * τ c + a)) (β c) = _
              have ov : hv q3 (B + 207) (3 * τ c + a) = old a (τ c) := by
                rw [sh3 (τ c) a b1.2.2.2 (by omega)]
                by_cases z : c + 1 ≤ τ c
                · have := i1.1; omega
                · rw [if_neg (by omega)]
              have ob := hs (τ c) a b1.2.2.2 (by omega)
              rw [ov, add32 (by omega) (by omega)]
              try rfl
            · rw [if_pos rfl, if_pos rfl, if_pos rfl, if_pos rfl]
              show bop32 96 (hv q3 (B + 217) (τ c)) (β c) = _
              have sb := b1.2.2.1 es
              rw [f 217 _ (by decide), tt.2.2.2 es, add32 (by omega) (by omega)]
          rw [nv]
          have eal : cond (tst 0 (if al3 = true then (1 : Int) else 0) 0) (0 : Int) (cond (tst 0 (if st (τ c) = true then (1 : Int) else 0) 0) 0 1) = if (al3 && st (τ c)) = true then 1 else 0 := by cases al3 <;> cases st (τ c) <;> rfl
          rw [eal]
          refine ihp _ (al3 && st (τ c)) _ _ (by omega) (LX.setS l3 rfl) (g3.set rfl) (fun x b hx hb => ?_) ?_
          · by_cases z : x = c ∧ b = a
            · rw [z.1, z.2, hv_set_at, if_pos (by omega)]
            · rw [hv_set_ne (by omega), sh3 x b hx hb]
              by_cases y : b < a ∨ (b = a ∧ c + 1 ≤ x)
              · rw [if_pos y, if_pos (by omega)]
              · rw [if_neg y, if_neg (by omega)]
          · rw [Bool.and_eq_false_iff, hal3]
            constructor
            · rintro ((z | ⟨x, hx, hcx, e⟩) | z)
              · exact Or.inl z
              · exact Or.inr ⟨x, hx, by omega, e⟩
              · exact Or.inr ⟨c, hcp, Nat.le_refl _, fun w => by rw [m12 c hcp, z] at w; exact absurd w (by decide)⟩
            · rintro (z | ⟨x, hx, hcx, e⟩)
              · exact Or.inl (Or.inl z)
              · by_cases y : x = c
                · rw [y] at e
                  refine Or.inr ?_
                  cases es : st (τ c)
                  · rfl
                  · exact absurd ((m12 c hcp).mpr es) e
                · exact Or.inl (Or.inr ⟨x, hx, by omega, e⟩)
      refine pls pl q2 al _ _ (Nat.le_refl _) l2 Agr.rf (fun x b hx hb => ?_) ⟨Or.inl, fun z => ?_⟩
      · rw [sh2 x b hx hb]
        by_cases y : b < a
        · rw [if_pos y, if_pos (by omega)]
        · rw [if_neg y, if_neg (by omega)]
      · rcases z with z | ⟨x, hx, hcx, _⟩
        · exact z
        · omega
  exact ax 3 0 h1 true (fun _ _ => 0) (fun _ _ => 0) _ _ _ rfl l1 G1 t1 (fun b hb => absurd hb (by omega)) (fun x b hx hb => by rw [if_neg (by omega), s1]; exact (hs x b hx hb).1) ⟨fun z => absurd z (by decide), fun ⟨_, b, _, hb, _⟩ => absurd hb (by omega)⟩
def mlW (B : Nat) : Nat → Nat → Prop := fun c k => utW B c k ∨ c = B + 218 ∨ (c = B + 149 ∧ k = 0)
theorem c_least729 {k : Int} (l : LX B n h) (hd : 16 ≤ d) (hk32 : -2147483648 ≤ k ∧ k < 2147483648) (J : AsM B h pl jn ja jb jx js) :
    Vt 0 (cll PP (ev PP (gsF gv) B) d 729 [(2, rf (B + 149)), (0, k)] h) (fun x h' => Agr (mlW B) h h' ∧ hv h' (B + 149) 0 = 0 ∧ LeS jn ja jb jx js k x) := by
  have jn24 := J.2.2.2.1
  refine Vt.inq (D := 15) hd (Nat.le_of_ble_eq_true rfl) rfl (fun d hd Q K => ?_)
  have l0 : LX B n (hset h (B + 149) 0 0) := LX.setF 149 0 l (by decide +kernel)
  have G0 : Agr (mlW B) h (hset h (B + 149) 0 0) := Agr.rf.set (Or.inr (Or.inr ⟨rfl, rfl⟩))
  have t0 : hv (hset h (B + 149) 0 0) (B + 149) 0 = 0 := hv_set_at ..
  have Jq : ∀ q, Agr (mlW B) h q → AsM B q pl jn ja jb jx js := fun q g => J.agr g (by unfold mlW utW; omega) (by unfold mlW utW; omega) (fun c k h1 h2 => by unfold mlW utW; omega)
  have out : ∀ q (u2 u3 : AV), LX B n q → Agr (mlW B) h q → hv q (B + 149) 0 = 0 → (k < 0 ∨ TiAll jn ja jb jx js none0) → Ends (ev PP (gsF gv) B d 729 17 [(2, rf (B + 149)), (0, k), u2, u3] [] q) Q := fun q u2 u3 lq g t z => by
    refine Ends.eq (b729_17 (n := n) (by (repeat' first | assumption | refine LX.setF _ _ ?_ (by decide +kernel) | refine LX.setS ?_ rfl | refine LX.setA ?_ (by first | assumption | omega))) (by first | assumption | omega)) ?_
    exact Ends.sm (K _ _ ⟨g, t, Or.inl ⟨z, rfl⟩⟩)
  refine Ends.eq (b729_0 (n := n) (by (repeat' first | assumption | refine LX.setF _ _ ?_ (by decide +kernel) | refine LX.setS ?_ rfl | refine LX.setA ?_ (by first | assumption | omega))) (by first | assumption | omega)) ?_
  refine Ends.b2 (fun z => out _ _ _ l0 G0 t0 (Or.inl z)) (fun k0 => ?_)
  refine Ends.ct l0 (by decide +kernel) (by decide) (c_canHold566 l0 (by omega) (Jq _ G0) in0) (fun v h1 l1 _ _ _ ⟨g1, evv⟩ => ?_)
  have G1 : Agr (mlW B) h h1 := G0.tr g1 (fun c k z => Or.inl z)
  have t1 : hv h1 (B + 149) 0 = 0 := by rw [g1.at _ _ (by unfold utW; omega)]; exact t0
  refine Ends.eq (b729_14 (n := n) (by (repeat' first | assumption | refine LX.setF _ _ ?_ (by decide +kernel) | refine LX.setS ?_ rfl | refine LX.setA ?_ (by first | assumption | omega))) (by first | assumption | omega)) ?_
  rcases evv with ⟨rfl, sat⟩ | ⟨rfl, sat⟩
  · exact Ends.b0 (fun z => absurd z (by decide)) (fun _ => out _ _ _ l1 G1 t1 (Or.inr sat))
  refine Ends.b0 (fun _ => ?_) (fun z => absurd rfl z)
  -- the search behind the filter
  have find : ∀ (q : AH) (K0 : Nat → Bool), Agr (mlW B) h q → hv q (B + 149) 0 = 0 → (∀ j, j < jn → hv q (B + 218) j = if K0 j = true then 0 else 1) → Fil (TiAll jn ja jb jx js) jn jn K0 → ∀ (r i : Nat), i + r = jn → LX B n q → ((cntN (fun j => !K0 j) i : Nat) : Int) ≤ k → Ends (ev PP (gsF gv) B d 729 88 [(2, rf (B + 149)), (0, k), (0, k - ((cntN (fun j => !K0 j) i : Nat) : Int)), (0, (i : Int))] [] q) Q := by
    intro q K0 gq tq oq fl r
    induction r with
    | zero =>
      intro i hi lq hc
      obtain rfl : i = jn := by omega
      refine Ends.eq (b729_88 (n := n) (by (repeat' first | assumption | refine LX.setF _ _ ?_ (by decide +kernel) | refine LX.setS ?_ rfl | refine LX.setA ?_ (by first | assumption | omega))) (by first | assumption | omega)) ?_
      rw [(Jq _ gq).2.1]
      exact Ends.b3 (fun _ => Ends.sm (K _ _ ⟨gq, tq, Or.inr ⟨k0, sat, K0, fl, Or.inr ⟨rfl, hc⟩⟩⟩)) (fun z => by omega)
    | succ r ih =>
      intro i hi lq hc
      have cl := cntN_le (fun j => !K0 j) i
      have nx : ∀ x2 : Int, x2 = k - ((cntN (fun j => !K0 j) i : Nat) : Int) → (K0 i = false → x2 ≠ 0) → Ends (ev PP (gsF gv) B d 729 111 [(2, rf (B + 149)), (0, k), (0, x2), (0, (i : Int))] [] q) Q := fun x2 ex ne => by
        refine Ends.eq (b729_111 (n := n) (by (repeat' first | assumption | refine LX.setF _ _ ?_ (by decide +kernel) | refine LX.setS ?_ rfl | refine LX.setA ?_ (by first | assumption | omega))) (by first | assumption | omega)) ?_
        rw [tn, oq i (by omega), w_succ (by omega)]
        refine Ends.g ⟨by omega, by omega⟩ ?_
        cases e : K0 i
        · have := ne e
          rw [show cond (tst 0 (if false = true then (0 : Int) else 1) 0) x2 (w32 (x2 + (-1))) = k - ((cntN (fun j => !K0 j) (i + 1) : Nat) : Int) from by
            show w32 (x2 + (-1)) = _
            rw [inc32 (by omega) (by omega), cntN_s, e]
            simp
            omega]
          refine ih (i + 1) (by omega) lq ?_
          rw [cntN_s, e]
          simp
          omega
        · have ec : cntN (fun j => !K0 j) (i + 1) = cntN (fun j => !K0 j) i := by rw [cntN_s, e]; rfl
          rw [show cond (tst 0 (if true = true then (0 : Int) else 1) 0) x2 (w32 (x2 + (-1))) = k - ((cntN (fun j => !K0 j) (i + 1) : Nat) : Int) from by
            rw [ec]
            exact ex]
          exact ih (i + 1) (by omega) lq (by rw [ec]; exact hc)
      refine Ends.eq (b729_88 (n := n) (by (repeat' first | assumption | refine LX.setF _ _ ?_ (by decide +kernel) | refine LX.setS ?_ rfl | refine LX.setA ?_ (by first | assumption | omega))) (by first | assumption | omega)) ?_
      rw [(Jq _ gq).2.1, tn, oq i (by omega)]
      refine Ends.b3 (fun z => by omega) (fun _ => Ends.g ⟨by omega, by omega⟩ ?_)
      cases e : K0 i
      · refine Ends.b0 (fun z => absurd z (by decide)) (fun _ => Ends.b1 (fun z => nx _ rfl (fun _ => z)) (fun z => ?_))
        exact Ends.sm (K _ _ ⟨gq, tq, Or.inr ⟨k0, sat, K0, fl, Or.inl ⟨i, by omega, e, rfl, by omega⟩⟩⟩)
      · exact Ends.b0 (fun _ => nx _ rfl (fun z => absurd (e.symm.trans z) (by decide))) (fun z => absurd rfl z)
  have filt : ∀ (c r : Nat) (q : AH) (K0 : Nat → Bool) (u3 : AV), r + c = jn → LX B n q → Agr (mlW B) h q → hv q (B + 149) 0 = 0 → (∀ j, j < jn → hv q (B + 218) j = if K0 j = true then 0 else 1) → Fil (TiAll jn ja jb jx js) jn r K0 → (∀ j, K0 j = true → c ≤ j ∧ j < jn) → Ends (ev PP (gsF gv) B d 729 49 [(2, rf (B + 149)), (0, k), (0, (c : Int) - 1), u3] [] q) Q := by
    intro c
    induction c with
    | zero =>
      intro r q K0 u3 hr lq gq tq oq fl hK
      obtain rfl : r = jn := by omega
      refine Ends.eq (b729_49 (n := n) (by (repeat' first | assumption | refine LX.setF _ _ ?_ (by decide +kernel) | refine LX.setS ?_ rfl | refine LX.setA ?_ (by first | assumption | omega))) (by first | assumption | omega)) ?_
      refine Ends.b2 (fun _ => ?_) (fun z => by omega)
      have := find q K0 gq tq oq fl r 0 (by omega) lq (by show ((0 : Nat) : Int) ≤ k; omega)
      rw [show k - ((cntN (fun j => !K0 j) 0 : Nat) : Int) = k from by show k - ((0 : Nat) : Int) = k; omega] at this
      exact this
    | succ c ih =>
      intro r q K0 u3 hr lq gq tq oq fl hK
      have ec : ((c + 1 : Nat) : Int) - 1 = (c : Int) := by omega
      rw [ec]
      refine Ends.eq (b729_49 (n := n) (by (repeat' first | assumption | refine LX.setF _ _ ?_ (by decide +kernel) | refine LX.setS ?_ rfl | refine LX.setA ?_ (by first | assumption | omega))) (by first | assumption | omega)) ?_
      rw [tn]
      refine Ends.b2 (fun z => by omega) (fun _ => Ends.g ⟨by omega, by omega⟩ ?_)
      have l3 : LX B n (hset q (B + 218) c (anar 3 0)) := LX.setS lq rfl
      have g3 : Agr (mlW B) h (hset q (B + 218) c (anar 3 0)) := gq.set (Or.inr (Or.inl rfl))
      have o3 : ∀ j, j < jn → hv (hset q (B + 218) c (anar 3 0)) (B + 218) j = if (K0 j || decide (j = jn - 1 - r)) = true then 0 else 1 := fun j hj => by
        have : jn - 1 - r = c := by omega
        rw [this]
        by_cases z : j = c
        · rw [z, hv_set_at]; simp; rfl
        · rw [hv_set_ne (by omega), oq j hj]; simp [z]
      refine Ends.ct l3 (by decide +kernel) (by decide) (c_canHold566 (ou := fun j => K0 j || decide (j = jn - 1 - r)) l3 (by omega) (Jq _ g3) (Or.inr ⟨rfl, o3⟩)) (fun x h4 l4 _ _ _ ⟨g4, ex⟩ => ?_)
      have G4 := g3.tr g4 (fun c k z => Or.inl z)
      have t4 : hv h4 (B + 149) 0 = 0 := by rw [g4.at _ _ (by unfold utW; omega), hv_na (by omega)]; exact tq
      have o4 : ∀ j, j < jn → hv h4 (B + 218) j = if (K0 j || decide (j = jn - 1 - r)) = true then 0 else 1 := fun j hj => by rw [g4.at _ _ (by unfold utW; omega)]; exact o3 j hj
      refine Ends.eq (b729_68 (n := n) (by (repeat' first | assumption | refine LX.setF _ _ ?_ (by decide +kernel) | refine LX.setS ?_ rfl | refine LX.setA ?_ (by first | assumption | omega))) (by first | assumption | omega)) ?_
      rcases ex with ⟨rfl, s4⟩ | ⟨rfl, s4⟩
      · refine Ends.b0 (fun z => absurd z (by decide)) (fun _ => Ends.g ⟨by omega, by omega⟩ ?_)
        have l5 : LX B n (hset h4 (B + 218) (Int.toNat (c : Int)) (anar 3 1)) := LX.setS l4 rfl
        refine Ends.eq (b729_78 (n := n) (by (repeat' first | assumption | refine LX.setF _ _ ?_ (by decide +kernel) | refine LX.setS ?_ rfl | refine LX.setA ?_ (by first | assumption | omega))) (by first | assumption | omega)) ?_
        rw [tn] at l5 ⊢
        rw [show w32 ((c : Int) + (-1)) = (c : Int) - 1 from by rw [inc32 (by omega) (by omega)]; omega]
        refine ih (r + 1) _ K0 _ (by omega) l5 (G4.set (Or.inr (Or.inl rfl))) (by rw [hv_na (by omega)]; exact t4) (fun j hj => ?_) ⟨K0, fl, Or.inl ⟨s4, fun _ => rfl⟩⟩ (fun j e => by have := hK j e; omega)
        have kc : K0 c = false := by
          cases e : K0 c
          · rfl
          · have := hK c e; omega
        by_cases z : j = c
        · rw [z, hv_set_at, kc]; rfl
        · rw [hv_set_ne (by omega), o4 j hj]
          have : ¬ j = jn - 1 - r := by omega
          simp [this]
      · refine Ends.b0 (fun _ => ?_) (fun z => absurd rfl z)
        refine Ends.eq (b729_78 (n := n) (by (repeat' first | assumption | refine LX.setF _ _ ?_ (by decide +kernel) | refine LX.setS ?_ rfl | refine LX.setA ?_ (by first | assumption | omega))) (by first | assumption | omega)) ?_
        rw [show w32 ((c : Int) + (-1)) = (c : Int) - 1 from by rw [inc32 (by omega) (by omega)]; omega]
        refine ih (r + 1) _ _ _ (by omega) l4 G4 t4 o4 ⟨K0, fl, Or.inr ⟨s4, fun _ => rfl⟩⟩ (fun j e => ?_)
        by_cases z : j = jn - 1 - r
        · omega
        · simp [z] at e
          have := hK j e
          omega
  have fill : ∀ (r i : Nat) (q : AH) (u3 : AV), i + r = jn → LX B n q → Agr (mlW B) h q → hv q (B + 149) 0 = 0 → (∀ j, j < i → hv q (B + 218) j = 1) → Ends (ev PP (gsF gv) B d 729 21 [(2, rf (B + 149)), (0, k), (0, (i : Int)), u3] [] q) Q := by
    intro r
    induction r with
    | zero =>
      intro i q u3 hi lq gq tq lo
      refine Ends.eq (b729_21 (n := n) (by (repeat' first | assumption | refine LX.setF _ _ ?_ (by decide +kernel) | refine LX.setS ?_ rfl | refine LX.setA ?_ (by first | assumption | omega))) (by first | assumption | omega)) ?_
      rw [(Jq _ gq).2.1]
      refine Ends.b3 (fun _ => ?_) (fun z => by omega)
      rw [show bop32 100 (jn : Int) 1 = (jn : Int) - 1 from sub32 (by omega) (by omega)]
      exact filt jn 0 q (fun _ => false) _ (by omega) lq gq tq (fun j hj => by rw [lo j (by omega)]; rfl) (fun _ => rfl) (fun j e => absurd e Bool.false_ne_true)
    | succ r ih =>
      intro i q u3 hi lq gq tq lo
      refine Ends.eq (b729_21 (n := n) (by (repeat' first | assumption | refine LX.setF _ _ ?_ (by decide +kernel) | refine LX.setS ?_ rfl | refine LX.setA ?_ (by first | assumption | omega))) (by first | assumption | omega)) ?_
      rw [(Jq _ gq).2.1, tn, w_succ (by omega)]
      refine Ends.b3 (fun z => by omega) (fun _ => Ends.g ⟨by omega, by omega⟩ ?_)
      refine ih (i + 1) _ _ (by omega) (LX.setS lq rfl) (gq.set (Or.inr (Or.inl rfl))) (by rw [hv_na (by omega)]; exact tq) (fun j hj => ?_)
      by_cases z : j = i
      · rw [z]; exact hv_set_at ..
      · rw [hv_set_ne (by omega)]; exact lo j (by omega)
  exact fill jn 0 h1 _ (by omega) l1 G1 t1 (fun j hj => absurd hj (by omega))
end MSET
