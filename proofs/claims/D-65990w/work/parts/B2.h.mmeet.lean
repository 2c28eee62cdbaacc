/-! L3: two places meet: the model -/
section INV
variable {n w g : Nat}
/-- which number of the turned point is number a of the point -/
def iv (w a : Nat) : Nat := if perL.getD (3 * (w / 8)) 0 = a then 0 else if perL.getD (3 * (w / 8) + 1) 0 = a then 1 else 2
theorem iv_3 : ∀ p : Fin 6, ∀ a : Fin 3, (if perL.getD (3 * p) 0 = a then 0 else if perL.getD (3 * p + 1) 0 = a then 1 else 2) < 3 ∧ perL.getD (3 * p + (if perL.getD (3 * p) 0 = a then 0 else if perL.getD (3 * p + 1) 0 = a then 1 else 2)) 0 = a := by decide +kernel
theorem iv_is (hw : w < 48) {a : Nat} (ha : a < 3) : iv w a < 3 ∧ perL.getD (3 * (w / 8) + iv w a) 0 = a := iv_3 ⟨w / 8, by omega⟩ ⟨a, ha⟩
theorem per_inj : ∀ p : Fin 6, ∀ k m : Fin 3, perL.getD (3 * p + k) 0 = perL.getD (3 * p + m) 0 → k = m := by decide +kernel
theorem rests_back : ∀ t : Fin 24, ∀ w : Fin 48, tyN ((if (w : Nat) / 2 ^ iv w 0 % 2 = 1 then 8 - rT t (iv w 0) else rT t (iv w 0)) % 8) ((if (w : Nat) / 2 ^ iv w 1 % 2 = 1 then 8 - rT t (iv w 1) else rT t (iv w 1)) % 8) ((if (w : Nat) / 2 ^ iv w 2 % 2 = 1 then 8 - rT t (iv w 2) else rT t (iv w 2)) % 8) < 24 := by decide +kernel
theorem gAt_self (hg : g < gN n) : gAt n (g8 n g 0 : Nat) (g8 n g 1 : Nat) (g8 n g 2 : Nat) = (g : Int) := by
  obtain ⟨_, x1, x2, x3, x4⟩ := g_lt hg
  have r0 := rT_lt ⟨gSo g, x4⟩ 0
  have r1 := rT_lt ⟨gSo g, x4⟩ 1
  have r2 := rT_lt ⟨gSo g, x4⟩ 2
  have e0 : g8 n g 0 = 8 * gX n g + rT (gSo g) 0 := rfl
  have e1 : g8 n g 1 = 8 * gY n g + rT (gSo g) 1 := rfl
  have e2 : g8 n g 2 = 8 * gZ n g + rT (gSo g) 2 := rfl
  have r0' : 1 ≤ rT (gSo g) 0 ∧ rT (gSo g) 0 < 8 := r0
  have r1' : 1 ≤ rT (gSo g) 1 ∧ rT (gSo g) 1 < 8 := r1
  have r2' : 1 ≤ rT (gSo g) 2 ∧ rT (gSo g) 2 < 8 := r2
  rw [gAt_in (by omega) (by omega) (by omega), e0, e1, e2, show (8 * gX n g + rT (gSo g) 0) / 8 = gX n g by omega, show (8 * gY n g + rT (gSo g) 1) / 8 = gY n g by omega, show (8 * gZ n g + rT (gSo g) 2) / 8 = gZ n g by omega, show (8 * gX n g + rT (gSo g) 0) % 8 = rT (gSo g) 0 by omega, show (8 * gY n g + rT (gSo g) 1) % 8 = rT (gSo g) 1 by omega, show (8 * gZ n g + rT (gSo g) 2) % 8 = rT (gSo g) 2 by omega]
  have := tyN_rT ⟨gSo g, x4⟩
  simp only at this
  rw [this, gI_g]
theorem g8_ty (hg : g < gN n) : tyN (g8 n g 0 % 8) (g8 n g 1 % 8) (g8 n g 2 % 8) < 24 := by
  obtain ⟨_, x1, x2, x3, x4⟩ := g_lt hg
  have r0 : 1 ≤ rT (gSo g) 0 ∧ rT (gSo g) 0 < 8 := rT_lt ⟨gSo g, x4⟩ 0
  have r1 : 1 ≤ rT (gSo g) 1 ∧ rT (gSo g) 1 < 8 := rT_lt ⟨gSo g, x4⟩ 1
  have r2 : 1 ≤ rT (gSo g) 2 ∧ rT (gSo g) 2 < 8 := rT_lt ⟨gSo g, x4⟩ 2
  have e0 : g8 n g 0 = 8 * gX n g + rT (gSo g) 0 := rfl
  have e1 : g8 n g 1 = 8 * gY n g + rT (gSo g) 1 := rfl
  have e2 : g8 n g 2 = 8 * gZ n g + rT (gSo g) 2 := rfl
  rw [e0, e1, e2, show (8 * gX n g + rT (gSo g) 0) % 8 = rT (gSo g) 0 by omega, show (8 * gY n g + rT (gSo g) 1) % 8 = rT (gSo g) 1 by omega, show (8 * gZ n g + rT (gSo g) 2) % 8 = rT (gSo g) 2 by omega]
  have := tyN_rT ⟨gSo g, x4⟩
  simp only at this
  rw [this]
  exact x4
/-- the turned-back point: all about it -/
theorem back_ty (hw : w < 48) {f V : Nat → Nat} (hV : ∀ k, k < 3 → (V (perL.getD (3 * (w / 8) + k) 0) : Int) = if w / 2 ^ k % 2 = 1 then 8 * (n : Int) - (f k : Int) else (f k : Int)) (hf : ∀ k, k < 3 → 0 < f k ∧ f k < 8 * n) (ty : tyN (f 0 % 8) (f 1 % 8) (f 2 % 8) < 24) : tyN (V 0 % 8) (V 1 % 8) (V 2 % 8) < 24 := by
  have q := rests_back ⟨tyN (f 0 % 8) (f 1 % 8) (f 2 % 8), ty⟩ ⟨w, hw⟩
  obtain ⟨t0, t1, t2⟩ := rT_tyN ⟨f 0 % 8, by omega⟩ ⟨f 1 % 8, by omega⟩ ⟨f 2 % 8, by omega⟩ ty
  simp only at t0 t1 t2 q
  have tk : ∀ k, k < 3 → rT (tyN (f 0 % 8) (f 1 % 8) (f 2 % 8)) k = f k % 8 := fun k hk => by
    have c : k = 0 ∨ k = 1 ∨ k = 2 := by omega
    rcases c with rfl | rfl | rfl
    · exact t0
    · exact t1
    · exact t2
  have vk : ∀ a, a < 3 → V a % 8 = (if w / 2 ^ iv w a % 2 = 1 then 8 - rT (tyN (f 0 % 8) (f 1 % 8) (f 2 % 8)) (iv w a) else rT (tyN (f 0 % 8) (f 1 % 8) (f 2 % 8)) (iv w a)) % 8 := fun a ha => by
    obtain ⟨i1, i2⟩ := iv_is hw ha
    have h1 := hV (iv w a) i1
    have h2 := hf (iv w a) i1
    rw [i2] at h1
    rw [tk _ i1]
    split at h1
    · next z => rw [if_pos z]; omega
    · next z => rw [if_neg z]; omega
  rw [vk 0 (by decide), vk 1 (by decide), vk 2 (by decide)]
  exact q
end INV
section MEETM
variable {gv : Nat → Int} {B n d : Nat} {h : AH} {is : Nat → Bool} {S : Nat → Nat → Bool} {pl : Nat} {bd wy : Nat → Nat} {sh : Nat → Nat → Int} {lw hg : Nat → Nat → Nat} {M : Int} {i j ax : Nat} {y : Int}
theorem ix8 {w k : Nat} (hw : w < 48) (hk : k < 3) : bop32 96 (bop32 104 (3 : Int) (bop32 108 (w : Int) (8 : Int))) (k : Int) = ((3 * (w / 8) + k : Nat) : Int) := by
  rw [show bop32 108 (w : Int) 8 = ((w / 8 : Nat) : Int) from divNN (y := 8) (by omega) (by decide), show bop32 104 (3 : Int) ((w / 8 : Nat) : Int) = ((3 * (w / 8) : Nat) : Int) from mulNN (x := 3) (by omega), addNN (by omega)]
def meW (B : Nat) : Nat → Nat → Prop := fun c _ => c = B + 186 ∨ c = B + 220
theorem in_c {x : Int} {b : Bool} {N : Nat} : cond (tst 0 (if b = true then (1 : Int) else 0) 0) (0 : Int) (cond (tst 2 (cmp64 x 0) 0) 0 (cond (tst 3 (cmp64 x (N : Int)) 0) 0 1)) = if (b && decide (0 ≤ x ∧ x < (N : Int))) = true then 1 else 0 := by
  have c1 := cmp64_neg (x := x) (y := 0)
  have c2 := cmp64_neg (x := x) (y := (N : Int))
  cases b
  · rfl
  rw [tst2, tst3, Bool.true_and]
  by_cases h1 : x < 0
  · rw [decide_eq_true (c1.mpr h1), decide_eq_false (show ¬ (0 ≤ x ∧ x < (N : Int)) by omega)]; rfl
  · rw [decide_eq_false (fun z => h1 (c1.mp z))]
    by_cases h2 : x < (N : Int)
    · rw [decide_eq_true (c2.mpr h2), decide_eq_true (show 0 ≤ x ∧ x < (N : Int) by omega)]; rfl
    · rw [decide_eq_false (fun z => h2 (c2.mp z)), decide_eq_false (show ¬ (0 ≤ x ∧ x < (N : Int)) by omega)]; rfl
/-- number k of a point of place i as place j sees it -/
def fra (n : Nat) (wy : Nat → Nat) (sh : Nat → Nat → Int) (i j ax : Nat) (y : Int) (g k : Nat) : Int := tu8 n (wy i) g k + 8 * (sh k i - sh k j + if k = ax then y else 0)
theorem c_meets748 (l : LX B n h) (hd : 10 ≤ d) (hn : n ≤ 52) (m : TbM B h) (b : BdM B n h is S) (P : AsQ B h pl bd wy sh lw hg) (V : AsV n is M pl bd wy sh lw hg) (hM : M ≤ 1000000) (hi : i < pl) (hj : j < pl) (hy : -1000 ≤ y ∧ y ≤ 1000) :
    Vt 0 (cll PP (ev PP (gsF gv) B) d 748 [(2, rf (B + 149)), (0, (i : Int)), (0, (j : Int)), (0, (ax : Int)), (0, y)] h) (fun v h' => Agr (meW B) h h' ∧ ((v = 1 ∧ MtS n (wy j) (wy i) (S (bd j)) (S (bd i)) (fun k => sh k i - sh k j + if k = ax then y else 0)) ∨ (v = 0 ∧ ¬ MtS n (wy j) (wy i) (S (bd j)) (S (bd i)) (fun k => sh k i - sh k j + if k = ax then y else 0)))) := by
  have hp := V.1
  have Vi := V.2 i hi
  have Vj := V.2 j hj
  have hG := gN_le hn
  have bi := (b.1 _ Vi.1).2 Vi.2.1
  have bj := (b.1 _ Vj.1).2 Vj.2.1
  have hwi := Vi.2.2.1
  have hwj := Vj.2.2.1
  have fb : ∀ g k, g < gN n → k < 3 → -20000000 ≤ fra n wy sh i j ax y g k ∧ fra n wy sh i j ax y g k ≤ 20000000 := fun g k hg hk => by
    have r := tu8_rng hn hg hwi hk
    have s1 := Vi.2.2.2 k hk
    have s2 := Vj.2.2.2 k hk
    unfold fra
    split <;> omega
  refine Vt.inq (D := 9) hd (Nat.le_of_ble_eq_true rfl) rfl (fun d hd Q K => ?_)
  have grs : ∀ (r g : Nat) (q : AH) (u7 u8 u9 u10 u11 : AV), g + r = gN n → LX B n q → Agr (meW B) h q → (∀ g0, g0 < g → S (bd i) g0 = true → ¬ ∃ g1, g1 < gN n ∧ S (bd j) g1 = true ∧ ∀ k, k < 3 → tu8 n (wy j) g1 k = fra n wy sh i j ax y g0 k) → Ends (ev PP (gsF gv) B d 748 11 [(2, rf (B + 149)), (0, (i : Int)), (0, (j : Int)), (0, (ax : Int)), (0, y), (0, (bd i : Int)), (0, (g : Int)), u7, u8, u9, u10, u11] [] q) Q := by
    intro r
    induction r with
    | zero =>
      intro g q u7 u8 u9 u10 u11 hg lq gq no
      obtain rfl : g = gN n := by omega
      refine Ends.eq (b748_11 (n := n) (by (repeat' first | assumption | refine LX.setF _ _ ?_ (by decide +kernel) | refine LX.setS ?_ rfl | refine LX.setA ?_ (by first | assumption | omega))) (by first | assumption | omega)) ?_
      refine Ends.b3 (fun _ => Ends.sm (K _ _ ⟨gq, Or.inr ⟨rfl, ?_⟩⟩)) (fun z => by omega)
      rintro ⟨g1, g0, h1, h0, a1, a0, e⟩
      exact no g0 h0 a0 ⟨g1, h1, a1, e⟩
    | succ r ih =>
      intro g q u7 u8 u9 u10 u11 hg lq gq no
      have hgn : g < gN n := by omega
      have mq : TbM B q := m.agr gq (fun c k h1 h2 h3 z => by unfold meW at z; omega)
      obtain ⟨a1, a2⟩ := has_is (bi.agr gq (fun k hk z => by unfold meW at z; omega)) (by omega) hn hgn
      have nx : ∀ (q2 : AH) (u7 u8 u9 u10 u11 : AV), LX B n q2 → Agr (meW B) h q2 → (S (bd i) g = true → ¬ ∃ g1, g1 < gN n ∧ S (bd j) g1 = true ∧ ∀ k, k < 3 → tu8 n (wy j) g1 k = fra n wy sh i j ax y g k) → Ends (ev PP (gsF gv) B d 748 321 [(2, rf (B + 149)), (0, (i : Int)), (0, (j : Int)), (0, (ax : Int)), (0, y), (0, (bd i : Int)), (0, (g : Int)), u7, u8, u9, u10, u11] [] q2) Q := fun q2 u7 u8 u9 u10 u11 l2 g2 no2 => by
        refine Ends.eq (b748_321 (n := n) (by (repeat' first | assumption | refine LX.setF _ _ ?_ (by decide +kernel) | refine LX.setS ?_ rfl | refine LX.setA ?_ (by first | assumption | omega))) (by first | assumption | omega)) ?_
        rw [w_succ (by omega)]
        refine ih (g + 1) q2 _ _ _ _ _ (by omega) l2 g2 (fun g0 h0 => ?_)
        by_cases z : g0 = g
        · rw [z]; exact no2
        · exact no g0 (by omega)
      refine Ends.eq (b748_11 (n := n) (by (repeat' first | assumption | refine LX.setF _ _ ?_ (by decide +kernel) | refine LX.setS ?_ rfl | refine LX.setA ?_ (by first | assumption | omega))) (by first | assumption | omega)) ?_
      rw [a2]
      refine Ends.b3 (fun z => by omega) (fun _ => Ends.g a1 ?_)
      cases hS : S (bd i) g
      · exact Ends.b1 (fun z => absurd rfl z) (fun _ => nx q _ _ _ _ _ lq gq (fun z => by rw [hS] at z; exact absurd z (by decide)))
      refine Ends.b1 (fun _ => ?_) (fun z => absurd z (by decide))
      -- behind both loops
      have back : ∀ (r k : Nat) (q2 : AH) (u9 u10 u11 : AV) (f : Nat → Nat), k + r = 3 → LX B n q2 → Agr (meW B) h q2 → (∀ k, k < 3 → hv q2 (B + 220) k = (f k : Int) ∧ (f k : Int) = fra n wy sh i j ax y g k ∧ f k < 8 * n) → (∀ c, c < k → hv q2 (B + 186) (perL.getD (3 * (wy j / 8) + c) 0) = if wy j / 2 ^ c % 2 = 1 then 8 * (n : Int) - (f c : Int) else (f c : Int)) → Ends (ev PP (gsF gv) B d 748 209 [(2, rf (B + 149)), (0, (i : Int)), (0, (j : Int)), (0, (ax : Int)), (0, y), (0, (bd i : Int)), (0, (g : Int)), (0, 1), (0, (k : Int)), u9, u10, u11] [] q2) Q := by
        intro r
        induction r with
        | zero =>
          intro k q2 u9 u10 u11 f hk l2 g2 hf hV
          obtain rfl : k = 3 := by omega
          have m2 : TbM B q2 := m.agr g2 (fun c k h1 h2 h3 z => by unfold meW at z; omega)
          have tyf : tyN (f 0 % 8) (f 1 % 8) (f 2 % 8) < 24 := by
            have := tu_ty hn hgn hwi (sh 0 i - sh 0 j + if 0 = ax then y else 0) (sh 1 i - sh 1 j + if 1 = ax then y else 0) (sh 2 i - sh 2 j + if 2 = ax then y else 0)
            have f0 := (hf 0 (by decide)).2.1
            have f1 := (hf 1 (by decide)).2.1
            have f2 := (hf 2 (by decide)).2.1
            unfold fra at f0 f1 f2
            rw [← f0, ← f1, ← f2] at this
            exact this (by omega) (by omega) (by omega)
          have f0 : ∀ k, k < 3 → 0 < f k ∧ f k < 8 * n := fun k hk => by
            refine ⟨?_, (hf k hk).2.2⟩
            have q := tyf
            -- a rest is never nought
            obtain ⟨t0, t1, t2⟩ := rT_tyN ⟨f 0 % 8, by omega⟩ ⟨f 1 % 8, by omega⟩ ⟨f 2 % 8, by omega⟩ tyf
            have l0 := rT_lt ⟨_, tyf⟩ 0
            have l1 := rT_lt ⟨_, tyf⟩ 1
            have l2 := rT_lt ⟨_, tyf⟩ 2
            have t0' : rT (tyN (f 0 % 8) (f 1 % 8) (f 2 % 8)) 0 = f 0 % 8 := t0
            have t1' : rT (tyN (f 0 % 8) (f 1 % 8) (f 2 % 8)) 1 = f 1 % 8 := t1
            have t2' : rT (tyN (f 0 % 8) (f 1 % 8) (f 2 % 8)) 2 = f 2 % 8 := t2
            have l0' : 1 ≤ rT (tyN (f 0 % 8) (f 1 % 8) (f 2 % 8)) 0 := l0.1
            have l1' : 1 ≤ rT (tyN (f 0 % 8) (f 1 % 8) (f 2 % 8)) 1 := l1.1
            have l2' : 1 ≤ rT (tyN (f 0 % 8) (f 1 % 8) (f 2 % 8)) 2 := l2.1
            have c : k = 0 ∨ k = 1 ∨ k = 2 := by omega
            rcases c with rfl | rfl | rfl <;> omega
          obtain ⟨Vp, eVp⟩ : ∃ Vp : Nat → Nat, ∀ a, Vp a = (hv q2 (B + 186) a).toNat := ⟨_, fun _ => rfl⟩
          have hVn : ∀ a, a < 3 → hv q2 (B + 186) a = (Vp a : Int) ∧ Vp a < 8 * n := fun a ha => by
            obtain ⟨i1, i2⟩ := iv_is hwj ha
            have h1 := hV _ i1
            have h2 := f0 _ i1
            rw [i2] at h1
            rw [eVp]
            split at h1 <;> omega
          have hVk : ∀ k, k < 3 → (Vp (perL.getD (3 * (wy j / 8) + k) 0) : Int) = if wy j / 2 ^ k % 2 = 1 then 8 * (n : Int) - (f k : Int) else (f k : Int) := fun k hk => by
            rw [← (hVn _ (per_lt ⟨3 * (wy j / 8) + k, by omega⟩)).1]; exact hV k hk
          have tyV := back_ty hwj hVk f0 tyf
          obtain ⟨v0, b0⟩ := hVn 0 (by decide)
          obtain ⟨v1, b1⟩ := hVn 1 (by decide)
          obtain ⟨v2, b2⟩ := hVn 2 (by decide)
          have eg : gAt n (Vp 0 : Int) (Vp 1 : Int) (Vp 2 : Int) = ((gI n (Vp 0 / 8) (Vp 1 / 8) (Vp 2 / 8) (tyN (Vp 0 % 8) (Vp 1 % 8) (Vp 2 % 8)) : Nat) : Int) := gAt_in b0 b1 b2
          have hg1 : gI n (Vp 0 / 8) (Vp 1 / 8) (Vp 2 / 8) (tyN (Vp 0 % 8) (Vp 1 % 8) (Vp 2 % 8)) < gN n := gI_lt (by omega) (by omega) (by omega) tyV
          generalize gI n (Vp 0 / 8) (Vp 1 / 8) (Vp 2 / 8) (tyN (Vp 0 % 8) (Vp 1 % 8) (Vp 2 % 8)) = g1 at eg hg1
          -- the grain there is the one that turns to it
          have key : ∀ x, x < gN n → ((∀ k, k < 3 → tu8 n (wy j) x k = fra n wy sh i j ax y g k) ↔ x = g1) := fun x hx => by
            have tk : ∀ k, k < 3 → (tu8 n (wy j) x k = fra n wy sh i j ax y g k ↔ Vp (perL.getD (3 * (wy j / 8) + k) 0) = g8 n x (perL.getD (3 * (wy j / 8) + k) 0)) := fun k hk => by
              have h1 := hVk k hk
              have h2 := (hf k hk).2.1
              rw [← h2]
              unfold tu8
              split at h1
              · next z => rw [if_pos z]; omega
              · next z => rw [if_neg z]; omega
            have all : (∀ k, k < 3 → tu8 n (wy j) x k = fra n wy sh i j ax y g k) ↔ ∀ a, a < 3 → Vp a = g8 n x a := by
              constructor
              · intro e a ha
                obtain ⟨i1, i2⟩ := iv_is hwj ha
                have := (tk _ i1).mp (e _ i1)
                rw [i2] at this
                exact this
              · intro e k hk
                exact (tk k hk).mpr (e _ (per_lt ⟨3 * (wy j / 8) + k, by omega⟩))
            rw [all]
            constructor
            · intro e
              have s := gAt_self hx
              rw [← e 0 (by decide), ← e 1 (by decide), ← e 2 (by decide), eg] at s
              exact (Int.ofNat.inj s).symm
            · intro e
              rw [e]
              have s := gAt_self hg1
              obtain ⟨q0, q1, q2⟩ := gAt_eq eg s (fun _ _ _ => tyV) (fun _ _ _ => g8_ty hg1)
              intro a ha
              have c : a = 0 ∨ a = 1 ∨ a = 2 := by omega
              rcases c with rfl | rfl | rfl <;> omega
          obtain ⟨c1, c2⟩ := has_is (bj.agr g2 (fun k hk z => by unfold meW at z; omega)) (by omega) hn hg1
          refine Ends.eq (b748_209 (n := n) (by (repeat' first | assumption | refine LX.setF _ _ ?_ (by decide +kernel) | refine LX.setS ?_ rfl | refine LX.setA ?_ (by first | assumption | omega))) (by first | assumption | omega)) ?_
          obtain ⟨k1, k2⟩ := gAt_is (x := hv q2 (B + 186) 0) (y := hv q2 (B + 186) 1) (z := hv q2 (B + 186) 2) m2 hn (fun _ _ _ => by rw [v0, v1, v2]; exact tyV)
          rw [tn, g2.at (B + 205) j (by unfold meW; omega), (P j hj).1, show Int.toNat (0 : Int) = 0 from rfl, show Int.toNat (1 : Int) = 1 from rfl, show Int.toNat (2 : Int) = 2 from rfl]
          refine Ends.b3 (fun _ => Ends.g ⟨by omega, by omega⟩ (Ends.g k1 ?_)) (fun z => absurd z (by decide))
          rw [k2, v0, v1, v2, eg, c2]
          refine Ends.g c1 ?_
          cases hS1 : S (bd j) g1
          · refine Ends.b0 (fun _ => nx q2 _ _ _ _ _ l2 g2 (fun _ => ?_)) (fun z => absurd rfl z)
            rintro ⟨x, hx, sx, ex⟩
            rw [(key x hx).mp ex, hS1] at sx
            exact absurd sx (by decide)
          · refine Ends.b0 (fun z => absurd z (by decide)) (fun _ => Ends.sm (K _ _ ⟨g2, Or.inl ⟨rfl, g1, g, hg1, hgn, hS1, hS, fun k hk => (key g1 hg1).mpr rfl k hk⟩⟩))
        | succ r ihb =>
          intro k q2 u9 u10 u11 f hk l2 g2 hf hV
          have hk3 : k < 3 := by omega
          have m2 : TbM B q2 := m.agr g2 (fun c k h1 h2 h3 z => by unfold meW at z; omega)
          have ix : 3 * (wy j / 8) + k < 18 := by omega
          have pl3 : perL.getD (3 * (wy j / 8) + k) 0 < 3 := per_lt ⟨_, ix⟩
          have ep : hv q2 (B + 187) (3 * (wy j / 8) + k) = ((perL.getD (3 * (wy j / 8) + k) 0 : Nat) : Int) := m2.2.2 _ ix
          obtain ⟨f1, f2, f3⟩ := hf k hk3
          have e206 : hv q2 (B + 206) j = (wy j : Int) := by rw [g2.at _ _ (by unfold meW; omega)]; exact (P j hj).2.1
          have evv : cond (tst 0 (bop32 126 (bop32 122 (wy j : Int) (k : Int)) 1) 0) (f k : Int) (bop32 100 (bop32 104 8 (n : Int)) (f k : Int)) = if wy j / 2 ^ k % 2 = 1 then 8 * (n : Int) - (f k : Int) else (f k : Int) := by
            rw [bit32 (by omega) (by omega), show bop32 104 (8 : Int) (n : Int) = 8 * (n : Int) from mul32 (by omega) (by omega), sub32 (by omega) (by omega)]
            have c : wy j / 2 ^ k % 2 = 0 ∨ wy j / 2 ^ k % 2 = 1 := by omega
            rcases c with z | z
            · rw [z]; rfl
            · rw [z]; rfl
          refine Ends.eq (b748_209 (n := n) (by (repeat' first | assumption | refine LX.setF _ _ ?_ (by decide +kernel) | refine LX.setS ?_ rfl | refine LX.setA ?_ (by first | assumption | omega))) (by first | assumption | omega)) ?_
          rw [tn, e206, ix8 hwj hk3, tn, ep, tn, tn, f1, evv, an0, w_succ (by omega)]
          refine Ends.b3 (fun z => by omega) (fun _ => Ends.g ⟨by omega, by omega⟩ (Ends.g ⟨by omega, by omega⟩ (Ends.g (by generalize tst 0 _ 0 = tb0; cases tb0 <;> exact ⟨by omega, by omega⟩) (Ends.g ⟨by omega, by omega⟩ ?_))))
          refine ihb (k + 1) _ _ _ _ f (by omega) (LX.setS l2 rfl) (g2.set (Or.inl rfl)) (fun c hc => ?_) (fun c hc => ?_)
          · rw [hv_na (by omega)]; exact hf c hc
          · by_cases z : c = k
            · rw [z, hv_set_at]
            · rw [hv_set_ne (fun w => z (congrArg Fin.val (per_inj ⟨wy j / 8, by omega⟩ ⟨c, by omega⟩ ⟨k, hk3⟩ w.2)))]
              exact hV c (by omega)
      have front : ∀ (r k : Nat) (q2 : AH) (u9 u10 u11 : AV) (bb : Bool), k + r = 3 → LX B n q2 → Agr (meW B) h q2 → (bb = true ↔ ∀ c, c < k → 0 ≤ fra n wy sh i j ax y g c ∧ fra n wy sh i j ax y g c < ((8 * n : Nat) : Int)) → (∀ c, c < k → hv q2 (B + 220) c = fra n wy sh i j ax y g c) → Ends (ev PP (gsF gv) B d 748 40 [(2, rf (B + 149)), (0, (i : Int)), (0, (j : Int)), (0, (ax : Int)), (0, y), (0, (bd i : Int)), (0, (g : Int)), (0, if bb = true then 1 else 0), (0, (k : Int)), u9, u10, u11] [] q2) Q := by
        intro r
        induction r with
        | zero =>
          intro k q2 u9 u10 u11 bb hk l2 g2 hbb hf
          obtain rfl : k = 3 := by omega
          refine Ends.eq (b748_40 (n := n) (by (repeat' first | assumption | refine LX.setF _ _ ?_ (by decide +kernel) | refine LX.setS ?_ rfl | refine LX.setA ?_ (by first | assumption | omega))) (by first | assumption | omega)) ?_
          refine Ends.b3 (fun _ => ?_) (fun z => absurd z (by decide))
          cases bb
          · refine Ends.b1 (fun z => absurd rfl z) (fun _ => nx q2 _ _ _ _ _ l2 g2 (fun _ => ?_))
            rintro ⟨x, hx, sx, ex⟩
            refine Bool.false_ne_true (hbb.mpr (fun c hc => ?_))
            have r := tu8_rng hn hx hwj hc
            rw [← ex c hc]
            omega
          · have all := hbb.mp rfl
            refine Ends.b1 (fun _ => ?_) (fun z => absurd z (by decide))
            refine back 3 0 q2 _ _ _ (fun k => (fra n wy sh i j ax y g k).toNat) rfl l2 g2 (fun k hk => ?_) (fun c hc => absurd hc (by omega))
            have := all k hk
            rw [hf k hk]
            exact ⟨by omega, by omega, by omega⟩
        | succ r ihf =>
          intro k q2 u9 u10 u11 bb hk l2 g2 hbb hf
          have hk3 : k < 3 := by omega
          have m2 : TbM B q2 := m.agr g2 (fun c k h1 h2 h3 z => by unfold meW at z; omega)
          have ix : 3 * (wy i / 8) + k < 18 := by omega
          have pl3 : perL.getD (3 * (wy i / 8) + k) 0 < 3 := per_lt ⟨_, ix⟩
          have ep : hv q2 (B + 187) (3 * (wy i / 8) + k) = ((perL.getD (3 * (wy i / 8) + k) 0 : Nat) : Int) := m2.2.2 _ ix
          obtain ⟨c1, c2⟩ := coord_is m2 hn hgn pl3
          have rg := g8_lt hgn (perL.getD (3 * (wy i / 8) + k) 0)
          have e206 : hv q2 (B + 206) i = (wy i : Int) := by rw [g2.at _ _ (by unfold meW; omega)]; exact (P i hi).2.1
          have e207 : hv q2 (B + 207) (3 * i + k) = sh k i := by rw [g2.at _ _ (by unfold meW; omega)]; exact ((P i hi).2.2 k hk3).1
          have e207j : hv q2 (B + 207) (3 * j + k) = sh k j := by rw [g2.at _ _ (by unfold meW; omega)]; exact ((P j hj).2.2 k hk3).1
          have evv : cond (tst 0 (bop32 126 (bop32 122 (wy i : Int) (k : Int)) 1) 0) ((g8 n g (perL.getD (3 * (wy i / 8) + k) 0) : Nat) : Int) (bop32 100 (bop32 104 8 (n : Int)) ((g8 n g (perL.getD (3 * (wy i / 8) + k) 0) : Nat) : Int)) = tu8 n (wy i) g k := by
            rw [bit32 (by omega) (by omega), show bop32 104 (8 : Int) (n : Int) = 8 * (n : Int) from mul32 (by omega) (by omega), sub32 (by omega) (by omega)]
            unfold tu8
            have c : wy i / 2 ^ k % 2 = 0 ∨ wy i / 2 ^ k % 2 = 1 := by omega
            rcases c with z | z
            · rw [z]; rfl
            · rw [z]; rfl
          have ey : cond (tst 1 (k : Int) (ax : Int)) (0 : Int) y = if k = ax then y else 0 := by
            by_cases z : k = ax
            · rw [if_pos z, tst1f (by omega)]; rfl
            · rw [if_neg z, tst1t (by omega)]; rfl
          have s1 := Vi.2.2.2 k hk3
          have s2 := Vj.2.2.2 k hk3
          have rr := tu8_rng hn hgn hwi hk3
          have ef : bop64 97 (uop 2 (tu8 n (wy i) g k)) (bop64 105 8 (bop64 97 (bop64 101 (uop 2 (sh k i)) (uop 2 (sh k j))) (uop 2 (if k = ax then y else 0)))) = fra n wy sh i j ax y g k := by
            have e2 : ∀ x, uop 2 x = x := fun _ => rfl
            rw [e2, e2, e2, e2]
            unfold fra
            obtain ⟨w, ew, wb⟩ : ∃ w : Int, w = (if k = ax then y else 0) ∧ -1000 ≤ w ∧ w ≤ 1000 := ⟨_, rfl, by split <;> omega⟩
            rw [← ew, sub64 (by omega) (by omega), add64 (x := sh k i - sh k j) (by omega) (by omega), mul64 (x := 8) (by omega) (by omega), add64 (by omega) (by omega)]
          have f3 := fb g k hgn hk3
          have en : bop64 105 8 (uop 2 ((n : Nat) : Int)) = ((8 * n : Nat) : Int) := by
            show bop64 105 8 ((n : Nat) : Int) = _
            rw [mul64 (by omega) (by omega)]; omega
          have e3 : uop 3 (fra n wy sh i j ax y g k) = fra n wy sh i j ax y g k := w32_id ⟨by omega, by omega⟩
          refine Ends.eq (b748_40 (n := n) (by (repeat' first | assumption | refine LX.setF _ _ ?_ (by decide +kernel) | refine LX.setS ?_ rfl | refine LX.setA ?_ (by first | assumption | omega))) (by first | assumption | omega)) ?_
          rw [tn, e206, ix8 hwi hk3, tn, ep, c2, evv, ix3 (by omega) hk3, ix3 (by omega) hk3, tn, tn, e207, e207j, ey, ef, en, e3, in_c, tn, an0, w_succ (by omega)]
          refine Ends.b3 (fun z => by omega) (fun _ => Ends.g ⟨by omega, by omega⟩ (Ends.g ⟨by omega, by omega⟩ (Ends.g c1 (Ends.g ⟨by omega, by omega⟩ (Ends.g ⟨by omega, by omega⟩ (Ends.g ⟨by omega, by omega⟩ ?_))))))
          refine ihf (k + 1) _ _ _ _ _ (by omega) (LX.setS l2 rfl) (g2.set (Or.inr rfl)) ?_ (fun c hc => ?_)
          · rw [Bool.and_eq_true, hbb, decide_eq_true_eq]
            constructor
            · rintro ⟨z1, z2⟩ c hc
              by_cases z : c = k
              · rw [z]; exact z2
              · exact z1 c (by omega)
            · intro z
              exact ⟨fun c hc => z c (by omega), z k (by omega)⟩
          · by_cases z : c = k
            · rw [z, hv_set_at]
            · rw [hv_set_ne (by omega)]; exact hf c (by omega)
      exact front 3 0 q _ _ _ true rfl lq gq ⟨fun _ c hc => absurd hc (by omega), fun _ => rfl⟩ (fun c hc => absurd hc (by omega))
  refine Ends.eq (b748_0 (n := n) (by (repeat' first | assumption | refine LX.setF _ _ ?_ (by decide +kernel) | refine LX.setS ?_ rfl | refine LX.setA ?_ (by first | assumption | omega))) (by first | assumption | omega)) ?_
  rw [tn, (P i hi).1]
  exact Ends.g ⟨by omega, by omega⟩ (grs (gN n) 0 h _ _ _ _ _ (by omega) l Agr.rf (fun g0 h0 => absurd h0 (by omega)))
end MEETM
