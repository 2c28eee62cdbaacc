/-! L3: equations (model): one row -/
section ROW1
variable {gv : Nat → Int} {B n d : Nat} {h : AH} {L1 L2 L : List (Nat × Int)} {f w : Int}
theorem c_equation614 {e : Nat} (l : LX B n h) (hd : 10 ≤ d) (he : e < 2) (T : TmL B h L1 L2 f) (eL : L = if e = 0 then L1 else L2) (hL : RwK L) (h42 : hv h (B + 149) 42 = w) (hw : -200 ≤ w ∧ w ≤ 200) :
    Vd (cll PP (ev PP (gsF gv) B) d 614 [(2, rf (B + 149)), (0, (e : Int))] h) (fun h' => Agr (fun c _ => c = B + 161) h h' ∧ (∀ j, j < 24 → hv h' (B + 161) j = tmS L j) ∧ hv h' (B + 161) 24 = if e = 0 then w else 0) := by
  obtain ⟨⟨t1, t2, t3⟩, t4, t5⟩ := T
  obtain ⟨r1, r2, r3, r4⟩ := hL
  have hz : ∀ {α : Type} {x y : α}, cond (tst 1 ((e : Nat) : Int) 0) x y = if e = 0 then y else x := fun {α} {x} {y} => by
    rw [ct1]
    by_cases z : e = 0
    · rw [if_pos z, if_pos (by omega)]
    · rw [if_neg z, if_neg (by omega)]
  -- the terms, where they lie
  have tA : ∀ q : AH, Agr (fun c _ => c = B + 161) h q → ∀ i t, L[i]? = some t → (if e = 0 then hv q (B + 163) (2 * i) else hv q (B + 164) (2 * i)) = ((t.1 : Nat) : Int) ∧ (if e = 0 then hv q (B + 163) (2 * i + 1) else hv q (B + 164) (2 * i + 1)) = t.2 := fun q g i t ht => by
    rw [g.at _ _ (by omega), g.at _ _ (by omega), g.at _ _ (by omega), g.at _ _ (by omega)]
    by_cases z : e = 0
    · rw [if_pos z] at eL
      subst eL
      rw [if_pos z, if_pos z]; exact t4 i t ht
    · rw [if_neg z] at eL
      subst eL
      rw [if_neg z, if_neg z]; exact t5 i t ht
  have tN : (if e = 0 then hv h (B + 149) 40 else hv h (B + 149) 41) = ((2 * L.length : Nat) : Int) := by
    by_cases z : e = 0
    · rw [if_pos z] at eL ⊢
      rw [eL]; exact t2
    · rw [if_neg z] at eL ⊢
      rw [eL]; exact t3
  refine Vd.inq (D := 9) hd (Nat.le_of_ble_eq_true rfl) rfl (fun d hd Q K => ?_)
  have terms : ∀ (r i : Nat) (q : AH), i + r = L.length → LX B n q → Agr (fun c _ => c = B + 161) h q → (∀ j, j < 25 → hv q (B + 161) j = tmS (L.take i) j) → Ends (ev PP (gsF gv) B d 614 39 [(2, rf (B + 149)), (0, (e : Int)), (0, ((2 * L.length : Nat) : Int)), (0, ((2 * i : Nat) : Int))] [] q) Q := by
    intro r
    induction r with
    | zero =>
      intro i q er lq g hq
      obtain rfl : i = L.length := by omega
      refine Ends.eq (b614_39 lq (by omega)) (Ends.b3 (fun _ => Ends.g ⟨by decide, by decide⟩ ?_) (fun z => absurd z (Int.lt_irrefl _)))
      rw [hz, g.at _ _ (by omega), h42, an1, show Int.toNat 24 = 24 from rfl]
      refine Ends.sm (K _ ⟨g.set rfl, fun j hj => ?_, ?_⟩)
      · rw [hv_set_ne (by omega), hq j (by omega), List.take_length]
      · rw [hv_set_at]
        by_cases z : e = 0
        · rw [if_pos z, if_pos z]; rfl
        · rw [if_neg z, if_neg z]
    | succ r ih =>
      intro i q er lq g hq
      obtain ⟨t, ht⟩ : ∃ t, L[i]? = some t := ⟨L[i]'(by omega), List.getElem?_eq_getElem (by omega)⟩
      obtain ⟨a1, a2⟩ := r4 t (List.mem_of_getElem? ht)
      obtain ⟨c1, c2⟩ := tA q g i t ht
      refine Ends.eq (b614_39 lq (by omega)) (Ends.b3 (fun z => absurd z (by omega)) (fun _ => ?_))
      rw [show bop32 96 ((2 * i : Nat) : Int) 1 = ((2 * i + 1 : Nat) : Int) from addNN (y := 1) (by omega), inc32 (by omega) (by omega), show ((2 * i : Nat) : Int) + 2 = ((2 * (i + 1) : Nat) : Int) by omega, tn, tn]
      simp only [hz]
      rw [c1, show (if e = 0 then uop 2 (hv q (B + 163) (2 * i + 1)) else uop 2 (hv q (B + 164) (2 * i + 1))) = t.2 from by
        rw [← c2]
        rfl]
      rw [tn, hq t.1 (by omega)]
      have ab := tmS_abs (L.take i) t.1
      have ab2 := tmA_take L i
      rw [add64 (by omega) (by omega), an1]
      refine Ends.g (by split <;> exact ⟨by omega, by omega⟩) (Ends.g ⟨by omega, by omega⟩ (Ends.g (by split <;> exact ⟨by omega, by omega⟩) ?_))
      refine ih (i + 1) _ (by omega) (lq.setS rfl) (g.set rfl) (fun j hj => ?_)
      rw [tmS_take ht]
      by_cases z : j = t.1
      · rw [z, hv_set_at, if_pos rfl]
      · rw [hv_set_ne (by omega), hq j hj, if_neg (Ne.symm z)]; omega
  have zero : ∀ (r i : Nat) (q : AH) (u3 : AV), i + r = 25 → LX B n q → Agr (fun c _ => c = B + 161) h q → (∀ j, j < i → hv q (B + 161) j = 0) → Ends (ev PP (gsF gv) B d 614 2 [(2, rf (B + 149)), (0, (e : Int)), (0, (i : Int)), u3] [] q) Q := by
    intro r
    induction r with
    | zero =>
      intro i q u3 er lq g hq
      obtain rfl : i = 25 := by omega
      refine Ends.eq (b614_2 lq (by omega)) (Ends.b3 (fun _ => ?_) (fun z => absurd z (by decide)))
      rw [hz, g.at _ _ (by omega), g.at _ _ (by omega), tN]
      exact terms L.length 0 q (by omega) lq g (fun j hj => by rw [hq j hj, List.take_zero]; rfl)
    | succ r ih =>
      intro i q u3 er lq g hq
      refine Ends.eq (b614_2 lq (by omega)) (Ends.b3 (fun z => absurd z (by omega)) (fun _ => Ends.g ⟨by omega, by omega⟩ ?_))
      rw [tn, an1, w_succ (by omega)]
      refine ih (i + 1) _ _ (by omega) (lq.setS rfl) (g.set rfl) (fun j hj => ?_)
      by_cases z : j = i
      · rw [z, hv_set_at]
      · rw [hv_set_ne (by omega)]; exact hq j (by omega)
  refine Ends.eq (b614_0 l (by omega)) ?_
  exact zero 25 0 h _ (by omega) l Agr.rf (fun j hj => absurd hj (Nat.not_lt_zero j))
theorem rem2 {x : Int} (h1 : -9223372036854775808 ≤ x) : bop64 113 x 2 = 0 ↔ x % 2 = 0 := by
  have b := tmod_b (x := x) (p := 2) (by decide)
  have e : bop64 113 x 2 = x.tmod 2 := w64_id ⟨by omega, by omega⟩
  rw [e]
  constructor
  · intro z
    have := Int.dvd_of_tmod_eq_zero z
    omega
  · intro z
    exact Int.tmod_eq_zero_of_dvd (by omega)
theorem c_isEven689 (l : LX B n h) (hd : 10 ≤ d) {r : Nat → Int} (hr : ∀ j, j < 25 → hv h (B + 161) j = r j ∧ -1000 ≤ r j) : Vt 0 (cll PP (ev PP (gsF gv) B) d 689 [(2, rf (B + 149))] h) (fun v h' => h' = h ∧ ((v = 1 ∧ ∀ j, j < 25 → r j % 2 = 0) ∨ (v = 0 ∧ ¬ ∀ j, j < 25 → r j % 2 = 0))) := by
  refine Vt.inq (D := 9) hd (Nat.le_of_ble_eq_true rfl) rfl (fun d hd Q K => ?_)
  have loop : ∀ (r0 i : Nat), i + r0 = 25 → (∀ j, j < i → r j % 2 = 0) → Ends (ev PP (gsF gv) B d 689 2 [(2, rf (B + 149)), (0, (i : Int))] [] h) Q := by
    intro r0
    induction r0 with
    | zero =>
      intro i er hi
      obtain rfl : i = 25 := by omega
      exact Ends.eq (b689_2 l (by omega)) (Ends.b3 (fun _ => Ends.sm (K _ _ ⟨rfl, Or.inl ⟨rfl, hi⟩⟩)) (fun z => absurd z (by decide)))
    | succ r0 ih =>
      intro i er hi
      refine Ends.eq (b689_2 l (by omega)) (Ends.b3 (fun z => absurd z (by omega)) (fun _ => Ends.g ⟨by omega, by omega⟩ ?_))
      obtain ⟨e1, e2⟩ := hr i (by omega)
      rw [tn, e1, w_succ (by omega)]
      refine Ends.l0 (fun z => ?_) (fun z => Ends.sm (K _ _ ⟨rfl, Or.inr ⟨rfl, fun q => z ((rem2 (by omega)).mpr (q i (by omega)))⟩⟩))
      refine ih (i + 1) (by omega) (fun j hj => ?_)
      by_cases y : j = i
      · rw [y]; exact (rem2 (by omega)).mp z
      · exact hi j (by omega)
  refine Ends.eq (b689_0 l (by omega)) ?_
  exact loop 25 0 (by omega) (fun j hj => absurd hj (Nat.not_lt_zero j))
/-- what all of a row has in common -/
def gcR (r : Nat → Int) : Nat → Nat
  | 0 => 0
  | k + 1 => Int.gcd (gcR r k : Int) (r k)
theorem gcR_dvd {r : Nat → Int} : ∀ (k j : Nat), j < k → ((gcR r k : Nat) : Int) ∣ r j
  | 0, j, h => absurd h (Nat.not_lt_zero j)
  | k + 1, j, h => by
    have d1 : ((gcR r (k + 1) : Nat) : Int) ∣ ((gcR r k : Nat) : Int) := Int.gcd_dvd_left ..
    have d2 : ((gcR r (k + 1) : Nat) : Int) ∣ r k := Int.gcd_dvd_right ..
    by_cases e : j = k
    · rw [e]; exact d2
    · exact Int.dvd_trans d1 (gcR_dvd k j (by omega))
theorem gcR_2 {r : Nat → Int} : ∀ k, (∀ j, j < k → r j % 2 = 0) → 2 ∣ gcR r k
  | 0, _ => ⟨0, rfl⟩
  | k + 1, h => by
    have i1 := gcR_2 k (fun j hj => h j (by omega))
    have i2 := h k (Nat.lt_succ_self k)
    show 2 ∣ Nat.gcd ((gcR r k : Nat) : Int).natAbs (r k).natAbs
    exact Nat.dvd_gcd (by rw [Int.natAbs_natCast]; exact i1) (by omega)
theorem gcR_0 {r : Nat → Int} : ∀ k, gcR r k = 0 → ∀ j, j < k → r j = 0
  | 0, _, j, h => absurd h (Nat.not_lt_zero j)
  | k + 1, e, j, h => by
    have e' : Int.gcd (gcR r k : Int) (r k) = 0 := e
    obtain ⟨e1, e2⟩ := Int.gcd_eq_zero_iff.mp e'
    by_cases z : j = k
    · rw [z]; exact e2
    · exact gcR_0 k (by omega) j (by omega)
theorem gcR_b {r : Nat → Int} (hr : ∀ j, j < 25 → -1000 ≤ r j ∧ r j ≤ 1000) : ∀ k, k ≤ 25 → gcR r k ≤ 1000
  | 0, _ => Nat.zero_le _
  | k + 1, h => by
    have i1 := gcR_b hr k (by omega)
    have i2 := hr k (by omega)
    show Int.gcd (gcR r k : Int) (r k) ≤ 1000
    by_cases z : r k = 0
    · rw [z, Int.gcd_zero]; omega
    · have := Int.le_of_dvd (show 0 < ((r k).natAbs : Int) by omega) (Int.dvd_natAbs.mpr (Int.gcd_dvd_right (a := (gcR r k : Int)) (b := r k)))
      omega
theorem c_reduceRow801 (l : LX B n h) (hd : 13 ≤ d) {r : Nat → Int} (hr0 : ∀ j, j < 25 → hv h (B + 161) j = r j) (hr : ∀ j, j < 25 → -1000 ≤ r j ∧ r j ≤ 1000) (ev2 : ∀ j, j < 25 → r j % 2 = 0) :
    Vd (cll PP (ev PP (gsF gv) B) d 801 [(2, rf (B + 149))] h) (fun h' => Agr (fun c _ => c = B + 161) h h' ∧ ∃ f : Nat, 1 ≤ f ∧ (2 ≤ f ∨ ∀ j, j < 25 → r j = 0) ∧ ∀ j, j < 25 → r j = (f : Int) * hv h' (B + 161) j) := by
  refine Vd.inq (D := 12) hd (Nat.le_of_ble_eq_true rfl) rfl (fun d hd Q K => ?_)
  obtain ⟨g, eg⟩ : ∃ g, g = gcR r 25 := ⟨_, rfl⟩
  have gb : g ≤ 1000 := by rw [eg]; exact gcR_b hr 25 (Nat.le_refl _)
  have gd : ∀ j, j < 25 → (g : Int) ∣ r j := fun j hj => by rw [eg]; exact gcR_dvd 25 j hj
  have g2 : 2 ∣ g := by rw [eg]; exact gcR_2 25 ev2
  have divide : ∀ (r0 i : Nat) (q : AH) (u2 : AV), i + r0 = 25 → ¬ u2.1 = 1 → 2 ≤ g → LX B n q → Agr (fun c _ => c = B + 161) h q → (∀ j, j < 25 → hv q (B + 161) j = if j < i then r j / (g : Int) else r j) → Ends (ev PP (gsF gv) B d 801 29 [(2, rf (B + 149)), (1, (g : Int)), u2, (0, (i : Int))] [] q) Q := by
    intro r0
    induction r0 with
    | zero =>
      intro i q u2 er k2 h2 lq gq hq
      obtain rfl : i = 25 := by omega
      refine Ends.eq (b801_29 k2 lq (by omega)) (Ends.b3 (fun _ => ?_) (fun z => absurd z (by decide)))
      refine Ends.eq (b801_61 lq (by omega)) (Ends.sm (K _ ⟨gq, g, by omega, Or.inl h2, fun j hj => ?_⟩))
      rw [hq j hj, if_pos hj]
      exact (Int.mul_ediv_cancel' (gd j hj)).symm
    | succ r0 ih =>
      intro i q u2 er k2 h2 lq gq hq
      refine Ends.eq (b801_29 k2 lq (by omega)) (Ends.b3 (fun z => absurd z (by omega)) (fun _ => Ends.l5 (fun z => absurd z (by omega)) (fun _ => Ends.g ⟨by omega, by omega⟩ (Ends.g (by omega) ?_))))
      have := hr i (by omega)
      rw [tn, an1, w_succ (by omega), hq i (by omega), if_neg (Nat.lt_irrefl i), ldvd ⟨by omega, by omega⟩ (by omega) (gd i (by omega))]
      refine ih (i + 1) _ _ (by omega) k2 h2 (lq.setS rfl) (gq.set rfl) (fun j hj => ?_)
      by_cases z : j = i
      · rw [z, hv_set_at, if_pos (Nat.lt_succ_self i)]
      · rw [hv_set_ne (by omega), hq j hj]
        by_cases y : j < i
        · rw [if_pos y, if_pos (by omega)]
        · rw [if_neg y, if_neg (by omega)]
  have gcds : ∀ (r0 i : Nat) (u2 : AV), i + r0 = 25 → ¬ u2.1 = 1 → Ends (ev PP (gsF gv) B d 801 4 [(2, rf (B + 149)), (1, ((gcR r i : Nat) : Int)), u2, (0, (i : Int))] [] h) Q := by
    intro r0
    induction r0 with
    | zero =>
      intro i u2 er k2
      obtain rfl : i = 25 := by omega
      refine Ends.eq (b801_4 k2 l (by omega)) (Ends.b3 (fun _ => ?_) (fun z => absurd z (by decide)))
      rw [← eg]
      by_cases h2 : 2 ≤ g
      · exact divide 25 0 h _ (by omega) k2 h2 l Agr.rf (fun j hj => by rw [if_neg (Nat.not_lt_zero j)]; exact hr0 j hj)
      · have g0 : g = 0 := by omega
        refine Ends.eq (b801_29 k2 l (by omega)) (Ends.b3 (fun z => absurd z (by decide)) (fun _ => Ends.l5 (fun z => ?_) (fun z => absurd z (by omega))))
        refine Ends.eq (b801_61 l (by omega)) (Ends.sm (K _ ⟨Agr.rf, 1, Nat.le_refl 1, Or.inr (gcR_0 25 (by omega)), fun j hj => ?_⟩))
        rw [hr0 j hj]; omega
    | succ r0 ih =>
      intro i u2 er k2
      refine Ends.eq (b801_4 k2 l (by omega)) (Ends.b3 (fun z => absurd z (by omega)) (fun _ => Ends.g ⟨by omega, by omega⟩ ?_))
      have b1 := gcR_b hr i (by omega)
      have b2 := hr i (by omega)
      rw [tn, hr0 i (by omega)]
      refine Ends.ct l (by decide +kernel) (by decide) (c_gcdM l (by omega) (by omega) (by omega)) (fun v t l2 _ _ _ ⟨e1, e2⟩ => ?_)
      subst e1
      rw [e2]
      refine Ends.eq (b801_20 l (by omega)) ?_
      rw [w_succ (by omega)]
      exact ih (i + 1) _ (by omega) (by decide)
  refine Ends.eq (b801_0 l (by omega)) ?_
  exact gcds 25 0 _ (by omega) (by decide)
theorem rnm_rl {r : Nat → Int} : ∀ n, rnm n r ≤ ((rl n r * rl n r : Nat) : Int)
  | 0 => Int.le_refl 0
  | n + 1 => by
    have i := rnm_rl (r := r) n
    have e1 : rnm (n + 1) r = rnm n r + r n * r n := rfl
    have e2 : rl (n + 1) r = rl n r + (r n).natAbs := rfl
    have e3 : r n * r n = (((r n).natAbs * (r n).natAbs : Nat) : Int) := Int.natAbs_mul_self.symm
    rw [e1, e2, e3]
    have e4 : (rl n r + (r n).natAbs) * (rl n r + (r n).natAbs) = rl n r * rl n r + (r n).natAbs * (r n).natAbs + 2 * (rl n r * (r n).natAbs) := by grind
    rw [e4]
    generalize rl n r * rl n r = a at *
    generalize (r n).natAbs * (r n).natAbs = b at *
    generalize rl n r * (r n).natAbs = c at *
    omega
theorem rl_mul {r v : Nat → Int} {f : Nat} : ∀ n, (∀ j, j < n → r j = (f : Int) * v j) → rl n r = f * rl n v
  | 0, _ => rfl
  | n + 1, h => by
    have i := rl_mul (r := r) (v := v) (f := f) n (fun j hj => h j (by omega))
    show rl n r + (r n).natAbs = f * (rl n v + (v n).natAbs)
    rw [i, h n (Nat.lt_succ_self n), Int.natAbs_mul, Int.natAbs_natCast, Nat.mul_add]
theorem rl_cg {r v : Nat → Int} (n : Nat) (h : ∀ j, j < n → r j = v j) : rl n r = rl n v := by
  have := rl_mul (r := r) (v := v) (f := 1) n (fun j hj => by rw [h j hj]; omega)
  rw [this, Nat.one_mul]
/-- what is laid down can come -/
theorem rb_of {v r : Nat → Int} {f : Nat} (hL : RwK L) (hr : ∀ j, j < 24 → r j = tmS L j) (hw : -200 ≤ r 24 ∧ r 24 ≤ 200) (hf : 1 ≤ f) (e : ∀ j, j < 25 → r j = (f : Int) * v j) (h : 2 ≤ f ∨ (∀ j, j < 25 → r j = 0) ∨ rnm 24 (tmS L) ≤ 6) : RB v := by
  obtain ⟨a1, -, -, -⟩ := hL
  have b1 := rl_tmS L 24
  have b2 : rl 24 r = f * rl 24 v := rl_mul 24 (fun j hj => e j (by omega))
  have b3 : rl 24 r = rl 24 (tmS L) := rl_cg 24 hr
  have b4 : rl 24 v ≤ rl 24 r := by rw [b2]; exact Nat.le_mul_of_pos_left _ (by omega)
  have c1 : (v 24).natAbs ≤ 200 := by
    have := e 24 (by decide)
    have e2 : (r 24).natAbs = f * (v 24).natAbs := by rw [this, Int.natAbs_mul, Int.natAbs_natCast]
    have : (v 24).natAbs ≤ (r 24).natAbs := by rw [e2]; exact Nat.le_mul_of_pos_left _ (by omega)
    omega
  refine ⟨?_, by omega, c1⟩
  have q := rnm_rl (r := v) 24
  rcases h with h | h | h
  · have : rl 24 v ≤ 2 := by
      have : 2 * rl 24 v ≤ f * rl 24 v := Nat.mul_le_mul_right _ h
      omega
    have := Nat.mul_le_mul this this
    omega
  · have z : rl 24 v = 0 := by
      have : rl 24 r = 0 := by
        rw [rl_cg (v := fun _ => 0) 24 (fun j hj => h j (by omega))]
        have : ∀ n, rl n (fun _ => 0) = 0 := fun n => by
          unfold rl
          induction n with
          | zero => rfl
          | succ n ih => show sumN _ n + 0 = 0; rw [ih]
        exact this 24
      omega
    rw [z] at q
    omega
  · by_cases h1 : f = 1
    · have : rnm 24 v = rnm 24 (tmS L) := sI_congr 24 (fun j hj => by
        have := e j (by omega)
        rw [h1, hr j hj] at this
        rw [this]
        simp)
      omega
    · have : rl 24 v ≤ 2 := by
        have : 2 * rl 24 v ≤ f * rl 24 v := Nat.mul_le_mul_right _ (by omega)
        omega
      have := Nat.mul_le_mul this this
      omega
end ROW1
