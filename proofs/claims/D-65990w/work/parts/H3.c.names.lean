/-! L3: names of faces, byte by byte (both sides) -/
noncomputable section NMB
variable {gv : Nat → Int} {B n d : Nat} {h t : AH}
/-- how many digits; the digits -/
def dgN (v : Nat) : Nat := if v < 10 then 1 else if v < 100 then 2 else if v < 1000 then 3 else 4
def dgD (v i : Nat) : Int := ((48 + v / 10 ^ (dgN v - 1 - i) % 10 : Nat) : Int)
theorem v17_is (v : Nat) : v17 (v : Int) = ((dgN v : Nat) : Int) := by
  unfold v17 dgN
  rw [ct3, ct3, ct3]
  by_cases a : v < 10
  · rw [if_pos (by omega), if_pos a]; rfl
  rw [if_neg (by omega), if_neg a]
  by_cases b : v < 100
  · rw [if_pos (by omega), if_pos b]; rfl
  rw [if_neg (by omega), if_neg b]
  by_cases c : v < 1000
  · rw [if_pos (by omega), if_pos c]; rfl
  · rw [if_neg (by omega), if_neg c]; rfl
theorem dgN_le (v : Nat) : 1 ≤ dgN v ∧ dgN v ≤ 4 := by
  unfold dgN
  by_cases a : v < 10
  · rw [if_pos a]; omega
  rw [if_neg a]
  by_cases b : v < 100
  · rw [if_pos b]; omega
  rw [if_neg b]
  by_cases c : v < 1000
  · rw [if_pos c]; omega
  · rw [if_neg c]; omega
theorem dgN_s {v : Nat} (h9 : 9 < v) (hv' : v < 10000) : dgN v = dgN (v / 10) + 1 := by
  unfold dgN
  rw [if_neg (show ¬ v < 10 by omega)]
  by_cases b : v < 100
  · rw [if_pos b, if_pos (by omega)]
  rw [if_neg b, if_neg (show ¬ v / 10 < 10 by omega)]
  by_cases c : v < 1000
  · rw [if_pos c, if_pos (by omega)]
  · rw [if_neg c, if_neg (show ¬ v / 10 < 100 by omega), if_pos (by omega)]
theorem dgD_s {v i : Nat} (h9 : 9 < v) (hv' : v < 10000) (hi : i < dgN (v / 10)) : dgD v i = dgD (v / 10) i := by
  unfold dgD
  rw [dgN_s h9 hv', Nat.div_div_eq_div_mul, show dgN (v / 10) + 1 - 1 - i = (dgN (v / 10) - 1 - i) + 1 by omega, Nat.pow_succ, Nat.mul_comm (10 ^ (dgN (v / 10) - 1 - i)) 10]
theorem dgD_last {v : Nat} : dgD v (dgN v - 1) = ((48 + v % 10 : Nat) : Int) := by
  unfold dgD
  rw [Nat.sub_self, Nat.pow_zero, Nat.div_one]
/-- digit i of a number; -1 -/
def dgI (v : Nat) (i : Int) : Int := if 0 ≤ i ∧ i < (dgN v : Int) then dgD v i.toNat else -1
theorem c_digit16 {v : Nat} {i : Int} (l : LX B n h) (hd : 10 ≤ d) (hv' : v < 10000) : Vt 0 (cll PP (ev PP (gsF gv) B) d 16 [(0, (v : Int)), (0, i)] h) (fun x h' => x = dgI v i ∧ h' = h) := by
  obtain ⟨d1, d2⟩ := dgN_le v
  refine Vt.inq (D := 9) hd (Nat.le_of_ble_eq_true rfl) rfl (fun d hd Q K => ?_)
  refine Ends.eq (b16_0 l (by omega)) ?_
  rw [v17_is]
  have no : ¬ (0 ≤ i ∧ i < (dgN v : Int)) → Ends (ev PP (gsF gv) B d 16 14 [(0, (v : Int)), (0, i), (0, ((dgN v : Nat) : Int)), (9, 0), (9, 0)] [] h) Q := fun z => by
    refine Ends.eq (b16_14 l (by omega)) (Ends.sm (K _ _ ⟨?_, rfl⟩))
    unfold dgI; rw [if_neg z]
  refine Ends.b2 (fun z => no (by omega)) (fun z1 => Ends.b2 (fun z2 => ?_) (fun z => no (by omega)))
  obtain ⟨I, rfl⟩ : ∃ k : Nat, i = (k : Int) := ⟨i.toNat, by omega⟩
  have hI : I < dgN v := by omega
  have key : ∀ (r k : Nat), k + r = dgN v → I + 1 ≤ k → Ends (ev PP (gsF gv) B d 16 23 [(0, (v : Int)), (0, (I : Int)), (0, ((dgN v : Nat) : Int)), (0, ((v / 10 ^ (k - (I + 1)) : Nat) : Int)), (0, (k : Int))] [] h) Q := by
    intro r
    induction r with
    | zero =>
      intro k e hk
      obtain rfl : k = dgN v := by omega
      have b := Nat.div_le_self v (10 ^ (dgN v - (I + 1)))
      refine Ends.eq (b16_23 l (by omega)) (Ends.b3 (fun _ => Ends.sm (K _ _ ⟨?_, rfl⟩)) (fun z => absurd z (Int.lt_irrefl _)))
      rw [show bop32 112 ((v / 10 ^ (dgN v - (I + 1)) : Nat) : Int) (10 : Int) = ((v / 10 ^ (dgN v - (I + 1)) % 10 : Nat) : Int) from modNN (y := 10) (by decide) (by decide), show bop32 96 (48 : Int) ((v / 10 ^ (dgN v - (I + 1)) % 10 : Nat) : Int) = ((48 + v / 10 ^ (dgN v - (I + 1)) % 10 : Nat) : Int) from addNN (x := 48) (by omega)]
      unfold dgI
      rw [if_pos ⟨z1, z2⟩, tn]
      unfold dgD
      rw [show dgN v - (I + 1) = dgN v - 1 - I by omega]
    | succ r ih =>
      intro k e hk
      have b := Nat.div_le_self v (10 ^ (k - (I + 1)))
      refine Ends.eq (b16_23 l (by omega)) (Ends.b3 (fun z => by omega) (fun _ => ?_))
      rw [w_succ (by omega), show bop32 108 ((v / 10 ^ (k - (I + 1)) : Nat) : Int) (10 : Int) = ((v / 10 ^ (k - (I + 1)) / 10 : Nat) : Int) from divNN (y := 10) (by omega) (by decide), Nat.div_div_eq_div_mul, ← Nat.pow_succ, show (k - (I + 1)).succ = k + 1 - (I + 1) by omega]
      exact ih (k + 1) (by omega) (by omega)
  have st := key (dgN v - (I + 1)) (I + 1) (by omega) (Nat.le_refl _)
  rw [Nat.sub_self, Nat.pow_zero, Nat.div_one] at st
  rw [show bop32 96 (I : Int) (1 : Int) = ((I + 1 : Nat) : Int) from addNN (y := 1) (by omega)]
  exact st
/-- a name's bytes -/
def nmS (a b c : Nat) (i : Nat) : Int := if i < dgN a then dgD a i else if i = dgN a then 46 else if i < dgN a + 1 + dgN b then dgD b (i - dgN a - 1) else if i = dgN a + 1 + dgN b then 46 else if i < dgN a + dgN b + dgN c + 2 then dgD c (i - dgN a - dgN b - 2) else -1
/-- the model's bytes so far -/
def ClS (B : Nat) (q : AH) (p : Nat) (f : Nat → Int) : Prop := hv q (B + 149) 117 = (p : Int) ∧ ∀ i, i < p → hv q (B + 203) i = f i
def clW' (B : Nat) : Nat → Nat → Prop := fun c k => (c = B + 149 ∧ k = 117) ∨ (c = B + 203 ∧ k < 24)
theorem c_call563 {p : Nat} {x : Int} {f : Nat → Int} (l : LX B n h) (hd : 10 ≤ d) (c : ClS B h p f) (hp : p < 24) (hx : f p = x) : Vd (cll PP (ev PP (gsF gv) B) d 563 [(2, rf (B + 149)), (0, x)] h) (fun h' => Agr (clW' B) h h' ∧ ClS B h' (p + 1) f) := by
  obtain ⟨c1, c2⟩ := c
  refine Vd.inq (D := 9) hd (Nat.le_of_ble_eq_true rfl) rfl (fun d hd Q K => ?_)
  refine Ends.eq (b563_0 l (by omega)) ?_
  rw [c1, tn, an0, show bop32 96 (p : Int) (1 : Int) = ((p + 1 : Nat) : Int) from addNN (y := 1) (by omega)]
  refine Ends.g ⟨by omega, by omega⟩ (Ends.sm (K _ ⟨(Agr.rf.set (Or.inr ⟨rfl, hp⟩)).set (Or.inl ⟨rfl, rfl⟩), hv_set_at .., fun i hi => ?_⟩))
  rw [hv_set_ne (by omega)]
  by_cases z : i = p
  · rw [z, hv_set_at, hx]
  · rw [hv_set_ne (by omega)]; exact c2 i (by omega)
theorem c_callNumber564 : ∀ (k : Nat) {B n d p v : Nat} {h : AH} {f : Nat → Int}, LX B n h → 12 + 2 * k ≤ d → ClS B h p f → v < 10 ^ k → k ≤ 4 → p + dgN v ≤ 24 → (∀ i, i < dgN v → f (p + i) = dgD v i) → Vd (cll PP (ev PP (gsF gv) B) d 564 [(2, rf (B + 149)), (0, (v : Int))] h) (fun h' => Agr (clW' B) h h' ∧ ClS B h' (p + dgN v) f)
  | 0, B, n, d, p, v, h, f, l, hd, c, hv', _, hp, e => by
    have v0 : v = 0 := by rw [Nat.pow_zero] at hv'; omega
    subst v0
    refine Vd.inq (D := 11) (by omega) (Nat.le_of_ble_eq_true rfl) rfl (fun d hd Q K => ?_)
    refine Ends.eq (b564_0 l (by omega)) (Ends.b5 (fun _ => ?_) (fun z => by omega))
    refine Ends.eq (b564_14 l (by omega)) ?_
    refine Ends.cv l (by decide +kernel) (c_call563 (p := p) (f := f) l (by omega) c (by have := (dgN_le 0).1; omega) (by have := e 0 (by decide); rw [Nat.add_zero] at this; rw [this]; rfl)) (fun h2 l2 _ _ _ ⟨g2, c2⟩ => ?_)
    exact Ends.eq (b564_25 l2 (by omega)) (Ends.sm (K _ ⟨g2, c2⟩))
  | k + 1, B, n, d, p, v, h, f, l, hd, c, hv', hk, hp, e => by
    have h4 : (10 : Nat) ^ (k + 1) ≤ 10 ^ 4 := Nat.pow_le_pow_right (by decide) hk
    have v4 : v < 10000 := Nat.lt_of_lt_of_le hv' h4
    obtain ⟨d1, d2⟩ := dgN_le v
    refine Vd.inq (D := 13 + 2 * k) (by omega) (Nat.le_of_ble_eq_true rfl) rfl (fun d hd Q K => ?_)
    have e10 : bop32 112 (v : Int) (10 : Int) = ((v % 10 : Nat) : Int) := modNN (y := 10) (by decide) (by decide)
    have tail : ∀ q, LX B n q → Agr (clW' B) h q → ClS B q (p + dgN v - 1) f → Ends (ev PP (gsF gv) B d 564 14 [(2, rf (B + 149)), (0, (v : Int))] [] q) Q := fun q lq g cq => by
      refine Ends.eq (b564_14 lq (by omega)) ?_
      rw [e10, show bop32 96 (48 : Int) ((v % 10 : Nat) : Int) = ((48 + v % 10 : Nat) : Int) from addNN (x := 48) (by omega)]
      refine Ends.cv lq (by decide +kernel) (c_call563 (p := p + dgN v - 1) (f := f) lq (by omega) cq (by omega) (by have := e (dgN v - 1) (by omega); rw [show p + dgN v - 1 = p + (dgN v - 1) by omega, this, dgD_last])) (fun h2 l2 _ _ _ ⟨g2, c2⟩ => ?_)
      rw [show p + dgN v - 1 + 1 = p + dgN v by omega] at c2
      exact Ends.eq (b564_25 l2 (by omega)) (Ends.sm (K _ ⟨g.tr g2 (fun _ _ z => z), c2⟩))
    refine Ends.eq (b564_0 l (by omega)) (Ends.b5 (fun z => tail h l Agr.rf ?_) (fun z => ?_))
    · have : dgN v = 1 := by unfold dgN; rw [if_pos (by omega)]
      rw [this, Nat.add_sub_cancel]; exact c
    · have ds := dgN_s (v := v) (by omega) v4
      rw [show bop32 108 (v : Int) (10 : Int) = ((v / 10 : Nat) : Int) from divNN (y := 10) (by omega) (by decide)]
      refine Ends.cv l (by decide +kernel) (c_callNumber564 k (p := p) (v := v / 10) (f := f) l (by omega) c (by rw [Nat.pow_succ] at hv'; omega) (by omega) (by omega) (fun i hi => by rw [e i (by omega)]; exact dgD_s (by omega) v4 hi)) (fun h2 l2 _ _ _ ⟨g2, c2⟩ => ?_)
      exact tail h2 l2 g2 (by rw [show p + dgN v - 1 = p + dgN (v / 10) by omega]; exact c2)
end NMB
