/-! L3: the model's path -/
section QS
variable {n r : Nat} {Q Q' : Nat → Nat → Nat → Bool} {S : Nat → Bool}
/-- the shadow as quarters, once and for all -/
noncomputable def qS (n : Nat) (S : Nat → Bool) (z q y x : Nat) : Bool := @decide (ShP n S z q y x) (Classical.propDecidable _)
theorem qS_iff {z q y x : Nat} : qS n S z q y x = true ↔ ShP n S z q y x := by unfold qS; exact @decide_eq_true_iff _ (Classical.propDecidable _)
theorem ShP.congr {T : Nat → Bool} {z q y x : Nat} (hy : y < n) (hx : x < n) (e : ∀ g, g < gN n → S g = T g) : ShP n S z q y x ↔ ShP n T z q y x := by
  constructor
  · rintro ⟨t, z', h1, h2, h3, h4, h5⟩
    exact ⟨t, z', h1, h2, h3, h4, by rw [← e _ (gI_lt hx hy h3 h1)]; exact h5⟩
  · rintro ⟨t, z', h1, h2, h3, h4, h5⟩
    exact ⟨t, z', h1, h2, h3, h4, by rw [e _ (gI_lt hx hy h3 h1)]; exact h5⟩
theorem blk_congr (e : ∀ q y x, q < 4 → y < n → x < n → Q q y x = Q' q y x) {X Y far : Nat} : blk n r Q X Y far ↔ blk n r Q' X Y far := by
  constructor
  · rintro ⟨q, y, x, h1, h2, h3, h4, h5⟩
    exact ⟨q, y, x, h1, h2, h3, by rw [← e q y x h1 h2 h3]; exact h4, h5⟩
  · rintro ⟨q, y, x, h1, h2, h3, h4, h5⟩
    exact ⟨q, y, x, h1, h2, h3, by rw [e q y x h1 h2 h3]; exact h4, h5⟩
theorem fr_congr (e : ∀ q y x, q < 4 → y < n → x < n → Q q y x = Q' q y x) : frS n r Q = frS n r Q' ∧ frE n r Q = frE n r Q' := by
  constructor
  · funext Y X
    exact Bool.eq_iff_iff.mpr (by rw [frS_t, frS_t, blk_congr e])
  · funext Y X
    exact Bool.eq_iff_iff.mpr (by rw [frE_t, frE_t, blk_congr e])
theorem rwB_congr (e : ∀ q y x, q < 4 → y < n → x < n → Q q y x = Q' q y x) {ey k : Nat} : rwB n r Q ey k = rwB n r Q' ey k := by
  unfold rwB rwT
  rw [(fr_congr e).1, (fr_congr e).2]
theorem qS_eq {z : Nat} (e : ∀ q y x, q < 4 → y < n → x < n → (Q q y x = true ↔ ShP n S z q y x)) : ∀ q y x, q < 4 → y < n → x < n → Q q y x = qS n S z q y x := fun q y x h1 h2 h3 => Bool.eq_iff_iff.mpr (by rw [e q y x h1 h2 h3, qS_iff])
/-- the runs of a path, listed -/
def RL (n r : Nat) (Q : Nat → Nat → Nat → Bool) (ey N : Nat) (fr to at_ : Nat → Nat) : Prop := N = rwB n r Q ey (n / ey + 1) ∧ ∀ i, i < N → ∃ k a b, k * ey ≤ n ∧ RunR n (frS n r Q (k * ey)) (frE n r Q (k * ey)) a b ∧ i = rwB n r Q ey k + rwP n (frS n r Q (k * ey)) (frE n r Q (k * ey)) (decide (k % 2 = 1)) a ∧ fr i = (if decide (k % 2 = 1) = true then b else a) ∧ to i = (if decide (k % 2 = 1) = true then a else b) ∧ at_ i = k * ey
theorem sumN_find {f : Nat → Nat} {i : Nat} : ∀ K, i < sumN f K → ∃ k, k < K ∧ sumN f k ≤ i ∧ i < sumN f k + f k
  | 0, h => absurd h (Nat.not_lt_zero _)
  | K + 1, h => by
    by_cases z : i < sumN f K
    · obtain ⟨k, h1, h2, h3⟩ := sumN_find K z
      exact ⟨k, by omega, h2, h3⟩
    · exact ⟨K, by omega, by omega, h⟩
theorem RL_ex {ey : Nat} (hev : 1 ≤ ey) : ∃ fr to at_, RL n r Q ey (rwB n r Q ey (n / ey + 1)) fr to at_ := by
  have one : ∀ i, ∃ v : Nat × Nat × Nat, i < rwB n r Q ey (n / ey + 1) → ∃ k a b, k * ey ≤ n ∧ RunR n (frS n r Q (k * ey)) (frE n r Q (k * ey)) a b ∧ i = rwB n r Q ey k + rwP n (frS n r Q (k * ey)) (frE n r Q (k * ey)) (decide (k % 2 = 1)) a ∧ v.1 = (if decide (k % 2 = 1) = true then b else a) ∧ v.2.1 = (if decide (k % 2 = 1) = true then a else b) ∧ v.2.2 = k * ey := by
    intro i
    by_cases hi : i < rwB n r Q ey (n / ey + 1)
    · obtain ⟨k, h1, h2, h3⟩ := sumN_find (f := rwT n r Q ey) _ hi
      have hk : k * ey ≤ n := (Nat.le_div_iff_mul_le (by omega)).mp (by omega)
      have ht : i < sumN (rwT n r Q ey) k + rnN (frS n r Q (k * ey)) (frE n r Q (k * ey)) (n + 1) := h3
      obtain ⟨tot, etot⟩ : ∃ tot, tot = rnN (frS n r Q (k * ey)) (frE n r Q (k * ey)) (n + 1) := ⟨_, rfl⟩
      rw [← etot] at ht
      obtain ⟨base, eb⟩ : ∃ base, base = sumN (rwT n r Q ey) k := ⟨_, rfl⟩
      rw [← eb] at ht h2
      cases back : decide (k % 2 = 1)
      · obtain ⟨a, b, ru, ea⟩ := run_ex (n := n) (St := frS n r Q (k * ey)) (Ed := frE n r Q (k * ey)) (p := i - base) (by rw [← etot]; omega)
        refine ⟨(a, b, k * ey), fun _ => ⟨k, a, b, hk, ru, ?_, ?_, ?_, rfl⟩⟩
        · unfold rwP rwB
          rw [back, if_neg Bool.false_ne_true, ea, ← eb]; omega
        · rw [back]; rfl
        · rw [back]; rfl
      · obtain ⟨a, b, ru, ea⟩ := run_ex (n := n) (St := frS n r Q (k * ey)) (Ed := frE n r Q (k * ey)) (p := tot - 1 - (i - base)) (by rw [← etot]; omega)
        refine ⟨(b, a, k * ey), fun _ => ⟨k, a, b, hk, ru, ?_, ?_, ?_, rfl⟩⟩
        · unfold rwP rwB
          rw [back, if_pos rfl, ea, ← etot, ← eb]; omega
        · rw [back]; rfl
        · rw [back]; rfl
    · exact ⟨(0, 0, 0), fun h => absurd h hi⟩
  exact ⟨fun i => (Classical.choose (one i)).1, fun i => (Classical.choose (one i)).2.1, fun i => (Classical.choose (one i)).2.2, rfl, fun i hi => Classical.choose_spec (one i) hi⟩
theorem RL.bd {ey N : Nat} {fr to at_ : Nat → Nat} (R : RL n r Q ey N fr to at_) : ∀ i, i < N → fr i ≤ n ∧ to i ≤ n ∧ at_ i ≤ n := by
  intro i hi
  obtain ⟨k, a, b, hk, ru, _, e1, e2, e3⟩ := R.2 i hi
  have h1 := ru.1
  have h2 := ru.2.1
  rw [e1, e2, e3]
  cases decide (k % 2 = 1)
  · exact ⟨by show a ≤ n; omega, by show b ≤ n; omega, hk⟩
  · exact ⟨by show b ≤ n; omega, by show a ≤ n; omega, hk⟩
theorem RL.congr {ey N : Nat} {fr to at_ : Nat → Nat} (e : ∀ q y x, q < 4 → y < n → x < n → Q q y x = Q' q y x) (R : RL n r Q ey N fr to at_) : RL n r Q' ey N fr to at_ := by
  unfold RL at R ⊢
  obtain ⟨h1, h2⟩ := R
  refine ⟨by rw [h1, rwB_congr e], fun i hi => ?_⟩
  obtain ⟨k, a, b, w1, w2, w3, w4⟩ := h2 i hi
  rw [(fr_congr e).1, (fr_congr e).2] at w2 w3
  rw [rwB_congr e] at w3
  exact ⟨k, a, b, w1, w2, w3, w4⟩
/-- the desk's runs are those -/
theorem PaC.rnd {B : Nat} {h : AH} {z ey N : Nat} {fr to at_ : Nat → Nat} (hn : n ≤ 52) (hr : 1 ≤ r) (hr8 : r ≤ 8) (hev : 1 ≤ ey) (p : PaC B h n r z ey Q N) (R : RL n r Q ey N fr to at_) : RnD B h n N fr to at_ := by
  have nb : rwB n r Q ey (n / ey + 1) ≤ 2120 := rwB_le hn hr hr8 hev (rowsEv hev).1
  refine ⟨by rw [R.1]; omega, fun i hi => ?_⟩
  obtain ⟨b1, b2, b3⟩ := R.bd i hi
  obtain ⟨k, a, b, hk, ru, ei, e1, e2, e3⟩ := R.2 i hi
  obtain ⟨c1, c2, c3⟩ := p.2.2.2 k hk a b ru
  rw [← ei] at c1 c2 c3
  refine ⟨?_, ?_, by rw [c3, e3], b1, b2, b3⟩
  · rw [c1, e1]; cases decide (k % 2 = 1) <;> rfl
  · rw [c2, e2]; cases decide (k % 2 = 1) <;> rfl
end QS
section MPA
variable {gv : Nat → Int} {B n d r z Y : Nat} {h : AH} {Q : Nat → Nat → Nat → Bool} {pa cap many : Nat} {is : Nat → Bool} {S : Nat → Nat → Bool}
/-- a run's twelve numbers -/
def rn12 (h : AH) (pa i : Nat) (f t y z n : Int) : Prop := (hv h pa (12 * i) = f ∧ hv h pa (12 * i + 1) = y ∧ hv h pa (12 * i + 2) = n) ∧ (hv h pa (12 * i + 3) = f ∧ hv h pa (12 * i + 4) = y ∧ hv h pa (12 * i + 5) = z) ∧ (hv h pa (12 * i + 6) = t ∧ hv h pa (12 * i + 7) = y ∧ hv h pa (12 * i + 8) = z) ∧ hv h pa (12 * i + 9) = t ∧ hv h pa (12 * i + 10) = y ∧ hv h pa (12 * i + 11) = n
theorem rn12.keep {h q : AH} {pa pa' i m : Nat} {f t y z n : Int} (s : rn12 h pa i f t y z n) (hi : 12 * i + 12 ≤ m) (e : ∀ k, k < m → hv q pa' k = hv h pa k) : rn12 q pa' i f t y z n := by
  obtain ⟨⟨a1, a2, a3⟩, ⟨b1, b2, b3⟩, ⟨c1, c2, c3⟩, d1, d2, d3⟩ := s
  refine ⟨⟨?_, ?_, ?_⟩, ⟨?_, ?_, ?_⟩, ⟨?_, ?_, ?_⟩, ?_, ?_, ?_⟩ <;> (rw [e _ (by omega)]; assumption)
/-- the positions while a path is made: m runs -/
def PsI (B : Nat) (h0 q : AH) (pa cap m : Nat) (pa' cap' : Nat) : Prop := PosM B q pa' cap' (4 * m) ∧ cap ≤ cap' ∧ (pa' = pa ∨ hnx h0 ≤ pa') ∧ Ext (fun c k => psW B pa c k ∨ c = B + 241) (cap' - cap) (2 * cap' - 2 * cap) h0 q
/-- a run's four positions -/
theorem run_put {h0 q : AH} {m pa' cap' : Nat} {x1 x2 x4 x5 x6 x7 st f t : Int} {P : Rs → Prop} (l : LX B n q) (hd : 10 ≤ d) (p : PsI B h0 q pa cap m pa' cap') (hm : 4 * m ≤ 8476)
    (K : ∀ q' pa'' cap'', LX B n q' → PsI B h0 q' pa cap (m + 1) pa'' cap'' → (∀ k, k < 12 * m → hv q' pa'' k = hv q pa' k) → rn12 q' pa'' m f t (Y : Int) (z : Int) (n : Int) → (pa'' = pa' ∨ hnx q ≤ pa'') → Ext (psW B pa') (cap'' - cap') (2 * cap'' - 2 * cap') q q' → Ends (ev PP (gsF gv) B d 775 168 [(2, rf (B + 149)), (0, x1), (0, x2), (0, (z : Int)), (0, x4), (0, x5), (0, x6), (0, x7), (0, (Y : Int)), (0, st), (0, bop32 96 t st), (0, t)] [] q') P) :
    Ends (ev PP (gsF gv) B d 775 257 [(2, rf (B + 149)), (0, x1), (0, x2), (0, (z : Int)), (0, x4), (0, x5), (0, x6), (0, x7), (0, (Y : Int)), (0, st), (0, f), (0, t)] [] q) P := by
  obtain ⟨p0, p1, p2, p3⟩ := p
  refine Ends.eq (b775_257 (n := n) l (by omega)) ?_
  refine Ends.cv l (by decide +kernel) (c_position782 l hd p0 (by omega)) (fun q1 l1 _ _ _ ⟨a1, k1, P1, o1, u1, v1, w1, c1, X1, s1⟩ => ?_)
  refine Ends.eq (b775_269 (n := n) l1 (by omega)) ?_
  refine Ends.cv l1 (by decide +kernel) (c_position782 l1 hd P1 (by omega)) (fun q2 l2 _ _ _ ⟨a2, k2, P2, o2, u2, v2, w2, c2, X2, s2⟩ => ?_)
  refine Ends.eq (b775_278 (n := n) l2 (by omega)) ?_
  refine Ends.cv l2 (by decide +kernel) (c_position782 l2 hd P2 (by omega)) (fun q3 l3 _ _ _ ⟨a3, k3, P3, o3, u3, v3, w3, c3, X3, s3⟩ => ?_)
  refine Ends.eq (b775_287 (n := n) l3 (by omega)) ?_
  refine Ends.cv l3 (by decide +kernel) (c_position782 l3 hd P3 (by omega)) (fun q4 l4 _ _ _ ⟨a4, k4, P4, o4, u4, v4, w4, c4, X4, s4⟩ => ?_)
  refine Ends.eq (b775_299 (n := n) l4 (by omega)) ?_
  have n1 := X1.2.2.1
  have n2 := X2.2.2.1
  have n3 := X3.2.2.1
  have E2 : Ext (psW B pa') (k1 - cap' + (k2 - k1)) (2 * k1 - 2 * cap' + (2 * k2 - 2 * k1)) q q2 := X1.tr X2 (fun c k hc w => by unfold psW at *; omega)
  have E3 := E2.tr X3 (fun c k hc w => by unfold psW at *; omega)
  have E4 := E3.tr X4 (fun c k hc w => by unfold psW at *; omega)
  have E5 : Ext (psW B pa') (k4 - cap') (2 * k4 - 2 * cap') q q4 := E4.sub (fun c k _ w => w) (by omega) (by omega)
  have n0 := p3.2.2.1
  refine K q4 a4 k4 l4 ⟨by rw [show 4 * (m + 1) = 4 * m + 1 + 1 + 1 + 1 by omega]; exact P4, by omega, by omega, ?_⟩ (fun k hk => ?_) ?_ (by omega) E5
  · exact (p3.tr E5 (fun c k hc w => by unfold psW at *; omega)).sub (fun c k _ w => w) (by omega) (by omega)
  · rw [o4 k (by omega), o3 k (by omega), o2 k (by omega), o1 k (by omega)]
  · refine ⟨⟨?_, ?_, ?_⟩, ⟨?_, ?_, ?_⟩, ⟨?_, ?_, ?_⟩, ?_, ?_, ?_⟩
    · rw [o4 _ (by omega), o3 _ (by omega), o2 _ (by omega), show 12 * m = 3 * (4 * m) by omega]; exact u1
    · rw [o4 _ (by omega), o3 _ (by omega), o2 _ (by omega), show 12 * m + 1 = 3 * (4 * m) + 1 by omega]; exact v1
    · rw [o4 _ (by omega), o3 _ (by omega), o2 _ (by omega), show 12 * m + 2 = 3 * (4 * m) + 2 by omega]; exact w1
    · rw [o4 _ (by omega), o3 _ (by omega), show 12 * m + 3 = 3 * (4 * m + 1) by omega]; exact u2
    · rw [o4 _ (by omega), o3 _ (by omega), show 12 * m + 4 = 3 * (4 * m + 1) + 1 by omega]; exact v2
    · rw [o4 _ (by omega), o3 _ (by omega), show 12 * m + 5 = 3 * (4 * m + 1) + 2 by omega]; exact w2
    · rw [o4 _ (by omega), show 12 * m + 6 = 3 * (4 * m + 1 + 1) by omega]; exact u3
    · rw [o4 _ (by omega), show 12 * m + 7 = 3 * (4 * m + 1 + 1) + 1 by omega]; exact v3
    · rw [o4 _ (by omega), show 12 * m + 8 = 3 * (4 * m + 1 + 1) + 2 by omega]; exact w3
    · rw [show 12 * m + 9 = 3 * (4 * m + 1 + 1 + 1) by omega]; exact u4
    · rw [show 12 * m + 10 = 3 * (4 * m + 1 + 1 + 1) + 1 by omega]; exact v4
    · rw [show 12 * m + 11 = 3 * (4 * m + 1 + 1 + 1) + 2 by omega]; exact w4
end MPA
