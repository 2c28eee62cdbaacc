-- deps: 42
-- blocks: 3 4 5
/-! L3: the model grows and shrinks solids -/
section MGROW
variable {gv : Nat → Int} {B n d s t : Nat} {h : AH} {S T : Nat → Bool}
/-- the cube's number along an axis; the same grain in another cube of that line -/
def gC (n g a : Nat) : Nat := match a with
  | 0 => gX n g
  | 1 => gY n g
  | _ => gZ n g
def gRep (n g a k : Nat) : Nat := match a with
  | 0 => gI n k (gY n g) (gZ n g) (gSo g)
  | 1 => gI n (gX n g) k (gZ n g) (gSo g)
  | _ => gI n (gX n g) (gY n g) k (gSo g)
def gStep (n a : Nat) : Nat := match a with
  | 0 => 24
  | 1 => 24 * n
  | _ => 24 * n * n
theorem gC_lt {g a : Nat} (hg : g < gN n) : gC n g a < n := by
  obtain ⟨-, h1, h2, h3, -⟩ := g_lt hg
  unfold gC; split <;> assumption
theorem gRep_lt {g a k : Nat} (hg : g < gN n) (hk : k < n) : gRep n g a k < gN n := by
  obtain ⟨-, h1, h2, h3, h4⟩ := g_lt hg
  unfold gRep; split
  · exact gI_lt hk h2 h3 h4
  · exact gI_lt h1 hk h3 h4
  · exact gI_lt h1 h2 hk h4
theorem gRep_eq {g a k : Nat} : ((gRep n g a k : Nat) : Int) = (g : Int) + ((k : Int) - (gC n g a : Nat)) * (gStep n a : Nat) := by
  have e := @gI_g n g
  have e2 : ((gI n (gX n g) (gY n g) (gZ n g) (gSo g) : Nat) : Int) = (g : Int) := by rw [e]
  unfold gRep gC gStep
  split
  · rw [← e2]; unfold gI; push_cast; grind
  · rw [← e2]; unfold gI; push_cast; grind
  · rw [← e2]; unfold gI; push_cast; grind
theorem gStep_le (hn : n ≤ 52) (a : Nat) : gStep n a ≤ 64896 := by
  unfold gStep; split
  · omega
  · omega
  · have h1 : n * n ≤ 52 * 52 := Nat.mul_le_mul hn hn
    rw [Nat.mul_assoc]; omega
/-- S grown along an axis: by the first i grains -/
def groS (n : Nat) (S : Nat → Bool) (a r i x : Nat) : Prop := ∃ g, g < i ∧ S g = true ∧ ∃ k, k < n ∧ (k : Int) ≤ (gC n g a : Nat) + r ∧ ((gC n g a : Nat) : Int) - r ≤ k ∧ x = gRep n g a k
set_option maxHeartbeats 2000000 in
theorem c_growAlong (l : LX B n h) (hd : 11 ≤ d) (hn : n ≤ 52) (hs : s < 19) (ht : t < 19) (hst : s ≠ t) (b : MB B n h s S) {a r : Nat} (ha : a < 3) (hr : r ≤ 100) :
    Vd (cll PP (ev PP (gsF gv) B) d 668 [(2, rf (B + 149)), (0, (s : Int)), (0, (a : Int)), (0, (r : Int)), (0, (t : Int))] h) (fun h' => Agr (wto B n t (wN n)) h h' ∧ ∃ R, MB B n h' t R ∧ ∀ x, x < gN n → (R x = true ↔ groS n S a r (gN n) x)) := by
  have hN := gN_le hn
  have hst0 := gStep_le hn a
  refine Vd.into (D := 10) hd (Nat.le_of_ble_eq_true rfl) rfl (fun d hd => ?_)
  refine Ends.eq (b668_0 l (by omega)) ?_
  refine Ends.cv l (by decide +kernel) (c_empty l hd hn ht) (fun h1 l1 _ _ _ ⟨g1, e1⟩ => ?_)
  refine Ends.eq (b668_6 l1 (by omega)) ?_
  have est : cond (tst 1 (a : Int) 0) (cond (tst 1 (a : Int) 1) (bop32 104 (bop32 104 24 (n : Int)) (n : Int)) (bop32 104 24 (n : Int))) 24 = ((gStep n a : Nat) : Int) := by
    have q1 : bop32 104 24 (n : Int) = ((24 * n : Nat) : Int) := mulNN (x := 24) (by omega)
    have q2 : 24 * n * n ≤ 64896 := gStep_le hn 2
    rw [q1, mulNN (by omega)]
    obtain rfl | rfl | rfl : a = 0 ∨ a = 1 ∨ a = 2 := by omega
    · rfl
    · rfl
    · rfl
  rw [est]
  refine lp (gN n) (fun i L q => ∃ u7 u8 : AV, L = [(2, rf (B + 149)), (0, ((s : Int))), (0, ((a : Int))), (0, ((r : Int))), (0, ((t : Int))), (0, (((gStep n a : Nat) : Int))), (0, ((i : Int))), u7, u8] ∧ LX B n q ∧ i ≤ gN n ∧ Agr (wto B n t (wN n)) h q ∧ ∃ R, MB B n q t R ∧ ∀ x, x < gN n → (R x = true ↔ groS n S a r i x)) ?_ ?_ 0 ⟨_, _, rfl, l1, Nat.zero_le _, g1, _, e1, fun x hx => ⟨fun z => (by cases z), fun ⟨g, z, _⟩ => by omega⟩⟩
  · rintro i _ q hi ⟨u7, u8, rfl, lq, -, gq, R, bR, eR⟩ ih
    obtain ⟨hn0, hx, hy, hz, -⟩ := g_lt hi
    have hc := gC_lt (a := a) hi
    have bq := b.row gq hst
    obtain ⟨a1, a2⟩ := has_is bq hs hn hi
    refine Ends.eq (b668_47 lq (by omega)) ?_
    refine Ends.b3 (fun _ => by omega) (fun _ => Ends.g a1 ?_)
    rw [a2]
    have skip : ∀ (u7 u8 : AV) (q2 : AH) (R2 : Nat → Bool), LX B n q2 → Agr (wto B n t (wN n)) h q2 → MB B n q2 t R2 → (∀ x, x < gN n → (R2 x = true ↔ groS n S a r (i + 1) x)) → Ends (ev PP (gsF gv) B d 668 156 [(2, rf (B + 149)), (0, ((s : Int))), (0, ((a : Int))), (0, ((r : Int))), (0, ((t : Int))), (0, (((gStep n a : Nat) : Int))), (0, ((i : Int))), u7, u8] [] q2) _ := fun u7 u8 q2 R2 l2 g2 b2 e2 => by
      refine Ends.eq (b668_156 l2 (by omega)) ?_
      rw [w_succ (by omega)]
      exact ih _ _ ⟨u7, u8, rfl, l2, hi, g2, R2, b2, e2⟩
    cases hS : S i
    · refine Ends.b1 (fun z => absurd rfl z) (fun _ => skip u7 u8 q R lq gq bR (fun x hx => ?_))
      rw [eR x hx]
      exact ⟨fun ⟨g, z1, z2, z3⟩ => ⟨g, by omega, z2, z3⟩, fun ⟨g, z1, z2, z3⟩ => ⟨g, by
        have : g ≠ i := fun z => by rw [z, hS] at z2; cases z2
        omega, z2, z3⟩⟩
    refine Ends.b1 (fun _ => ?_) (fun z => by rw [if_pos rfl] at z; exact absurd z (by decide))
    have ec : cond (tst 1 (a : Int) 0) (cond (tst 1 (a : Int) 1) (v590 n (i : Int)) (v589 n (i : Int))) (v588 n (i : Int)) = ((gC n i a : Nat) : Int) := by
      rw [cubeX_is hn0 hn (by omega), cubeY_is hn0 hn (by omega), cubeZ_is hn0 hn (by omega)]
      obtain rfl | rfl | rfl : a = 0 ∨ a = 1 ∨ a = 2 := by omega
      · rfl
      · rfl
      · rfl
    rw [ec, sub32 (by omega) (by omega)]
    have hn1 : (n : Int) ≠ 0 := by omega
    refine Ends.g (by unfold q588 q589 q590; cases tst 1 (a : Int) 0 <;> cases tst 1 (a : Int) 1 <;> exact hn1) ?_
    refine lp (2 * r + 1) (fun j L q2 => L = [(2, rf (B + 149)), (0, ((s : Int))), (0, ((a : Int))), (0, ((r : Int))), (0, ((t : Int))), (0, (((gStep n a : Nat) : Int))), (0, ((i : Int))), (0, (((gC n i a : Nat) : Int))), (0, (((gC n i a : Nat) : Int) - (r : Int) + (j : Int)))] ∧ LX B n q2 ∧ j ≤ 2 * r + 1 ∧ Agr (wto B n t (wN n)) h q2 ∧ ∃ R2, MB B n q2 t R2 ∧ ∀ x, x < gN n → (R2 x = true ↔ groS n S a r i x ∨ ∃ k, k < n ∧ (k : Int) < ((gC n i a : Nat) : Int) - (r : Int) + (j : Int) ∧ ((gC n i a : Nat) : Int) - r ≤ k ∧ x = gRep n i a k)) ?_ ?_ 0 ⟨by simp, lq, by omega, gq, R, bR, fun x hx => ?_⟩
    · rintro j _ q2 hj ⟨rfl, l2, -, g2, R2, b2, e2⟩ ihj
      have nxt2 : ∀ (q3 : AH) (R3 : Nat → Bool), LX B n q3 → Agr (wto B n t (wN n)) h q3 → MB B n q3 t R3 → (∀ x, x < gN n → (R3 x = true ↔ groS n S a r i x ∨ ∃ k, k < n ∧ (k : Int) < ((gC n i a : Nat) : Int) - (r : Int) + ((j + 1 : Nat) : Int) ∧ ((gC n i a : Nat) : Int) - r ≤ k ∧ x = gRep n i a k)) → Ends (ev PP (gsF gv) B d 668 150 [(2, rf (B + 149)), (0, ((s : Int))), (0, ((a : Int))), (0, ((r : Int))), (0, ((t : Int))), (0, (((gStep n a : Nat) : Int))), (0, ((i : Int))), (0, (((gC n i a : Nat) : Int))), (0, (((gC n i a : Nat) : Int) - (r : Int) + (j : Int)))] [] q3) _ := fun q3 R3 l3 g3 b3 e3 => by
        refine Ends.eq (b668_150 l3 (by omega)) ?_
        rw [inc32 (by omega) (by omega)]
        exact ihj _ _ ⟨by rw [show ((gC n i a : Nat) : Int) - (r : Int) + (j : Int) + 1 = ((gC n i a : Nat) : Int) - (r : Int) + ((j + 1 : Nat) : Int) by omega], l3, hj, g3, R3, b3, e3⟩
      have same : (∀ k : Nat, k < n → ¬ (k : Int) = ((gC n i a : Nat) : Int) - (r : Int) + (j : Int)) → ∀ x, x < gN n → (R2 x = true ↔ groS n S a r i x ∨ ∃ k, k < n ∧ (k : Int) < ((gC n i a : Nat) : Int) - (r : Int) + ((j + 1 : Nat) : Int) ∧ ((gC n i a : Nat) : Int) - r ≤ k ∧ x = gRep n i a k) := fun hno x hx => by
        rw [e2 x hx]
        exact ⟨fun z => z.imp id (fun ⟨k, k1, k2, k3⟩ => ⟨k, k1, by omega, k3⟩), fun z => z.imp id (fun ⟨k, k1, k2, k3⟩ => ⟨k, k1, by have := hno k k1; omega, k3⟩)⟩
      refine Ends.eq (b668_110 l2 (by omega)) ?_
      rw [add32 (x := ((gC n i a : Nat) : Int)) (by omega) (by omega)]
      refine Ends.b4 (fun _ => by omega) (fun _ => ?_)
      refine Ends.b2 (fun z => nxt2 q2 R2 l2 g2 b2 (same (fun k hk => by omega))) (fun z => ?_)
      refine Ends.b3 (fun z2 => nxt2 q2 R2 l2 g2 b2 (same (fun k hk => by omega))) (fun z2 => ?_)
      obtain ⟨k, ek⟩ : ∃ k : Nat, ((gC n i a : Nat) : Int) - (r : Int) + (j : Int) = (k : Int) := ⟨(((gC n i a : Nat) : Int) - (r : Int) + (j : Int)).toNat, by omega⟩
      have hk : k < n := by omega
      have hlt := gRep_lt (a := a) hi hk
      have e9 := @gRep_eq n i a k
      have hb1 : ((k : Int) - (gC n i a : Nat)) * (gStep n a : Nat) = ((gRep n i a k : Nat) : Int) - (i : Int) := by omega
      rw [ek, sub32 (x := (k : Int)) (by omega) (by omega), mul32 (by rw [hb1]; omega) (by rw [hb1]; omega), hb1, add32 (by omega) (by omega), show (i : Int) + (((gRep n i a k : Nat) : Int) - (i : Int)) = ((gRep n i a k : Nat) : Int) by omega]
      refine Ends.cv l2 (by decide +kernel) (c_putM l2 (by omega) hn ht b2 hlt) (fun h3 l3 _ _ _ ⟨_, g3, b3⟩ => ?_)
      rw [← ek]
      refine nxt2 h3 _ l3 (g2.tr g3 (fun c k z => z)) b3 (fun x hx => ?_)
      rw [Bool.or_eq_true, e2 x hx, decide_eq_true_eq]
      constructor
      · rintro ((z | ⟨k', k1, k2, k3⟩) | rfl)
        · exact Or.inl z
        · exact Or.inr ⟨k', k1, by omega, k3⟩
        · exact Or.inr ⟨k, hk, by omega, by omega, rfl⟩
      · rintro (z | ⟨k', k1, k2, k3, k4⟩)
        · exact Or.inl (Or.inl z)
        · by_cases e : k' = k
          · subst e; exact Or.inr k4
          · exact Or.inl (Or.inr ⟨k', k1, by omega, k3, k4⟩)
    · rintro j _ q2 hj ⟨rfl, l2, hj2, g2, R2, b2, e2⟩
      refine Ends.eq (b668_110 l2 (by omega)) ?_
      rw [add32 (x := ((gC n i a : Nat) : Int)) (by omega) (by omega)]
      refine Ends.b4 (fun _ => ?_) (fun _ => by omega)
      refine skip _ _ q2 R2 l2 g2 b2 (fun x hx => ?_)
      rw [e2 x hx]
      constructor
      · rintro (⟨g, z1, z2, z3⟩ | ⟨k, k1, k2, k3, k4⟩)
        · exact ⟨g, by omega, z2, z3⟩
        · exact ⟨i, by omega, hS, k, k1, by omega, k3, k4⟩
      · rintro ⟨g, z1, z2, k, k1, k2, k3, k4⟩
        by_cases e : g = i
        · subst e; exact Or.inr ⟨k, k1, by omega, k3, k4⟩
        · exact Or.inl ⟨g, by omega, z2, k, k1, k2, k3, k4⟩
    · rw [eR x hx]
      exact ⟨fun z => Or.inl z, fun z => z.elim id (fun ⟨k, k1, k2, k3, _⟩ => by omega)⟩
  · rintro i _ q hi ⟨u7, u8, rfl, lq, hi2, gq, hR⟩
    obtain rfl : i = gN n := by omega
    refine Ends.eq (b668_47 lq (by omega)) ?_
    exact Ends.b3 (fun _ => Ends.sm ⟨_, rfl, gq, hR⟩) (fun _ => by omega)
end MGROW
