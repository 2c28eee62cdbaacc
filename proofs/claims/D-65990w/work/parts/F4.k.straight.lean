/-! L3: profiles: straight ones (both sides) -/
section STR
variable {gv : Nat → Int} {B n d : Nat} {h : AH} {lv : Nat → Bool} {U0 V0 U1 V1 DU DV : Nat → Int} {dn : Nat}
/-- the one with that number among those that are there -/
theorem cnt_at {S : Nat → Bool} : ∀ (N i : Nat), i < cntN S N → ∃ k, k < N ∧ S k = true ∧ cntN S k = i
  | 0, i, h => absurd h (Nat.not_lt_zero i)
  | N + 1, i, h => by
    rw [cntN_s] at h
    rcases (by omega : i < cntN S N ∨ cntN S N ≤ i) with z | z
    · obtain ⟨k, h1, h2, h3⟩ := cnt_at N i z
      exact ⟨k, by omega, h2, h3⟩
    · by_cases e : S N = true
      · rw [if_pos e] at h
        exact ⟨N, Nat.lt_succ_self N, e, by omega⟩
      · rw [if_neg e] at h
        omega
/-- level and upright lines alone, no disc -/
def strP (lv : Nat → Bool) (U0 V0 U1 V1 : Nat → Int) (dn : Nat) : Prop := (∀ k, k < 24 → lv k = true → U0 k = U1 k ∨ V0 k = V1 k) ∧ dn = 0
theorem c_isStraight414 (l : LX B n h) (hd : 10 ≤ d) (S : SgD B h lv U0 V0 U1 V1) (st : ∀ k, k < 24 → lv k = true → hv h (B + 73) k = DU k ∧ hv h (B + 74) k = DV k ∧ (DU k = 0 ↔ U0 k = U1 k) ∧ (DV k = 0 ↔ V0 k = V1 k)) (e23 : hv h (B + 56) 23 = (dn : Int)) : Vt 0 (cll PP (ev PP (gsF gv) B) d 414 [(2, rf (B + 56))] h) (fun x h' => h' = h ∧ ((x = 1 ∧ strP lv U0 V0 U1 V1 dn) ∨ (x = 0 ∧ ¬ strP lv U0 V0 U1 V1 dn))) := by
  refine Vt.inq (D := 9) hd (Nat.le_of_ble_eq_true rfl) rfl (fun d hd Q K => ?_)
  have key : ∀ (r k : Nat), k + r = 24 → (∀ j, j < k → lv j = true → U0 j = U1 j ∨ V0 j = V1 j) → Ends (ev PP (gsF gv) B d 414 2 [(2, rf (B + 56)), (0, (k : Int))] [] h) Q := by
    intro r
    induction r with
    | zero =>
      intro k ek ok
      obtain rfl : k = 24 := by omega
      refine Ends.eq (b414_2 (n := n) (by (repeat' first | assumption | refine LX.setF _ _ ?_ (by decide +kernel) | refine LX.setS ?_ rfl | refine LX.setA ?_ (by first | assumption | omega))) (by first | assumption | omega)) ?_
      rw [e23, ct1]
      refine Ends.b3 (fun _ => Ends.sm (K _ _ ⟨rfl, ?_⟩)) (fun z => absurd z (by decide))
      by_cases z : dn = 0
      · rw [if_pos (by omega)]; exact Or.inl ⟨rfl, ok, z⟩
      · rw [if_neg (by omega)]; exact Or.inr ⟨rfl, fun y => z y.2⟩
    | succ r ih =>
      intro k ek ok
      have next : (lv k = true → U0 k = U1 k ∨ V0 k = V1 k) → Ends (ev PP (gsF gv) B d 414 37 [(2, rf (B + 56)), (0, (k : Int))] [] h) Q := fun z => by
        refine Ends.eq (b414_37 (n := n) (by (repeat' first | assumption | refine LX.setF _ _ ?_ (by decide +kernel) | refine LX.setS ?_ rfl | refine LX.setA ?_ (by first | assumption | omega))) (by first | assumption | omega)) ?_
        rw [w_succ (by omega)]
        refine ih (k + 1) (by omega) (fun j hj y => ?_)
        rcases (by omega : j < k ∨ j = k) with u | u
        · exact ok j u y
        · rw [u] at y ⊢; exact z y
      refine Ends.eq (b414_2 (n := n) (by (repeat' first | assumption | refine LX.setF _ _ ?_ (by decide +kernel) | refine LX.setS ?_ rfl | refine LX.setA ?_ (by first | assumption | omega))) (by first | assumption | omega)) ?_
      simp only [tn]
      rw [(S k (by omega)).1]
      refine Ends.b3 (fun z => absurd z (by omega)) (fun _ => Ends.g ⟨by omega, by omega⟩ ?_)
      cases e : lv k
      · exact Ends.b0 (fun _ => next (fun z => by rw [e] at z; cases z)) (fun z => absurd rfl z)
      · obtain ⟨s1, s2, s3, s4⟩ := st k (by omega) e
        rw [s1, s2]
        exact Ends.b0 (fun z => absurd z (by decide)) (fun _ => Ends.b0 (fun z => next (fun _ => Or.inl (s3.mp z))) (fun z => Ends.b0 (fun z2 => next (fun _ => Or.inr (s4.mp z2))) (fun z2 => Ends.sm (K _ _ ⟨rfl, Or.inr ⟨rfl, fun y => (y.1 k (by omega) e).elim (fun q => z (s3.mpr q)) (fun q => z2 (s4.mpr q))⟩⟩))))
  refine Ends.eq (b414_0 (n := n) (by (repeat' first | assumption | refine LX.setF _ _ ?_ (by decide +kernel) | refine LX.setS ?_ rfl | refine LX.setA ?_ (by first | assumption | omega))) (by first | assumption | omega)) ?_
  exact key 24 0 rfl (fun j hj => absurd hj (Nat.not_lt_zero j))
theorem c_isStraight717 (l : LX B n h) (hd : 10 ≤ d) (S : SgM B h lv U0 V0 U1 V1) (e57 : hv h (B + 149) 57 = (dn : Int)) : Vt 0 (cll PP (ev PP (gsF gv) B) d 717 [(2, rf (B + 149))] h) (fun x h' => h' = h ∧ ((x = 1 ∧ strP lv U0 V0 U1 V1 dn) ∨ (x = 0 ∧ ¬ strP lv U0 V0 U1 V1 dn))) := by
  refine Vt.inq (D := 9) hd (Nat.le_of_ble_eq_true rfl) rfl (fun d hd Q K => ?_)
  have c24 : cntN lv 24 ≤ 24 := cntN_le _ _
  have key : ∀ (r i : Nat), i + r = cntN lv 24 → (∀ j, j < 24 → lv j = true → cntN lv j < i → U0 j = U1 j ∨ V0 j = V1 j) → Ends (ev PP (gsF gv) B d 717 2 [(2, rf (B + 149)), (0, (i : Int))] [] h) Q := by
    intro r
    induction r with
    | zero =>
      intro i ei ok
      obtain rfl : i = cntN lv 24 := by omega
      refine Ends.eq (b717_2 (n := n) (by (repeat' first | assumption | refine LX.setF _ _ ?_ (by decide +kernel) | refine LX.setS ?_ rfl | refine LX.setA ?_ (by first | assumption | omega))) (by first | assumption | omega)) ?_
      rw [S.1, e57, ct1]
      refine Ends.b3 (fun _ => Ends.sm (K _ _ ⟨rfl, ?_⟩)) (fun z => absurd z (Int.lt_irrefl _))
      by_cases z : dn = 0
      · rw [if_pos (by omega)]; exact Or.inl ⟨rfl, fun k hk y => ok k hk y (cnt_ltl hk y), z⟩
      · rw [if_neg (by omega)]; exact Or.inr ⟨rfl, fun y => z y.2⟩
    | succ r ih =>
      intro i ei ok
      obtain ⟨k, hk, lk, ck⟩ := cnt_at (S := lv) 24 i (by omega)
      obtain ⟨a1, a2, a3, a4⟩ := S.2 k hk lk
      rw [ck] at a1 a2 a3 a4
      have next : (U0 k = U1 k ∨ V0 k = V1 k) → Ends (ev PP (gsF gv) B d 717 42 [(2, rf (B + 149)), (0, (i : Int))] [] h) Q := fun z => by
        refine Ends.eq (b717_42 (n := n) (by (repeat' first | assumption | refine LX.setF _ _ ?_ (by decide +kernel) | refine LX.setS ?_ rfl | refine LX.setA ?_ (by first | assumption | omega))) (by first | assumption | omega)) ?_
        rw [w_succ (by omega)]
        refine ih (i + 1) (by omega) (fun j hj y cj => ?_)
        rcases (by omega : cntN lv j < i ∨ cntN lv j = i) with u | u
        · exact ok j hj y u
        · rcases (by omega : j < k ∨ j = k ∨ k < j) with v | v | v
          · have := cnt_ltl v y; omega
          · rw [v]; exact z
          · have := cnt_ltl v lk; omega
      refine Ends.eq (b717_2 (n := n) (by (repeat' first | assumption | refine LX.setF _ _ ?_ (by decide +kernel) | refine LX.setS ?_ rfl | refine LX.setA ?_ (by first | assumption | omega))) (by first | assumption | omega)) ?_
      simp only [tn]
      rw [S.1, a1, a2, a3, a4]
      exact Ends.b3 (fun z => absurd z (by omega)) (fun _ => Ends.g ⟨by omega, by omega⟩ (Ends.b0 (fun z => next (Or.inl z)) (fun z => Ends.b0 (fun z2 => next (Or.inr z2)) (fun z2 => Ends.sm (K _ _ ⟨rfl, Or.inr ⟨rfl, fun y => (y.1 k hk lk).elim z z2⟩⟩)))))
  refine Ends.eq (b717_0 (n := n) (by (repeat' first | assumption | refine LX.setF _ _ ?_ (by decide +kernel) | refine LX.setS ?_ rfl | refine LX.setA ?_ (by first | assumption | omega))) (by first | assumption | omega)) ?_
  exact key (cntN lv 24) 0 (by omega) (fun j _ _ cj => absurd cj (Nat.not_lt_zero _))
end STR
