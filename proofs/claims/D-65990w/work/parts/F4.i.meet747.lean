/-! L3: profiles (model): the walk over two lines -/
section M747
variable {gv : Nat → Int} {B n d : Nat} {h : AH} {lv : Nat → Bool} {U0 V0 U1 V1 DU DV SZ : Nat → Int}
theorem MtSk.sym {k m : Nat} (H : MtSk U0 V0 DU DV SZ k m) : MtSk U0 V0 DU DV SZ m k := by
  obtain ⟨T, W, h1, h2, ⟨h3, h4⟩, h5⟩ := H
  exact ⟨W, T, h2, h1, ⟨by omega, by omega⟩, fun z => h5 ⟨z.2, z.1⟩⟩
theorem SgM.ln {k : Nat} (S : SgM B h lv U0 V0 U1 V1) (hk : k < 24) (lk : lv k = true) : LnMs B h (cntN lv k) (U0 k) (V0 k) (U1 k) (V1 k) := S.2 k hk lk
set_option maxHeartbeats 2000000 in
theorem c_meet747 {k m : Nat} (l : LX B n h) (n64 : n ≤ 64) (hd : 10 ≤ d) (hk : k < 24) (hm : m < 24) (S : SgM B h lv U0 V0 U1 V1) (lk : lv k = true) (lm : lv m = true) (Gk : SgK n U0 V0 U1 V1 DU DV SZ k) (Gm : SgK n U0 V0 U1 V1 DU DV SZ m) :
    Vt 0 (cll PP (ev PP (gsF gv) B) d 747 [(2, rf (B + 149)), (0, ((cntN lv k : Nat) : Int)), (0, ((cntN lv m : Nat) : Int))] h) (fun x h' => h' = h ∧ ((x = 1 ∧ MtSk U0 V0 DU DV SZ k m) ∨ (x = 0 ∧ ¬ MtSk U0 V0 DU DV SZ k m))) := by
  have Lk := S.ln hk lk
  have Lm := S.ln hm lm
  have ik : cntN lv k < 24 := Nat.lt_of_le_of_lt (cntN_le _ _) hk
  have im : cntN lv m < 24 := Nat.lt_of_le_of_lt (cntN_le _ _) hm
  generalize cntN lv k = i1 at *
  generalize cntN lv m = i2 at *
  have nn : (n : Int) ≤ 64 := by omega
  obtain ⟨⟨D, s1⟩, ⟨z1, z2⟩, c1, c2, c3, c4, c5⟩ := Gk
  obtain ⟨⟨D', s1'⟩, ⟨z1', z2'⟩, c1', c2', c3', c4', c5'⟩ := Gm
  have M := meet_iff (u := U0 m - U0 k) (v := V0 m - V0 k) D D' s1 s1' rfl rfl rfl
  have b0 : in64 (U0 k) := ⟨c1.1, by omega⟩
  have b1 : in64 (V0 k) := ⟨c2.1, by omega⟩
  have b2 : in64 (U1 k) := ⟨c3.1, by omega⟩
  have b3 : in64 (V1 k) := ⟨c4.1, by omega⟩
  have b0' : in64 (U0 m) := ⟨c1'.1, by omega⟩
  have b1' : in64 (V0 m) := ⟨c2'.1, by omega⟩
  have b2' : in64 (U1 m) := ⟨c3'.1, by omega⟩
  have b3' : in64 (V1 m) := ⟨c4'.1, by omega⟩
  obtain ⟨qa1, va1⟩ := v708_is (u := U0 m) (v := V0 m) Lk ik b0 b1 b2 b3 b0' b1' D s1 z1 z2
  obtain ⟨qa2, va2⟩ := v688_is (u := U0 m) (v := V0 m) Lk ik
  obtain ⟨qb1, vb1⟩ := v708_is (u := U1 m) (v := V1 m) Lk ik b0 b1 b2 b3 b2' b3' D s1 z1 z2
  obtain ⟨qb2, vb2⟩ := v688_is (u := U1 m) (v := V1 m) Lk ik
  obtain ⟨qc1, vc1⟩ := v708_is (u := U0 k) (v := V0 k) Lm im b0' b1' b2' b3' b0 b1 D' s1' z1' z2'
  obtain ⟨qc2, vc2⟩ := v688_is (u := U0 k) (v := V0 k) Lm im
  obtain ⟨qd1, vd1⟩ := v708_is (u := U1 k) (v := V1 k) Lm im b0' b1' b2' b3' b2 b3 D' s1' z1' z2'
  obtain ⟨qd2, vd2⟩ := v688_is (u := U1 k) (v := V1 k) Lm im
  obtain ⟨qe1, ve1⟩ := v828_is (u := U0 m) (v := V0 m) Lk ik b0 b1 b2 b3 b0' b1'
  obtain ⟨qe2, ve2⟩ := v828_is (u := U1 m) (v := V1 m) Lk ik b0 b1 b2 b3 b2' b3'
  obtain ⟨qf1, vf1⟩ := v828_is (u := U0 k) (v := V0 k) Lm im b0' b1' b2' b3' b0 b1
  obtain ⟨qf2, vf2⟩ := v828_is (u := U1 k) (v := V1 k) Lm im b0' b1' b2' b3' b2 b3
  -- the six ways
  have w1 : (onP (U0 m - U0 k) (V0 m - V0 k) (DU k) (DV k) (SZ k) ∧ ¬ endP (U0 k) (V0 k) (U1 k) (V1 k) (U0 m) (V0 m)) ↔ inS (U0 m - U0 k) (V0 m - V0 k) (DU k) (DV k) (SZ k) := in_iff D s1 z1 z2
  have w2 : (onP (U1 m - U0 k) (V1 m - V0 k) (DU k) (DV k) (SZ k) ∧ ¬ endP (U0 k) (V0 k) (U1 k) (V1 k) (U1 m) (V1 m)) ↔ inS (U0 m - U0 k + SZ m * DU m) (V0 m - V0 k + SZ m * DV m) (DU k) (DV k) (SZ k) := by
    rw [in_iff D s1 z1 z2, show U0 m - U0 k + SZ m * DU m = U1 m - U0 k by omega, show V0 m - V0 k + SZ m * DV m = V1 m - V0 k by omega]
  have w3 : (onP (U0 k - U0 m) (V0 k - V0 m) (DU m) (DV m) (SZ m) ∧ ¬ endP (U0 m) (V0 m) (U1 m) (V1 m) (U0 k) (V0 k)) ↔ inS (-(U0 m - U0 k)) (-(V0 m - V0 k)) (DU m) (DV m) (SZ m) := by
    rw [in_iff D' s1' z1' z2', show -(U0 m - U0 k) = U0 k - U0 m by omega, show -(V0 m - V0 k) = V0 k - V0 m by omega]
  have w4 : (onP (U1 k - U0 m) (V1 k - V0 m) (DU m) (DV m) (SZ m) ∧ ¬ endP (U0 m) (V0 m) (U1 m) (V1 m) (U1 k) (V1 k)) ↔ inS (SZ k * DU k - (U0 m - U0 k)) (SZ k * DV k - (V0 m - V0 k)) (DU m) (DV m) (SZ m) := by
    rw [in_iff D' s1' z1' z2', show SZ k * DU k - (U0 m - U0 k) = U1 k - U0 m by omega, show SZ k * DV k - (V0 m - V0 k) = V1 k - V0 m by omega]
  have w5 : (endP (U0 k) (V0 k) (U1 k) (V1 k) (U0 m) (V0 m) ∧ endP (U0 k) (V0 k) (U1 k) (V1 k) (U1 m) (V1 m)) ↔ samS (U0 m - U0 k) (V0 m - V0 k) (DU k) (DV k) (SZ k) (DU m) (DV m) (SZ m) := by
    unfold endP samS
    clear M w1 w2 w3 w4 va1 va2 vb1 vb2 vc1 vc2 vd1 vd2 ve1 ve2 vf1 vf2 qa1 qa2 qb1 qb2 qc1 qc2 qd1 qd2 qe1 qe2 qf1 qf2 D D' Lk Lm
    generalize SZ k * DU k = x1 at *
    generalize SZ k * DV k = x2 at *
    generalize SZ m * DU m = x3 at *
    generalize SZ m * DV m = x4 at *
    omega
  have sg : ∀ {a b S x : Int}, 1 ≤ S → a = S * (-x) → ∀ y : Int, b = S * (y - x) → (a * b < 0 ↔ x * (x - y) < 0) := fun {a b S x} hS ha y hb => by
    have e : a * b = (S * S) * (x * (x - y)) := by rw [ha, hb]; grind
    have ps : 0 < S * S := Int.mul_pos (by omega) (by omega)
    rw [e]
    constructor
    · intro z
      rcases (by omega : x * (x - y) < 0 ∨ 0 ≤ x * (x - y)) with q | q
      · exact q
      · have := Int.mul_nonneg (a := S * S) (b := x * (x - y)) (by omega) q; omega
    · intro z
      exact Int.mul_neg_of_pos_of_neg ps z
  have w6a : sidZ (U0 k) (V0 k) (U1 k) (V1 k) (U0 m) (V0 m) * sidZ (U0 k) (V0 k) (U1 k) (V1 k) (U1 m) (V1 m) < 0 ↔ ((U0 m - U0 k) * DV k - (V0 m - V0 k) * DU k) * ((U0 m - U0 k) * DV k - (V0 m - V0 k) * DU k - SZ m * (DU k * DV m - DV k * DU m)) < 0 := sg s1 (by unfold sidZ; rw [z1, z2]; grind) _ (by unfold sidZ; rw [z1, z2, z1', z2']; grind)
  have w6b : sidZ (U0 m) (V0 m) (U1 m) (V1 m) (U0 k) (V0 k) * sidZ (U0 m) (V0 m) (U1 m) (V1 m) (U1 k) (V1 k) < 0 ↔ ((U0 m - U0 k) * DV m - (V0 m - V0 k) * DU m) * ((U0 m - U0 k) * DV m - (V0 m - V0 k) * DU m - SZ k * (DU k * DV m - DV k * DU m)) < 0 := by
    rw [sg (a := sidZ (U0 m) (V0 m) (U1 m) (V1 m) (U0 k) (V0 k)) (b := sidZ (U0 m) (V0 m) (U1 m) (V1 m) (U1 k) (V1 k)) (x := -((U0 m - U0 k) * DV m - (V0 m - V0 k) * DU m)) s1' (by unfold sidZ; rw [z1', z2']; grind) (-(SZ k * (DU k * DV m - DV k * DU m))) (by unfold sidZ; rw [z1', z2', z1, z2]; grind)]
    rw [show ∀ x y : Int, -x * (-x - -y) = x * (x - y) from fun x y => by grind]
  rw [← w1, ← w2, ← w3, ← w4, ← w5, ← sg3_neg.trans w6a, ← sg3_neg.trans w6b] at M
  have M' : MtSk U0 V0 DU DV SZ k m ↔ _ := M
  clear M w1 w2 w3 w4 w5 w6a w6b sg
  obtain ⟨l1, l2, l3, l4⟩ := Lk
  obtain ⟨l5, l6, l7, l8⟩ := Lm
  refine Vt.inq (D := 9) hd (Nat.le_of_ble_eq_true rfl) rfl (fun d hd Q K => ?_)
  rw [M'] at K
  have yes : ∀ P : Prop, P → ∀ pc, pc = 80 ∨ pc = 162 → (P → Q ((0, (0, 1)), h)) → ∀ u3 u4 : AV, Ends (ev PP (gsF gv) B d 747 pc [(2, rf (B + 149)), (0, (i1 : Int)), (0, (i2 : Int)), u3, u4] [] h) Q := fun P p pc hp f u3 u4 => by
    rcases hp with rfl | rfl
    · refine Ends.eq (b747_80 (n := n) (by (repeat' first | assumption | refine LX.setF _ _ ?_ (by decide +kernel) | refine LX.setS ?_ rfl | refine LX.setA ?_ (by first | assumption | omega))) (by first | assumption | omega)) ?_
      exact Ends.sm (f p)
    · refine Ends.eq (b747_162 (n := n) (by (repeat' first | assumption | refine LX.setF _ _ ?_ (by decide +kernel) | refine LX.setS ?_ rfl | refine LX.setA ?_ (by first | assumption | omega))) (by first | assumption | omega)) ?_
      exact Ends.sm (f p)
  have end6 : ∀ u3 u4 : AV, (¬ (onP (U0 m - U0 k) (V0 m - V0 k) (DU k) (DV k) (SZ k) ∧ ¬ endP (U0 k) (V0 k) (U1 k) (V1 k) (U0 m) (V0 m))) → (¬ (onP (U1 m - U0 k) (V1 m - V0 k) (DU k) (DV k) (SZ k) ∧ ¬ endP (U0 k) (V0 k) (U1 k) (V1 k) (U1 m) (V1 m))) → (¬ (onP (U0 k - U0 m) (V0 k - V0 m) (DU m) (DV m) (SZ m) ∧ ¬ endP (U0 m) (V0 m) (U1 m) (V1 m) (U0 k) (V0 k))) → (¬ (onP (U1 k - U0 m) (V1 k - V0 m) (DU m) (DV m) (SZ m) ∧ ¬ endP (U0 m) (V0 m) (U1 m) (V1 m) (U1 k) (V1 k))) → Ends (ev PP (gsF gv) B d 747 164 [(2, rf (B + 149)), (0, (i1 : Int)), (0, (i2 : Int)), u3, u4] [] h) Q := fun u3 u4 n1 n2 n3 n4 => by
    have last : ¬ (endP (U0 k) (V0 k) (U1 k) (V1 k) (U0 m) (V0 m) ∧ endP (U0 k) (V0 k) (U1 k) (V1 k) (U1 m) (V1 m)) → Ends (ev PP (gsF gv) B d 747 206 [(2, rf (B + 149)), (0, (i1 : Int)), (0, (i2 : Int)), u3, u4] [] h) Q := fun n5 => by
      refine Ends.eq (b747_206 (n := n) (by (repeat' first | assumption | refine LX.setF _ _ ?_ (by decide +kernel) | refine LX.setS ?_ rfl | refine LX.setA ?_ (by first | assumption | omega))) (by first | assumption | omega)) ?_
      simp only [tn]
      rw [l1, l2, l3, l4, l5, l6, l7, l8, ve1, ve2, vf1, vf2]
      have s3 : ∀ x : Int, -1 ≤ sg3 x ∧ sg3 x ≤ 1 := fun x => by unfold sg3; split <;> (try split) <;> omega
      have mm : ∀ x y : Int, bop32 104 (sg3 x) (sg3 y) = sg3 x * sg3 y := fun x y => (m32 (by have := s3 x; omega) (by have := s3 y; omega)).1
      rw [mm, mm]
      simp only [ct3]
      refine Ends.g ⟨by omega, by omega⟩ (Ends.g qe1 (Ends.g qe2 (Ends.g ⟨by omega, by omega⟩ (Ends.g qf1 (Ends.g qf2 (Ends.sm (K _ _ ⟨rfl, ?_⟩)))))))
      by_cases a1 : sg3 (sidZ (U0 k) (V0 k) (U1 k) (V1 k) (U0 m) (V0 m)) * sg3 (sidZ (U0 k) (V0 k) (U1 k) (V1 k) (U1 m) (V1 m)) < 0
      · by_cases a2 : sg3 (sidZ (U0 m) (V0 m) (U1 m) (V1 m) (U0 k) (V0 k)) * sg3 (sidZ (U0 m) (V0 m) (U1 m) (V1 m) (U1 k) (V1 k)) < 0
        · rw [if_pos a1, if_pos a2]
          exact Or.inl ⟨rfl, Or.inr (Or.inr (Or.inr (Or.inr (Or.inr ⟨a1, a2⟩))))⟩
        · rw [if_pos a1, if_neg a2]
          exact Or.inr ⟨rfl, fun z => by rcases z with z | z | z | z | z | z; exact n1 z; exact n2 z; exact n3 z; exact n4 z; exact n5 z; exact a2 z.2⟩
      · rw [if_neg a1]
        exact Or.inr ⟨rfl, fun z => by rcases z with z | z | z | z | z | z; exact n1 z; exact n2 z; exact n3 z; exact n4 z; exact n5 z; exact a1 z.1⟩
    refine Ends.eq (b747_164 (n := n) (by (repeat' first | assumption | refine LX.setF _ _ ?_ (by decide +kernel) | refine LX.setS ?_ rfl | refine LX.setA ?_ (by first | assumption | omega))) (by first | assumption | omega)) ?_
    simp only [tn]
    rw [l5, l6, l7, l8]
    refine Ends.g ⟨by omega, by omega⟩ (Ends.g qa2 ?_)
    rcases va2 with ⟨v2, e2⟩ | ⟨v2, e2⟩
    · rw [v2]
      refine Ends.b0 (fun z => absurd z (by decide)) (fun _ => Ends.g qb2 ?_)
      rcases vb2 with ⟨v4, e4⟩ | ⟨v4, e4⟩
      · rw [v4]
        exact Ends.b0 (fun z => absurd z (by decide)) (fun _ => Ends.sm (K _ _ ⟨rfl, Or.inl ⟨rfl, Or.inr (Or.inr (Or.inr (Or.inr (Or.inl ⟨e2, e4⟩))))⟩⟩))
      · rw [v4]
        exact Ends.b0 (fun _ => last (fun z => e4 z.2)) (fun z => absurd rfl z)
    · rw [v2]
      exact Ends.b0 (fun _ => last (fun z => e2 z.1)) (fun z => absurd rfl z)
  have at122 : ∀ u3 u4 : AV, (¬ (onP (U0 m - U0 k) (V0 m - V0 k) (DU k) (DV k) (SZ k) ∧ ¬ endP (U0 k) (V0 k) (U1 k) (V1 k) (U0 m) (V0 m))) → (¬ (onP (U1 m - U0 k) (V1 m - V0 k) (DU k) (DV k) (SZ k) ∧ ¬ endP (U0 k) (V0 k) (U1 k) (V1 k) (U1 m) (V1 m))) → (¬ (onP (U0 k - U0 m) (V0 k - V0 m) (DU m) (DV m) (SZ m) ∧ ¬ endP (U0 m) (V0 m) (U1 m) (V1 m) (U0 k) (V0 k))) → Ends (ev PP (gsF gv) B d 747 122 [(2, rf (B + 149)), (0, (i1 : Int)), (0, (i2 : Int)), u3, u4] [] h) Q := fun u3 u4 n1 n2 n3 => by
    refine Ends.eq (b747_122 (n := n) (by (repeat' first | assumption | refine LX.setF _ _ ?_ (by decide +kernel) | refine LX.setS ?_ rfl | refine LX.setA ?_ (by first | assumption | omega))) (by first | assumption | omega)) ?_
    simp only [tn]
    rw [l3, l4]
    refine Ends.g ⟨by omega, by omega⟩ (Ends.g qd1 ?_)
    rcases vd1 with ⟨v1, e1⟩ | ⟨v1, e1⟩
    · rw [v1]
      refine Ends.b0 (fun z => absurd z (by decide)) (fun _ => Ends.g qd2 ?_)
      rcases vd2 with ⟨v2, e2⟩ | ⟨v2, e2⟩
      · rw [v2]
        exact Ends.b1 (fun _ => end6 u3 u4 n1 n2 n3 (fun z => z.2 e2)) (fun z => absurd z (by decide))
      · rw [v2]
        exact Ends.b1 (fun z => absurd rfl z) (fun _ => yes _ ⟨e1, e2⟩ 162 (Or.inr rfl) (fun p => K _ _ ⟨rfl, Or.inl ⟨rfl, Or.inr (Or.inr (Or.inr (Or.inl p)))⟩⟩) u3 u4)
    · rw [v1]
      exact Ends.b0 (fun _ => end6 u3 u4 n1 n2 n3 (fun z => e1 z.1)) (fun z => absurd rfl z)
  have at82 : ∀ u3 u4 : AV, (¬ (onP (U0 m - U0 k) (V0 m - V0 k) (DU k) (DV k) (SZ k) ∧ ¬ endP (U0 k) (V0 k) (U1 k) (V1 k) (U0 m) (V0 m))) → (¬ (onP (U1 m - U0 k) (V1 m - V0 k) (DU k) (DV k) (SZ k) ∧ ¬ endP (U0 k) (V0 k) (U1 k) (V1 k) (U1 m) (V1 m))) → Ends (ev PP (gsF gv) B d 747 82 [(2, rf (B + 149)), (0, (i1 : Int)), (0, (i2 : Int)), u3, u4] [] h) Q := fun u3 u4 n1 n2 => by
    refine Ends.eq (b747_82 (n := n) (by (repeat' first | assumption | refine LX.setF _ _ ?_ (by decide +kernel) | refine LX.setS ?_ rfl | refine LX.setA ?_ (by first | assumption | omega))) (by first | assumption | omega)) ?_
    simp only [tn]
    rw [l1, l2]
    refine Ends.g ⟨by omega, by omega⟩ (Ends.g qc1 ?_)
    rcases vc1 with ⟨v1, e1⟩ | ⟨v1, e1⟩
    · rw [v1]
      refine Ends.b0 (fun z => absurd z (by decide)) (fun _ => Ends.g qc2 ?_)
      rcases vc2 with ⟨v2, e2⟩ | ⟨v2, e2⟩
      · rw [v2]
        exact Ends.b0 (fun z => absurd z (by decide)) (fun _ => at122 u3 u4 n1 n2 (fun z => z.2 e2))
      · rw [v2]
        exact Ends.b0 (fun _ => yes _ ⟨e1, e2⟩ 162 (Or.inr rfl) (fun p => K _ _ ⟨rfl, Or.inl ⟨rfl, Or.inr (Or.inr (Or.inl p))⟩⟩) u3 u4) (fun z => absurd rfl z)
    · rw [v1]
      exact Ends.b0 (fun _ => at122 u3 u4 n1 n2 (fun z => e1 z.1)) (fun z => absurd rfl z)
  have at40 : ∀ u3 u4 : AV, (¬ (onP (U0 m - U0 k) (V0 m - V0 k) (DU k) (DV k) (SZ k) ∧ ¬ endP (U0 k) (V0 k) (U1 k) (V1 k) (U0 m) (V0 m))) → Ends (ev PP (gsF gv) B d 747 40 [(2, rf (B + 149)), (0, (i1 : Int)), (0, (i2 : Int)), u3, u4] [] h) Q := fun u3 u4 n1 => by
    refine Ends.eq (b747_40 (n := n) (by (repeat' first | assumption | refine LX.setF _ _ ?_ (by decide +kernel) | refine LX.setS ?_ rfl | refine LX.setA ?_ (by first | assumption | omega))) (by first | assumption | omega)) ?_
    simp only [tn]
    rw [l7, l8]
    refine Ends.g ⟨by omega, by omega⟩ (Ends.g qb1 ?_)
    rcases vb1 with ⟨v1, e1⟩ | ⟨v1, e1⟩
    · rw [v1]
      refine Ends.b0 (fun z => absurd z (by decide)) (fun _ => Ends.g qb2 ?_)
      rcases vb2 with ⟨v2, e2⟩ | ⟨v2, e2⟩
      · rw [v2]
        exact Ends.b1 (fun _ => at82 u3 u4 n1 (fun z => z.2 e2)) (fun z => absurd z (by decide))
      · rw [v2]
        exact Ends.b1 (fun z => absurd rfl z) (fun _ => yes _ ⟨e1, e2⟩ 80 (Or.inl rfl) (fun p => K _ _ ⟨rfl, Or.inl ⟨rfl, Or.inr (Or.inl p)⟩⟩) u3 u4)
    · rw [v1]
      exact Ends.b0 (fun _ => at82 u3 u4 n1 (fun z => e1 z.1)) (fun z => absurd rfl z)
  refine Ends.eq (b747_0 (n := n) (by (repeat' first | assumption | refine LX.setF _ _ ?_ (by decide +kernel) | refine LX.setS ?_ rfl | refine LX.setA ?_ (by first | assumption | omega))) (by first | assumption | omega)) ?_
  simp only [tn]
  rw [l5, l6]
  refine Ends.g ⟨by omega, by omega⟩ (Ends.g qa1 ?_)
  rcases va1 with ⟨v1, e1⟩ | ⟨v1, e1⟩
  · rw [v1]
    refine Ends.b0 (fun z => absurd z (by decide)) (fun _ => Ends.g qa2 ?_)
    rcases va2 with ⟨v2, e2⟩ | ⟨v2, e2⟩
    · rw [v2]
      exact Ends.b0 (fun z => absurd z (by decide)) (fun _ => at40 _ _ (fun z => z.2 e2))
    · rw [v2]
      exact Ends.b0 (fun _ => yes _ ⟨e1, e2⟩ 80 (Or.inl rfl) (fun p => K _ _ ⟨rfl, Or.inl ⟨rfl, Or.inl p⟩⟩) _ _) (fun z => absurd rfl z)
  · rw [v1]
    exact Ends.b0 (fun _ => at40 _ _ (fun z => e1 z.1)) (fun z => absurd rfl z)
end M747
