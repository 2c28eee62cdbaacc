/-! L3: the model's beginPieces, lumpsOf -/
section LUMPSM
variable {gv : Nat → Int} {B n d s : Nat} {h : AH} {S R : Nat → Bool}
theorem c_beginPieces (l : LX B n h) (hd : 11 ≤ d) (hn : n ≤ 52) {t u : Nat} (ht : t < 19) (hu : u < 19) (htu : t ≠ u) :
    Vd (cll PP (ev PP (gsF gv) B) d 555 [(2, rf (B + 149)), (0, (t : Int)), (0, (u : Int))] h) (fun h' => Agr (fun c k => wto B n t (wN n) c k ∨ wto B n u (wN n) c k ∨ (c = B + 149 ∧ 90 ≤ k ∧ k ≤ 91)) h h' ∧ MB B n h' t (fun _ => false) ∧ MB B n h' u (fun _ => false) ∧ hv h' (B + 149) 90 = 0 ∧ hv h' (B + 149) 91 = -1) := by
  refine Vd.into (D := 10) hd (Nat.le_of_ble_eq_true rfl) rfl (fun d hd => Ends.eq (b555_0 l (by omega)) ?_)
  refine Ends.cv l (by decide +kernel) (c_empty l hd hn ht) (fun h1 l1 _ _ _ ⟨g1, e1⟩ => ?_)
  refine Ends.eq (b555_5 (n := n) (by (repeat' first | assumption | refine LX.setF _ _ ?_ (by decide +kernel) | refine LX.setS ?_ rfl | refine LX.setA ?_ (by first | assumption | omega))) (by first | assumption | omega)) ?_
  refine Ends.cv l1 (by decide +kernel) (c_empty l1 hd hn hu) (fun h2 l2 _ _ _ ⟨g2, e2⟩ => ?_)
  refine Ends.eq (b555_10 (n := n) (by (repeat' first | assumption | refine LX.setF _ _ ?_ (by decide +kernel) | refine LX.setS ?_ rfl | refine LX.setA ?_ (by first | assumption | omega))) (by first | assumption | omega)) ?_
  refine Ends.sm ⟨_, rfl, (((g1.sub (fun c k z => Or.inl z)).tr g2 (fun c k z => Or.inr (Or.inl z))).set (Or.inr (Or.inr ⟨rfl, by decide, by decide⟩))).set (Or.inr (Or.inr ⟨rfl, by decide, by decide⟩)), ((e1.row g2 htu).fset _ _).fset _ _, (e2.fset _ _).fset _ _, ?_, hv_set_at ..⟩
  rw [hv_set_ne (by omega)]; exact hv_set_at ..
/-- within a closed part of S one reaches the same -/
theorem Rch.sub (hc : ∀ x x' f, x < gN n → x' < gN n → f < 4 → R x = true → nbr n x f = (x' : Int) → S x' = true → R x' = true) (hs : ∀ x, x < gN n → R x = true → S x = true) {g : Nat} (hR : R g = true) {x : Nat} : Rch n R g x ↔ Rch n S g x := by
  constructor
  · intro q P p1 p2
    exact q P p1 (fun y y' f h1 h2 h3 h4 h5 h6 => p2 y y' f h1 h2 h3 h4 h5 (hs y' h2 h6))
  · intro q
    have := q (fun y => R y = true ∧ Rch n R g y) ⟨hR, Rch.rf⟩ (fun y y' f h1 h2 h3 ⟨h4, h5⟩ h6 h7 => by
      have := hc y y' f h1 h2 h3 h4 h6 h7
      exact ⟨this, h5.st h1 h2 h3 h6 this⟩)
    exact this.2
set_option maxHeartbeats 4000000 in
theorem c_lumpsOf (l : LX B n h) (hd : 14 ≤ d) (hn0 : 0 < n) (hn : n ≤ 52) (hs : s < 13) (m : TbM B h) (b : MB B n h s S) :
    Vt 0 (cll PP (ev PP (gsF gv) B) d 737 [(2, rf (B + 149)), (0, (s : Int))] h) (fun v h' => Agr (tpW B n 13 14 15) h h' ∧ ∃ k : Nat, v = (k : Int) ∧ NC n S S k) := by
  have hG := gN_le hn
  refine Vt.into (D := 13) hd (Nat.le_of_ble_eq_true rfl) rfl (fun d hd => Ends.eq (b737_0 l (by omega)) ?_)
  refine Ends.cv l (by decide +kernel) (c_copyM (t := 13) l (by omega) hn (by omega) (by decide) b) (fun h1 l1 _ _ _ ⟨g1, b1⟩ => ?_)
  refine Ends.eq (b737_9 (n := n) (by (repeat' first | assumption | refine LX.setF _ _ ?_ (by decide +kernel) | refine LX.setS ?_ rfl | refine LX.setA ?_ (by first | assumption | omega))) (by first | assumption | omega)) ?_
  refine Ends.cv l1 (by decide +kernel) (c_beginPieces (t := 14) (u := 15) l1 (by omega) hn (by decide) (by decide) (by decide)) (fun h2 l2 _ _ _ ⟨g2, b14, b15, f0, f1⟩ => ?_)
  refine Ends.eq (b737_17 (n := n) (by (repeat' first | assumption | refine LX.setF _ _ ?_ (by decide +kernel) | refine LX.setS ?_ rfl | refine LX.setA ?_ (by first | assumption | omega))) (by first | assumption | omega)) ?_
  have A2 : Agr (tpW B n 13 14 15) h h2 := (g1.sub (fun c k z => Or.inl z)).tr g2 (fun c k z => by
    rcases z with z | z | z
    · exact Or.inr (Or.inl z)
    · exact Or.inr (Or.inr (Or.inl z))
    · exact Or.inr (Or.inr (Or.inr ⟨z.1, z.2.1, by omega⟩)))
  have b13 : MB B n h2 13 S := b1.agr g2 (fun k hk z => by
    rcases z with z | z | z
    · exact wto_row hk (Nat.le_refl _) (by decide) z
    · exact wto_row hk (Nat.le_refl _) (by decide) z
    · omega)
  refine lp (gN n) (fun i L q => ∃ (c : Nat), ∃ (R : Nat → Bool), ∃ (T : Nat → Bool), ∃ (rep : Nat → Nat), ∃ (lo : Nat), ∃ (hh : Int), ∃ u4 : AV, L = [(2, rf (B + 149)), (0, ((s : Int))), (0, ((c : Int))), (0, ((i : Int))), u4] ∧ LX B n q ∧ i ≤ gN n ∧ Agr (tpW B n 13 14 15) h q ∧ c ≤ i ∧ MB B n q 13 R ∧ MB B n q 14 T ∧ MB B n q 15 (fun _ => false) ∧ hv q (B + 149) 90 = (lo : Int) ∧ hv q (B + 149) 91 = hh ∧ (lo : Int) ≤ hh + 1 ∧ hh < (wN n : Nat) ∧ (∀ x, x < gN n → T x = true → lo ≤ x / 64 ∧ ((x / 64 : Nat) : Int) ≤ hh) ∧ (∀ x, x < gN n → R x = true → S x = true) ∧ (∀ x x' f, x < gN n → x' < gN n → f < 4 → R x = true → nbr n x f = (x' : Int) → S x' = true → R x' = true) ∧ (∀ x, x < i → x < gN n → R x = false) ∧ (∀ j, j < c → rep j < gN n ∧ S (rep j) = true ∧ R (rep j) = false) ∧ (∀ j k, j < c → k < c → Rch n S (rep j) (rep k) → j = k) ∧ (∀ x, x < gN n → S x = true → R x = false → ∃ j, j < c ∧ Rch n S (rep j) x)) ?_ ?_ (0) ⟨0, S, (fun _ => false), (fun _ => 0), 0, -1, _, rfl, (by (repeat' first | assumption | refine LX.setF _ _ ?_ (by decide +kernel) | refine LX.setS ?_ rfl | refine LX.setA ?_ (by assumption))), by omega, ?_, ?_⟩
  · rintro i _ q hi ⟨c, R, T, rep, lo, hh, uq0, rfl, lq, hiN, gq, ⟨hc, v1, v2, v3, v4, v5, v6, v7, v8, v9, va, vb, vc, vd, ve⟩⟩ ihi
    have mq : TbM B q := m.agr gq (fun c k h1 h2 h3 => by unfold tpW wto; omega)
    obtain ⟨a1, a2⟩ := has_is v1 (by decide) hn hi
    have nx : ∀ (c2 : Nat) (R2 T2 : Nat → Bool) (rep2 : Nat → Nat) (lo2 : Nat) (hi2 : Int) (u4 : AV) (q2 : AH), LX B n q2 → Agr (tpW B n 13 14 15) h q2 → c2 ≤ i + 1 ∧ MB B n q2 13 R2 ∧ MB B n q2 14 T2 ∧ MB B n q2 15 (fun _ => false) ∧ hv q2 (B + 149) 90 = (lo2 : Int) ∧ hv q2 (B + 149) 91 = hi2 ∧ (lo2 : Int) ≤ hi2 + 1 ∧ hi2 < (wN n : Nat) ∧ (∀ x, x < gN n → T2 x = true → lo2 ≤ x / 64 ∧ ((x / 64 : Nat) : Int) ≤ hi2) ∧ (∀ x, x < gN n → R2 x = true → S x = true) ∧ (∀ x x' f, x < gN n → x' < gN n → f < 4 → R2 x = true → nbr n x f = (x' : Int) → S x' = true → R2 x' = true) ∧ (∀ x, x < i + 1 → x < gN n → R2 x = false) ∧ (∀ j, j < c2 → rep2 j < gN n ∧ S (rep2 j) = true ∧ R2 (rep2 j) = false) ∧ (∀ j k, j < c2 → k < c2 → Rch n S (rep2 j) (rep2 k) → j = k) ∧ (∀ x, x < gN n → S x = true → R2 x = false → ∃ j, j < c2 ∧ Rch n S (rep2 j) x) → Ends (ev PP (gsF gv) B d 737 56 [(2, rf (B + 149)), (0, ((s : Int))), (0, ((c2 : Int))), (0, ((i : Int))), u4] [] q2) _ := fun c2 R2 T2 rep2 lo2 hi2 u4 q2 lq2 gq2 I => by
      refine Ends.eq (b737_56 (n := n) (by (repeat' first | assumption | refine LX.setF _ _ ?_ (by decide +kernel) | refine LX.setS ?_ rfl | refine LX.setA ?_ (by first | assumption | omega))) (by first | assumption | omega)) ?_
      rw [w_succ (by omega)]
      refine ihi _ _ ⟨c2,  R2,  T2,  rep2,  lo2,  hi2, _, rfl, (by (repeat' first | assumption | refine LX.setF _ _ ?_ (by decide +kernel) | refine LX.setS ?_ rfl | refine LX.setA ?_ (by assumption))), by omega, ?_, ?_⟩
      · exact gq2
      · exact I
    have a2' : v669 B n q 13 (i : Int) = if R i then 1 else 0 := a2
    refine Ends.eq (b737_19 (n := n) (by (repeat' first | assumption | refine LX.setF _ _ ?_ (by decide +kernel) | refine LX.setS ?_ rfl | refine LX.setA ?_ (by first | assumption | omega))) (by first | assumption | omega)) ?_
    rw [a2']
    refine Ends.b3 (fun _ => by omega) (fun _ => Ends.g a1 ?_)
    cases hR : R i
    · refine Ends.b1 (fun z => absurd rfl z) (fun _ => nx c R T rep lo hh _ q lq gq ⟨by omega, v1, v2, v3, v4, v5, v6, v7, v8, v9, va, fun x h1 h2 => ?_, vc, vd, ve⟩)
      by_cases e : x = i
      · subst e; exact hR
      · exact vb x (by omega) h2
    · refine Ends.b1 (fun _ => ?_) (fun z => by rw [if_pos rfl] at z; exact absurd z (by decide))
      refine Ends.ct lq (by decide +kernel) (by decide) (c_takePiece (s := 13) (t := 14) (u := 15) lq (by omega) hn0 hn (by decide) (by decide) (by decide) (by decide) (by decide) (by decide) mq v1 v2 v3 v4 v5 v6 v7 v8 hi hR) (fun r h5 l5 _ _ _ ⟨g5, P, lo5, hi5, bd5, w1, w2, w3, w4, w5, w6, w7, w8, w9, wa⟩ => ?_)
      refine Ends.eq (b737_51 (n := n) (by (repeat' first | assumption | refine LX.setF _ _ ?_ (by decide +kernel) | refine LX.setS ?_ rfl | refine LX.setA ?_ (by first | assumption | omega))) (by first | assumption | omega)) ?_
      rw [w_succ (by omega)]
      have hSi := v9 i hi hR
      have rs : ∀ x, Rch n R i x ↔ Rch n S i x := fun x => Rch.sub va v9 hR
      have noR : ∀ j, j < c → ¬ Rch n S (rep j) i := fun j hj q => by
        obtain ⟨q1, q2, q3⟩ := vc j hj
        have := (q.sym q1 q2) (fun y => R y = true) hR (fun y y' f h1 h2 h3 h4 h5 h6 => va y y' f h1 h2 h3 h4 h5 h6)
        rw [q3] at this; cases this
      refine nx (c + 1) (fun x => R x && !P x) P (fun j => if j = c then i else rep j) lo5 hi5 _ h5 l5 (gq.tr g5 (fun c k z => z)) ⟨by omega, w1, w2, w3, w5, w6, by omega, by omega, fun x h1 h2 => ?_, fun x h1 h2 => ?_, fun x x' f h1 h2 h3 h4 h6 h7 => ?_, fun x h1 h2 => ?_, fun j hj => ?_, fun j k hj hk hr => ?_, fun x h1 h2 h3 => ?_⟩
      · have := w9 x h1 h2; exact ⟨this.1, by omega⟩
      · simp at h2; exact v9 x h1 h2.1
      · simp only [Bool.and_eq_true, Bool.not_eq_true'] at h4 ⊢
        refine ⟨va x x' f h1 h2 h3 h4.1 h6 h7, ?_⟩
        cases e : P x'
        · rfl
        · exfalso
          have e1 := (w4 x' h2).mp e
          obtain ⟨f', q1, q2⟩ := nbr_sym h1 h3 h6
          have e2 := e1.st h2 h1 q1 q2 h4.1
          rw [← w4 x h1] at e2
          rw [h4.2] at e2; cases e2
      · by_cases e : x = i
        · subst e
          have : P x = true := (w4 x h2).mpr Rch.rf
          simp [this]
        · simp [vb x (by omega) h2]
      · by_cases e : j = c
        · simp only [e, if_true]
          have : P i = true := (w4 i hi).mpr Rch.rf
          exact ⟨hi, hSi, by simp [this]⟩
        · simp only [e, if_false]
          obtain ⟨q1, q2, q3⟩ := vc j (by omega)
          exact ⟨q1, q2, by simp [q3]⟩
      · by_cases e1 : j = c
        · by_cases e2 : k = c
          · omega
          · exfalso
            simp only [e1, e2, if_true, if_false] at hr
            exact noR k (by omega) (hr.sym hi hSi)
        · by_cases e2 : k = c
          · exfalso
            simp only [e1, e2, if_true, if_false] at hr
            exact noR j (by omega) hr
          · simp only [e1, e2, if_false] at hr
            exact vd j k (by omega) (by omega) hr
      · cases eR : R x
        · obtain ⟨j, q1, q2⟩ := ve x h1 h2 eR
          refine ⟨j, by omega, ?_⟩
          have : j ≠ c := by omega
          simp only [this, if_false]; exact q2
        · simp [eR] at h3
          refine ⟨c, by omega, ?_⟩
          simp only [if_true]
          exact (rs x).mp ((w4 x h1).mp h3)
  · rintro i _ q hi ⟨c, R, T, rep, lo, hh, uq0, rfl, lq, hiN, gq, ⟨hc, v1, v2, v3, v4, v5, v6, v7, v8, v9, va, vb, vc, vd, ve⟩⟩
    obtain rfl : i = gN n := by omega
    refine Ends.eq (b737_19 (n := n) (by (repeat' first | assumption | refine LX.setF _ _ ?_ (by decide +kernel) | refine LX.setS ?_ rfl | refine LX.setA ?_ (by first | assumption | omega))) (by first | assumption | omega)) ?_
    refine Ends.b3 (fun _ => Ends.sm ⟨_, _, rfl, gq, c, rfl, rep, fun j hj => ?_, vd, fun x h1 h2 => ve x h1 h2 (vb x h1 h1)⟩) (fun _ => by omega)
    obtain ⟨q1, q2, q3⟩ := vc j hj
    exact ⟨q1, q2, q2⟩
  · exact A2
  · exact ⟨Nat.le_refl _, b13, b14, b15, f0, f1, by omega, by omega, fun x _ z => (by cases z), fun x _ z => z, fun x x' f _ _ _ _ _ z => z, fun x h1 => absurd h1 (by omega), fun j hj => absurd hj (by omega), fun j k hj => absurd hj (by omega), fun x _ h1 h2 => (by rw [h1] at h2; cases h2)⟩
end LUMPSM
