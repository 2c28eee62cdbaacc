/-! L3: views, both public faces -/
section VPB
variable {gv : Nat → Int} {B n d : Nat} {h : AH} {vw : Nat → Int}
def shG (n : Nat) (u v p : Int) : Prop := (0 ≤ u ∧ u < (n : Int)) ∧ (0 ≤ v ∧ v < (n : Int)) ∧ 0 ≤ p ∧ p ≤ 7
theorem c_shown86 {u v p : Int} (l : LX B n h) (hd : 14 ≤ d) (hn : n ≤ 52) (V : VsC B n h vw) :
    Opx 0 (cll PP (ev PP (gsF gv) B) d 86 [(2, rf (B + 0)), (0, u), (0, v), (0, p)] h) (fun x h' => shG n u v p ∧ x = vw (ixV n p.toNat u.toNat v.toNat) ∧ h' = h) (fun c q => q = h ∧ c = 27 ∧ ¬ shG n u v p) := by
  refine Opx.inq (D := 13) hd (Nat.le_of_ble_eq_true rfl) rfl (fun d hd Q K KE => ?_)
  refine Ends.eq (b86_0 (n := n) (by (repeat' first | assumption | refine LX.setF _ _ ?_ (by decide +kernel) | refine LX.setS ?_ rfl | refine LX.setA ?_ (by first | assumption | omega))) (by first | assumption | omega)) ?_
  rw [show bop32 100 ((n : Nat) : Int) 1 = (n : Int) - 1 from sub32 (by omega) (by omega)]
  refine Ends.need (p := decide ((0 ≤ u ∧ u ≤ (n : Int) - 1) ∧ (0 ≤ v ∧ v ≤ (n : Int) - 1) ∧ 0 ≤ p ∧ p ≤ 7)) l (by omega) (by
    rw [v42_in, v42_in, v42_in]
    simp only [ct0, decide_eq_true_eq]
    grind) (fun hp => ?_) (fun hp => Ends.thn rfl (KE _ _ ⟨rfl, rfl, fun z => absurd hp (by rw [decide_eq_true (show (0 ≤ u ∧ u ≤ (n : Int) - 1) ∧ (0 ≤ v ∧ v ≤ (n : Int) - 1) ∧ 0 ≤ p ∧ p ≤ 7 by unfold shG at z; omega)]; exact fun y => Bool.false_ne_true y.symm)⟩))
  have hp := of_decide_eq_true hp
  have hg : shG n u v p := by unfold shG; omega
  obtain ⟨a, rfl⟩ : ∃ k : Nat, u = (k : Int) := ⟨u.toNat, by omega⟩
  obtain ⟨b, rfl⟩ : ∃ k : Nat, v = (k : Int) := ⟨v.toNat, by omega⟩
  obtain ⟨c, rfl⟩ : ∃ k : Nat, p = (k : Int) := ⟨p.toNat, by omega⟩
  have ha : a < n := by omega
  have hb : b < n := by omega
  have hc : c < 8 := by omega
  have il := ixV_lt (n := n) hc ha hb
  refine Ends.eq (b86_46 l (by omega)) ?_
  have ex := ixV_is hn hc ha hb
  have q : q462 B n h (a : Int) (b : Int) (c : Int) ∧ v462 B n h (a : Int) (b : Int) (c : Int) = vw (ixV n c a b) := by
    unfold q462 v462
    rw [ex, ct0]
    clear ex
    rcases V with ⟨sh, e4, ks, ev'⟩ | ⟨z, e⟩
    · rw [e4, ad_rf, ks, if_neg (by have := rf_pos sh; omega), tn]
      exact ⟨⟨rf_pos _, rfl, by omega, by show _ < ((8 * n * n : Nat) : Int); omega⟩, ev' _ _ _ hc ha hb⟩
    · rw [z, if_pos rfl]
      exact ⟨trivial, (e _ _ _ hc ha hb).symm⟩
  refine Ends.g q.1 (Ends.sm (K _ _ ⟨hg, ?_, rfl⟩))
  rw [q.2, tn, tn, tn]
theorem c_shown825 {u v p : Int} (l : LX B n h) (hd : 12 ≤ d) (hn : n ≤ 52) (V : VsM B n h vw) :
    Vt 0 (cll PP (ev PP (gsF gv) B) d 825 [(2, rf (B + 149)), (0, u), (0, v), (0, p)] h) (fun x h' => (¬ shG n u v p ∧ MdA B h 1 x h') ∨ (shG n u v p ∧ x = vw (ixV n p.toNat u.toNat v.toNat) ∧ h' = hset h (B + 149) 0 0)) := by
  refine Vt.inq (D := 11) hd (Nat.le_of_ble_eq_true rfl) rfl (fun d hd P K => ?_)
  refine Ends.eq (b825_0 (n := n) (by (repeat' first | assumption | refine LX.setF _ _ ?_ (by decide +kernel) | refine LX.setS ?_ rfl | refine LX.setA ?_ (by first | assumption | omega))) (by first | assumption | omega)) ?_
  rw [ct2, ct2, ct3, ct3, ct2, ct5]
  by_cases hg : shG n u v p
  rotate_left
  · rw [show (if u < 0 then (1 : Int) else if v < 0 then 1 else if u < (n : Int) then (if v < (n : Int) then (if p < 0 then 1 else if 7 < p then 1 else 0) else 1) else 1) = ((1 : Nat) : Int) from by unfold shG at hg; grind]
    refine Ends.mbad l (by omega) (c := 1) (by decide) rfl ?_
    have l2 : LX B n (hset h (B + 149) 0 ((1 : Nat) : Int)) := LX.setF 149 0 l (by decide +kernel)
    refine Ends.eq (b825_43 (n := n) (by (repeat' first | assumption | refine LX.setF _ _ ?_ (by decide +kernel) | refine LX.setS ?_ rfl | refine LX.setA ?_ (by first | assumption | omega))) (by first | assumption | omega)) ?_
    exact Ends.b0 (fun z => absurd z (by decide)) (fun _ => Ends.sm (K _ _ (Or.inl ⟨hg, rfl, rfl⟩)))
  rw [show (if u < 0 then (1 : Int) else if v < 0 then 1 else if u < (n : Int) then (if v < (n : Int) then (if p < 0 then 1 else if 7 < p then 1 else 0) else 1) else 1) = 0 from by unfold shG at hg; grind]
  refine Ends.mok l (by omega) rfl ?_
  have l2 : LX B n (hset h (B + 149) 0 0) := LX.setF 149 0 l (by decide +kernel)
  have hg' := hg
  unfold shG at hg'
  obtain ⟨a, rfl⟩ : ∃ k : Nat, u = (k : Int) := ⟨u.toNat, by omega⟩
  obtain ⟨b, rfl⟩ : ∃ k : Nat, v = (k : Int) := ⟨v.toNat, by omega⟩
  obtain ⟨c, rfl⟩ : ∃ k : Nat, p = (k : Int) := ⟨p.toNat, by omega⟩
  have ha : a < n := by omega
  have hb : b < n := by omega
  have hc : c < 8 := by omega
  have il := ixV_lt (n := n) hc ha hb
  refine Ends.eq (b825_43 l2 (by omega)) (Ends.b0 (fun _ => ?_) (fun z => absurd rfl z))
  rw [ixV_is hn hc ha hb, tn]
  refine Ends.g ⟨by omega, by omega⟩ (Ends.sm (K _ _ (Or.inr ⟨hg, ?_, rfl⟩)))
  rw [hv_set_ne (by omega), tn, tn, tn]
  exact V _ _ _ hc ha hb
theorem c_seen82 {k : Int} (l : LX B n h) (hd : 12 ≤ d) (hn0 : 0 < n) (hn : n ≤ 52) (V : VsC B n h vw) :
    Vt 0 (cll PP (ev PP (gsF gv) B) d 82 [(2, rf (B + 0)), (0, k)] h) (fun x h' => x = ((seN n vw k : Nat) : Int) ∧ h' = h) := by
  refine Vt.inq (D := 11) hd (Nat.le_of_ble_eq_true rfl) rfl (fun d hd Q K => ?_)
  refine Ends.eq (b82_0 (n := n) (by (repeat' first | assumption | refine LX.setF _ _ ?_ (by decide +kernel) | refine LX.setS ?_ rfl | refine LX.setA ?_ (by first | assumption | omega))) (by first | assumption | omega)) ?_
  refine Ends.ct l (by decide +kernel) (by decide) (c_vseen469 l (by omega) hn0 hn V) (fun x h2 l2 _ _ _ r => ?_)
  exact Ends.eq (b82_8 l2 (by omega)) (Ends.sm (K _ _ r))
theorem c_strokes95 (l : LX B n h) (hd : 14 ≤ d) (hn : n ≤ 52) (V : VsC B n h vw) :
    Vt 0 (cll PP (ev PP (gsF gv) B) d 95 [(2, rf (B + 0))] h) (fun x h' => x = ((cntN (stkB n vw) (stkN n) : Nat) : Int) ∧ h' = h) := by
  refine Vt.inq (D := 13) hd (Nat.le_of_ble_eq_true rfl) rfl (fun d hd Q K => ?_)
  refine Ends.eq (b95_0 (n := n) (by (repeat' first | assumption | refine LX.setF _ _ ?_ (by decide +kernel) | refine LX.setS ?_ rfl | refine LX.setA ?_ (by first | assumption | omega))) (by first | assumption | omega)) ?_
  refine Ends.ct l (by decide +kernel) (by decide) (c_stroke472 l (by omega) hn V) (fun x h2 l2 _ _ _ r => ?_)
  rcases r with ⟨w, i, j, s, -⟩ | ⟨-, e, e2⟩
  · have := s.lt; omega
  · rw [if_pos (by decide)] at e
    exact Ends.eq (b95_8 l2 (by omega)) (Ends.sm (K _ _ ⟨e, e2⟩))
theorem c_strokes840 (l : LX B n h) (hd : 14 ≤ d) (hn : n ≤ 52) (V : VsM B n h vw) :
    Vt 0 (cll PP (ev PP (gsF gv) B) d 840 [(2, rf (B + 149))] h) (fun x h' => x = ((cntN (stkB n vw) (stkN n) : Nat) : Int) ∧ h' = hset h (B + 149) 0 0) := by
  refine Vt.inq (D := 13) hd (Nat.le_of_ble_eq_true rfl) rfl (fun d hd Q K => ?_)
  refine Ends.eq (b840_0 (n := n) (by (repeat' first | assumption | refine LX.setF _ _ ?_ (by decide +kernel) | refine LX.setS ?_ rfl | refine LX.setA ?_ (by first | assumption | omega))) (by first | assumption | omega)) ?_
  have l2 : LX B n (hset h (B + 149) 0 0) := LX.setF 149 0 l (by decide +kernel)
  refine Ends.ct l2 (by decide +kernel) (by decide) (c_findStroke634 (vw := vw) l2 (by omega) hn (fun p u v hp hu hv' => by rw [hv_set_ne (by omega)]; exact V p u v hp hu hv')) (fun x h3 l3 _ _ _ r => ?_)
  rcases r with ⟨w, i, j, s, -⟩ | ⟨-, e, e2⟩
  · have := s.lt; omega
  · exact Ends.eq (b840_10 l3 (by omega)) (Ends.sm (K _ _ ⟨e, e2⟩))
/-- what asking for a stroke may write -/
def skeW (B : Nat) : Nat → Nat → Prop := fun c k => (c = B + 132 ∧ 10 ≤ k) ∨ (c = B + 226 ∧ k < 4) ∨ (c = B + 149 ∧ k = 0)
theorem c_stroke94 {k t : Int} (l : LX B n h) (hd : 16 ≤ d) (hn : n ≤ 52) (V : VsC B n h vw) :
    Opx 0 (cll PP (ev PP (gsF gv) B) d 94 [(2, rf (B + 0)), (0, k), (0, t)] h) (fun x h' => ∃ w i j, StF n vw k w i j ∧ (0 ≤ t ∧ t ≤ 3) ∧ x = stE n vw w i j t.toNat ∧ Agr (skeW B) h h') (fun c q => (c = 31 ∧ q = h ∧ ¬ ∃ w i j, StF n vw k w i j) ∨ (c = 27 ∧ Agr (skeW B) h q ∧ (∃ w i j, StF n vw k w i j) ∧ ¬ (0 ≤ t ∧ t ≤ 3))) := by
  refine Opx.inq (D := 15) hd (Nat.le_of_ble_eq_true rfl) rfl (fun d hd Q K KE => ?_)
  refine Ends.eq (b94_0 (n := n) (by (repeat' first | assumption | refine LX.setF _ _ ?_ (by decide +kernel) | refine LX.setS ?_ rfl | refine LX.setA ?_ (by first | assumption | omega))) (by first | assumption | omega)) ?_
  have none : ∀ v : Int, v = 0 → (¬ ∃ w i j, StF n vw k w i j) → Ends (ev PP (gsF gv) B d 94 21 [(2, rf (B + 0)), (0, k), (0, t)] [(0, v)] h) Q := fun v ev' no => by
    refine Ends.eq (b94_21 l (by omega)) ?_
    exact Ends.there (p := false) l (by omega) (by rw [ev', if_neg Bool.false_ne_true]) (fun z => absurd z Bool.false_ne_true) (fun _ => Ends.thn rfl (KE _ _ (Or.inl ⟨rfl, rfl, no⟩)))
  refine Ends.b2 (fun z => ?_) (fun z => ?_)
  · refine Ends.eq (b94_20 l (by omega)) (none 0 rfl (fun ⟨w, i, j, s⟩ => ?_))
    have := s.lt; omega
  · refine Ends.ct l (by decide +kernel) (by decide) (c_stroke472 l (by omega) hn V) (fun x h2 l2 _ _ _ r => ?_)
    refine Ends.eq (b94_12 l2 (by omega)) ?_
    rcases r with ⟨w, i, j, s, ex, g, f1, f2, f3, f4⟩ | ⟨no, ex, e2⟩
    · rw [ex, show cond (tst 1 (1 : Int) 1) (0 : Int) 1 = 1 from rfl]
      refine Ends.there (p := true) l2 (by omega) (by rw [if_pos rfl]) (fun _ => ?_) (fun z => absurd z.symm Bool.false_ne_true)
      have g2 : Agr (skeW B) h h2 := g.sub (fun c k z => Or.inl z)
      refine Ends.eq (b94_24 l2 (by omega)) ?_
      refine Ends.need (p := decide (0 ≤ t ∧ t ≤ 3)) l2 (by omega) (by rw [v42_in]; simp only [decide_eq_true_eq]) (fun hp => ?_) (fun hp => Ends.thn rfl (KE _ _ (Or.inr ⟨rfl, g2, ⟨w, i, j, s⟩, of_decide_eq_false hp⟩)))
      have hp := of_decide_eq_true hp
      refine Ends.eq (b94_33 l2 (by omega)) (Ends.sm (K _ _ ⟨w, i, j, s, hp, ?_, g2⟩))
      obtain ⟨a, rfl⟩ : ∃ k : Nat, t = (k : Int) := ⟨t.toNat, by omega⟩
      rw [tn]
      unfold v473
      rw [ct1, ct1, ct1]
      rcases (by omega : a = 0 ∨ a = 1 ∨ a = 2 ∨ a = 3) with y | y | y | y
      · subst y; rw [← f1, if_pos (by omega)]
      · subst y; rw [← f2, if_neg (by omega), if_pos (by omega)]
      · subst y; rw [← f3, if_neg (by omega), if_neg (by omega), if_pos (by omega)]
      · subst y; rw [← f4, if_neg (by omega), if_neg (by omega), if_neg (by omega)]
    · subst e2
      rw [if_neg (by omega)] at ex
      rw [ex, show cond (tst 1 (0 : Int) 1) (0 : Int) 1 = 0 from rfl]
      exact Ends.there (p := false) l2 (by omega) rfl (fun z => absurd z Bool.false_ne_true) (fun _ => Ends.thn rfl (KE _ _ (Or.inl ⟨rfl, rfl, fun ⟨w, i, j, s⟩ => by have := s.lt; omega⟩)))
theorem c_stroke839 {k t : Int} (l : LX B n h) (hd : 16 ≤ d) (hn : n ≤ 52) (V : VsM B n h vw) :
    Vt 0 (cll PP (ev PP (gsF gv) B) d 839 [(2, rf (B + 149)), (0, k), (0, t)] h) (fun x h' => Agr (skeW B) h h' ∧ ((x = 0 ∧ hv h' (B + 149) 0 = 1 ∧ ¬ ∃ w i j, StF n vw k w i j) ∨ (x = 0 ∧ hv h' (B + 149) 0 = 2 ∧ (∃ w i j, StF n vw k w i j) ∧ ¬ (0 ≤ t ∧ t ≤ 3)) ∨ (hv h' (B + 149) 0 = 0 ∧ ∃ w i j, StF n vw k w i j ∧ (0 ≤ t ∧ t ≤ 3) ∧ x = stE n vw w i j t.toNat))) := by
  refine Vt.inq (D := 15) hd (Nat.le_of_ble_eq_true rfl) rfl (fun d hd Q K => ?_)
  have hb0 := l.2.2
  refine Ends.eq (b839_0 (n := n) (by (repeat' first | assumption | refine LX.setF _ _ ?_ (by decide +kernel) | refine LX.setS ?_ rfl | refine LX.setA ?_ (by first | assumption | omega))) (by first | assumption | omega)) ?_
  have sS : ∀ {q : AH} {c : Int}, Agr (skeW B) h q → Agr (skeW B) h (hset q (B + 149) 0 c) := fun g => g.set (Or.inr (Or.inr ⟨rfl, rfl⟩))
  refine Ends.b2 (fun z => ?_) (fun z => ?_)
  · refine Ends.eq (b839_13 l (by omega)) (Ends.eq (b839_31 l (by omega)) ?_)
    refine Ends.mbad l (by omega) (c := 1) (by decide) rfl ?_
    have l2 : LX B n (hset h (B + 149) 0 ((1 : Nat) : Int)) := LX.setF 149 0 l (by decide +kernel)
    refine Ends.eq (b839_34 l2 (by omega)) (Ends.b0 (fun z => absurd z (by decide)) (fun _ => Ends.sm (K _ _ ⟨sS Agr.rf, Or.inl ⟨rfl, hv_set_at .., fun ⟨w, i, j, s⟩ => ?_⟩⟩)))
    have := s.lt; omega
  · refine Ends.ct l (by decide +kernel) (by decide) (c_findStroke634 l (by omega) hn V) (fun x h2 l2 _ _ _ r => ?_)
    refine Ends.eq (b839_10 l2 (by omega)) ?_
    rcases r with ⟨w, i, j, s, ex, g, f⟩ | ⟨no, ex, e2⟩
    · have g2 : Agr (skeW B) h h2 := g.sub (fun c k z => Or.inr (Or.inl z))
      rw [ex, ct2, if_pos (by decide), ct2, ct5]
      by_cases hp : 0 ≤ t ∧ t ≤ 3
      · rw [if_neg (by omega), if_neg (by omega)]
        refine Ends.mok l2 (by omega) rfl ?_
        have l3 : LX B n (hset h2 (B + 149) 0 0) := LX.setF 149 0 l2 (by decide +kernel)
        refine Ends.eq (b839_34 l3 (by omega)) (Ends.b0 (fun _ => Ends.g ⟨by omega, by omega⟩ (Ends.sm (K _ _ ⟨sS g2, Or.inr (Or.inr ⟨hv_set_at .., w, i, j, s, hp, ?_⟩)⟩))) (fun y => absurd rfl y))
        rw [hv_set_ne (by omega)]
        exact f _ (by omega)
      · rw [show (if t < 0 then (2 : Int) else if 3 < t then 2 else 0) = ((2 : Nat) : Int) from by
          by_cases y : t < 0
          · rw [if_pos y]; rfl
          · rw [if_neg y, if_pos (by omega)]; rfl]
        refine Ends.mbad l2 (by omega) (c := 2) (by decide) rfl ?_
        have l3 : LX B n (hset h2 (B + 149) 0 ((2 : Nat) : Int)) := LX.setF 149 0 l2 (by decide +kernel)
        exact Ends.eq (b839_34 l3 (by omega)) (Ends.b0 (fun z => absurd z (by decide)) (fun _ => Ends.sm (K _ _ ⟨sS g2, Or.inr (Or.inl ⟨rfl, hv_set_at .., ⟨w, i, j, s⟩, hp⟩)⟩)))
    · subst e2
      rw [ct2, if_neg (by omega)]
      refine Ends.mbad l2 (by omega) (c := 1) (by decide) rfl ?_
      have l3 : LX B n (hset h2 (B + 149) 0 ((1 : Nat) : Int)) := LX.setF 149 0 l2 (by decide +kernel)
      refine Ends.eq (b839_34 l3 (by omega)) (Ends.b0 (fun z => absurd z (by decide)) (fun _ => Ends.sm (K _ _ ⟨sS Agr.rf, Or.inl ⟨rfl, hv_set_at .., fun ⟨w, i, j, s⟩ => ?_⟩⟩)))
      have := s.lt; omega
end VPB
