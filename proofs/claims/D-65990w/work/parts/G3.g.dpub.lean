/-! L3: the desk's public edits of sketches: sketch, point, drag, line -/
noncomputable section DPUB
variable {gv : Nat → Int} {B n d s : Nat} {h : AH} {H : Nat → Nat → Int} {t : Nat → Nat} {dn tt tu mw : Nat} {x y u v : Int}
/-- the counts of the sketches are within their rooms -/
def SkN (c : Nat → Int) : Prop := (0 ≤ c 3 ∧ c 3 ≤ 6) ∧ ∀ s : Nat, s < 6 → (s : Int) < c 3 → (0 ≤ c (skA s + 2) ∧ c (skA s + 2) ≤ 12) ∧ (0 ≤ c (skA s + 27) ∧ c (skA s + 27) ≤ 24) ∧ (0 ≤ c (skA s + 100) ∧ c (skA s + 100) ≤ 6) ∧ 0 ≤ c (skA s + 479) ∧ c (skA s + 479) ≤ 32
theorem lt_is {a b : Int} : cond (tst 3 a b) (0 : Int) 1 = if decide (a < b) = true then 1 else 0 := by
  rw [ct3]
  by_cases z : a < b
  · rw [if_pos z, if_pos (decide_eq_true z)]
  · rw [if_neg z, if_neg (fun w => z (of_decide_eq_true w))]
theorem ne_is {a b : Int} : cond (tst 0 a b) (0 : Int) 1 = if decide (a ≠ b) = true then 1 else 0 := by
  rw [ct0]
  by_cases z : a = b
  · rw [if_pos z, if_neg (fun w => (of_decide_eq_true w : a ≠ b) z)]
  · rw [if_neg z, if_pos (decide_eq_true z)]
theorem in_is {a b : Int} : v42 x a b = if decide (a ≤ x ∧ x ≤ b) = true then 1 else 0 := by
  rw [v42_in]
  by_cases z : a ≤ x ∧ x ≤ b
  · rw [if_pos z, if_pos (decide_eq_true z)]
  · rw [if_neg z, if_neg (fun w => z (of_decide_eq_true w))]
theorem and_is {p q : Bool} : cond (tst 0 (if p = true then (1 : Int) else 0) 0) (0 : Int) (cond (tst 0 (if q = true then (1 : Int) else 0) 0) (0 : Int) 1) = if (p && q) = true then 1 else 0 := by cases p <;> cases q <;> rfl
theorem and3_is {p q r : Bool} : cond (tst 0 (if p = true then (1 : Int) else 0) 0) (0 : Int) (cond (tst 0 (if q = true then (1 : Int) else 0) 0) (0 : Int) (cond (tst 0 (if r = true then (1 : Int) else 0) 0) (0 : Int) 1)) = if (p && (q && r)) = true then 1 else 0 := by cases p <;> cases q <;> cases r <;> rfl
theorem v49_is (S : St B h H t dn tt tu mw) (N : SkN (H dn)) : q49 B h x ∧ v49 B h x = if decide (0 ≤ x ∧ x < H dn 3) = true then 1 else 0 := by
  obtain ⟨a1, a2⟩ := ix_is (i := 3) S (by decide)
  have n0 := N.1
  refine ⟨a1, ?_⟩
  unfold v49
  rw [show v447 B h 3 = H dn 3 from a2, in_is, sub32 (by omega) (by omega)]
  by_cases z : 0 ≤ x ∧ x < H dn 3
  · rw [if_pos (decide_eq_true (by omega)), if_pos (decide_eq_true z)]
  · rw [if_neg (fun w => z (by have := of_decide_eq_true w; omega)), if_neg (fun w => z (of_decide_eq_true w))]
theorem skc_is {i : Nat} (S : St B h H t dn tt tu mw) (hs : s < 6) (hi : i < 2592) : q447 B h (bop32 96 (v391 (s : Int)) (i : Int)) ∧ v447 B h (bop32 96 (v391 (s : Int)) (i : Int)) = H dn (skA s + i) := by
  rw [sk_ix hs hi]
  exact ix_is S (by have := sk_b hs; omega)
theorem v48_is (S : St B h H t dn tt tu mw) (N : SkN (H dn)) (hs : s < 6) (hs3 : (s : Int) < H dn 3) : q48 B h (s : Int) x ∧ v48 B h (s : Int) x = if decide (0 ≤ x ∧ x < H dn (skA s + 2)) = true then 1 else 0 := by
  obtain ⟨a1, a2⟩ := skc_is (i := 2) S hs (by decide)
  have n0 := (N.2 s hs hs3).1
  refine ⟨a1, ?_⟩
  unfold v48 v429
  rw [show v447 B h (bop32 96 (v391 (s : Int)) 2) = H dn (skA s + 2) from a2, in_is, sub32 (by omega) (by omega)]
  by_cases z : 0 ≤ x ∧ x < H dn (skA s + 2)
  · rw [if_pos (decide_eq_true (by omega)), if_pos (decide_eq_true z)]
  · rw [if_neg (fun w => z (by have := of_decide_eq_true w; omega)), if_neg (fun w => z (of_decide_eq_true w))]
/-- the desk's sketch -/
theorem c_sketch87 (l : LX B n h) (hd : 20 ≤ d) (hn : n ≤ 52) (S : St B h H t dn tt tu mw) (N : SkN (H dn)) (hdn : dn < 100) (htu : tu < 1000000) (hmw : mw + 100 < 1000000) :
    Opx 0 (cll PP (ev PP (gsF gv) B) d 87 [(2, rf (B + 0)), (0, x), (0, y)] h) (fun v h' => skE n (H dn 3) x y = 0 ∧ v = H dn 3 ∧ EdR B H dn tu mw (skC (H dn) (H dn 3).toNat x y) h h') (fun c q => q = h ∧ ((c = 27 ∧ skE n (H dn 3) x y = 1) ∨ (c = 28 ∧ skE n (H dn 3) x y = 2))) := by
  have n0 := N.1
  refine Opx.inq (D := 19) hd (Nat.le_of_ble_eq_true rfl) rfl (fun d hd R K KE => ?_)
  obtain ⟨a1, a2⟩ := ix_is (i := 3) S (by decide)
  refine Ends.eq (b87_0 l (by omega)) ?_
  rw [in_is, in_is, and_is]
  refine Ends.need l (by omega) rfl (fun h1 => ?_) (fun h1 => Ends.thn rfl (KE 27 h ⟨rfl, Or.inl ⟨rfl, ?_⟩⟩))
  rotate_left
  · unfold skE
    rw [if_pos]
    rcases Bool.and_eq_false_iff.mp h1 with z | z
    · have := of_decide_eq_false z; omega
    · have := of_decide_eq_false z; omega
  rw [Bool.and_eq_true, decide_eq_true_eq, decide_eq_true_eq] at h1
  have ok : ¬ (x < 0 ∨ 2 < x ∨ y < 0 ∨ (n : Int) < y) := by omega
  refine Ends.eq (b87_29 l (by omega)) (Ends.g a1 ?_)
  rw [show v447 B h 3 = H dn 3 from a2, lt_is]
  refine Ends.state l (by omega) rfl (fun h2 => ?_) (fun h2 => Ends.thn rfl (KE 28 h ⟨rfl, Or.inr ⟨rfl, ?_⟩⟩))
  rotate_left
  · have := of_decide_eq_false h2
    unfold skE
    rw [if_neg ok, if_pos (by omega)]
  have h3 := of_decide_eq_true h2
  obtain ⟨ns, ens⟩ : ∃ ns : Nat, H dn 3 = (ns : Int) := ⟨(H dn 3).toNat, by omega⟩
  refine Ends.eq (b87_50 l (by omega)) ?_
  refine Ends.ct l (by decide +kernel) (by decide) (c_add382 (s := ns) l (by omega) S (by omega) ens hdn htu hmw) (fun v h' l' _ _ _ ⟨ev_, E⟩ => ?_)
  refine Ends.eq (b87_59 l' (by omega)) (Ends.sm (K _ _ ⟨?_, by rw [ev_, ens], by rw [ens, tn]; exact E⟩))
  unfold skE
  rw [if_neg ok, if_neg (by omega)]
/-- the desk's point -/
theorem c_point73 (l : LX B n h) (hd : 20 ≤ d) (S : St B h H t dn tt tu mw) (N : SkN (H dn)) (hdn : dn < 100) (htu : tu < 1000000) (hmw : mw + 100 < 1000000) :
    Opx 0 (cll PP (ev PP (gsF gv) B) d 73 [(2, rf (B + 0)), (0, x), (0, u), (0, v)] h) (fun r h' => ptE (H dn 3) (H dn (skA x.toNat + 2)) x u v = 0 ∧ r = H dn (skA x.toNat + 2) ∧ EdR B H dn tu mw (ptC (H dn) x.toNat (H dn (skA x.toNat + 2)).toNat u v) h h') (fun c q => q = h ∧ ((c = 31 ∧ ptE (H dn 3) (H dn (skA x.toNat + 2)) x u v = 1) ∨ (c = 27 ∧ ptE (H dn 3) (H dn (skA x.toNat + 2)) x u v = 2) ∨ (c = 28 ∧ ptE (H dn 3) (H dn (skA x.toNat + 2)) x u v = 3))) := by
  have n0 := N.1
  refine Opx.inq (D := 19) hd (Nat.le_of_ble_eq_true rfl) rfl (fun d hd R K KE => ?_)
  obtain ⟨a1, a2⟩ := v49_is (x := x) S N
  refine Ends.eq (b73_0 l (by omega)) (Ends.g a1 ?_)
  rw [a2]
  refine Ends.there l (by omega) rfl (fun h1 => ?_) (fun h1 => Ends.thn rfl (KE 31 h ⟨rfl, Or.inl ⟨rfl, ?_⟩⟩))
  rotate_left
  · have := of_decide_eq_false h1
    unfold ptE
    rw [if_pos (by omega)]
  have h1' := of_decide_eq_true h1
  obtain ⟨s, es⟩ : ∃ s : Nat, x = (s : Int) := ⟨x.toNat, by omega⟩
  subst es
  rw [tn] at K KE
  have hs : s < 6 := by omega
  have sk0 : ¬ ((s : Int) < 0 ∨ H dn 3 ≤ (s : Int)) := by omega
  obtain ⟨-, pN⟩ := id N
  have pb := (pN s hs h1'.2).1
  refine Ends.eq (b73_8 l (by omega)) ?_
  rw [in_is, in_is, and_is]
  refine Ends.need l (by omega) rfl (fun h2 => ?_) (fun h2 => Ends.thn rfl (KE 27 h ⟨rfl, Or.inr (Or.inl ⟨rfl, ?_⟩)⟩))
  rotate_left
  · unfold ptE
    rw [if_neg sk0, if_pos]
    rcases Bool.and_eq_false_iff.mp h2 with z | z
    · have := of_decide_eq_false z; left; unfold farP; omega
    · have := of_decide_eq_false z; right; unfold farP; omega
  rw [Bool.and_eq_true, decide_eq_true_eq, decide_eq_true_eq] at h2
  have far : ¬ (farP u ∨ farP v) := by unfold farP; omega
  obtain ⟨c1, c2⟩ := skc_is (i := 2) S hs (by decide)
  refine Ends.eq (b73_42 l (by omega)) (Ends.g c1 ?_)
  rw [show v429 B h (s : Int) = H dn (skA s + 2) from c2, lt_is]
  refine Ends.state l (by omega) rfl (fun h3 => ?_) (fun h3 => Ends.thn rfl (KE 28 h ⟨rfl, Or.inr (Or.inr ⟨rfl, ?_⟩)⟩))
  rotate_left
  · have := of_decide_eq_false h3
    unfold ptE
    rw [if_neg sk0, if_neg far, if_pos (by omega)]
  have h3' := of_decide_eq_true h3
  obtain ⟨np, enp⟩ : ∃ np : Nat, H dn (skA s + 2) = (np : Int) := ⟨(H dn (skA s + 2)).toNat, by omega⟩
  refine Ends.eq (b73_63 l (by omega)) ?_
  refine Ends.ct l (by decide +kernel) (by decide) (c_point428 (p := np) l (by omega) S hs enp (by omega) hdn htu hmw) (fun r h' l' _ _ _ ⟨er, E⟩ => ?_)
  refine Ends.eq (b73_73 l' (by omega)) (Ends.sm (K _ _ ⟨?_, by rw [er, enp], by rw [enp, tn]; exact E⟩))
  unfold ptE
  rw [if_neg sk0, if_neg far, if_neg (by omega)]
/-- the desk's drag -/
theorem c_drag21 (l : LX B n h) (hd : 20 ≤ d) (S : St B h H t dn tt tu mw) (N : SkN (H dn)) (hdn : dn < 100) (htu : tu < 1000000) (hmw : mw + 100 < 1000000) :
    Vx (cll PP (ev PP (gsF gv) B) d 21 [(2, rf (B + 0)), (0, x), (0, y), (0, u), (0, v)] h) (fun h' => dgE_ (H dn 3) (H dn (skA x.toNat + 2)) x y u v = 0 ∧ EdR B H dn tu mw (dgC (H dn) x.toNat y.toNat u v) h h') (fun r h' => ∃ c, ((c = 31 ∧ dgE_ (H dn 3) (H dn (skA x.toNat + 2)) x y u v = 1) ∨ (c = 27 ∧ dgE_ (H dn 3) (H dn (skA x.toNat + 2)) x y u v = 2)) ∧ ThX c h r h') := by
  have n0 := N.1
  refine Vx.into (D := 19) hd (Nat.le_of_ble_eq_true rfl) rfl (fun d hd => ?_)
  obtain ⟨a1, a2⟩ := v49_is (x := x) S N
  by_cases z : 0 ≤ x ∧ x < H dn 3
  · obtain ⟨s, es⟩ : ∃ s : Nat, x = (s : Int) := ⟨x.toNat, by omega⟩
    subst es
    simp only [tn]
    have hs : s < 6 := by omega
    have pb := (N.2 s hs z.2).1
    obtain ⟨c1, c2⟩ := v48_is (x := y) S N hs z.2
    refine Ends.eq (b21_0 l (by omega)) (Ends.g a1 (Ends.g (cond_tt True.intro c1) ?_))
    rw [a2, c2, and_is]
    refine Ends.there l (by omega) rfl (fun h1 => ?_) (fun h1 => Ends.thn rfl (Or.inr ⟨_, _, rfl, 31, Or.inl ⟨rfl, ?_⟩, rfl, rfl⟩))
    rotate_left
    · unfold dgE_
      rw [if_pos]
      rcases Bool.and_eq_false_iff.mp h1 with w | w
      · have := of_decide_eq_false w; omega
      · have := of_decide_eq_false w; omega
    rw [Bool.and_eq_true, decide_eq_true_eq, decide_eq_true_eq] at h1
    have ok : ¬ (((s : Int) < 0 ∨ H dn 3 ≤ (s : Int)) ∨ y < 0 ∨ H dn (skA s + 2) ≤ y) := by omega
    refine Ends.eq (b21_25 l (by omega)) ?_
    rw [in_is, in_is, and_is]
    refine Ends.need l (by omega) rfl (fun h2 => ?_) (fun h2 => Ends.thn rfl (Or.inr ⟨_, _, rfl, 27, Or.inr ⟨rfl, ?_⟩, rfl, rfl⟩))
    rotate_left
    · unfold dgE_
      rw [if_neg ok, if_pos]
      rcases Bool.and_eq_false_iff.mp h2 with w | w
      · have := of_decide_eq_false w; left; unfold farP; omega
      · have := of_decide_eq_false w; right; unfold farP; omega
    rw [Bool.and_eq_true, decide_eq_true_eq, decide_eq_true_eq] at h2
    have far : ¬ (farP u ∨ farP v) := by unfold farP; omega
    obtain ⟨p, ep⟩ : ∃ p : Nat, y = (p : Int) := ⟨y.toNat, by omega⟩
    subst ep
    refine Ends.eq (b21_60 l (by omega)) ?_
    refine Ends.cv l (by decide +kernel) (c_drag399 (p := p) l (by omega) S hs (by omega) hdn htu hmw) (fun h' l' _ _ _ E => ?_)
    refine Ends.eq (b21_72 l' (by omega)) (Ends.sm (Or.inl ⟨_, rfl, ?_, by rw [tn]; exact E⟩))
    unfold dgE_
    rw [if_neg ok, if_neg far]
  · have a3 : v49 B h x = 0 := by rw [a2, if_neg (fun w => z (of_decide_eq_true w))]
    refine Ends.eq (b21_0 l (by omega)) (Ends.g a1 ?_)
    rw [a3]
    refine Ends.g True.intro ?_
    refine Ends.there (p := false) l (by omega) rfl (fun h1 => absurd h1 Bool.false_ne_true) (fun h1 => Ends.thn rfl (Or.inr ⟨_, _, rfl, 31, Or.inl ⟨rfl, ?_⟩, rfl, rfl⟩))
    unfold dgE_
    rw [if_pos (by omega)]
/-- the desk's line -/
theorem c_line55 (l : LX B n h) (hd : 20 ≤ d) (S : St B h H t dn tt tu mw) (N : SkN (H dn)) (hdn : dn < 100) (htu : tu < 1000000) (hmw : mw + 100 < 1000000) :
    Opx 0 (cll PP (ev PP (gsF gv) B) d 55 [(2, rf (B + 0)), (0, x), (0, u), (0, v)] h) (fun r h' => lnE (H dn 3) (H dn (skA x.toNat + 2)) (H dn (skA x.toNat + 27)) x u v = 0 ∧ r = H dn (skA x.toNat + 27) ∧ EdR B H dn tu mw (lnC (H dn) x.toNat (H dn (skA x.toNat + 27)).toNat u v) h h') (fun c q => q = h ∧ ((c = 31 ∧ lnE (H dn 3) (H dn (skA x.toNat + 2)) (H dn (skA x.toNat + 27)) x u v = 1) ∨ (c = 27 ∧ lnE (H dn 3) (H dn (skA x.toNat + 2)) (H dn (skA x.toNat + 27)) x u v = 2) ∨ (c = 28 ∧ lnE (H dn 3) (H dn (skA x.toNat + 2)) (H dn (skA x.toNat + 27)) x u v = 3))) := by
  have n0 := N.1
  refine Opx.inq (D := 19) hd (Nat.le_of_ble_eq_true rfl) rfl (fun d hd R K KE => ?_)
  obtain ⟨a1, a2⟩ := v49_is (x := x) S N
  by_cases z : 0 ≤ x ∧ x < H dn 3
  · obtain ⟨s, es⟩ : ∃ s : Nat, x = (s : Int) := ⟨x.toNat, by omega⟩
    subst es
    rw [tn] at K KE
    have hs : s < 6 := by omega
    have pb := (N.2 s hs z.2).1
    have lb := (N.2 s hs z.2).2.1
    obtain ⟨c1, c2⟩ := v48_is (x := u) S N hs z.2
    obtain ⟨e1, e2⟩ := v48_is (x := v) S N hs z.2
    refine Ends.eq (b55_0 l (by omega)) (Ends.g a1 (Ends.g (cond_tt True.intro ⟨c1, cond_tt True.intro e1⟩) ?_))
    rw [a2, c2, e2, and3_is]
    refine Ends.there l (by omega) rfl (fun h1 => ?_) (fun h1 => Ends.thn rfl (KE 31 h ⟨rfl, Or.inl ⟨rfl, ?_⟩⟩))
    rotate_left
    · unfold lnE
      rw [if_pos]
      rcases Bool.and_eq_false_iff.mp h1 with w | w
      · have := of_decide_eq_false w; omega
      · rcases Bool.and_eq_false_iff.mp w with w | w
        · have := of_decide_eq_false w; omega
        · have := of_decide_eq_false w; omega
    rw [Bool.and_eq_true, Bool.and_eq_true, decide_eq_true_eq, decide_eq_true_eq, decide_eq_true_eq] at h1
    have ok : ¬ ((((s : Int) < 0 ∨ H dn 3 ≤ (s : Int)) ∨ u < 0 ∨ H dn (skA s + 2) ≤ u) ∨ v < 0 ∨ H dn (skA s + 2) ≤ v) := by omega
    refine Ends.eq (b55_34 l (by omega)) ?_
    rw [ne_is]
    refine Ends.need l (by omega) rfl (fun h2 => ?_) (fun h2 => Ends.thn rfl (KE 27 h ⟨rfl, Or.inr (Or.inl ⟨rfl, ?_⟩)⟩))
    rotate_left
    · have := of_decide_eq_false h2
      unfold lnE
      rw [if_neg ok, if_pos (by omega)]
    have h2' := of_decide_eq_true h2
    obtain ⟨c1, c2⟩ := skc_is (i := 27) S hs (by decide)
    refine Ends.eq (b55_47 l (by omega)) (Ends.g c1 ?_)
    rw [show v419 B h (s : Int) = H dn (skA s + 27) from c2, lt_is]
    refine Ends.state l (by omega) rfl (fun h3 => ?_) (fun h3 => Ends.thn rfl (KE 28 h ⟨rfl, Or.inr (Or.inr ⟨rfl, ?_⟩)⟩))
    rotate_left
    · have := of_decide_eq_false h3
      unfold lnE
      rw [if_neg ok, if_neg h2', if_pos (by omega)]
    have h3' := of_decide_eq_true h3
    obtain ⟨nl, enl⟩ : ∃ nl : Nat, H dn (skA s + 27) = (nl : Int) := ⟨(H dn (skA s + 27)).toNat, by omega⟩
    refine Ends.eq (b55_68 l (by omega)) ?_
    refine Ends.ct l (by decide +kernel) (by decide) (c_addLine385 (k := nl) l (by omega) S hs enl (by omega) hdn htu hmw) (fun r h' l' _ _ _ ⟨er, E⟩ => ?_)
    refine Ends.eq (b55_78 l' (by omega)) (Ends.sm (K _ _ ⟨?_, by rw [er, enl], by rw [enl, tn]; exact E⟩))
    unfold lnE
    rw [if_neg ok, if_neg h2', if_neg (by omega)]
  · have a3 : v49 B h x = 0 := by rw [a2, if_neg (fun w => z (of_decide_eq_true w))]
    refine Ends.eq (b55_0 l (by omega)) (Ends.g a1 ?_)
    rw [a3]
    refine Ends.g True.intro ?_
    refine Ends.there (p := false) l (by omega) rfl (fun h1 => absurd h1 Bool.false_ne_true) (fun h1 => Ends.thn rfl (KE 31 h ⟨rfl, Or.inl ⟨rfl, ?_⟩⟩))
    unfold lnE
    rw [if_pos (by omega)]
end DPUB
