/-! L3: the desk's askings of sketches: coordinate, redundant -/
noncomputable section DASK2
variable {gv : Nat → Int} {B n d s nk np p k : Nat} {h : AH} {c : Nat → Int} {cs : Nat → Cst} {w xa xb xc dr : Nat → Int} {isC gk : Nat → Bool} {Inv : AH → Prop} {W : Nat → Nat → Prop} {x y ax pt : Int}
theorem v48_c (hc : ∀ z, z < 37368 → hv h (B + 2) z = c z) (hs : s < 6) (e2 : c (skA s + 2) = (np : Int)) (n12 : np ≤ 12) : q48 B h (s : Int) x ∧ v48 B h (s : Int) x = if decide (0 ≤ x ∧ x < (np : Int)) = true then 1 else 0 := by
  have sb := sk_b hs
  have ex : bop32 96 (v391 (s : Int)) 2 = ((skA s + 2 : Nat) : Int) := sk_ix (i := 2) hs (by decide)
  obtain ⟨a1, a2⟩ := cell_is (i := skA s + 2) hc (by omega)
  unfold q48 v48 q429 v429
  rw [ex, a2, e2, in_is, sub32 (by omega) (by omega)]
  refine ⟨a1, ?_⟩
  by_cases z : 0 ≤ x ∧ x < (np : Int)
  · rw [if_pos (decide_eq_true (by omega)), if_pos (decide_eq_true z)]
  · rw [if_neg (fun w => z (by have := of_decide_eq_true w; omega)), if_neg (fun w => z (of_decide_eq_true w))]
theorem slS_3 : slS nk np isC gk cs w = 3 ↔ 0 ≤ fstB (flC cs isC gk) nk 0 := by
  unfold slS
  by_cases z : 0 ≤ fstB (flC cs isC gk) nk 0
  · rw [if_pos z]; exact ⟨fun _ => z, fun _ => rfl⟩
  · rw [if_neg z]
    refine ⟨fun y => ?_, fun y => absurd y z⟩
    exfalso
    split at y
    · split at y <;> omega
    · omega
theorem c_coord13n (l : LX B n h) (hd : 20 ≤ d) (hc : ∀ z, z < 37368 → hv h (B + 2) z = c z) (n0 : 0 ≤ c 3 ∧ c 3 ≤ 6) (hx : ¬ (0 ≤ x ∧ x < c 3) ∨ (x = (s : Int) ∧ (s : Int) < c 3 ∧ c (skA s + 2) = (np : Int) ∧ np ≤ 12 ∧ ¬ (0 ≤ y ∧ y < (np : Int)))) :
    Opx 1 (cll PP (ev PP (gsF gv) B) d 13 [(2, rf (B + 0)), (0, x), (0, y), (0, ax), (0, pt)] h) (fun _ _ => False) (fun e q => q = h ∧ e = 31) := by
  refine Opx.inq (D := 19) hd (Nat.le_of_ble_eq_true rfl) rfl (fun d hd R K KE => ?_)
  obtain ⟨a1, a2⟩ := v49_c (x := x) hc n0
  by_cases z : 0 ≤ x ∧ x < c 3
  · rcases hx with hx | ⟨ex, hs3, e2, n12, hy⟩
    · exact absurd z hx
    subst ex
    obtain ⟨c1, c2⟩ := v48_c (x := y) hc (show s < 6 by omega) e2 n12
    refine Ends.eq (b13_0 l (by omega)) (Ends.g a1 (Ends.g (cond_tt True.intro c1) ?_))
    rw [a2, c2, and_is]
    refine Ends.there l (by omega) rfl (fun r => ?_) (fun _ => Ends.thn rfl (KE 31 h ⟨rfl, rfl⟩))
    rw [Bool.and_eq_true, decide_eq_true_eq, decide_eq_true_eq] at r
    exact absurd r.2 hy
  · have a3 : v49 B h x = 0 := by rw [a2, if_neg (fun w => z (of_decide_eq_true w))]
    refine Ends.eq (b13_0 l (by omega)) (Ends.g a1 ?_)
    rw [a3]
    refine Ends.g True.intro ?_
    exact Ends.there (p := false) l (by omega) rfl (fun r => absurd r Bool.false_ne_true) (fun _ => Ends.thn rfl (KE 31 h ⟨rfl, rfl⟩))
theorem c_coord13 (l : LX B n h) (hd : 424 ≤ d) (H : DkH gv B n s nk np W c cs w xa xb xc dr isC gk Inv) (i0 : Inv h) (Kc : KpD B h s nk np isC gk cs w dr) (n0 : 0 ≤ c 3 ∧ c 3 ≤ 6) (hs3 : (s : Int) < c 3) (hp : p < np) :
    Opx 1 (cll PP (ev PP (gsF gv) B) d 13 [(2, rf (B + 0)), (0, (s : Int)), (0, (p : Int)), (0, ax), (0, pt)] h) (fun x h' => (0 ≤ ax ∧ ax ≤ 1) ∧ (0 ≤ pt ∧ pt ≤ 1) ∧ Agr (wsD W B s) h h' ∧ Inv h' ∧ KpD B h' s nk np isC gk cs w dr ∧ slS nk np isC gk cs w < 2 ∧ ∃ X t, Sln (EqE nk isC cs w) (2 * np) dr X t ∧ x = if pt = 0 then mN (X (2 * p + ax.toNat)) t else mD (X (2 * p + ax.toNat)) t)
      (fun e q => (e = 27 ∧ q = h ∧ ¬ ((0 ≤ ax ∧ ax ≤ 1) ∧ (0 ≤ pt ∧ pt ≤ 1))) ∨ (e = 28 ∧ ((0 ≤ ax ∧ ax ≤ 1) ∧ (0 ≤ pt ∧ pt ≤ 1)) ∧ Agr (wsD W B s) h q ∧ Inv q ∧ KpD B q s nk np isC gk cs w dr ∧ 2 ≤ slS nk np isC gk cs w)) := by
  have hs := H.1.1
  have DR := H.1.2.2.1
  have hc := H.2.2.2.2 h i0
  refine Opx.inq (D := 423) hd (Nat.le_of_ble_eq_true rfl) rfl (fun d hd Q K KE => ?_)
  obtain ⟨a1, a2⟩ := v49_c (x := (s : Int)) hc n0
  obtain ⟨c1, c2⟩ := v48_c (x := (p : Int)) hc hs DR.1 DR.2.1
  refine Ends.eq (b13_0 l (by omega)) (Ends.g a1 (Ends.g (cond_tt True.intro c1) ?_))
  rw [a2, c2, and_is]
  refine Ends.there l (by omega) rfl (fun _ => ?_) (fun r => ?_)
  rotate_left
  · exfalso
    rcases Bool.and_eq_false_iff.mp r with w | w
    · have := of_decide_eq_false w; omega
    · have := of_decide_eq_false w; omega
  refine Ends.eq (b13_25 l (by omega)) ?_
  rw [in_is, in_is, and_is]
  refine Ends.need l (by omega) rfl (fun r => ?_) (fun r => Ends.thn rfl (KE 27 h (Or.inl ⟨rfl, rfl, ?_⟩)))
  rotate_left
  · rcases Bool.and_eq_false_iff.mp r with w | w
    · have := of_decide_eq_false w; omega
    · have := of_decide_eq_false w; omega
  rw [Bool.and_eq_true, decide_eq_true_eq, decide_eq_true_eq] at r
  refine Ends.eq (b13_52 l (by omega)) ?_
  refine Ends.ct l (by decide +kernel) (by decide) (c_solved438 l (by omega) H i0 Kc) (fun x h1 l1 _ _ _ ⟨g1, i1, k63, k64, S⟩ => ?_)
  have ex := S.x
  have k1 : KpD B h1 s nk np isC gk cs w dr := fun _ => by rw [k64]; exact S
  refine Ends.eq (b13_60 l1 (by omega)) ?_
  rw [lt_is]
  refine Ends.state l1 (by omega) rfl (fun r2 => ?_) (fun r2 => Ends.thn rfl (KE 28 h1 (Or.inr ⟨rfl, r, g1, i1, k1, by have := of_decide_eq_false r2; omega⟩)))
  have r2' := of_decide_eq_true r2
  rcases S with ⟨y, -⟩ | ⟨y, -⟩ | ⟨-, -, -, -, X, t, sln, vals⟩
  · omega
  · omega
  have n12 := DR.2.1
  obtain ⟨a, ea⟩ : ∃ a : Nat, ax = (a : Int) := ⟨ax.toNat, by omega⟩
  subst ea
  have i2 : ∀ _ : Unit, bop32 96 (bop32 104 2 (p : Int)) (a : Int) = ((2 * p + a : Nat) : Int) := fun _ => by
    rw [show bop32 104 2 (p : Int) = ((2 * p : Nat) : Int) from mulNN (x := 2) (by omega)]
    exact addNN (by omega)
  have i3 : ∀ _ : Unit, bop32 96 (bop32 104 24 (s : Int)) ((2 * p + a : Nat) : Int) = ((24 * s + (2 * p + a) : Nat) : Int) := fun _ => by
    rw [show bop32 104 24 (s : Int) = ((24 * s : Nat) : Int) from mulNN (x := 24) (by omega)]
    exact addNN (by omega)
  have i4 : 24 * s + (2 * p + a) < 144 := by omega
  have vv := vals (2 * p + a) (by omega)
  refine Ends.eq (b13_72 l1 (by omega)) ?_
  unfold q388 q381 v388 v381
  rw [i2 (), i3 (), tn, vv.1, vv.2]
  refine Ends.g (cond_tt ⟨by omega, by omega⟩ ⟨by omega, by omega⟩) (Ends.sm (K _ _ ⟨r.1, r.2, g1, i1, k1, by omega, X, t, sln, by rw [ct1, tn]⟩))
theorem c_redund80n (l : LX B n h) (hd : 20 ≤ d) (hc : ∀ z, z < 37368 → hv h (B + 2) z = c z) (n0 : 0 ≤ c 3 ∧ c 3 ≤ 6) (hx : ¬ (0 ≤ x ∧ x < c 3) ∨ (x = (s : Int) ∧ (s : Int) < c 3 ∧ CsD c s nk cs xa xb xc isC ∧ ((∃ k : Nat, y = (k : Int) ∧ k < nk ∧ isC k = false) ∨ ¬ (0 ≤ y ∧ y < (nk : Int))))) :
    Opx 0 (cll PP (ev PP (gsF gv) B) d 80 [(2, rf (B + 0)), (0, x), (0, y)] h) (fun _ _ => False) (fun e q => q = h ∧ e = 31) := by
  refine Opx.inq (D := 19) hd (Nat.le_of_ble_eq_true rfl) rfl (fun d hd R K KE => ?_)
  obtain ⟨a1, a2⟩ := v49_c (x := x) hc n0
  by_cases z : 0 ≤ x ∧ x < c 3
  · rcases hx with hx | ⟨ex, hs3, C, hy⟩
    · exact absurd z hx
    subst ex
    have hs : s < 6 := by omega
    have v0 : q407 B h (s : Int) y ∧ v407 B h (s : Int) y = 0 := by
      rcases hy with ⟨k, ek, hk, nk_⟩ | hy
      · subst ek
        have := v407_is hc hs C hk
        rw [nk_] at this
        exact this
      · obtain ⟨b1, b2⟩ := v394_is hc hs C
        unfold q407 v407
        rw [b2, ct2, ct3, ct2, ct3]
        by_cases z1 : y < 0
        · rw [if_pos z1, if_pos z1]; exact ⟨True.intro, rfl⟩
        · rw [if_neg z1, if_neg z1, if_neg (by omega), if_neg (by omega)]; exact ⟨⟨b1, True.intro⟩, rfl⟩
    refine Ends.eq (b80_0 l (by omega)) (Ends.g a1 (Ends.g (cond_tt True.intro v0.1) ?_))
    rw [a2, if_pos (decide_eq_true z), v0.2]
    exact Ends.there (p := false) l (by omega) rfl (fun r => absurd r Bool.false_ne_true) (fun _ => Ends.thn rfl (KE 31 h ⟨rfl, rfl⟩))
  · have a3 : v49 B h x = 0 := by rw [a2, if_neg (fun w => z (of_decide_eq_true w))]
    refine Ends.eq (b80_0 l (by omega)) (Ends.g a1 ?_)
    rw [a3]
    refine Ends.g True.intro ?_
    exact Ends.there (p := false) l (by omega) rfl (fun r => absurd r Bool.false_ne_true) (fun _ => Ends.thn rfl (KE 31 h ⟨rfl, rfl⟩))
theorem c_redund80 (l : LX B n h) (hd : 424 ≤ d) (H : DkH gv B n s nk np W c cs w xa xb xc dr isC gk Inv) (i0 : Inv h) (Kc : KpD B h s nk np isC gk cs w dr) (n0 : 0 ≤ c 3 ∧ c 3 ≤ 6) (hs3 : (s : Int) < c 3) (hk : k < nk) (ik : isC k = true) :
    Opx 0 (cll PP (ev PP (gsF gv) B) d 80 [(2, rf (B + 0)), (0, (s : Int)), (0, (k : Int))] h) (fun x h' => Agr (wsD W B s) h h' ∧ Inv h' ∧ KpD B h' s nk np isC gk cs w dr ∧ fstB (flC cs isC gk) nk 0 < 0 ∧ ((x = 1 ∧ rdS cs isC w k) ∨ (x = 0 ∧ ¬ rdS cs isC w k)))
      (fun e q => e = 28 ∧ Agr (wsD W B s) h q ∧ Inv q ∧ KpD B q s nk np isC gk cs w dr ∧ 0 ≤ fstB (flC cs isC gk) nk 0) := by
  have hs := H.1.1
  have hc := H.2.2.2.2 h i0
  refine Opx.inq (D := 423) hd (Nat.le_of_ble_eq_true rfl) rfl (fun d hd Q K KE => ?_)
  obtain ⟨a1, a2⟩ := v49_c (x := (s : Int)) hc n0
  obtain ⟨c1, c2⟩ := v407_is (k := k) hc hs H.1.2.1 hk
  refine Ends.eq (b80_0 l (by omega)) (Ends.g a1 (Ends.g (cond_tt True.intro c1) ?_))
  rw [a2, if_pos (decide_eq_true (show 0 ≤ (s : Int) ∧ (s : Int) < c 3 by omega)), c2, ik]
  refine Ends.there (p := true) l (by omega) rfl (fun _ => ?_) (fun r => absurd r (by decide))
  refine Ends.eq (b80_28 l (by omega)) ?_
  refine Ends.ct l (by decide +kernel) (by decide) (c_solved438 l (by omega) H i0 Kc) (fun x h1 l1 _ _ _ ⟨g1, i1, k63, k64, S⟩ => ?_)
  have ex := S.x
  have k1 : KpD B h1 s nk np isC gk cs w dr := fun _ => by rw [k64]; exact S
  refine Ends.eq (b80_36 l1 (by omega)) ?_
  rw [ne_is]
  refine Ends.state l1 (by omega) rfl (fun r2 => ?_) (fun r2 => Ends.thn rfl (KE 28 h1 ⟨rfl, g1, i1, k1, slS_3.mp (show slS nk np isC gk cs w = 3 from ex.symm.trans (Classical.not_not.mp (of_decide_eq_false r2)))⟩))
  have r2' : x ≠ 3 := of_decide_eq_true r2
  have neg : fstB (flC cs isC gk) nk 0 < 0 := Int.not_le.mp (fun z => r2' (by rw [ex]; exact slS_3.mpr z))
  refine Ends.eq (b80_48 l1 (by omega)) ?_
  refine Ends.ct l1 (by decide +kernel) (by decide) (c_redundant431 l1 (by omega) H i1 hk ik (fun k' hk' => fstB_neg nk 0 neg k' (Nat.zero_le k') (by omega))) (fun x h2 l2 _ _ _ ⟨g2, i2, P⟩ => ?_)
  have x01 : x = 0 ∨ x = 1 := by rcases P with ⟨y, -⟩ | ⟨y, -⟩ <;> omega
  refine Ends.eq (b80_57 l2 (by omega)) (Ends.g x01 (Ends.sm (K _ _ ⟨g1.tr g2 (fun c k z => ?_), i2, k1.agr H (g2.sub (fun _ _ z => Or.inl z)), neg, P⟩)))
  rcases z with z | z
  · exact Or.inl z
  · exact Or.inr (Or.inl z)
end DASK2
