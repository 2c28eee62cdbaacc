/-! L3: sketches asked (desk) -/
section ASKD
variable {gv : Nat → Int} {B n d s nk np : Nat} {h : AH} {c : Nat → Int} {cs : Nat → Cst} {w xa xb xc dr : Nat → Int} {isC gk sel : Nat → Bool} {Inv : AH → Prop} {W : Nat → Nat → Prop}
/-- all that sketches write -/
def skD (B : Nat) : Nat → Nat → Prop := fun c _ => B + 57 ≤ c ∧ c ≤ B + 68
/-- what a sketch of the desk needs -/
def DkH (gv : Nat → Int) (B n s nk np : Nat) (W : Nat → Nat → Prop) (c : Nat → Int) (cs : Nat → Cst) (w xa xb xc dr : Nat → Int) (isC gk : Nat → Bool) (Inv : AH → Prop) : Prop :=
  (s < 6 ∧ SkD c s nk np cs xa xb xc isC dr) ∧ GvD gv B n s nk W cs w isC gk Inv ∧ (∀ q q', Inv q → Agr (skD B) q q' → Inv q') ∧ (∀ c k, W c k → ¬ skD B c k ∧ c ≠ B + 1 ∧ c ≠ B + 2) ∧ ∀ q, Inv q → ∀ z, z < 37368 → hv q (B + 2) z = c z
theorem sd_sk {c k : Nat} (z : sdW B c k) : skD B c k := by unfold sdW at z; unfold skD; omega
theorem ke_sk {c k : Nat} (z : keW B s c k) : skD B c k := by unfold keW at z; unfold skD; omega
theorem DkH.off (H : DkH gv B n s nk np W c cs w xa xb xc dr isC gk Inv) : ∀ c k, W c k → ¬ sdW B c k ∧ c ≠ B + 2 := fun c k z => ⟨fun u => (H.2.2.2.1 c k z).1 (sd_sk u), (H.2.2.2.1 c k z).2.2⟩
theorem SolD.agr {q : AH} {x : Int} (S : SolD B h s nk np isC gk cs w dr x) (hn : np ≤ 12) (e : ∀ c k, keW B s c k → hv q c k = hv h c k) : SolD B q s nk np isC gk cs w dr x := by
  rcases S with S | S | ⟨a1, a2, a3, a4, X, t, a5, a6⟩
  · exact Or.inl S
  · exact Or.inr (Or.inl S)
  · refine Or.inr (Or.inr ⟨a1, a2, a3, by rw [e _ _ (Or.inl ⟨rfl, rfl⟩)]; exact a4, X, t, a5, fun k hk => ?_⟩)
    rw [e _ _ (Or.inr ⟨Or.inl rfl, by omega, by omega⟩), e _ _ (Or.inr ⟨Or.inr rfl, by omega, by omega⟩)]
    exact a6 k hk
def wsD (W : Nat → Nat → Prop) (B s : Nat) : Nat → Nat → Prop := fun c k => W c k ∨ sdW B c k ∨ keW B s c k ∨ ((c = B + 63 ∨ c = B + 64) ∧ k = s)
/-- what is kept of a sketch's solving -/
def KpD (B : Nat) (h : AH) (s nk np : Nat) (isC gk : Nat → Bool) (cs : Nat → Cst) (w dr : Nat → Int) : Prop := hv h (B + 63) s = hv h (B + 1) 8 → SolD B h s nk np isC gk cs w dr (hv h (B + 64) s)
theorem c_solved438 (l : LX B n h) (hd : 412 ≤ d) (H : DkH gv B n s nk np W c cs w xa xb xc dr isC gk Inv) (i0 : Inv h) (Kc : KpD B h s nk np isC gk cs w dr) :
    Vt 0 (cll PP (ev PP (gsF gv) B) d 438 [(2, rf (B + 56)), (0, (s : Int))] h) (fun x h' => Agr (wsD W B s) h h' ∧ Inv h' ∧ hv h' (B + 63) s = hv h' (B + 1) 8 ∧ hv h' (B + 64) s = x ∧ SolD B h' s nk np isC gk cs w dr x) := by
  obtain ⟨⟨hs, S⟩, HG, hI, hW, hC⟩ := id H
  have hnp := S.2.1.2.1
  refine Vt.inq (D := 411) hd (Nat.le_of_ble_eq_true rfl) rfl (fun d hd Q K => ?_)
  refine Ends.eq (b438_0 (n := n) (by (repeat' first | assumption | refine LX.setF _ _ ?_ (by decide +kernel) | refine LX.setS ?_ rfl | refine LX.setA ?_ (by first | assumption | omega))) (by first | assumption | omega)) ?_
  rw [tn, an0]
  refine Ends.g ⟨by omega, by omega⟩ (Ends.b1 (fun z => ?_) (fun z => Ends.sm (K _ _ ⟨Agr.rf, i0, z, rfl, Kc z⟩)))
  have g1 : Agr (fun c k => c = B + 63 ∧ k = s) h (hset h (B + 63) s (v454 B h)) := Agr.rf.set ⟨rfl, rfl⟩
  have l1 : LX B n (hset h (B + 63) s (v454 B h)) := l.setS rfl
  have i1 := hI _ _ i0 (g1.sub (fun c k z => by unfold skD; omega))
  refine Ends.ct l1 (by decide +kernel) (by decide) (c_work442 l1 (by omega) (hC _ i1) hs S HG i1 (fun q q' i g => hI q q' i (g.sub (fun _ _ z => z.elim sd_sk ke_sk))) H.off) (fun x q2 l2 _ _ _ ⟨g2, i2, S2⟩ => ?_)
  refine Ends.eq (b438_46 (n := n) (by (repeat' first | assumption | refine LX.setF _ _ ?_ (by decide +kernel) | refine LX.setS ?_ rfl | refine LX.setA ?_ (by first | assumption | omega))) (by first | assumption | omega)) ?_
  have e63 : hv q2 (B + 63) s = v454 B h := by
    rw [g2.at _ _ (fun z => by
      rcases z with z | z | z
      · exact (hW _ _ z).1 ⟨by omega, by omega⟩
      · unfold sdW at z; omega
      · unfold keW at z; omega), hv_set_at]
  have e18 : hv q2 (B + 1) 8 = hv h (B + 1) 8 := by
    rw [g2.at _ _ (fun z => by
      rcases z with z | z | z
      · exact (hW _ _ z).2.1 rfl
      · unfold sdW at z; omega
      · unfold keW at z; omega), hv_set_ne (by omega)]
  refine Ends.g ⟨rf_pos _, by rw [ad_rf, lk_64 l2], by omega, by rw [ad_rf, lk_64 l2]; show (s : Int) < 6; omega, by rw [ad_rf]; omega⟩ (Ends.g ⟨by omega, by omega⟩ ?_)
  rw [ad_rf, tn, an0, hv_set_at]
  have g3 : Agr (fun c k => c = B + 64 ∧ k = s) q2 (hset q2 (B + 64) s x) := Agr.rf.set ⟨rfl, rfl⟩
  refine Ends.sm (K _ _ ⟨((g1.sub (fun c k z => Or.inr (Or.inr (Or.inr ⟨Or.inl z.1, z.2⟩)))).tr g2 (fun c k z => ?_)).tr g3 (fun c k z => Or.inr (Or.inr (Or.inr ⟨Or.inr z.1, z.2⟩))), hI _ _ i2 (g3.sub (fun c k z => by unfold skD; omega)), ?_, hv_set_at _ _ _ _, S2.agr hnp (fun c k z => hv_set_ne (by unfold keW at z; omega))⟩)
  · rcases z with z | z | z
    · exact Or.inl z
    · exact Or.inr (Or.inl z)
    · exact Or.inr (Or.inr (Or.inl z))
  · rw [hv_set_ne (by omega), hv_set_ne (by omega), e63, e18]; rfl
noncomputable def satB (E : (Nat → Int) → Int → Prop) : Bool := @decide (Sat E) (Classical.propDecidable _)
theorem satB_iff {E : (Nat → Int) → Int → Prop} : satB E = true ↔ Sat E := by unfold satB; exact @decide_eq_true_iff _ (Classical.propDecidable _)
theorem satB_f {E : (Nat → Int) → Int → Prop} (h : ¬ Sat E) : satB E = false := by
  cases e : satB E
  · rfl
  · exact absurd (satB_iff.mp e) h
/-- how a sketch is solved -/
noncomputable def slS (nk np : Nat) (isC gk : Nat → Bool) (cs : Nat → Cst) (w : Nat → Int) : Int := if 0 ≤ fstB (flC cs isC gk) nk 0 then 3 else if satB (EqE nk isC cs w) = true then (if 0 < cntN (freB (EqE nk isC cs w)) (2 * np) then 1 else 0) else 2
noncomputable def fdS (nk np : Nat) (isC gk : Nat → Bool) (cs : Nat → Cst) (w : Nat → Int) : Int := if 1 < slS nk np isC gk cs w then -1 else ((cntN (freB (EqE nk isC cs w)) (2 * np) : Nat) : Int)
theorem SolD.x {x : Int} (S : SolD B h s nk np isC gk cs w dr x) : x = slS nk np isC gk cs w := by
  unfold slS
  rcases S with ⟨a, b⟩ | ⟨a, b, e⟩ | ⟨a, b, e, -⟩
  · rw [if_pos b, a]
  · rw [if_neg (by omega), if_neg (by rw [satB_f e]; exact Bool.false_ne_true), a]
  · rw [if_neg (by omega), if_pos (satB_iff.mpr b), e]
theorem SolM.x {x : Int} (S : SolM B h nk np isC gk cs w dr x) : x = slS nk np isC gk cs w := by
  unfold slS
  rcases S with ⟨a, b⟩ | ⟨a, b, e⟩ | ⟨a, b, e, -⟩
  · rw [if_pos b, a]
  · rw [if_neg (by omega), if_neg (by rw [satB_f e]; exact Bool.false_ne_true), a]
  · rw [if_neg (by omega), if_pos (satB_iff.mpr b), e]
theorem c_freedom404 (l : LX B n h) (hd : 414 ≤ d) (H : DkH gv B n s nk np W c cs w xa xb xc dr isC gk Inv) (i0 : Inv h) (Kc : KpD B h s nk np isC gk cs w dr) :
    Vt 0 (cll PP (ev PP (gsF gv) B) d 404 [(2, rf (B + 56)), (0, (s : Int))] h) (fun x h' => Agr (wsD W B s) h h' ∧ Inv h' ∧ KpD B h' s nk np isC gk cs w dr ∧ x = fdS nk np isC gk cs w) := by
  have hs := H.1.1
  refine Vt.inq (D := 413) hd (Nat.le_of_ble_eq_true rfl) rfl (fun d hd Q K => ?_)
  refine Ends.eq (b404_0 (n := n) (by (repeat' first | assumption | refine LX.setF _ _ ?_ (by decide +kernel) | refine LX.setS ?_ rfl | refine LX.setA ?_ (by first | assumption | omega))) (by first | assumption | omega)) ?_
  refine Ends.ct l (by decide +kernel) (by decide) (c_solved438 l (by omega) H i0 Kc) (fun x q l1 _ _ _ ⟨g, i1, e63, e64, S⟩ => ?_)
  refine Ends.eq (b404_5 (n := n) (by (repeat' first | assumption | refine LX.setF _ _ ?_ (by decide +kernel) | refine LX.setS ?_ rfl | refine LX.setA ?_ (by first | assumption | omega))) (by first | assumption | omega)) ?_
  have kc : KpD B q s nk np isC gk cs w dr := fun _ => by rw [e64]; exact S
  have ex := S.x
  refine Ends.g ?_ (Ends.sm (K _ _ ⟨g, i1, kc, ?_⟩))
  · cases tst 5 x 1
    · trivial
    · exact ⟨by omega, by omega⟩
  · rw [ct5, tn]
    unfold fdS
    rw [← ex]
    by_cases z : 1 < x
    · rw [if_pos z, if_pos z]
    · rw [if_neg z, if_neg z]
      rcases S with ⟨a, -⟩ | ⟨a, -⟩ | ⟨-, -, -, a, -⟩
      · omega
      · omega
      · exact a
end ASKD
