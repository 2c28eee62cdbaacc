/-! L3: sketches asked (model): where a point is -/
section COORD
variable {gv : Nat → Int} {B n d w1 nk np q s p : Nat} {h : AH} {cs : Nat → Cst} {w xa xb xc dr : Nat → Int} {isC gk : Nat → Bool} {Inv : AH → Prop} {ax pt : Int}
theorem c_coordinate580 (l : LX B n h) (hd : 999 ≤ d) (M : MdC B q s w1 h) (H : MdH gv B n w1 nk np h cs w xa xb xc dr isC gk Inv) (i0 : Inv h) (hp : p < np) (e763 : q763 q h (s : Int) (p : Int) ∧ v763 q h (s : Int) (p : Int) = 0) :
    Vt 1 (cll PP (ev PP (gsF gv) B) d 580 [(2, rf (B + 149)), (0, (s : Int)), (0, (p : Int)), (0, ax), (0, pt)] h) (fun x h' => Agr (hlF B) h h' ∧ Inv h' ∧ (((ax < 0 ∨ 1 < ax ∨ pt < 0 ∨ 1 < pt) ∧ hv h' (B + 149) 0 = 2 ∧ x = 0) ∨ (¬ (ax < 0 ∨ 1 < ax ∨ pt < 0 ∨ 1 < pt) ∧ ((2 ≤ slS nk np isC gk cs w ∧ hv h' (B + 149) 0 = 3 ∧ x = 0) ∨ (slS nk np isC gk cs w < 2 ∧ hv h' (B + 149) 0 = 0 ∧ ∃ X t, Sln (EqE nk isC cs w) (2 * np) dr X t ∧ x = if pt = 0 then mN (X (2 * p + ax.toNat)) t else mD (X (2 * p + ax.toNat)) t))))) := by
  obtain ⟨hq, D, e1, hs, e7⟩ := id M
  have np12 := H.1.2.2.1.2.1
  refine Vt.inq (D := 998) hd (Nat.le_of_ble_eq_true rfl) rfl (fun d hd Q K => ?_)
  have bad : ∀ (t : AH) (y : Int), 0 < y → LX B n t → Agr (hlF B) h t → Inv t → (∀ h', Agr (hlF B) h h' → Inv h' → hv h' (B + 149) 0 = y → Q ((0, (1, 0)), h')) → Ends (ev PP (gsF gv) B d 580 60 [(2, rf (B + 149)), (0, (s : Int)), (0, (p : Int)), (0, ax), (0, pt)] [(0, y), (2, rf (B + 149))] t) Q := fun t y y0 lt g it f => by
    refine Ends.eq (b580_60 lt (by omega)) ?_
    refine Ends.ct lt (by decide +kernel) (by decide) (c_fails lt (by omega)) (fun x q1 l1 _ _ _ ⟨ex, eq1⟩ => ?_)
    rw [ex, if_pos y0]
    refine Ends.eq (b580_63 l1 (by omega)) (Ends.b0 (fun z => absurd z (by decide)) (fun _ => Ends.sm ?_))
    rw [eq1]
    exact f _ (g.tr f0_ok (fun _ _ z => z)) (H.2.1.2 _ _ it (Agr.rf.set ⟨rfl, rfl⟩)) (hv_set_at _ _ _ _)
  have b34 : (ax < 0 ∨ 1 < ax ∨ pt < 0 ∨ 1 < pt) → Ends (ev PP (gsF gv) B d 580 34 [(2, rf (B + 149)), (0, (s : Int)), (0, (p : Int)), (0, ax), (0, pt)] [(2, rf (B + 149))] h) Q := fun z => by
    refine Ends.eq (b580_34 l (by omega)) (bad h 2 (by decide) l Agr.rf i0 (fun h' g i e => K _ _ ⟨g, i, Or.inl ⟨z, e, rfl⟩⟩))
  refine Ends.eq (b580_0 l (by omega) hq D) (Ends.g e763.1 ?_)
  rw [e763.2]
  refine Ends.b0 (fun _ => Ends.b2 (fun z => b34 (Or.inl z)) (fun x1 => Ends.b4 (fun z => b34 (Or.inr (Or.inl z))) (fun x2 => Ends.b2 (fun z => b34 (Or.inr (Or.inr (Or.inl z)))) (fun x3 => Ends.b5 (fun x4 => Ends.g ⟨by omega, by omega⟩ ?_) (fun z => b34 (Or.inr (Or.inr (Or.inr z)))))))) (fun z => absurd rfl z)
  rw [tn, ← e1]
  refine Ends.ct l (by decide +kernel) (by decide) (c_solveM l (by omega) M H i0) (fun y q2 l2 _ _ _ ⟨g2, i2, S2⟩ => ?_)
  have ey := S2.x
  have G2 : Agr (hlF B) h q2 := g2.sub (fun _ _ z => Or.inl z)
  have ok : ¬ (ax < 0 ∨ 1 < ax ∨ pt < 0 ∨ 1 < pt) := by omega
  refine Ends.eq (b580_51 l2 (by omega)) ?_
  rw [ct2]
  by_cases z : y < 2
  · rw [if_pos z]
    refine Ends.eq (b580_60 l2 (by omega)) ?_
    refine Ends.ct l2 (by decide +kernel) (by decide) (c_fails l2 (by omega)) (fun x q3 l3 _ _ _ ⟨ex, eq3⟩ => ?_)
    rw [ex, if_neg (Int.lt_irrefl 0)]
    refine Ends.eq (b580_63 l3 (by omega)) (Ends.b0 (fun _ => ?_) (fun z => absurd rfl z))
    obtain ⟨X, t, sln, fr_⟩ : ∃ X t, Sln (EqE nk isC cs w) (2 * np) dr X t ∧ ∀ k, k < 2 * np → hv q2 (B + 166) k = mN (X k) t ∧ hv q2 (B + 167) k = mD (X k) t := by
      rcases S2 with ⟨a, -⟩ | ⟨a, -⟩ | ⟨-, -, -, -, X, t, a, b⟩
      · omega
      · omega
      · exact ⟨X, t, a, b⟩
    obtain ⟨axn, ea⟩ : ∃ a : Nat, ax = (a : Int) := ⟨ax.toNat, by omega⟩
    subst ea
    have c6 : hv q3 (B + 166) (2 * p + axn) = mN (X (2 * p + axn)) t := by rw [eq3, hv_set_ne (by omega)]; exact (fr_ _ (by omega)).1
    have c7 : hv q3 (B + 167) (2 * p + axn) = mD (X (2 * p + axn)) t := by rw [eq3, hv_set_ne (by omega)]; exact (fr_ _ (by omega)).2
    have ix : bop32 96 (bop32 104 2 (p : Int)) (axn : Int) = ((2 * p + axn : Nat) : Int) := by
      rw [show bop32 104 2 (p : Int) = ((2 * p : Nat) : Int) from mulNN (x := 2) (by omega)]
      exact addNN (by omega)
    rw [ix, tn, c6, c7, ct1, ct1]
    clear ix
    refine Ends.g (by split <;> exact ⟨by omega, by omega⟩) (Ends.sm (K _ _ ⟨by rw [eq3]; exact G2.tr f0_ok (fun _ _ z => z), by rw [eq3]; exact H.2.1.2 _ _ i2 (Agr.rf.set ⟨rfl, rfl⟩), Or.inr ⟨ok, Or.inr ⟨by rw [← ey]; exact z, by rw [eq3]; exact hv_set_at _ _ _ _, X, t, sln, ?_⟩⟩⟩))
    rw [tn]
  · rw [if_neg z]
    exact bad q2 3 (by decide) l2 G2 i2 (fun h' g i e => K _ _ ⟨g, i, Or.inr ⟨ok, Or.inl ⟨by rw [← ey]; omega, e, rfl⟩⟩⟩)
end COORD
