/-! L3: profiles (desk): the whole -/
section PFD
variable {gv : Nat → Int} {B n d s np nl nd nk : Nat} {h : AH} {c : Nat → Int} {dw : Nat → Int} {lv dlv dgk : Nat → Bool} {fr to_ dc : Nat → Nat} {cs : Nat → Cst} {w xa xb xc dr : Nat → Int} {isC gk : Nat → Bool} {Inv : AH → Prop} {W : Nat → Nat → Prop}
theorem KpD.far {q : AH} {W' : Nat → Nat → Prop} (K : KpD B h s nk np isC gk cs w dr) (hn : np ≤ 12) (g : Agr W' h q) (hW : ∀ c k, W' c k → ¬ skD B c k ∧ c ≠ B + 1) : KpD B q s nk np isC gk cs w dr := by
  have at_ : ∀ j k, 57 ≤ j → j ≤ 68 → hv q (B + j) k = hv h (B + j) k := fun j k h1 h2 => g.at _ _ (fun z => (hW _ _ z).1 ⟨by omega, by omega⟩)
  have e1 : hv q (B + 1) 8 = hv h (B + 1) 8 := g.at _ _ (fun z => (hW _ _ z).2 rfl)
  intro z
  rw [at_ 63 _ (by decide) (by decide), e1] at z
  have S := K z
  rw [← at_ 64 s (by decide) (by decide)] at S
  exact S.agr hn (fun c k u => by
    rcases u with ⟨u, -⟩ | ⟨u | u, -⟩
    · rw [u]; exact at_ 65 _ (by decide) (by decide)
    · rw [u]; exact at_ 66 _ (by decide) (by decide)
    · rw [u]; exact at_ 67 _ (by decide) (by decide))
theorem c_profile430 {most : Int} (l : LX B n h) (n64 : n ≤ 64) (hd : 418 ≤ d) (H : DkH gv B n s nk np W c cs w xa xb xc dr isC gk Inv) (i0 : Inv h) (Kc : KpD B h s nk np isC gk cs w dr) (hP : ∀ q q', Inv q → Agr (pfW B) q q' → Inv q') (hWp : ∀ c k, W c k → ¬ pfW B c k) (L : LnD c s np nl lv fr to_) (D : DcD c s np nd dlv dc) (HR : GvR gv B n s nd W dlv dgk dw Inv) :
    Vt 0 (cll PP (ev PP (gsF gv) B) d 430 [(2, rf (B + 56)), (0, (s : Int)), (0, most)] h) (fun x h' => Agr (fun c k => wsD W B s c k ∨ pfW B c k) h h' ∧ Inv h' ∧ KpD B h' s nk np isC gk cs w dr ∧ ((1 < slS nk np isC gk cs w ∧ x = 1) ∨ (slS nk np isC gk cs w ≤ 1 ∧ ∃ X t, Sln (EqE nk isC cs w) (2 * np) dr X t ∧ PrR n (decide (most = 3)) (fun j => mN (X j) t) (fun j => mD (X j) t) lv fr to_ nd dlv dc dgk dw x ∧ (x = 0 → PfS B n h' (decide (most = 3)) (fun j => mN (X j) t) lv fr to_ nd dlv dc dw)))) := by
  obtain ⟨⟨hs, S⟩, HG, hI, hW, hC⟩ := id H
  have hnp := S.2.1.2.1
  refine Vt.inq (D := 417) hd (Nat.le_of_ble_eq_true rfl) rfl (fun d hd Q K => ?_)
  refine Ends.eq (b430_0 (n := n) (by (repeat' first | assumption | refine LX.setF _ _ ?_ (by decide +kernel) | refine LX.setS ?_ rfl | refine LX.setA ?_ (by first | assumption | omega))) (by first | assumption | omega)) ?_
  refine Ends.ct l (by decide +kernel) (by decide) (c_solved438 l (by omega) H i0 Kc) (fun x q1 l1 _ _ _ ⟨g1, i1, e63, e64, S1⟩ => ?_)
  refine Ends.eq (b430_5 (n := n) (by (repeat' first | assumption | refine LX.setF _ _ ?_ (by decide +kernel) | refine LX.setS ?_ rfl | refine LX.setA ?_ (by first | assumption | omega))) (by first | assumption | omega)) ?_
  have ex := S1.x
  have kc1 : KpD B q1 s nk np isC gk cs w dr := fun _ => by rw [e64]; exact S1
  refine Ends.b5 (fun z => ?_) (fun z => Ends.sm (K _ _ ⟨g1.sub (fun _ _ z => Or.inl z), i1, kc1, Or.inl ⟨by rw [← ex]; exact z, rfl⟩⟩))
  obtain ⟨X, t, sln, fr_⟩ : ∃ X t, Sln (EqE nk isC cs w) (2 * np) dr X t ∧ ∀ k, k < 2 * np → hv q1 (B + 66) (24 * s + k) = mN (X k) t ∧ hv q1 (B + 67) (24 * s + k) = mD (X k) t := by
    rcases S1 with ⟨a, -⟩ | ⟨a, -⟩ | ⟨-, -, -, -, X, t, a, b⟩
    · omega
    · omega
    · exact ⟨X, t, a, b⟩
  refine c_profA (ab := fun j => mN (X j) t) (be := fun j => mD (X j) t) l1 n64 (by omega) hs hC i1 hP (fun c k z => ⟨hWp c k z, fun u => (hW c k z).1 ⟨by omega, by omega⟩, fun u => (hW c k z).1 ⟨by omega, by omega⟩⟩) L D hnp HR fr_ (fun y q2 g2 i2 p z0 => ?_) _ _
  refine K _ _ ⟨(g1.sub (fun _ _ z => Or.inl z)).tr g2 (fun c k z => ?_), i2, kc1.far hnp g2 (fun c k z => ?_), Or.inr ⟨by rw [← ex]; exact z, X, t, sln, p, z0⟩⟩
  · rcases z with z | z
    · exact Or.inl (Or.inl z)
    · exact Or.inr z
  · rcases z with z | z
    · exact ⟨(hW c k z).1, (hW c k z).2.1⟩
    · unfold pfW at z
      exact ⟨fun u => by unfold skD at u; omega, by omega⟩
end PFD
