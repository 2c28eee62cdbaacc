/-! L3: sketches asked (desk): conflicts, what follows -/
section CONF
variable {gv : Nat → Int} {B n d s nk np : Nat} {h : AH} {c : Nat → Int} {cs : Nat → Cst} {w xa xb xc dr : Nat → Int} {isC gk sel : Nat → Bool} {Inv : AH → Prop} {W : Nat → Nat → Prop}
/-- what clear and bring write -/
def cbW (W : Nat → Nat → Prop) (B : Nat) : Nat → Nat → Prop := fun c k => W c k ∨ sdW B c k
theorem cb_at {q : AH} (H : DkH gv B n s nk np W c cs w xa xb xc dr isC gk Inv) (g : Agr (cbW W B) h q) {j k : Nat} (h1 : 63 ≤ j ∧ j ≤ 68) : hv q (B + j) k = hv h (B + j) k := g.at _ _ (fun z => by
  rcases z with z | z
  · exact (H.2.2.2.1 _ _ z).1 ⟨by omega, by omega⟩
  · unfold sdW at z; omega)
/-- whether some of the constraints hold together -/
theorem c_canHold390 (l : LX B n h) (hd : 410 ≤ d) (H : DkH gv B n s nk np W c cs w xa xb xc dr isC gk Inv) (i0 : Inv h) (hf : ∀ k, k < nk → flC cs isC gk k = false) (h68 : ∀ k, k < nk → hv h (B + 68) k = b2i (!sel k)) (hsel : ∀ k, k < nk → sel k = true → isC k = true) :
    Vt 0 (cll PP (ev PP (gsF gv) B) d 390 [(2, rf (B + 56)), (0, (s : Int))] h) (fun x h' => Agr (cbW W B) h h' ∧ Inv h' ∧ x = b2i (satB (EqE nk sel cs w))) := by
  obtain ⟨⟨hs, S⟩, HG, hI, hW, hC⟩ := id H
  have C := S.1
  have kn := C.2.1
  obtain ⟨d1, d2, d3, d4⟩ := S.2.1
  have hIs : ∀ q q', Inv q → Agr (sdW B) q q' → Inv q' := fun q q' i g => hI q q' i (g.sub (fun _ _ z => sd_sk z))
  refine Vt.inq (D := 409) hd (Nat.le_of_ble_eq_true rfl) rfl (fun d hd Q K => ?_)
  have sk0 : skA s < 23000 := by unfold skA; omega
  have loop : ∀ (r k : Nat) (q : AH) (con : Bool), k + r = nk → LX B n q → Agr (cbW W B) h q → Inv q → EqD B q (2 * np) (EqE k sel cs w) con → Ends (ev PP (gsF gv) B d 390 16 [(2, rf (B + 56)), (0, (s : Int)), (0, (k : Int))] [] q) Q := by
    intro r
    induction r with
    | zero =>
      intro k q con ek lq g iq D
      obtain rfl : k = nk := by omega
      obtain ⟨a1, a2⟩ := v394_is (hC _ iq) hs C
      refine Ends.eq (b390_16 (n := n) (by (repeat' first | assumption | refine LX.setF _ _ ?_ (by decide +kernel) | refine LX.setS ?_ rfl | refine LX.setA ?_ (by first | assumption | omega))) (by first | assumption | omega)) ?_
      rw [a2]
      refine Ends.g a1 (Ends.b3 (fun _ => ?_) (fun z => absurd z (Int.lt_irrefl _)))
      cases con
      · have sat := D.sat (by omega)
        have e57 : hv q (B + 57) 2 = 0 := by obtain ⟨_, _, _, _, _, _, _, _, _, _, _, _, z⟩ := D; exact z
        rw [e57]
        refine Ends.sm (K _ _ ⟨g, iq, ?_⟩)
        rw [satB_iff.mpr sat]; rfl
      · have ns : ¬ Sat (EqE k sel cs w) := by obtain ⟨_, _, _, _, _, _, _, _, _, _, _, z, _⟩ := D; exact z rfl
        have e57 : hv q (B + 57) 2 = 1 := by obtain ⟨_, _, _, _, _, _, _, _, _, _, _, _, z⟩ := D; exact z
        rw [e57]
        refine Ends.sm (K _ _ ⟨g, iq, ?_⟩)
        rw [satB_f ns]; rfl
    | succ r ih =>
      intro k q con ek lq g iq D
      obtain ⟨a1, a2⟩ := v394_is (hC _ iq) hs C
      have next : ∀ (q' : AH) (con' : Bool), LX B n q' → Agr (cbW W B) h q' → Inv q' → EqD B q' (2 * np) (EqE (k + 1) sel cs w) con' → Ends (ev PP (gsF gv) B d 390 41 [(2, rf (B + 56)), (0, (s : Int)), (0, (k : Int))] [] q') Q := fun q' con' l' g' i' D' => by
        refine Ends.eq (b390_41 (n := n) (by (repeat' first | assumption | refine LX.setF _ _ ?_ (by decide +kernel) | refine LX.setS ?_ rfl | refine LX.setA ?_ (by first | assumption | omega))) (by first | assumption | omega)) ?_
        rw [w_succ (by omega)]
        exact ih (k + 1) q' con' (by omega) l' g' i' D'
      refine Ends.eq (b390_16 (n := n) (by (repeat' first | assumption | refine LX.setF _ _ ?_ (by decide +kernel) | refine LX.setS ?_ rfl | refine LX.setA ?_ (by first | assumption | omega))) (by first | assumption | omega)) ?_
      rw [a2, tn, cb_at (j := 68) H g (by decide), h68 k (by omega)]
      refine Ends.g a1 (Ends.b3 (fun z => absurd z (by omega)) (fun _ => Ends.g ⟨by omega, by omega⟩ ?_))
      cases sk : sel k
      · refine Ends.b1 (fun _ => ?_) (fun z => absurd z (by decide))
        exact next q con lq g iq (D.cg (EqE.skip sk))
      · refine Ends.b1 (fun z => absurd rfl z) (fun _ => ?_)
        refine Ends.ct lq (by decide +kernel) (by decide) (c_bringE (sel := sel) lq (by omega) (hC _ iq) hs S (by omega) (hsel k (by omega) sk) sk HG (hf k (by omega)) iq hIs H.off D) (fun x q2 l2 _ _ _ ⟨g2, i2, con', D'⟩ => ?_)
        refine Ends.eq (b390_40 (n := n) (by (repeat' first | assumption | refine LX.setF _ _ ?_ (by decide +kernel) | refine LX.setS ?_ rfl | refine LX.setA ?_ (by first | assumption | omega))) (by first | assumption | omega)) ?_
        exact next q2 con' l2 (g.tr g2 (fun _ _ z => z.elim Or.inl (fun z => Or.inr (ad_sd z)))) i2 D'
  obtain ⟨p1, p2⟩ := cell_is (i := skA s + 2) (hC _ i0) (by omega)
  refine Ends.eq (b390_0 (n := n) (by (repeat' first | assumption | refine LX.setF _ _ ?_ (by decide +kernel) | refine LX.setS ?_ rfl | refine LX.setA ?_ (by first | assumption | omega))) (by first | assumption | omega)) ?_
  unfold q429 v429
  rw [v391_is hs, show bop32 96 ((skA s : Nat) : Int) 2 = ((skA s + 2 : Nat) : Int) from addK (k := 2) (by omega), p2, d1, show bop32 104 2 (np : Int) = ((2 * np : Nat) : Int) from mulNN (x := 2) (by omega)]
  refine Ends.g p1 ?_
  refine Ends.cv l (by decide +kernel) (c_clear128 (m := 2 * np) l (by omega)) (fun q2 l2 _ _ _ ⟨g2, D2, _⟩ => ?_)
  have g2s : Agr (sdW B) h q2 := g2.sub (fun c k z => by unfold sdW; omega)
  refine Ends.eq (b390_14 (n := n) (by (repeat' first | assumption | refine LX.setF _ _ ?_ (by decide +kernel) | refine LX.setS ?_ rfl | refine LX.setA ?_ (by first | assumption | omega))) (by first | assumption | omega)) ?_
  refine loop nk 0 q2 false (by omega) l2 (g2s.sub (fun _ _ z => Or.inr z)) (hIs _ _ i0 g2s) (D2.cg (fun a b => ⟨fun z => z.elim, fun z => ?_⟩))
  obtain ⟨k', i, h1, -⟩ := z
  exact absurd h1 (Nat.not_lt_zero k')
/-- without one -/
def mnB (S : Nat → Bool) (i k : Nat) : Bool := S k && !decide (k = i)
/-- one is let go where the others contradict without it -/
noncomputable def rmv (nk : Nat) (cs : Nat → Cst) (w : Nat → Int) (S : Nat → Bool) (i : Nat) : Nat → Bool := if S i = true ∧ satB (EqE nk (mnB S i) cs w) = false then mnB S i else S
/-- all below i, from the last -/
noncomputable def cfN (nk : Nat) (cs : Nat → Cst) (w : Nat → Int) : Nat → (Nat → Bool) → Nat → Bool
  | 0, S => S
  | i + 1, S => cfN nk cs w i (rmv nk cs w S i)
/-- the one with that number -/
def kth (S : Nat → Bool) : Nat → Nat → Int → Int
  | 0, _, _ => -1
  | r + 1, i, k => if S i = true then (if k = 0 then (i : Int) else kth S r (i + 1) (k - 1)) else kth S r (i + 1) k
theorem kth_cg {S S' : Nat → Bool} {nk : Nat} (e : ∀ i, i < nk → S i = S' i) : ∀ r i k, i + r ≤ nk → kth S r i k = kth S' r i k
  | 0, _, _, _ => rfl
  | r + 1, i, k, hr => by
    unfold kth
    rw [e i (by omega), kth_cg e r (i + 1) (k - 1) (by omega), kth_cg e r (i + 1) k (by omega)]
noncomputable def cfS (nk np : Nat) (isC gk : Nat → Bool) (cs : Nat → Cst) (w : Nat → Int) (k : Int) : Int := if slS nk np isC gk cs w < 2 ∨ k < 0 then -1 else if slS nk np isC gk cs w = 3 then (if k = 0 then fstB (flC cs isC gk) nk 0 else -1) else kth (cfN nk cs w nk isC) nk 0 k
theorem EqE.cg {S S' : Nat → Bool} (e : ∀ i, i < nk → S i = S' i) : EqE nk S cs w = EqE nk S' cs w := funext (fun x => funext (fun y => propext ⟨fun ⟨k, i, h1, h2, h3⟩ => ⟨k, i, h1, by rw [← e k h1]; exact h2, h3⟩, fun ⟨k, i, h1, h2, h3⟩ => ⟨k, i, h1, by rw [e k h1]; exact h2, h3⟩⟩))
theorem fstB_nn {p : Nat → Bool} : ∀ r i, -1 ≤ fstB p r i
  | 0, _ => Int.le_refl _
  | r + 1, i => by unfold fstB; split; omega; exact fstB_nn r (i + 1)
theorem KpD.agr {q : AH} (K : KpD B h s nk np isC gk cs w dr) (H : DkH gv B n s nk np W c cs w xa xb xc dr isC gk Inv) (g : Agr (fun c j => cbW W B c j ∨ c = B + 68) h q) : KpD B q s nk np isC gk cs w dr := by
  have at_ : ∀ j k, 63 ≤ j → j ≤ 67 → hv q (B + j) k = hv h (B + j) k := fun j k h1 h2 => g.at _ _ (fun z => by
    rcases z with (z | z) | z
    · exact (H.2.2.2.1 _ _ z).1 ⟨by omega, by omega⟩
    · unfold sdW at z; omega
    · omega)
  have e1 : hv q (B + 1) 8 = hv h (B + 1) 8 := g.at _ _ (fun z => by
    rcases z with (z | z) | z
    · exact (H.2.2.2.1 _ _ z).2.1 rfl
    · unfold sdW at z; omega
    · omega)
  intro z
  rw [at_ 63 _ (by decide) (by decide), e1] at z
  have S := K z
  rw [← at_ 64 s (by decide) (by decide)] at S
  exact S.agr H.1.2.2.1.2.1 (fun c k u => by
    rcases u with ⟨u, -⟩ | ⟨u | u, -⟩
    · rw [u]; exact at_ 65 _ (by decide) (by decide)
    · rw [u]; exact at_ 66 _ (by decide) (by decide)
    · rw [u]; exact at_ 67 _ (by decide) (by decide))
theorem v407_hi {k : Nat} (hc : ∀ z, z < 37368 → hv h (B + 2) z = c z) (hs : s < 6) (C : CsD c s nk cs xa xb xc isC) (hk : nk ≤ k) (hk2 : k < 2147483648) : q407 B h (s : Int) (k : Int) := by
  obtain ⟨a1, a2⟩ := v394_is hc hs C
  have t2 : tst 2 (k : Int) 0 = false := by
    have : (cond (tst 2 (k : Int) 0) (0 : Int) 1) = 1 := by rw [ct2, if_neg (by omega)]
    cases e : tst 2 (k : Int) 0
    · rfl
    · rw [e] at this; cases this
  have t3 : tst 3 (k : Int) (nk : Int) = true := by
    have : (cond (tst 3 (k : Int) (nk : Int)) (0 : Int) 1) = 0 := by rw [ct3, if_neg (by omega)]
    cases e : tst 3 (k : Int) (nk : Int)
    · rw [e] at this; cases this
    · rfl
  unfold q407
  rw [a2, t2, t3]
  exact ⟨a1, trivial⟩
theorem rmv_sub {S : Nat → Bool} {i k : Nat} (h : rmv nk cs w S i k = true) : S k = true := by
  unfold rmv at h
  split at h
  · unfold mnB at h
    rw [Bool.and_eq_true] at h
    exact h.1
  · exact h
set_option maxHeartbeats 2000000 in
theorem c_conflict392 {k : Int} (l : LX B n h) (hd : 414 ≤ d) (H : DkH gv B n s nk np W c cs w xa xb xc dr isC gk Inv) (i0 : Inv h) (Kc : KpD B h s nk np isC gk cs w dr) (hk : k < 2147483648) :
    Vt 0 (cll PP (ev PP (gsF gv) B) d 392 [(2, rf (B + 56)), (0, (s : Int)), (0, k)] h) (fun x h' => Agr (fun c j => wsD W B s c j ∨ c = B + 68) h h' ∧ Inv h' ∧ KpD B h' s nk np isC gk cs w dr ∧ x = cfS nk np isC gk cs w k) := by
  obtain ⟨⟨hs, S⟩, HG, hI, hW, hC⟩ := id H
  have C := S.1
  have kn := C.2.1
  have hnp := S.2.1.2.1
  refine Vt.inq (D := 413) hd (Nat.le_of_ble_eq_true rfl) rfl (fun d hd Q K => ?_)
  refine Ends.eq (b392_0 (n := n) (by (repeat' first | assumption | refine LX.setF _ _ ?_ (by decide +kernel) | refine LX.setS ?_ rfl | refine LX.setA ?_ (by first | assumption | omega))) (by first | assumption | omega)) ?_
  refine Ends.ct l (by decide +kernel) (by decide) (c_solved438 l (by omega) H i0 Kc) (fun x q1 l1 _ _ _ ⟨g1, i1, e63, e64, S1⟩ => ?_)
  refine Ends.eq (b392_5 (n := n) (by (repeat' first | assumption | refine LX.setF _ _ ?_ (by decide +kernel) | refine LX.setS ?_ rfl | refine LX.setA ?_ (by first | assumption | omega))) (by first | assumption | omega)) ?_
  have ex := S1.x
  have kc1 : KpD B q1 s nk np isC gk cs w dr := fun _ => by rw [e64]; exact S1
  -- at the end
  have fin : ∀ (q : AH) (y : Int), Agr (fun c j => cbW W B c j ∨ c = B + 68) q1 q → Inv q → y = cfS nk np isC gk cs w k → Q ((0, (0, y)), q) := fun q y g i e => K _ _ ⟨(g1.sub (fun _ _ z => Or.inl z)).tr g (fun c j z => by
    rcases z with (z | z) | z
    · exact Or.inl (Or.inl z)
    · exact Or.inl (Or.inr (Or.inl z))
    · exact Or.inr z), i, kc1.agr H g, e⟩
  have no : (x < 2 ∨ k < 0) → ∀ x3 u4 u5, Ends (ev PP (gsF gv) B d 392 15 [(2, rf (B + 56)), (0, (s : Int)), (0, k), (0, x3), u4, u5] [] q1) Q := fun z x3 u4 u5 => by
    refine Ends.eq (b392_15 (n := n) (by (repeat' first | assumption | refine LX.setF _ _ ?_ (by decide +kernel) | refine LX.setS ?_ rfl | refine LX.setA ?_ (by first | assumption | omega))) (by first | assumption | omega)) ?_
    refine Ends.sm (fin q1 _ Agr.rf i1 ?_)
    unfold cfS
    rw [← ex, if_pos z]
  refine Ends.b2 (fun z => no (Or.inl z) _ _ _) (fun z2 => Ends.b3 (fun zk => ?_) (fun z => no (Or.inr z) _ _ _))
  have cfe : cfS nk np isC gk cs w k = if x = 3 then (if k = 0 then fstB (flC cs isC gk) nk 0 else -1) else kth (cfN nk cs w nk isC) nk 0 k := by
    unfold cfS
    rw [← ex, if_neg (by omega)]
  refine Ends.b1 (fun z3 => ?_) (fun z3 => ?_)
  · -- they contradict
    have ff : fstB (flC cs isC gk) nk 0 < 0 := by
      rcases S1 with ⟨a, -⟩ | ⟨-, a, -⟩ | ⟨a, -⟩
      · exact absurd a z3
      · exact a
      · exact a
    have hf : ∀ i, i < nk → flC cs isC gk i = false := fun i hi => fstB_neg nk 0 ff i (Nat.zero_le i) (by omega)
    rw [if_neg z3] at cfe
    -- the one with that number
    have last : ∀ (r i : Nat) (q : AH) (S2 : Nat → Bool) (j x3 : Int), i + r = nk → LX B n q → Agr (fun c j => cbW W B c j ∨ c = B + 68) q1 q → Inv q → (∀ k, k < nk → hv q (B + 68) k = b2i (!S2 k)) → 0 ≤ j → j < 2147483648 → kth S2 r i j = cfS nk np isC gk cs w k → Ends (ev PP (gsF gv) B d 392 175 [(2, rf (B + 56)), (0, (s : Int)), (0, k), (0, x3), (0, j), (0, (i : Int))] [] q) Q := by
      intro r
      induction r with
      | zero =>
        intro i q S2 j x3 ei lq g iq e68 j0 j1 e
        obtain ⟨a1, a2⟩ := v394_is (hC _ iq) hs C
        refine Ends.eq (b392_175 (n := n) (by (repeat' first | assumption | refine LX.setF _ _ ?_ (by decide +kernel) | refine LX.setS ?_ rfl | refine LX.setA ?_ (by first | assumption | omega))) (by first | assumption | omega)) ?_
        rw [a2]
        refine Ends.g a1 (Ends.b3 (fun _ => ?_) (fun z => absurd z (by omega)))
        exact Ends.sm (fin q _ g iq e)
      | succ r ih =>
        intro i q S2 j x3 ei lq g iq e68 j0 j1 e
        obtain ⟨a1, a2⟩ := v394_is (hC _ iq) hs C
        unfold kth at e
        refine Ends.eq (b392_175 (n := n) (by (repeat' first | assumption | refine LX.setF _ _ ?_ (by decide +kernel) | refine LX.setS ?_ rfl | refine LX.setA ?_ (by first | assumption | omega))) (by first | assumption | omega)) ?_
        rw [a2, tn, e68 i (by omega)]
        refine Ends.g a1 (Ends.b3 (fun z => absurd z (by omega)) (fun _ => Ends.g ⟨by omega, by omega⟩ ?_))
        cases es : S2 i
        · rw [if_neg (by rw [es]; exact Bool.false_ne_true)] at e
          refine Ends.b0 (fun z => absurd z (by decide)) (fun _ => ?_)
          refine Ends.eq (b392_209 (n := n) (by (repeat' first | assumption | refine LX.setF _ _ ?_ (by decide +kernel) | refine LX.setS ?_ rfl | refine LX.setA ?_ (by first | assumption | omega))) (by first | assumption | omega)) ?_
          rw [w_succ (by omega)]
          exact ih (i + 1) q S2 j x3 (by omega) lq g iq e68 j0 j1 e
        · rw [if_pos es] at e
          refine Ends.b0 (fun _ => Ends.b1 (fun zj => ?_) (fun zj => ?_)) (fun z => absurd rfl z)
          · rw [if_neg zj] at e
            refine Ends.eq (b392_209 (n := n) (by (repeat' first | assumption | refine LX.setF _ _ ?_ (by decide +kernel) | refine LX.setS ?_ rfl | refine LX.setA ?_ (by first | assumption | omega))) (by first | assumption | omega)) ?_
            rw [w_succ (by omega), show w32 (j + (-1)) = j - 1 from w32_id ⟨by omega, by omega⟩]
            exact ih (i + 1) q S2 (j - 1) x3 (by omega) lq g iq e68 (by omega) (by omega) e
          · rw [if_pos zj] at e
            exact Ends.sm (fin q _ g iq e)
    -- one by one, from the last
    have down : ∀ (i : Nat) (q : AH) (S2 : Nat → Bool) (x3 : Int) (u5 : AV), i ≤ nk → LX B n q → Agr (fun c j => cbW W B c j ∨ c = B + 68) q1 q → Inv q → (∀ k, k < nk → hv q (B + 68) k = b2i (!S2 k)) → (∀ k, k < nk → S2 k = true → isC k = true) → kth (cfN nk cs w i S2) nk 0 k = cfS nk np isC gk cs w k → Ends (ev PP (gsF gv) B d 392 121 [(2, rf (B + 56)), (0, (s : Int)), (0, k), (0, x3), (0, (i : Int) - 1), u5] [] q) Q := by
      intro i
      induction i with
      | zero =>
        intro q S2 x3 u5 hi lq g iq e68 sub e
        refine Ends.eq (b392_121 (n := n) (by (repeat' first | assumption | refine LX.setF _ _ ?_ (by decide +kernel) | refine LX.setS ?_ rfl | refine LX.setA ?_ (by first | assumption | omega))) (by first | assumption | omega)) ?_
        refine Ends.b2 (fun _ => ?_) (fun z => absurd z (by omega))
        exact last nk 0 q S2 k x3 (by omega) lq g iq e68 zk hk e
      | succ i ih =>
        intro q S2 x3 u5 hi lq g iq e68 sub e
        rw [show ((i + 1 : Nat) : Int) - 1 = (i : Int) from by omega]
        have next : ∀ (q' : AH) (S3 : Nat → Bool), LX B n q' → Agr (fun c j => cbW W B c j ∨ c = B + 68) q1 q' → Inv q' → (∀ k, k < nk → hv q' (B + 68) k = b2i (!S3 k)) → S3 = rmv nk cs w S2 i → Ends (ev PP (gsF gv) B d 392 163 [(2, rf (B + 56)), (0, (s : Int)), (0, k), (0, x3), (0, (i : Int)), u5] [] q') Q := fun q' S3 l' g' i' e' eS => by
          refine Ends.eq (b392_163 (n := n) (by (repeat' first | assumption | refine LX.setF _ _ ?_ (by decide +kernel) | refine LX.setS ?_ rfl | refine LX.setA ?_ (by first | assumption | omega))) (by first | assumption | omega)) ?_
          rw [show w32 ((i : Int) + (-1)) = (i : Int) - 1 from w32_id ⟨by omega, by omega⟩]
          refine ih q' S3 x3 u5 (by omega) l' g' i' e' (fun k hk z => sub k hk ?_) ?_
          · rw [eS] at z; exact rmv_sub z
          · rw [eS]; exact e
        refine Ends.eq (b392_121 (n := n) (by (repeat' first | assumption | refine LX.setF _ _ ?_ (by decide +kernel) | refine LX.setS ?_ rfl | refine LX.setA ?_ (by first | assumption | omega))) (by first | assumption | omega)) ?_
        rw [tn, e68 i (by omega)]
        refine Ends.b2 (fun z => absurd z (by omega)) (fun _ => Ends.g ⟨by omega, by omega⟩ ?_)
        cases es : S2 i
        · refine Ends.b0 (fun z => absurd z (by decide)) (fun _ => next q S2 lq g iq e68 ?_)
          unfold rmv
          rw [if_neg (fun z => by rw [es] at z; exact Bool.false_ne_true z.1)]
        · refine Ends.b0 (fun _ => ?_) (fun z => absurd rfl z)
          rw [an3 (Or.inr rfl)]
          have g2 : Agr (fun c j => cbW W B c j ∨ c = B + 68) q (hset q (B + 68) i 1) := Agr.rf.set (Or.inr rfl)
          have l2 : LX B n (hset q (B + 68) i 1) := lq.setS rfl
          have i2 := hI _ _ iq (show Agr (skD B) q (hset q (B + 68) i 1) from Agr.rf.set ⟨by omega, by omega⟩)
          have m68 : ∀ k, k < nk → hv (hset q (B + 68) i 1) (B + 68) k = b2i (!mnB S2 i k) := fun k hk => by
            unfold mnB
            by_cases y : k = i
            · rw [y, hv_set_at, decide_eq_true rfl, Bool.not_true, Bool.and_false]; rfl
            · rw [hv_set_ne (by omega), decide_eq_false y, Bool.not_false, Bool.and_true]; exact e68 k hk
          obtain ⟨q2, eq2⟩ : ∃ q2, q2 = hset q (B + 68) i 1 := ⟨_, rfl⟩
          rw [← eq2] at g2 l2 i2 m68 ⊢
          refine Ends.ct l2 (by decide +kernel) (by decide) (c_canHold390 (sel := mnB S2 i) l2 (by omega) H i2 hf m68 (fun k hk z => sub k hk (by unfold mnB at z; rw [Bool.and_eq_true] at z; exact z.1))) (fun y q3 l3 _ _ _ ⟨g3, i3, ey⟩ => ?_)
          have G3 : Agr (fun c j => cbW W B c j ∨ c = B + 68) q1 q3 := (g.tr g2 (fun _ _ z => z)).tr g3 (fun _ _ z => Or.inl z)
          have e3 : ∀ k, k < nk → hv q3 (B + 68) k = b2i (!mnB S2 i k) := fun k hk => by rw [cb_at (j := 68) H g3 (by decide)]; exact m68 k hk
          refine Ends.eq (b392_152 (n := n) (by (repeat' first | assumption | refine LX.setF _ _ ?_ (by decide +kernel) | refine LX.setS ?_ rfl | refine LX.setA ?_ (by first | assumption | omega))) (by first | assumption | omega)) ?_
          rw [ey]
          cases eb : satB (EqE nk (mnB S2 i) cs w)
          · refine Ends.b0 (fun _ => next q3 (mnB S2 i) l3 G3 i3 e3 ?_) (fun z => absurd rfl z)
            unfold rmv
            rw [if_pos ⟨es, eb⟩]
          · refine Ends.b0 (fun z => absurd z (by decide)) (fun _ => Ends.g ⟨by omega, by omega⟩ ?_)
            rw [tn, an3 (Or.inl rfl)]
            refine next _ S2 (l3.setS rfl) (G3.set (Or.inr rfl)) (hI _ _ i3 (show Agr (skD B) q3 (hset q3 (B + 68) i 0) from Agr.rf.set ⟨by omega, by omega⟩)) (fun k hk => ?_) ?_
            · by_cases y : k = i
              · rw [y, hv_set_at, es]; rfl
              · rw [hv_set_ne (by omega), e3 k hk]
                unfold mnB
                rw [decide_eq_false y, Bool.not_false, Bool.and_true]
            · unfold rmv
              rw [if_neg (fun z => by rw [eb] at z; exact Bool.false_ne_true z.2.symm)]
    -- all that are there
    have up : ∀ (r i : Nat) (q : AH) (x3 : Int) (u5 : AV), i + r = 32 → LX B n q → Agr (fun c j => cbW W B c j ∨ c = B + 68) q1 q → Inv q → (∀ k, k < i → k < nk → hv q (B + 68) k = b2i (!isC k)) → Ends (ev PP (gsF gv) B d 392 77 [(2, rf (B + 56)), (0, (s : Int)), (0, k), (0, x3), (0, (i : Int)), u5] [] q) Q := by
      intro r
      induction r with
      | zero =>
        intro i q x3 u5 ei lq g iq e68
        obtain ⟨a1, a2⟩ := v394_is (hC _ iq) hs C
        refine Ends.eq (b392_77 (n := n) (by (repeat' first | assumption | refine LX.setF _ _ ?_ (by decide +kernel) | refine LX.setS ?_ rfl | refine LX.setA ?_ (by first | assumption | omega))) (by first | assumption | omega)) ?_
        rw [a2]
        refine Ends.b3 (fun _ => Ends.g a1 ?_) (fun z => absurd z (by omega))
        rw [show bop32 100 (nk : Int) 1 = (nk : Int) - 1 from w32_id ⟨by omega, by omega⟩]
        exact down nk q isC x3 u5 (Nat.le_refl nk) lq g iq (fun k hk => e68 k (by omega) hk) (fun _ _ z => z) cfe.symm
      | succ r ih =>
        intro i q x3 u5 ei lq g iq e68
        have next : ∀ y : Int, (i < nk → y = b2i (!isC i)) → (y = 0 ∨ y = 1) → Ends (ev PP (gsF gv) B d 392 77 [(2, rf (B + 56)), (0, (s : Int)), (0, k), (0, x3), (0, w32 ((i : Int) + 1)), u5] [] (hset q (B + 68) i (anar 3 y))) Q := fun y ey y01 => by
          rw [w_succ (by omega), an3 y01]
          refine ih (i + 1) _ x3 u5 (by omega) (lq.setS rfl) (g.set (Or.inr rfl)) (hI _ _ iq (show Agr (skD B) q (hset q (B + 68) i y) from Agr.rf.set ⟨by omega, by omega⟩)) (fun k hk1 hk2 => ?_)
          by_cases z : k = i
          · rw [z, hv_set_at]; exact ey (by omega)
          · rw [hv_set_ne (by omega)]; exact e68 k (by omega) hk2
        refine Ends.eq (b392_77 (n := n) (by (repeat' first | assumption | refine LX.setF _ _ ?_ (by decide +kernel) | refine LX.setS ?_ rfl | refine LX.setA ?_ (by first | assumption | omega))) (by first | assumption | omega)) ?_
        refine Ends.b3 (fun z => absurd z (by omega)) (fun _ => ?_)
        rw [tn]
        have y01 : cond (tst 1 (v407 B q (s : Int) (i : Int)) 0) (0 : Int) 1 = 0 ∨ cond (tst 1 (v407 B q (s : Int) (i : Int)) 0) (0 : Int) 1 = 1 := by cases tst 1 (v407 B q (s : Int) (i : Int)) 0; exact Or.inr rfl; exact Or.inl rfl
        rcases (by omega : i < nk ∨ nk ≤ i) with hi | hi
        · obtain ⟨b1, b2⟩ := v407_is (k := i) (hC _ iq) hs C hi
          refine Ends.g b1 (Ends.g ⟨by omega, by omega⟩ (next _ (fun _ => ?_) y01))
          rw [b2, ct1]
          cases isC i <;> rfl
        · exact Ends.g (v407_hi (hC _ iq) hs C hi (by omega)) (Ends.g ⟨by omega, by omega⟩ (next _ (fun z => absurd z (by omega)) y01))
    exact up 32 0 q1 x _ (by omega) l1 Agr.rf i1 (fun k hk => absurd hk (Nat.not_lt_zero k))
  · -- one tells no number
    rw [if_pos z3] at cfe
    have fp : 0 ≤ fstB (flC cs isC gk) nk 0 := by
      rcases S1 with ⟨-, a⟩ | ⟨a, -⟩ | ⟨-, -, a, -⟩
      · exact a
      · omega
      · split at a <;> omega
    have find : ∀ (r i : Nat) (q : AH) (x3 : Int) (u5 : AV), i + r = nk → LX B n q → Agr (fun c j => cbW W B c j ∨ c = B + 68) q1 q → Inv q → fstB (flC cs isC gk) r i = fstB (flC cs isC gk) nk 0 → Ends (ev PP (gsF gv) B d 392 25 [(2, rf (B + 56)), (0, (s : Int)), (0, k), (0, x3), (0, (i : Int)), u5] [] q) Q := by
      intro r
      induction r with
      | zero =>
        intro i q x3 u5 ei lq g iq e
        have : fstB (flC cs isC gk) 0 i = -1 := rfl
        omega
      | succ r ih =>
        intro i q x3 u5 ei lq g iq e
        obtain ⟨a1, a2⟩ := v394_is (hC _ iq) hs C
        obtain ⟨b1, b2⟩ := v407_is (k := i) (hC _ iq) hs C (by omega)
        rw [show fstB (flC cs isC gk) (r + 1) i = if flC cs isC gk i = true then (i : Int) else fstB (flC cs isC gk) r (i + 1) from rfl] at e
        have next : ∀ (q' : AH), LX B n q' → Agr (fun c j => cbW W B c j ∨ c = B + 68) q1 q' → Inv q' → flC cs isC gk i = false → Ends (ev PP (gsF gv) B d 392 66 [(2, rf (B + 56)), (0, (s : Int)), (0, k), (0, x3), (0, (i : Int)), u5] [] q') Q := fun q' l' g' i' f => by
          refine Ends.eq (b392_66 (n := n) (by (repeat' first | assumption | refine LX.setF _ _ ?_ (by decide +kernel) | refine LX.setS ?_ rfl | refine LX.setA ?_ (by first | assumption | omega))) (by first | assumption | omega)) ?_
          rw [w_succ (by omega)]
          refine ih (i + 1) q' x3 u5 (by omega) l' g' i' ?_
          rw [if_neg (by rw [f]; exact Bool.false_ne_true)] at e
          exact e
        refine Ends.eq (b392_25 (n := n) (by (repeat' first | assumption | refine LX.setF _ _ ?_ (by decide +kernel) | refine LX.setS ?_ rfl | refine LX.setA ?_ (by first | assumption | omega))) (by first | assumption | omega)) ?_
        rw [a2, b2]
        refine Ends.g a1 (Ends.b3 (fun z => absurd z (by omega)) (fun _ => Ends.g b1 ?_))
        cases ik : isC i
        · refine Ends.b0 (fun _ => ?_) (fun z => absurd rfl z)
          exact next q lq g iq (by unfold flC; rw [ik]; rfl)
        · refine Ends.b0 (fun z => absurd z (by decide)) (fun _ => ?_)
          refine Ends.ct lq (by decide +kernel) (by decide) (c_gives406 lq (by omega) (hC _ iq) hs C (by omega) ik HG iq) (fun y q2 l2 _ _ _ ⟨g2, i2, ey⟩ => ?_)
          have G2 : Agr (fun c j => cbW W B c j ∨ c = B + 68) q1 q2 := g.tr g2 (fun _ _ z => Or.inl (Or.inl z))
          have ef : flC cs isC gk i = !(decide (6 ≤ (cs i).1) || gk i) := by
            unfold flC
            rw [ik]
            by_cases u : (cs i).1 ≤ 5
            · rw [decide_eq_true u, decide_eq_false (by omega : ¬ 6 ≤ (cs i).1)]; cases gk i <;> rfl
            · rw [decide_eq_false u, decide_eq_true (by omega : 6 ≤ (cs i).1)]; cases gk i <;> rfl
          refine Ends.eq (b392_52 (n := n) (by (repeat' first | assumption | refine LX.setF _ _ ?_ (by decide +kernel) | refine LX.setS ?_ rfl | refine LX.setA ?_ (by first | assumption | omega))) (by first | assumption | omega)) ?_
          rw [ey]
          cases eg : (decide (6 ≤ (cs i).1) || gk i)
          · refine Ends.b1 (fun z => absurd rfl z) (fun _ => Ends.sm (fin q2 _ G2 i2 ?_))
            have ft : flC cs isC gk i = true := by rw [ef, eg]; rfl
            rw [if_pos ft] at e
            rw [cfe, ct1]
            by_cases y0 : k = 0
            · rw [if_pos y0, if_pos y0]; exact e
            · rw [if_neg y0, if_neg y0]
          · exact Ends.b1 (fun _ => next q2 l2 G2 i2 (by rw [ef, eg]; rfl)) (fun z => absurd z (by decide))
    exact find nk 0 q1 x _ (by omega) l1 Agr.rf i1 rfl
/-- whether a constraint says nothing new -/
def rdS (cs : Nat → Cst) (isC : Nat → Bool) (w : Nat → Int) (k : Nat) : Prop := ¬ Sat (EqE k isC cs w) ∨ ∀ i, i < nuE (cs k) → Fol (EqE k isC cs w) (tmS (eqC (cs k) i)) (rhC (cs k) (w k) i)
theorem c_redundant431 {k : Nat} (l : LX B n h) (hd : 412 ≤ d) (H : DkH gv B n s nk np W c cs w xa xb xc dr isC gk Inv) (i0 : Inv h) (hk : k < nk) (ik : isC k = true) (hf : ∀ k, k < nk → flC cs isC gk k = false) :
    Vt 0 (cll PP (ev PP (gsF gv) B) d 431 [(2, rf (B + 56)), (0, (s : Int)), (0, (k : Int))] h) (fun x h' => Agr (cbW W B) h h' ∧ Inv h' ∧ ((x = 1 ∧ rdS cs isC w k) ∨ (x = 0 ∧ ¬ rdS cs isC w k))) := by
  obtain ⟨⟨hs, S⟩, HG, hI, hW, hC⟩ := id H
  have C := S.1
  have kn := C.2.1
  obtain ⟨d1, d2, d3, d4⟩ := S.2.1
  have hIs : ∀ q q', Inv q → Agr (sdW B) q q' → Inv q' := fun q q' i g => hI q q' i (g.sub (fun _ _ z => sd_sk z))
  refine Vt.inq (D := 411) hd (Nat.le_of_ble_eq_true rfl) rfl (fun d hd Q K => ?_)
  have sk0 : skA s < 23000 := by unfold skA; omega
  have loop : ∀ (r j : Nat) (q : AH) (con : Bool), j + r = k → LX B n q → Agr (cbW W B) h q → Inv q → EqD B q (2 * np) (EqE j isC cs w) con → Ends (ev PP (gsF gv) B d 431 16 [(2, rf (B + 56)), (0, (s : Int)), (0, (k : Int)), (0, (j : Int))] [] q) Q := by
    intro r
    induction r with
    | zero =>
      intro j q con ej lq g iq D
      obtain rfl : j = k := by omega
      refine Ends.eq (b431_16 (n := n) (by (repeat' first | assumption | refine LX.setF _ _ ?_ (by decide +kernel) | refine LX.setS ?_ rfl | refine LX.setA ?_ (by first | assumption | omega))) (by first | assumption | omega)) ?_
      refine Ends.b3 (fun _ => ?_) (fun z => absurd z (Int.lt_irrefl _))
      cases con
      · have sat := D.sat (by omega)
        have e57 : hv q (B + 57) 2 = 0 := by obtain ⟨_, _, _, _, _, _, _, _, _, _, _, _, z⟩ := D; exact z
        rw [e57]
        refine Ends.b1 (fun z => absurd rfl z) (fun _ => ?_)
        refine Ends.ct lq (by decide +kernel) (by decide) (c_bring389 lq (by omega) (hC _ iq) hs C hk ik HG iq (fun q q' i g => hIs q q' i (g.sub (fun _ _ z => ad_sd z))) (fun c k z => ⟨fun u => (hW c k z).1 (sd_sk (eq_sd u)), (hW c k z).2.2⟩) (by omega) (S.2.2 j hk ik) D) (fun x q2 l2 _ _ _ ⟨g2, i2, con', fo, D', e, F⟩ => ?_)
        have F1 := F rfl
        have G2 : Agr (cbW W B) h q2 := g.tr g2 (fun _ _ z => z.elim Or.inl (fun z => Or.inr (ad_sd z)))
        refine Ends.eq (b431_59 (n := n) (by (repeat' first | assumption | refine LX.setF _ _ ?_ (by decide +kernel) | refine LX.setS ?_ rfl | refine LX.setA ?_ (by first | assumption | omega))) (by first | assumption | omega)) ?_
        rw [e, ct0]
        cases fo
        · refine Ends.sm (K _ _ ⟨G2, i2, Or.inr ⟨rfl, fun z => ?_⟩⟩)
          rcases z with z | z
          · exact z sat
          · exact absurd (F1.mpr (fun i hi => by rw [rh_given ik (hf j hk)]; exact z i hi)) Bool.false_ne_true
        · refine Ends.sm (K _ _ ⟨G2, i2, Or.inl ⟨rfl, Or.inr (fun i hi => ?_)⟩⟩)
          have := F1.mp rfl i hi
          rw [rh_given ik (hf j hk)] at this
          exact this
      · have ns : ¬ Sat (EqE j isC cs w) := by obtain ⟨_, _, _, _, _, _, _, _, _, _, _, z, _⟩ := D; exact z rfl
        have e57 : hv q (B + 57) 2 = 1 := by obtain ⟨_, _, _, _, _, _, _, _, _, _, _, _, z⟩ := D; exact z
        rw [e57]
        refine Ends.b1 (fun _ => ?_) (fun z => absurd z (by decide))
        refine Ends.eq (b431_62 (n := n) (by (repeat' first | assumption | refine LX.setF _ _ ?_ (by decide +kernel) | refine LX.setS ?_ rfl | refine LX.setA ?_ (by first | assumption | omega))) (by first | assumption | omega)) ?_
        refine Ends.eq (b431_67 (n := n) (by (repeat' first | assumption | refine LX.setF _ _ ?_ (by decide +kernel) | refine LX.setS ?_ rfl | refine LX.setA ?_ (by first | assumption | omega))) (by first | assumption | omega)) ?_
        exact Ends.g (Or.inr rfl) (Ends.sm (K _ _ ⟨g, iq, Or.inl ⟨rfl, Or.inl ns⟩⟩))
    | succ r ih =>
      intro j q con ej lq g iq D
      obtain ⟨b1, b2⟩ := v407_is (k := j) (hC _ iq) hs C (by omega)
      have next : ∀ (q' : AH) (con' : Bool), LX B n q' → Agr (cbW W B) h q' → Inv q' → EqD B q' (2 * np) (EqE (j + 1) isC cs w) con' → Ends (ev PP (gsF gv) B d 431 37 [(2, rf (B + 56)), (0, (s : Int)), (0, (k : Int)), (0, (j : Int))] [] q') Q := fun q' con' l' g' i' D' => by
        refine Ends.eq (b431_37 (n := n) (by (repeat' first | assumption | refine LX.setF _ _ ?_ (by decide +kernel) | refine LX.setS ?_ rfl | refine LX.setA ?_ (by first | assumption | omega))) (by first | assumption | omega)) ?_
        rw [w_succ (by omega)]
        exact ih (j + 1) q' con' (by omega) l' g' i' D'
      refine Ends.eq (b431_16 (n := n) (by (repeat' first | assumption | refine LX.setF _ _ ?_ (by decide +kernel) | refine LX.setS ?_ rfl | refine LX.setA ?_ (by first | assumption | omega))) (by first | assumption | omega)) ?_
      rw [b2]
      refine Ends.b3 (fun z => absurd z (by omega)) (fun _ => Ends.g b1 ?_)
      cases ij : isC j
      · refine Ends.b0 (fun _ => ?_) (fun z => absurd rfl z)
        exact next q con lq g iq (D.cg (EqE.skip ij))
      · refine Ends.b0 (fun z => absurd z (by decide)) (fun _ => ?_)
        refine Ends.ct lq (by decide +kernel) (by decide) (c_bringE (sel := isC) lq (by omega) (hC _ iq) hs S (by omega) ij ij HG (hf j (by omega)) iq hIs H.off D) (fun x q2 l2 _ _ _ ⟨g2, i2, con', D'⟩ => ?_)
        refine Ends.eq (b431_36 (n := n) (by (repeat' first | assumption | refine LX.setF _ _ ?_ (by decide +kernel) | refine LX.setS ?_ rfl | refine LX.setA ?_ (by first | assumption | omega))) (by first | assumption | omega)) ?_
        exact next q2 con' l2 (g.tr g2 (fun _ _ z => z.elim Or.inl (fun z => Or.inr (ad_sd z)))) i2 D'
  obtain ⟨p1, p2⟩ := cell_is (i := skA s + 2) (hC _ i0) (by omega)
  refine Ends.eq (b431_0 (n := n) (by (repeat' first | assumption | refine LX.setF _ _ ?_ (by decide +kernel) | refine LX.setS ?_ rfl | refine LX.setA ?_ (by first | assumption | omega))) (by first | assumption | omega)) ?_
  unfold q429 v429
  rw [v391_is hs, show bop32 96 ((skA s : Nat) : Int) 2 = ((skA s + 2 : Nat) : Int) from addK (k := 2) (by omega), p2, d1, show bop32 104 2 (np : Int) = ((2 * np : Nat) : Int) from mulNN (x := 2) (by omega)]
  refine Ends.g p1 ?_
  refine Ends.cv l (by decide +kernel) (c_clear128 (m := 2 * np) l (by omega)) (fun q2 l2 _ _ _ ⟨g2, D2, _⟩ => ?_)
  have g2s : Agr (sdW B) h q2 := g2.sub (fun c k z => by unfold sdW; omega)
  refine Ends.eq (b431_14 (n := n) (by (repeat' first | assumption | refine LX.setF _ _ ?_ (by decide +kernel) | refine LX.setS ?_ rfl | refine LX.setA ?_ (by first | assumption | omega))) (by first | assumption | omega)) ?_
  refine loop k 0 q2 false (by omega) l2 (g2s.sub (fun _ _ z => Or.inr z)) (hIs _ _ i0 g2s) (D2.cg (fun a b => ⟨fun z => z.elim, fun z => ?_⟩))
  obtain ⟨k', i, h1, -⟩ := z
  exact absurd h1 (Nat.not_lt_zero k')
end CONF
