/-! L3: prisms, walls on sketches (desk) -/
noncomputable section PRSM
variable {gv : Nat → Int} {B n d s np nl nd nk ax a D : Nat} {h : AH} {c : Nat → Int} {dw nb U0 V0 U1 V1 DU DV SZ CU CV : Nat → Int} {CR : Nat → Nat} {S lv dlv dgk : Nat → Bool} {fr to_ dc : Nat → Nat} {cs : Nat → Cst} {w xa xb xc dr : Nat → Int} {isC gk : Nat → Bool} {Inv : AH → Prop} {W : Nat → Nat → Prop} {kd : Nat} {o most st : Int}
/-- what looking at a profile writes -/
def flR (B : Nat) : Nat → Nat → Prop := fun c k => c = B + 92 ∧ (k = 27 ∨ k = 28)
def psQ (W : Nat → Nat → Prop) (B s : Nat) : Nat → Nat → Prop := fun c k => (wsD W B s c k ∨ pfW B c k) ∨ flR B c k
/-- the profile's number, with 7 where it should be straight and is not -/
def PrS (straight : Bool) (n : Nat) (wall : Bool) (ab be : Nat → Int) (lv : Nat → Bool) (fr to_ : Nat → Nat) (nd : Nat) (dlv : Nat → Bool) (dc : Nat → Nat) (dgk : Nat → Bool) (dw : Nat → Int) (x : Int) : Prop := (x ≠ 0 ∧ PrR n wall ab be lv fr to_ nd dlv dc dgk dw x) ∨ (PrR n wall ab be lv fr to_ nd dlv dc dgk dw 0 ∧ ((straight = true ∧ ¬ strP lv (lU0 ab fr) (lV0 ab fr) (lU0 ab to_) (lV0 ab to_) (cntN dlv nd) ∧ x = 7) ∨ ((straight = true → strP lv (lU0 ab fr) (lV0 ab fr) (lU0 ab to_) (lV0 ab to_) (cntN dlv nd)) ∧ x = 0)))
theorem c_profile296 (l : LX B n h) (n64 : n ≤ 64) (hd : 420 ≤ d) (H : DkH gv B n s nk np W c cs w xa xb xc dr isC gk Inv) (i0 : Inv h) (Kc : KpD B h s nk np isC gk cs w dr) (hP : ∀ q q', Inv q → Agr (pfW B) q q' → Inv q') (hF : ∀ q q', Inv q → Agr (flR B) q q' → Inv q') (hWp : ∀ c k, W c k → ¬ pfW B c k) (L : LnD c s np nl lv fr to_) (D : DcD c s np nd dlv dc) (HR : GvR gv B n s nd W dlv dgk dw Inv) (hst : st = 1 → most = 6) (st01 : st = 0 ∨ st = 1) :
    Vt 0 (cll PP (ev PP (gsF gv) B) d 296 [(2, rf (B + 92)), (0, (s : Int)), (0, most), (0, st)] h) (fun x h' => Agr (psQ W B s) h h' ∧ Inv h' ∧ KpD B h' s nk np isC gk cs w dr ∧ ((x = 0 ∧ hv h' (B + 92) 27 = 2 ∧ ((1 < slS nk np isC gk cs w ∧ hv h' (B + 92) 28 = 1) ∨ (slS nk np isC gk cs w ≤ 1 ∧ hv h' (B + 92) 28 ≠ 0 ∧ ∃ X t, Sln (EqE nk isC cs w) (2 * np) dr X t ∧ PrS (decide (st = 1)) n (decide (most = 3)) (fun j => mN (X j) t) (fun j => mD (X j) t) lv fr to_ nd dlv dc dgk dw (hv h' (B + 92) 28)))) ∨ (x = 1 ∧ slS nk np isC gk cs w ≤ 1 ∧ ∃ X t, Sln (EqE nk isC cs w) (2 * np) dr X t ∧ PrS (decide (st = 1)) n (decide (most = 3)) (fun j => mN (X j) t) (fun j => mD (X j) t) lv fr to_ nd dlv dc dgk dw 0 ∧ PfS B n h' (decide (most = 3)) (fun j => mN (X j) t) lv fr to_ nd dlv dc dw))) := by
  have hnp := H.1.2.2.1.2.1
  refine Vt.inq (D := 419) hd (Nat.le_of_ble_eq_true rfl) rfl (fun d hd Q K => ?_)
  refine Ends.eq (b296_0 (n := n) (by (repeat' first | assumption | refine LX.setF _ _ ?_ (by decide +kernel) | refine LX.setS ?_ rfl | refine LX.setA ?_ (by first | assumption | omega))) (by first | assumption | omega)) ?_
  refine Ends.ct l (by decide +kernel) (by decide) (c_profile430 l n64 (by omega) H i0 Kc hP hWp L D HR) (fun p q1 l1 _ _ _ ⟨g1, i1, k1, P⟩ => ?_)
  have G1 : Agr (psQ W B s) h q1 := g1.sub (fun _ _ z => Or.inl z)
  -- it fails
  have bad : ∀ p : Int, p ≠ 0 → ((1 < slS nk np isC gk cs w ∧ p = 1) ∨ (slS nk np isC gk cs w ≤ 1 ∧ ∃ X t, Sln (EqE nk isC cs w) (2 * np) dr X t ∧ PrS (decide (st = 1)) n (decide (most = 3)) (fun j => mN (X j) t) (fun j => mD (X j) t) lv fr to_ nd dlv dc dgk dw p)) → Ends (ev PP (gsF gv) B d 296 34 [(2, rf (B + 92)), (0, (s : Int)), (0, most), (0, st), (0, p)] [] q1) Q := fun p p0 hp => by
    refine Ends.eq (b296_34 (n := n) (by (repeat' first | assumption | refine LX.setF _ _ ?_ (by decide +kernel) | refine LX.setS ?_ rfl | refine LX.setA ?_ (by first | assumption | omega))) (by first | assumption | omega)) ?_
    refine Ends.b1 (fun _ => ?_) (fun z => absurd z p0)
    refine Ends.ct l1 (by decide +kernel) (by decide) (c_failed266 l1 (by omega)) (fun x q2 l2 _ _ _ ⟨_, g2, e27, e28⟩ => ?_)
    refine Ends.eq (b296_48 (n := n) (by (repeat' first | assumption | refine LX.setF _ _ ?_ (by decide +kernel) | refine LX.setS ?_ rfl | refine LX.setA ?_ (by first | assumption | omega))) (by first | assumption | omega)) ?_
    refine Ends.sm (K _ _ ⟨G1.tr g2 (fun _ _ z => Or.inr z), hF _ _ i1 g2, k1.far hnp g2 (fun c k z => ⟨fun y => by unfold skD at y; omega, by omega⟩), Or.inl ⟨rfl, e27, ?_⟩⟩)
    rw [e28]
    rcases hp with hp | ⟨hp1, hp2⟩
    · exact Or.inl hp
    · exact Or.inr ⟨hp1, p0, hp2⟩
  have good : p = 0 → ∀ X t, slS nk np isC gk cs w ≤ 1 → Sln (EqE nk isC cs w) (2 * np) dr X t → PrS (decide (st = 1)) n (decide (most = 3)) (fun j => mN (X j) t) (fun j => mD (X j) t) lv fr to_ nd dlv dc dgk dw 0 → PfS B n q1 (decide (most = 3)) (fun j => mN (X j) t) lv fr to_ nd dlv dc dw → Ends (ev PP (gsF gv) B d 296 34 [(2, rf (B + 92)), (0, (s : Int)), (0, most), (0, st), (0, 0)] [] q1) Q := fun _ X t a sln pr pf => by
    refine Ends.eq (b296_34 (n := n) (by (repeat' first | assumption | refine LX.setF _ _ ?_ (by decide +kernel) | refine LX.setS ?_ rfl | refine LX.setA ?_ (by first | assumption | omega))) (by first | assumption | omega)) ?_
    exact Ends.b1 (fun z => absurd rfl z) (fun _ => Ends.sm (K _ _ ⟨G1, i1, k1, Or.inr ⟨rfl, a, X, t, sln, pr, pf⟩⟩))
  refine Ends.eq (b296_9 (n := n) (by (repeat' first | assumption | refine LX.setF _ _ ?_ (by decide +kernel) | refine LX.setS ?_ rfl | refine LX.setA ?_ (by first | assumption | omega))) (by first | assumption | omega)) ?_
  refine Ends.b1 (fun p0 => bad p p0 ?_) (fun p0 => Ends.b0 (fun s0 => ?_) (fun s0 => ?_))
  · rcases P with P | ⟨a, X, t, sln, pr, -⟩
    · exact Or.inl P
    · exact Or.inr ⟨a, X, t, sln, Or.inl ⟨p0, pr⟩⟩
  · rcases P with ⟨-, z⟩ | ⟨a, X, t, sln, pr, pf⟩
    · omega
    · rw [p0] at pr ⊢
      exact good p0 X t a sln (Or.inr ⟨pr, Or.inr ⟨fun z => by rw [decide_eq_true_eq] at z; omega, rfl⟩⟩) (pf p0)
  · rcases P with ⟨-, z⟩ | ⟨a, X, t, sln, pr, pf⟩
    · omega
    have s1 : st = 1 := st01.resolve_left s0
    have m6 := hst s1
    have wf : decide (most = 3) = false := decide_eq_false (by omega)
    obtain ⟨⟨sg, sk⟩, ds⟩ := pf p0
    obtain ⟨e23, -⟩ := ds wf
    refine Ends.ct l1 (by decide +kernel) (by decide) (c_isStraight414 (DU := lDU (fun j => mN (X j) t) fr to_) (DV := lDV (fun j => mN (X j) t) fr to_) (dn := cntN dlv nd) l1 (by omega) sg (fun k hk lk => ?_) e23) (fun y q2 l2 _ _ _ ⟨eq2_, ey⟩ => ?_)
    · obtain ⟨G, d1, d2, d3⟩ := sk k hk lk
      obtain ⟨⟨⟨h1, h2, h3⟩, hs⟩, ⟨g1', g2'⟩, -⟩ := G
      refine ⟨d1, d2, ?_, ?_⟩
      · clear h2 h3 g2' d1 d2 d3
        rcases h1 with z | z | z <;> rw [z] at g1' ⊢ <;> omega
      · clear h1 h3 g1' d1 d2 d3
        rcases h2 with z | z | z <;> rw [z] at g2' ⊢ <;> omega
    subst eq2_
    refine Ends.eq (b296_27 (n := n) (by (repeat' first | assumption | refine LX.setF _ _ ?_ (by decide +kernel) | refine LX.setS ?_ rfl | refine LX.setA ?_ (by first | assumption | omega))) (by first | assumption | omega)) ?_
    rw [ct1, p0]
    rw [p0] at pr
    rcases ey with ⟨ey, sp⟩ | ⟨ey, sp⟩
    · rw [ey, if_neg (by decide)]
      exact good p0 X t a sln (Or.inr ⟨pr, Or.inr ⟨fun _ => sp, rfl⟩⟩) (pf p0)
    · rw [ey, if_pos rfl]
      exact bad 7 (by decide) (Or.inr ⟨a, X, t, sln, Or.inr ⟨pr, Or.inl ⟨decide_eq_true s1, sp, rfl⟩⟩⟩)
/-- behind a good profile: the prism -/
theorem c_prismGood {Q : Rs → Prop} {P : Nat → Nat → Nat → Bool} (l : LX B n h) (hd : 14 ≤ d) (hn0 : 0 < n) (hn : n ≤ 52) (m : TbC B h) (hs : s < 6) (hc : ∀ z, z < 37368 → hv h (B + 2) z = c z) (eax : c (skA s) = (ax : Int)) (eo : c (skA s + 1) = o) (hax : ax < 3) (ob : -200 ≤ o ∧ o ≤ 200) (hkd : kd = 1 ∨ kd = 8) (pv : PvC B h 3 nb) (nbb : ∀ k, k < 3 → -200 ≤ nb k ∧ nb k ≤ 200) (sa : SG n h a S) (ha : B + 246 ≤ a) (qq : Qua n h (B + 114) P)
    (K : ∀ h', Agr (fun c _ => c = a) h h' → SG n h' a (fun g => S g || prG n P ax (o + nb (if kd = 8 then 1 else 0)) (o + nb (if kd = 8 then 2 else 1)) g) → Q ((0, (0, 1)), h')) (u5 : AV) :
    Ends (ev PP (gsF gv) B d 295 73 [(2, rf (B + 92)), (0, (kd : Int)), (0, (s : Int)), (2, rf a), (0, if kd = 8 then 1 else 0), u5] [] h) Q := by
  have sk0 : skA s < 23000 := by unfold skA; omega
  obtain ⟨a1, a2⟩ := cell_is (i := skA s) hc (by omega)
  obtain ⟨b1, b2⟩ := cell_is (i := skA s + 1) hc (by omega)
  have e1 : bop32 96 (v391 (s : Int)) 1 = ((skA s + 1 : Nat) : Int) := by
    rw [v391_is hs]; exact addK (k := 1) (by omega)
  have v4 : v424 B h (s : Int) = o := by unfold v424; rw [e1, b2, eo]
  have v3 : v387 B h (s : Int) = (ax : Int) := by unfold v387; rw [v391_is hs, a2, eax]
  have q4 : q424 B h (s : Int) := by unfold q424; rw [e1]; exact b1
  have q3 : q387 B h (s : Int) := by unfold q387; rw [v391_is hs]; exact a1
  have n0 := nbb 0 (by decide)
  have n1 := nbb 1 (by decide)
  have n2 := nbb 2 (by decide)
  refine Ends.eq (b295_73 l (by omega)) ?_
  rw [v4, v3]
  refine Ends.g q4 (Ends.g q3 ?_)
  rcases hkd with z | z
  · rw [if_neg (by omega), if_neg (by omega)] at K
    rw [if_neg (by omega), show bop32 96 (0 : Int) 1 = 1 from rfl]
    simp only [show Int.toNat 0 = 0 from rfl, show Int.toNat 1 = 1 from rfl]
    rw [pv 0 (by decide), pv 1 (by decide), add32 (x := o) (y := nb 0) (by omega) (by omega), add32 (x := o) (y := nb 1) (by omega) (by omega)]
    refine Ends.g ⟨by decide, by decide⟩ (Ends.g ⟨by decide, by decide⟩ ?_)
    refine Ends.cv l (by decide +kernel) (c_unitePrism (ax := ax) (a := a) (b := B + 114) l (by omega) hn0 hn m sa qq (by omega) (by omega) (Or.inr ha) hax (by omega) (by omega)) (fun h3 l3 _ _ _ ⟨f3, s3⟩ => ?_)
    refine Ends.eq (b295_125 l3 (by omega)) (Ends.sm (K h3 f3.agr s3))
  · rw [if_pos z, if_pos z] at K
    rw [if_pos z, show bop32 96 (1 : Int) 1 = 2 from rfl]
    simp only [show Int.toNat 1 = 1 from rfl, show Int.toNat 2 = 2 from rfl]
    rw [pv 1 (by decide), pv 2 (by decide), add32 (x := o) (y := nb 1) (by omega) (by omega), add32 (x := o) (y := nb 2) (by omega) (by omega)]
    refine Ends.g ⟨by decide, by decide⟩ (Ends.g ⟨by decide, by decide⟩ ?_)
    refine Ends.cv l (by decide +kernel) (c_unitePrism (ax := ax) (a := a) (b := B + 114) l (by omega) hn0 hn m sa qq (by omega) (by omega) (Or.inr ha) hax (by omega) (by omega)) (fun h3 l3 _ _ _ ⟨f3, s3⟩ => ?_)
    refine Ends.eq (b295_125 l3 (by omega)) (Ends.sm (K h3 f3.agr s3))
end PRSM
