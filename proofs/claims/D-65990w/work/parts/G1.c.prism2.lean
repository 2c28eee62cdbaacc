/-! L3: prisms, walls on sketches: the whole (desk) -/
noncomputable section PRS2
variable {gv : Nat → Int} {B n d s np nl nd nk ax a : Nat} {h : AH} {c : Nat → Int} {ab be dw nb : Nat → Int} {S lv dlv dgk : Nat → Bool} {fr to_ dc : Nat → Nat} {cs : Nat → Cst} {w xa xb xc dr : Nat → Int} {isC gk : Nat → Bool} {Inv : AH → Prop} {W : Nat → Nat → Prop} {kd : Nat} {o : Int}
/-- the one with that number among those that are there -/
noncomputable def kAt (S : Nat → Bool) (i : Nat) : Nat := Classical.epsilon (fun k => S k = true ∧ cntN S k = i)
theorem kAt_is {k : Nat} (hk : S k = true) : kAt S (cntN S k) = k := by
  have := Classical.epsilon_spec (p := fun k' => S k' = true ∧ cntN S k' = cntN S k) ⟨k, hk, rfl⟩
  exact cnt_inj this.1 hk this.2
/-- discs one by one: centres, radii -/
noncomputable def dCU (ab : Nat → Int) (dlv : Nat → Bool) (dc : Nat → Nat) (i : Nat) : Int := ab (2 * dc (kAt dlv i))
noncomputable def dCV (ab : Nat → Int) (dlv : Nat → Bool) (dc : Nat → Nat) (i : Nat) : Int := ab (2 * dc (kAt dlv i) + 1)
noncomputable def dCR (dw : Nat → Int) (dlv : Nat → Bool) (i : Nat) : Nat := (dw (kAt dlv i)).toNat
theorem dsc_D (n6 : nd ≤ 6) (P : PfS B n h false ab lv fr to_ nd dlv dc dw) (pr : PrR n false ab be lv fr to_ nd dlv dc dgk dw 0) : DscD B n h (cntN dlv nd) (dCU ab dlv dc) (dCV ab dlv dc) (dCR dw dlv) := by
  obtain ⟨n2, -⟩ := pr_0 pr
  obtain ⟨e23, ds⟩ := P.2 rfl
  refine ⟨⟨e23, Nat.le_trans (cntN_le _ _) n6⟩, fun i hi => ?_⟩
  obtain ⟨k, hk, dk, ck⟩ := cnt_at (S := dlv) nd i hi
  obtain ⟨y1, y2, y3, y4, y5⟩ := ds k hk dk
  have wh : whB n ab be (dc k) = true := by
    cases z : whB n ab be (dc k)
    · exact absurd (Or.inr ⟨k, hk, dk, z⟩) n2
    · rfl
  have wb := whB_is wh
  unfold dCU dCV dCR
  rw [← ck, kAt_is dk]
  exact ⟨⟨y1, y2, by rw [y3]; omega⟩, wb.1, wb.2, by omega⟩
theorem dsc_M (n6 : nd ≤ 6) (P : PfM B n h ab lv fr to_ nd dlv dc dw) (pr : PrR n false ab be lv fr to_ nd dlv dc dgk dw 0) : DscM B n h (cntN dlv nd) (dCU ab dlv dc) (dCV ab dlv dc) (dCR dw dlv) := by
  obtain ⟨n2, -⟩ := pr_0 pr
  obtain ⟨e23, ds⟩ := P.2
  refine ⟨⟨e23, Nat.le_trans (cntN_le _ _) n6⟩, fun i hi => ?_⟩
  obtain ⟨k, hk, dk, ck⟩ := cnt_at (S := dlv) nd i hi
  obtain ⟨y1, y2, y3, y4, y5⟩ := ds k hk dk
  have wh : whB n ab be (dc k) = true := by
    cases z : whB n ab be (dc k)
    · exact absurd (Or.inr ⟨k, hk, dk, z⟩) n2
    · rfl
  have wb := whB_is wh
  unfold dCU dCV dCR
  rw [← ck, kAt_is dk]
  exact ⟨⟨y1, y2, by rw [y3]; omega⟩, wb.1, wb.2, by omega⟩
/-- the region of a good profile, the places near its lines -/
noncomputable def rgnF (ab dw : Nat → Int) (lv : Nat → Bool) (fr to_ : Nat → Nat) (nd : Nat) (dlv : Nat → Bool) (dc : Nat → Nat) : Nat → Nat → Nat → Bool := rgQ lv (lU0 ab fr) (lV0 ab fr) (lV0 ab to_) (lDU ab fr to_) (lDV ab fr to_) (cntN dlv nd) (dCU ab dlv dc) (dCV ab dlv dc) (dCR dw dlv)
noncomputable def nrF (ab : Nat → Int) (lv : Nat → Bool) (fr to_ : Nat → Nat) (r : Int) : Nat → Nat → Nat → Bool := nrQ lv (lU0 ab fr) (lV0 ab fr) (lU0 ab to_) (lV0 ab to_) r
theorem seg_bd (n64 : n ≤ 64) (hG : ∀ k, lv k = true → SgK n (lU0 ab fr) (lV0 ab fr) (lU0 ab to_) (lV0 ab to_) (lDU ab fr to_) (lDV ab fr to_) (lSZ ab fr to_) k) : BdL lv (lU0 ab fr) (lV0 ab fr) (lU0 ab to_) (lV0 ab to_) := fun k lk => by
  obtain ⟨-, -, a, b, c, e, -⟩ := hG k lk
  unfold in64
  omega
/-- where a prism writes -/
def pmQ (W : Nat → Nat → Prop) (B s a : Nat) : Nat → Nat → Prop := fun c k => psQ W B s c k ∨ c = B + 114 ∨ c = a
theorem ps_lo {c k : Nat} (hW2 : ∀ c k, W c k → c < B + 23) (z : psQ W B s c k) : c < B + 23 ∨ (B + 56 ≤ c ∧ c ≤ B + 80) ∨ (c = B + 92 ∧ (k = 27 ∨ k = 28)) := by
  rcases z with (z | z) | z
  · rcases z with z | z | z | z
    · exact Or.inl (hW2 c k z)
    · unfold sdW at z; omega
    · unfold keW at z; omega
    · omega
  · unfold pfW at z; omega
  · unfold flR at z; omega
set_option maxHeartbeats 1000000 in
theorem c_prism295 (l : LX B n h) (hd : 440 ≤ d) (hn0 : 0 < n) (hn : n ≤ 52) (m : TbC B h) (H : DkH gv B n s nk np W c cs w xa xb xc dr isC gk Inv) (i0 : Inv h) (Kc : KpD B h s nk np isC gk cs w dr) (hP : ∀ q q', Inv q → Agr (pfW B) q q' → Inv q') (hF : ∀ q q', Inv q → Agr (flR B) q q' → Inv q') (hA : ∀ q q', Inv q → Agr (fun c _ => c = B + 114 ∨ c = a) q q' → Inv q') (hWp : ∀ c k, W c k → ¬ pfW B c k) (hW2 : ∀ c k, W c k → c < B + 23) (L : LnD c s np nl lv fr to_) (D : DcD c s np nd dlv dc) (HR : GvR gv B n s nd W dlv dgk dw Inv)
    (eax : c (skA s) = (ax : Int)) (eo : c (skA s + 1) = o) (hax : ax < 3) (ob : -200 ≤ o ∧ o ≤ 200) (hkd : kd = 1 ∨ kd = 8) (pv : PvC B h 3 nb) (nbb : ∀ k, k < 3 → -200 ≤ nb k ∧ nb k ≤ 200) (n0 : kd = 8 → 0 ≤ nb 0) (sa : SG n h a S) (ha : B + 246 ≤ a) :
    Vt 0 (cll PP (ev PP (gsF gv) B) d 295 [(2, rf (B + 92)), (0, (kd : Int)), (0, (s : Int)), (2, rf a)] h) (fun x h' => Agr (pmQ W B s a) h h' ∧ Inv h' ∧ KpD B h' s nk np isC gk cs w dr ∧ ((x = 0 ∧ hv h' (B + 92) 27 = 2 ∧ ((1 < slS nk np isC gk cs w ∧ hv h' (B + 92) 28 = 1) ∨ (slS nk np isC gk cs w ≤ 1 ∧ hv h' (B + 92) 28 ≠ 0 ∧ ∃ X t, Sln (EqE nk isC cs w) (2 * np) dr X t ∧ PrS false n (decide (kd = 8)) (fun j => mN (X j) t) (fun j => mD (X j) t) lv fr to_ nd dlv dc dgk dw (hv h' (B + 92) 28)))) ∨ (x = 1 ∧ slS nk np isC gk cs w ≤ 1 ∧ ∃ X t, Sln (EqE nk isC cs w) (2 * np) dr X t ∧ PrS false n (decide (kd = 8)) (fun j => mN (X j) t) (fun j => mD (X j) t) lv fr to_ nd dlv dc dgk dw 0 ∧ SG n h' a (fun g => S g || prG n (if kd = 8 then nrF (fun j => mN (X j) t) lv fr to_ (nb 0) else rgnF (fun j => mN (X j) t) dw lv fr to_ nd dlv dc) ax (o + nb (if kd = 8 then 1 else 0)) (o + nb (if kd = 8 then 2 else 1)) g)))) := by
  obtain ⟨⟨hs, Sk⟩, HG, hI, hW, hC⟩ := id H
  have hnp := Sk.2.1.2.1
  have k24 : ∀ k, lv k = true → k < 24 := fun k lk => by
    have := L.1.2.1
    rcases (by omega : k < nl ∨ nl ≤ k) with z | z
    · omega
    · rw [L.1.2.2 k z] at lk; cases lk
  refine Vt.inq (D := 439) hd (Nat.le_of_ble_eq_true rfl) rfl (fun d hd Q K => ?_)
  have em : cond (tst 1 (kd : Int) 8) (6 : Int) 3 = if kd = 8 then 3 else 6 := by
    rw [ct1]
    rcases hkd with z | z
    · rw [if_neg (by omega), if_neg (by omega)]
    · rw [if_pos (by omega), if_pos z]
  have ew : decide ((if kd = 8 then (3 : Int) else 6) = 3) = decide (kd = 8) := by
    rcases hkd with z | z
    · rw [if_neg (by omega), decide_eq_false (show ¬ kd = 8 by omega)]; rfl
    · rw [if_pos z, decide_eq_true z]; rfl
  refine Ends.eq (b295_0 (n := n) (by (repeat' first | assumption | refine LX.setF _ _ ?_ (by decide +kernel) | refine LX.setS ?_ rfl | refine LX.setA ?_ (by first | assumption | omega))) (by first | assumption | omega)) ?_
  rw [em]
  refine Ends.ct l (by decide +kernel) (by decide) (c_profile296 l (by omega) (by omega) H i0 Kc hP hF hWp L D HR (fun z => absurd z (by decide)) (Or.inl rfl)) (fun x q1 l1 _ _ _ ⟨g1, i1, k1, P⟩ => ?_)
  rw [ew] at P
  refine Ends.eq (b295_18 (n := n) (by (repeat' first | assumption | refine LX.setF _ _ ?_ (by decide +kernel) | refine LX.setS ?_ rfl | refine LX.setA ?_ (by first | assumption | omega))) (by first | assumption | omega)) ?_
  rcases P with ⟨ex, e27, P⟩ | ⟨ex, sl, X, t, sln, pr, pf⟩
  · rw [ex]
    exact Ends.b1 (fun z => absurd rfl z) (fun _ => Ends.sm (K _ _ ⟨g1.sub (fun _ _ z => Or.inl z), i1, k1, Or.inl ⟨rfl, e27, P⟩⟩))
  rw [ex]
  refine Ends.b1 (fun _ => ?_) (fun z => absurd z (by decide))
  have at_ : ∀ c k, ¬ (c < B + 23 ∨ (B + 56 ≤ c ∧ c ≤ B + 80) ∨ (c = B + 92 ∧ (k = 27 ∨ k = 28))) → hv q1 c k = hv h c k := fun c k z => g1.at _ _ (fun y => z (ps_lo hW2 y))
  have m1 : TbC B q1 := m.ext l.2.2 g1.ext (fun c k h1 h2 z => by have := ps_lo hW2 z; omega)
  have pv1 : PvC B q1 3 nb := pv.agr g1 (fun k z => by have := ps_lo hW2 z; omega)
  have sa1 : SG n q1 a S := sa.agr g1 (fun _ z => by have := ps_lo hW2 z; omega)
  have hc1 := hC q1 i1
  obtain ⟨⟨sg, sk⟩, ds⟩ := pf
  have hG : ∀ k, lv k = true → SgK n (lU0 (fun j => mN (X j) t) fr) (lV0 (fun j => mN (X j) t) fr) (lU0 (fun j => mN (X j) t) to_) (lV0 (fun j => mN (X j) t) to_) (lDU (fun j => mN (X j) t) fr to_) (lDV (fun j => mN (X j) t) fr to_) (lSZ (fun j => mN (X j) t) fr to_) k ∧ hv q1 (B + 73) k = lDU (fun j => mN (X j) t) fr to_ k ∧ hv q1 (B + 74) k = lDV (fun j => mN (X j) t) fr to_ k ∧ hv q1 (B + 75) k = lSZ (fun j => mN (X j) t) fr to_ k := fun k lk => sk k (k24 k lk) lk
  have bd := seg_bd (n := n) (ab := fun j => mN (X j) t) (fr := fr) (to_ := to_) (lv := lv) (by omega) (fun k lk => (hG k lk).1)
  have k114 : hk q1 (B + 114) = (3, 4 * n) := lk_114 l1
  -- behind region or wall
  have rest : ∀ (q2 : AH) (u5 : AV), LX B n q2 → Agr (fun c _ => c = B + 114) q1 q2 → Qua n q2 (B + 114) (if kd = 8 then nrF (fun j => mN (X j) t) lv fr to_ (nb 0) else rgnF (fun j => mN (X j) t) dw lv fr to_ nd dlv dc) → Ends (ev PP (gsF gv) B d 295 73 [(2, rf (B + 92)), (0, (kd : Int)), (0, (s : Int)), (2, rf a), (0, if kd = 8 then 1 else 0), u5] [] q2) Q := fun q2 u5 l2 g2 qq => by
    have g2' : Agr (fun c _ => c = B + 114 ∨ c = a) q1 q2 := g2.sub (fun _ _ z => Or.inl z)
    have i2 := hA _ _ i1 g2'
    refine c_prismGood l2 (by omega) hn0 hn (m1.ext l1.2.2 g2.ext (fun c k h1 h2 z => by omega)) hs (hC q2 i2) eax eo hax ob hkd (pv1.agr g2 (fun k z => by omega)) nbb (sa1.agr g2 (fun _ z => by omega)) ha qq (fun q3 g3 s3 => ?_) u5
    have g3' : Agr (fun c _ => c = B + 114 ∨ c = a) q2 q3 := g3.sub (fun _ _ z => Or.inr z)
    refine K _ _ ⟨((g1.sub (fun _ _ z => Or.inl z)).tr g2' (fun _ _ z => Or.inr z)).tr g3' (fun _ _ z => Or.inr z), hA _ _ i2 g3', (k1.far hnp g2' (fun c k z => ⟨fun y => by unfold skD at y; omega, by omega⟩)).far hnp g3' (fun c k z => ⟨fun y => by unfold skD at y; omega, by omega⟩), Or.inr ⟨rfl, sl, X, t, sln, pr, s3⟩⟩
  rcases hkd with z | z
  · rw [if_neg (show ¬ kd = 8 by omega), if_neg (show ¬ kd = 8 by omega)] at rest
    have wf : decide (kd = 8) = false := decide_eq_false (by omega)
    rw [wf] at ds pr
    have pr0 : PrR n false (fun j => mN (X j) t) (fun j => mD (X j) t) lv fr to_ nd dlv dc dgk dw 0 := by
      rcases pr with ⟨y, -⟩ | ⟨y, -⟩
      · exact absurd rfl y
      · exact y
    refine Ends.b1 (fun _ => ?_) (fun y => absurd y (by omega))
    refine Ends.cv l1 (by decide +kernel) (c_region432 (b := B + 114) l1 (by omega) hn sg bd (fun k lk => ⟨⟨(hG k lk).2.1, (hG k lk).2.2.1⟩, (hG k lk).1.1.1⟩) (dsc_D D.1.2 ⟨⟨sg, sk⟩, ds⟩ pr0) k114 (by omega)) (fun q2 l2 _ _ _ ⟨g2, qq⟩ => ?_)
    rw [ct1, if_neg (by omega)]
    exact rest q2 _ l2 g2 qq
  · rw [if_pos z, if_pos z] at rest
    have nn := n0 z
    have nb0 := nbb 0 (by decide)
    refine Ends.b1 (fun y => absurd (show (kd : Int) = 8 by omega) y) (fun _ => ?_)
    rw [show hv q1 (B + 97) (Int.toNat 0) = _ from pv1 0 (by decide)]
    refine Ends.cv l1 (by decide +kernel) (c_wall440 (b := B + 114) l1 (by omega) hn sg hG k24 (s := nb 0) (by omega) k114 (by omega)) (fun q2 l2 _ _ _ ⟨g2, qq⟩ => ?_)
    refine Ends.eq (b295_59 l2 (by omega)) ?_
    rw [ct1, if_pos (by omega)]
    exact rest q2 _ l2 g2 qq
end PRS2
