/-! L3: tools on sketches (desk) -/
noncomputable section SKT
variable {gv : Nat → Int} {B n d s np nl nd nk ax a f : Nat} {h : AH} {c : Nat → Int} {ab be dw nb : Nat → Int} {lv dlv dgk : Nat → Bool} {fr to_ dc : Nat → Nat} {cs : Nat → Cst} {w xa xb xc dr : Nat → Int} {isC gk : Nat → Bool} {Inv : AH → Prop} {W : Nat → Nat → Prop} {kd : Nat} {o : Int}
/-- the squares of a straight region -/
noncomputable def sqS (ab dw : Nat → Int) (lv : Nat → Bool) (fr to_ : Nat → Nat) (nd : Nat) (dlv : Nat → Bool) (dc : Nat → Nat) : Nat → Nat → Nat := sqR lv (lU0 ab fr) (lV0 ab fr) (lV0 ab to_) (lDU ab fr to_) (lDV ab fr to_) (cntN dlv nd) (dCU ab dlv dc) (dCV ab dlv dc) (dCR dw dlv)
theorem sqS_1 {v u : Nat} : sqS ab dw lv fr to_ nd dlv dc v u ≤ 1 := by unfold sqS sqR; split <;> omega
/-- the tool of a feature on a sketch -/
noncomputable def skT (n kd ax : Nat) (o : Int) (nb ab dw : Nat → Int) (lv : Nat → Bool) (fr to_ : Nat → Nat) (nd : Nat) (dlv : Nat → Bool) (dc : Nat → Nat) (g : Nat) : Bool := if kd = 1 then prG n (rgnF ab dw lv fr to_ nd dlv dc) ax (o + nb 0) (o + nb 1) g else if kd = 8 then prG n (nrF ab lv fr to_ (nb 0)) ax (o + nb 1) (o + nb 2) g else if kd = 2 then tpG n ax (sqS ab dw lv fr to_ nd dlv dc) (o + nb 0) (o + nb 1) g else trG n ax (sqS ab dw lv fr to_ nd dlv dc) (nb 0) o g
/-- what making such a tool answers -/
def TkD (B n nk np : Nat) (cs : Nat → Cst) (w dr : Nat → Int) (isC gk lv : Nat → Bool) (fr to_ : Nat → Nat) (nd : Nat) (dlv : Nat → Bool) (dc : Nat → Nat) (dgk : Nat → Bool) (dw : Nat → Int) (kd ax : Nat) (o : Int) (nb : Nat → Int) (a : Nat) (x : Int) (h' : AH) : Prop :=
  (x = 0 ∧ hv h' (B + 92) 27 = 2 ∧ ((1 < slS nk np isC gk cs w ∧ hv h' (B + 92) 28 = 1) ∨ (slS nk np isC gk cs w ≤ 1 ∧ hv h' (B + 92) 28 ≠ 0 ∧ ∃ X t, Sln (EqE nk isC cs w) (2 * np) dr X t ∧ PrS (decide (kd = 2 ∨ kd = 3)) n (decide (kd = 8)) (fun j => mN (X j) t) (fun j => mD (X j) t) lv fr to_ nd dlv dc dgk dw (hv h' (B + 92) 28)))) ∨ (x = 1 ∧ slS nk np isC gk cs w ≤ 1 ∧ ∃ X t, Sln (EqE nk isC cs w) (2 * np) dr X t ∧ PrS (decide (kd = 2 ∨ kd = 3)) n (decide (kd = 8)) (fun j => mN (X j) t) (fun j => mD (X j) t) lv fr to_ nd dlv dc dgk dw 0 ∧ SG n h' a (skT n kd ax o nb (fun j => mN (X j) t) dw lv fr to_ nd dlv dc))
/-- where they write -/
def toW (B a : Nat) : Nat → Nat → Prop := fun c _ => c = a ∨ c = B + 110 ∨ c = B + 114 ∨ c = B + 115 ∨ c = B + 116
def tlQ (W : Nat → Nat → Prop) (B s a : Nat) : Nat → Nat → Prop := fun c k => psQ W B s c k ∨ toW B a c k
theorem sq_desk (hD : ∀ k, lv k = true → D8 (lDU ab fr to_ k) (lDV ab fr to_ k)) (z : cntN dlv nd = 0) : sqF (rgnF ab dw lv fr to_ nd dlv dc) = sqS ab dw lv fr to_ nd dlv dc := by
  unfold rgnF sqS
  rw [z]
  exact sq_rg hD
set_option maxHeartbeats 1000000 in
theorem c_taper315 (l : LX B n h) (hd : 442 ≤ d) (hn0 : 0 < n) (hn : n ≤ 52) (m : TbC B h) (H : DkH gv B n s nk np W c cs w xa xb xc dr isC gk Inv) (i0 : Inv h) (Kc : KpD B h s nk np isC gk cs w dr) (hP : ∀ q q', Inv q → Agr (pfW B) q q' → Inv q') (hF : ∀ q q', Inv q → Agr (flR B) q q' → Inv q') (hA : ∀ q q', Inv q → Agr (toW B a) q q' → Inv q') (hWp : ∀ c k, W c k → ¬ pfW B c k) (hW2 : ∀ c k, W c k → c < B + 23) (L : LnD c s np nl lv fr to_) (D : DcD c s np nd dlv dc) (HR : GvR gv B n s nd W dlv dgk dw Inv) (eax : c (skA s) = (ax : Int)) (eo : c (skA s + 1) = o) (hax : ax < 3) (ob : -200 ≤ o ∧ o ≤ 200) (pv : PvC B h 3 nb) (nbb : ∀ k, k < 3 → -200 ≤ nb k ∧ nb k ≤ 200) (sa : SG n h a (fun _ => false)) (ha : B + 246 ≤ a) (tz : TpZ B n h) :
    Vt 0 (cll PP (ev PP (gsF gv) B) d 315 [(2, rf (B + 92)), (0, (s : Int)), (2, rf a)] h) (fun x h' => Agr (tlQ W B s a) h h' ∧ Inv h' ∧ KpD B h' s nk np isC gk cs w dr ∧ TpZ B n h' ∧ TkD B n nk np cs w dr isC gk lv fr to_ nd dlv dc dgk dw 2 ax o nb a x h') := by
  obtain ⟨⟨hs, Sk⟩, HG, hI, hW, hC⟩ := id H
  have hnp := Sk.2.1.2.1
  have k24 : ∀ k, lv k = true → k < 24 := fun k lk => by
    have := L.1.2.1
    rcases (by omega : k < nl ∨ nl ≤ k) with z | z
    · omega
    · rw [L.1.2.2 k z] at lk; cases lk
  refine Vt.inq (D := 441) hd (Nat.le_of_ble_eq_true rfl) rfl (fun d hd Q K => ?_)
  refine Ends.eq (b315_0 l (by omega)) ?_
  refine Ends.ct l (by decide +kernel) (by decide) (c_profile296 (most := 6) (st := 1) l (by omega) (by omega) H i0 Kc hP hF hWp L D HR (fun _ => rfl) (Or.inr rfl)) (fun x q1 l1 _ _ _ ⟨g1, i1, k1, P⟩ => ?_)
  rw [show decide ((1 : Int) = 1) = true from rfl, show decide ((6 : Int) = 3) = false from rfl] at P
  have at_ : ∀ c k, ¬ (c < B + 23 ∨ (B + 56 ≤ c ∧ c ≤ B + 80) ∨ (c = B + 92 ∧ (k = 27 ∨ k = 28))) → hv q1 c k = hv h c k := fun c k z => g1.at _ _ (fun y => z (ps_lo hW2 y))
  have tz1 : TpZ B n q1 := fun k hk => by
    rw [at_ _ _ (by omega), at_ _ _ (by omega)]; exact tz k hk
  refine Ends.eq (b315_8 l1 (by omega)) ?_
  rcases P with ⟨ex, e27, P⟩ | ⟨ex, sl, X, t, sln, pr, pf⟩
  · rw [ex]
    exact Ends.b1 (fun z => absurd rfl z) (fun _ => Ends.sm (K _ _ ⟨g1.sub (fun _ _ z => Or.inl z), i1, k1, tz1, Or.inl ⟨rfl, e27, P⟩⟩))
  rw [ex]
  refine Ends.b1 (fun _ => ?_) (fun z => absurd z (by decide))
  have m1 : TbC B q1 := m.ext l.2.2 g1.ext (fun c k h1 h2 z => by have := ps_lo hW2 z; omega)
  have pv1 : PvC B q1 3 nb := pv.agr g1 (fun k z => by have := ps_lo hW2 z; omega)
  have sa1 : SG n q1 a (fun _ => false) := sa.agr g1 (fun _ z => by have := ps_lo hW2 z; omega)
  obtain ⟨⟨sg, sk⟩, ds⟩ := id pf
  have hG : ∀ k, lv k = true → SgK n (lU0 (fun j => mN (X j) t) fr) (lV0 (fun j => mN (X j) t) fr) (lU0 (fun j => mN (X j) t) to_) (lV0 (fun j => mN (X j) t) to_) (lDU (fun j => mN (X j) t) fr to_) (lDV (fun j => mN (X j) t) fr to_) (lSZ (fun j => mN (X j) t) fr to_) k ∧ hv q1 (B + 73) k = lDU (fun j => mN (X j) t) fr to_ k ∧ hv q1 (B + 74) k = lDV (fun j => mN (X j) t) fr to_ k ∧ hv q1 (B + 75) k = lSZ (fun j => mN (X j) t) fr to_ k := fun k lk => sk k (k24 k lk) lk
  have bd := seg_bd (n := n) (ab := fun j => mN (X j) t) (fr := fr) (to_ := to_) (lv := lv) (by omega) (fun k lk => (hG k lk).1)
  have hD : ∀ k, lv k = true → D8 (lDU (fun j => mN (X j) t) fr to_ k) (lDV (fun j => mN (X j) t) fr to_ k) := fun k lk => (hG k lk).1.1.1
  have pr' := pr
  rcases pr' with ⟨y, -⟩ | ⟨pr0, ⟨-, -, y⟩ | ⟨sp, -⟩⟩
  · exact absurd rfl y
  · exact absurd y (by decide)
  have dz := (sp rfl).2
  have esq := sq_desk (dw := dw) (dc := dc) hD dz
  refine Ends.cv l1 (by decide +kernel) (c_region432 (b := B + 114) l1 (by omega) hn sg bd (fun k lk => ⟨⟨(hG k lk).2.1, (hG k lk).2.2.1⟩, (hG k lk).1.1.1⟩) (dsc_D D.1.2 pf pr0) (lk_114 l1) (by omega)) (fun q2 l2 _ _ _ ⟨g2, qq⟩ => ?_)
  have g2' : Agr (toW B a) q1 q2 := g2.sub (fun _ _ z => Or.inr (Or.inr (Or.inl z)))
  have i2 := hA _ _ i1 g2'
  have pv2 : PvC B q2 3 nb := pv1.agr g2 (fun k z => by omega)
  have fin : ∀ q3 : AH, Agr (toW B a) q2 q3 → TpZ B n q3 → SG n q3 a (skT n 2 ax o nb (fun j => mN (X j) t) dw lv fr to_ nd dlv dc) → Q ((0, (0, 1)), q3) := fun q3 g3 tz3 s3 => K _ _ ⟨((g1.sub (fun _ _ z => Or.inl z)).tr g2' (fun _ _ z => Or.inr z)).tr g3 (fun _ _ z => Or.inr z), hA _ _ i2 g3, (k1.far hnp g2' (fun c k z => ⟨fun y => by unfold skD at y; unfold toW at z; omega, by unfold toW at z; omega⟩)).far hnp g3 (fun c k z => ⟨fun y => by unfold skD at y; unfold toW at z; omega, by unfold toW at z; omega⟩), tz3, Or.inr ⟨rfl, sl, X, t, sln, pr, s3⟩⟩
  have m2 : TbC B q2 := m1.ext l1.2.2 g2.ext (fun c k h1 h2 z => by omega)
  have sa2 := sa1.agr g2 (fun _ z => by omega)
  have tz2 : TpZ B n q2 := fun k hk => by
    rw [g2.at _ _ (by omega), g2.at _ _ (by omega)]; exact tz1 k hk
  refine c_taperGood l2 (by omega) hn0 hn m2 hs (hC q2 i2) eax eo hax ob (fun k hk => pv2 k (by omega)) (fun k hk => nbb k (by omega)) sa2 ha qq tz2 (fun q3 g3 tz3 s3 => ?_) _ _ _
  refine fin q3 (g3.sub (fun c k z => by unfold toW; omega)) tz3 (s3.congr hn0 (fun g hg => ?_))
  show (false || tpG n ax (sqF (rgnF (fun j => mN (X j) t) dw lv fr to_ nd dlv dc)) (o + nb 0) (o + nb 1) g) = tpG n ax (sqS (fun j => mN (X j) t) dw lv fr to_ nd dlv dc) (o + nb 0) (o + nb 1) g
  rw [Bool.false_or, esq]
set_option maxHeartbeats 1000000 in
theorem c_turn316 (l : LX B n h) (hd : 442 ≤ d) (hn0 : 0 < n) (hn : n ≤ 52) (m : TbC B h) (H : DkH gv B n s nk np W c cs w xa xb xc dr isC gk Inv) (i0 : Inv h) (Kc : KpD B h s nk np isC gk cs w dr) (hP : ∀ q q', Inv q → Agr (pfW B) q q' → Inv q') (hF : ∀ q q', Inv q → Agr (flR B) q q' → Inv q') (hA : ∀ q q', Inv q → Agr (toW B a) q q' → Inv q') (hWp : ∀ c k, W c k → ¬ pfW B c k) (hW2 : ∀ c k, W c k → c < B + 23) (L : LnD c s np nl lv fr to_) (D : DcD c s np nd dlv dc) (HR : GvR gv B n s nd W dlv dgk dw Inv) (eax : c (skA s) = (ax : Int)) (eo : c (skA s + 1) = o) (hax : ax < 3) (ob : -200 ≤ o ∧ o ≤ 200) (pv : PvC B h 3 nb) (nbb : ∀ k, k < 3 → -200 ≤ nb k ∧ nb k ≤ 200) (sa : SG n h a (fun _ => false)) (ha : B + 246 ≤ a) (tz : TpZ B n h) :
    Vt 0 (cll PP (ev PP (gsF gv) B) d 316 [(2, rf (B + 92)), (0, (s : Int)), (2, rf a)] h) (fun x h' => Agr (tlQ W B s a) h h' ∧ Inv h' ∧ KpD B h' s nk np isC gk cs w dr ∧ TpZ B n h' ∧ TkD B n nk np cs w dr isC gk lv fr to_ nd dlv dc dgk dw 3 ax o nb a x h') := by
  obtain ⟨⟨hs, Sk⟩, HG, hI, hW, hC⟩ := id H
  have hnp := Sk.2.1.2.1
  have k24 : ∀ k, lv k = true → k < 24 := fun k lk => by
    have := L.1.2.1
    rcases (by omega : k < nl ∨ nl ≤ k) with z | z
    · omega
    · rw [L.1.2.2 k z] at lk; cases lk
  refine Vt.inq (D := 441) hd (Nat.le_of_ble_eq_true rfl) rfl (fun d hd Q K => ?_)
  refine Ends.eq (b316_0 l (by omega)) ?_
  refine Ends.ct l (by decide +kernel) (by decide) (c_profile296 (most := 6) (st := 1) l (by omega) (by omega) H i0 Kc hP hF hWp L D HR (fun _ => rfl) (Or.inr rfl)) (fun x q1 l1 _ _ _ ⟨g1, i1, k1, P⟩ => ?_)
  rw [show decide ((1 : Int) = 1) = true from rfl, show decide ((6 : Int) = 3) = false from rfl] at P
  have at_ : ∀ c k, ¬ (c < B + 23 ∨ (B + 56 ≤ c ∧ c ≤ B + 80) ∨ (c = B + 92 ∧ (k = 27 ∨ k = 28))) → hv q1 c k = hv h c k := fun c k z => g1.at _ _ (fun y => z (ps_lo hW2 y))
  have tz1 : TpZ B n q1 := fun k hk => by
    rw [at_ _ _ (by omega), at_ _ _ (by omega)]; exact tz k hk
  refine Ends.eq (b316_8 l1 (by omega)) ?_
  rcases P with ⟨ex, e27, P⟩ | ⟨ex, sl, X, t, sln, pr, pf⟩
  · rw [ex]
    exact Ends.b1 (fun z => absurd rfl z) (fun _ => Ends.sm (K _ _ ⟨g1.sub (fun _ _ z => Or.inl z), i1, k1, tz1, Or.inl ⟨rfl, e27, P⟩⟩))
  rw [ex]
  refine Ends.b1 (fun _ => ?_) (fun z => absurd z (by decide))
  have m1 : TbC B q1 := m.ext l.2.2 g1.ext (fun c k h1 h2 z => by have := ps_lo hW2 z; omega)
  have pv1 : PvC B q1 3 nb := pv.agr g1 (fun k z => by have := ps_lo hW2 z; omega)
  have sa1 : SG n q1 a (fun _ => false) := sa.agr g1 (fun _ z => by have := ps_lo hW2 z; omega)
  obtain ⟨⟨sg, sk⟩, ds⟩ := id pf
  have hG : ∀ k, lv k = true → SgK n (lU0 (fun j => mN (X j) t) fr) (lV0 (fun j => mN (X j) t) fr) (lU0 (fun j => mN (X j) t) to_) (lV0 (fun j => mN (X j) t) to_) (lDU (fun j => mN (X j) t) fr to_) (lDV (fun j => mN (X j) t) fr to_) (lSZ (fun j => mN (X j) t) fr to_) k ∧ hv q1 (B + 73) k = lDU (fun j => mN (X j) t) fr to_ k ∧ hv q1 (B + 74) k = lDV (fun j => mN (X j) t) fr to_ k ∧ hv q1 (B + 75) k = lSZ (fun j => mN (X j) t) fr to_ k := fun k lk => sk k (k24 k lk) lk
  have bd := seg_bd (n := n) (ab := fun j => mN (X j) t) (fr := fr) (to_ := to_) (lv := lv) (by omega) (fun k lk => (hG k lk).1)
  have hD : ∀ k, lv k = true → D8 (lDU (fun j => mN (X j) t) fr to_ k) (lDV (fun j => mN (X j) t) fr to_ k) := fun k lk => (hG k lk).1.1.1
  have pr' := pr
  rcases pr' with ⟨y, -⟩ | ⟨pr0, ⟨-, -, y⟩ | ⟨sp, -⟩⟩
  · exact absurd rfl y
  · exact absurd y (by decide)
  have dz := (sp rfl).2
  have esq := sq_desk (dw := dw) (dc := dc) hD dz
  refine Ends.cv l1 (by decide +kernel) (c_region432 (b := B + 114) l1 (by omega) hn sg bd (fun k lk => ⟨⟨(hG k lk).2.1, (hG k lk).2.2.1⟩, (hG k lk).1.1.1⟩) (dsc_D D.1.2 pf pr0) (lk_114 l1) (by omega)) (fun q2 l2 _ _ _ ⟨g2, qq⟩ => ?_)
  have g2' : Agr (toW B a) q1 q2 := g2.sub (fun _ _ z => Or.inr (Or.inr (Or.inl z)))
  have i2 := hA _ _ i1 g2'
  have pv2 : PvC B q2 3 nb := pv1.agr g2 (fun k z => by omega)
  have fin : ∀ q3 : AH, Agr (toW B a) q2 q3 → TpZ B n q3 → SG n q3 a (skT n 3 ax o nb (fun j => mN (X j) t) dw lv fr to_ nd dlv dc) → Q ((0, (0, 1)), q3) := fun q3 g3 tz3 s3 => K _ _ ⟨((g1.sub (fun _ _ z => Or.inl z)).tr g2' (fun _ _ z => Or.inr z)).tr g3 (fun _ _ z => Or.inr z), hA _ _ i2 g3, (k1.far hnp g2' (fun c k z => ⟨fun y => by unfold skD at y; unfold toW at z; omega, by unfold toW at z; omega⟩)).far hnp g3 (fun c k z => ⟨fun y => by unfold skD at y; unfold toW at z; omega, by unfold toW at z; omega⟩), tz3, Or.inr ⟨rfl, sl, X, t, sln, pr, s3⟩⟩
  have m2 : TbC B q2 := m1.ext l1.2.2 g2.ext (fun c k h1 h2 z => by omega)
  have sa2 := sa1.agr g2 (fun _ z => by omega)
  have tz2 : TpZ B n q2 := fun k hk => by
    rw [g2.at _ _ (by omega), g2.at _ _ (by omega)]; exact tz1 k hk
  refine c_turnGood (m := nb 0) l2 (by omega) hn0 hn m2 hs (hC q2 i2) eax eo hax ob (pv2 0 (by decide)) (nbb 0 (by decide)) sa2 ha qq (fun q3 g3 s3 => ?_) _ _ _ _ _ _ _ _
  refine fin q3 (g3.sub (fun c k z => by unfold toW; omega)) (fun k hk => by rw [g3.at _ _ (by omega), g3.at _ _ (by omega)]; exact tz2 k hk) (s3.congr hn0 (fun g hg => ?_))
  show (false || trG n ax (sqF (rgnF (fun j => mN (X j) t) dw lv fr to_ nd dlv dc)) (nb 0) o g) = trG n ax (sqS (fun j => mN (X j) t) dw lv fr to_ nd dlv dc) (nb 0) o g
  rw [Bool.false_or, esq]
/-- the tool of a feature on a sketch -/
theorem mk_sk (l : LX B n h) (hd : 444 ≤ d) (hn0 : 0 < n) (hn : n ≤ 52) (m : TbC B h) (H : DkH gv B n s nk np W c cs w xa xb xc dr isC gk Inv) (i0 : Inv h) (Kc : KpD B h s nk np isC gk cs w dr) (hP : ∀ q q', Inv q → Agr (pfW B) q q' → Inv q') (hF : ∀ q q', Inv q → Agr (flR B) q q' → Inv q') (hA : ∀ q q', Inv q → Agr (toW B a) q q' → Inv q') (hWp : ∀ c k, W c k → ¬ pfW B c k) (hW2 : ∀ c k, W c k → c < B + 23) (L : LnD c s np nl lv fr to_) (D : DcD c s np nd dlv dc) (HR : GvR gv B n s nd W dlv dgk dw Inv) (eax : c (skA s) = (ax : Int)) (eo : c (skA s + 1) = o) (hax : ax < 3) (ob : -200 ≤ o ∧ o ≤ 200) (pv : PvC B h 3 nb) (nbb : ∀ k, k < 3 → -200 ≤ nb k ∧ nb k ≤ 200) (sa : SG n h a (fun _ => false)) (ha : B + 246 ≤ a) (tz : TpZ B n h) (hkd : kd = 1 ∨ kd = 2 ∨ kd = 3 ∨ kd = 8) (n0 : kd = 8 → 0 ≤ nb 0) (qk : q278 B h (f : Int)) (ek : v278 B h (f : Int) = (kd : Int)) (qo : q289 B h (f : Int)) (eo' : v289 B h (f : Int) = (s : Int)) :
    Vt 0 (cll PP (ev PP (gsF gv) B) d 283 [(2, rf (B + 92)), (0, (f : Int)), (2, rf a)] h) (fun x h' => Agr (tlQ W B s a) h h' ∧ Inv h' ∧ KpD B h' s nk np isC gk cs w dr ∧ TpZ B n h' ∧ TkD B n nk np cs w dr isC gk lv fr to_ nd dlv dc dgk dw kd ax o nb a x h') := by
  refine Vt.inq (D := 443) hd (Nat.le_of_ble_eq_true rfl) rfl (fun d hd Q K => ?_)
  refine Ends.eq (b283_0 l (by omega)) (Ends.g qk (Ends.g qo ?_))
  rw [ek, eo']
  have prism : (kd = 1 ∨ kd = 8) → Ends (ev PP (gsF gv) B d 283 91 [(2, rf (B + 92)), (0, (f : Int)), (2, rf a), (0, (kd : Int)), (0, (s : Int))] [] h) Q := fun k18 => by
    refine Ends.eq (b283_91 l (by omega)) ?_
    refine Ends.ct l (by decide +kernel) (by decide) (c_prism295 (kd := kd) l (by omega) hn0 hn m H i0 Kc hP hF (fun q q' i g => hA q q' i (g.sub (fun c k z => by unfold toW; omega))) hWp hW2 L D HR eax eo hax ob k18 pv nbb n0 sa ha) (fun x q2 l2 _ _ _ ⟨g2, i2, k2, P⟩ => ?_)
    have G2 : Agr (tlQ W B s a) h q2 := g2.sub (fun c k z => by
      rcases z with z | z
      · exact Or.inl z
      · exact Or.inr (by unfold toW; omega))
    have tz2 : TpZ B n q2 := fun k hk => by
      have at_ : ∀ k, hv q2 (B + 116) k = hv h (B + 116) k := fun k => g2.at _ _ (fun z => by
        rcases z with z | z
        · have := ps_lo hW2 z; omega
        · omega)
      rw [at_, at_]; exact tz k hk
    have d2 : decide (kd = 2 ∨ kd = 3) = false := decide_eq_false (by omega)
    refine Ends.eq (b283_99 l2 (by omega)) (Ends.g (by rcases P with ⟨e, -⟩ | ⟨e, -⟩ <;> rw [e]; exact Or.inl rfl; exact Or.inr rfl) (Ends.sm (K _ _ ⟨G2, i2, k2, tz2, ?_⟩)))
    unfold TkD
    rw [d2]
    rcases P with P | ⟨ex, sl, X, t, sln, pr, s2⟩
    · exact Or.inl P
    · refine Or.inr ⟨ex, sl, X, t, sln, pr, s2.congr hn0 (fun g hg => ?_)⟩
      show (false || _) = _
      rw [Bool.false_or]
      unfold skT
      rcases k18 with z | z
      · rw [if_pos z, if_neg (show ¬ kd = 8 by omega), if_neg (show ¬ kd = 8 by omega), if_neg (show ¬ kd = 8 by omega)]
      · rw [if_neg (show ¬ kd = 1 by omega), if_pos z, if_pos z, if_pos z, if_pos z]
  rcases hkd with rfl | rfl | rfl | rfl
  · exact prism (Or.inl rfl)
  · show Ends (ev PP (gsF gv) B d 283 100 _ [] h) Q
    refine Ends.eq (b283_100 l (by omega)) ?_
    refine Ends.ct l (by decide +kernel) (by decide) (c_taper315 l (by omega) hn0 hn m H i0 Kc hP hF hA hWp hW2 L D HR eax eo hax ob pv nbb sa ha tz) (fun x q2 l2 _ _ _ ⟨g2, i2, k2, tz2, P⟩ => ?_)
    exact Ends.eq (b283_107 l2 (by omega)) (Ends.g (by rcases P with ⟨e, -⟩ | ⟨e, -⟩ <;> rw [e]; exact Or.inl rfl; exact Or.inr rfl) (Ends.sm (K _ _ ⟨g2, i2, k2, tz2, P⟩)))
  · show Ends (ev PP (gsF gv) B d 283 108 _ [] h) Q
    refine Ends.eq (b283_108 l (by omega)) ?_
    refine Ends.ct l (by decide +kernel) (by decide) (c_turn316 l (by omega) hn0 hn m H i0 Kc hP hF hA hWp hW2 L D HR eax eo hax ob pv nbb sa ha tz) (fun x q2 l2 _ _ _ ⟨g2, i2, k2, tz2, P⟩ => ?_)
    exact Ends.eq (b283_115 l2 (by omega)) (Ends.g (by rcases P with ⟨e, -⟩ | ⟨e, -⟩ <;> rw [e]; exact Or.inl rfl; exact Or.inr rfl) (Ends.sm (K _ _ ⟨g2, i2, k2, tz2, P⟩)))
  · exact prism (Or.inr rfl)
end SKT
