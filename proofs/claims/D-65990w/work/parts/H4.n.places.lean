/-! L3: copies of a tool at a sketch's points (desk, model) -/
noncomputable section PLC
variable {gv : Nat → Int} {B n d s m ax a mo nk np f1 q0 w1 : Nat} {h : AH} {S T : Nat → Bool} {c : Nat → Int} {ab nb : Nat → Int} {x y : Int} {cs : Nat → Cst} {w xa xb xc dr : Nat → Int} {isC gk : Nat → Bool} {Inv : AH → Prop}
/-- a way across an axis -/
def plv (ax : Nat) (x y : Int) (i : Nat) : Int := if i = fA ax then x else if i = sA ax then y else 0
def pcsM (n ax : Nat) (x y : Int) (S : Nat → Bool) (g : Nat) : Bool := mvG n S (plv ax x y 0) (plv ax x y 1) (plv ax x y 2) g
/-- copies at the points from the second to number k -/
def pcsU (n ax : Nat) (ab : Nat → Int) (S : Nat → Bool) : Nat → Nat → Bool
  | 0 => fun _ => false
  | k + 1 => fun g => pcsU n ax ab S k g || pcsM n ax (ab (2 * (k + 1)) - ab 0) (ab (2 * (k + 1) + 1) - ab 1) S g
theorem plv_0 {x y : Int} : plv 0 x y 0 = 0 ∧ plv 0 x y 1 = x ∧ plv 0 x y 2 = y := ⟨rfl, rfl, rfl⟩
theorem plv_1 {x y : Int} : plv 1 x y 0 = x ∧ plv 1 x y 1 = 0 ∧ plv 1 x y 2 = y := ⟨rfl, rfl, rfl⟩
theorem plv_2 {x y : Int} : plv 2 x y 0 = x ∧ plv 2 x y 1 = y ∧ plv 2 x y 2 = 0 := ⟨rfl, rfl, rfl⟩
theorem plv_d (hax : ax < 3) : cond (tst 1 (ax : Int) 0) x 0 = plv ax x y 0 ∧ cond (tst 1 (ax : Int) 0) (cond (tst 1 (ax : Int) 1) y 0) x = plv ax x y 1 ∧ cond (tst 1 (ax : Int) 2) y 0 = plv ax x y 2 := by
  rcases (by omega : ax = 0 ∨ ax = 1 ∨ ax = 2) with rfl | rfl | rfl
  · exact ⟨rfl, rfl, rfl⟩
  · exact ⟨rfl, rfl, rfl⟩
  · exact ⟨rfl, rfl, rfl⟩
theorem plv_b {i : Nat} {z : Int} (hx : -z ≤ x ∧ x ≤ z) (hy : -z ≤ y ∧ y ≤ z) : -z ≤ plv ax x y i ∧ plv ax x y i ≤ z := by
  unfold plv
  split
  · exact hx
  · split
    · exact hy
    · omega
theorem pcsM_far {g : Nat} (hax : ax < 3) (hg : g < gN n) (far : ((n : Int) < x ∨ x < -(n : Int)) ∨ (n : Int) < y ∨ y < -(n : Int)) : pcsM n ax x y S g = false := by
  unfold pcsM
  refine mvG_far hg ?_
  rcases (by omega : ax = 0 ∨ ax = 1 ∨ ax = 2) with rfl | rfl | rfl
  · rw [plv_0.1, plv_0.2.1, plv_0.2.2]; omega
  · rw [plv_1.1, plv_1.2.1, plv_1.2.2]; omega
  · rw [plv_2.1, plv_2.2.1, plv_2.2.2]; omega
/-- all numbers are far from overflowing -/
def BdA (m : Nat) (ab : Nat → Int) : Prop := ∀ j, j < 2 * m → -4611686018427387904 < ab j ∧ ab j < 4611686018427387904
theorem dif64 {x y : Int} (hx : -4611686018427387904 < x ∧ x < 4611686018427387904) (hy : -4611686018427387904 < y ∧ y < 4611686018427387904) : bop64 101 x y = x - y ∧ -9223372036854775807 ≤ x - y ∧ x - y < 9223372036854775808 := by
  have h1 : -9223372036854775807 ≤ x - y := by omega
  have h2 : x - y < 9223372036854775808 := by omega
  exact ⟨sub64 (by omega) h2, h1, h2⟩
set_option maxHeartbeats 1000000 in
theorem c_places294 (l : LX B n h) (hd : 14 ≤ d) (hn0 : 0 < n) (hn : n ≤ 52) (hs : s < 6) (hm : m ≤ 12) (hax : ax < 3) (hc : ∀ z, z < 37368 → hv h (B + 2) z = c z) (eax : c (skA s) = (ax : Int)) (hX : ∀ j, j < 2 * m → hv h (B + 66) (24 * s + j) = ab j) (bd : BdA m ab) (e13 : hv h (B + 92) 13 = rf mo) (sa : SG n h a (fun _ => false)) (sm : SG n h mo S) (hne : a ≠ mo) (ha : B + 246 ≤ a) (hmo : B + 246 ≤ mo) :
    Vd (cll PP (ev PP (gsF gv) B) d 294 [(2, rf (B + 92)), (2, rf a), (0, (s : Int)), (0, (m : Int))] h) (fun h' => Agr (fun c _ => c = a) h h' ∧ SG n h' a (pcsU n ax ab S (m - 1))) := by
  have sk := (show skA s + 2592 ≤ 37368 by unfold skA; omega)
  obtain ⟨a1, a2⟩ := cell_is (i := skA s) hc (by omega)
  have q3 : q387 B h (s : Int) := by unfold q387; rw [v391_is hs]; exact a1
  have v3 : v387 B h (s : Int) = (ax : Int) := by unfold v387; rw [v391_is hs, a2, eax]
  refine Vd.inq (D := 13) hd (Nat.le_of_ble_eq_true rfl) rfl (fun d hd Q K => ?_)
  refine Ends.eq (b294_0 l (by omega)) (Ends.g q3 ?_)
  rw [v3]
  clear q3 v3 a1 a2
  have key : ∀ (r k : Nat) (q : AH) (u6 u7 u8 u9 u10 u11 : AV), (k + 1 + r = m ∨ (m = 0 ∧ k = 0 ∧ r = 0)) → LX B n q → Agr (fun c _ => c = a) h q → SG n q a (pcsU n ax ab S k) → Ends (ev PP (gsF gv) B d 294 13 [(2, rf (B + 92)), (2, rf a), (0, (s : Int)), (0, (m : Int)), (0, (ax : Int)), (0, ((k + 1 : Nat) : Int)), u6, u7, u8, u9, u10, u11] [] q) Q := by
    intro r
    induction r with
    | zero =>
      intro k q u6 u7 u8 u9 u10 u11 e lq g sq
      have ek : k = m - 1 := by omega
      refine Ends.eq (b294_13 lq (by omega)) (Ends.b3 (fun _ => Ends.sm (K _ ⟨g, by rw [← ek]; exact sq⟩)) (fun z => by omega))
    | succ r ih =>
      intro k q u6 u7 u8 u9 u10 u11 e lq g sq
      have hk : k + 1 < m := by omega
      obtain ⟨p1, p2⟩ := two_p (p := k + 1) (by omega)
      have xq : ∀ j, j < 2 * m → hv q (B + 66) (24 * s + j) = ab j := fun j hj => by rw [g.at _ _ (by omega)]; exact hX j hj
      obtain ⟨g1, w1⟩ := q381_is (t := q) (s := s) (j := 2 * (k + 1)) hs (by omega)
      obtain ⟨g2, w2⟩ := q381_is (t := q) (s := s) (j := 0) hs (by omega)
      obtain ⟨g3, w3⟩ := q381_is (t := q) (s := s) (j := 2 * (k + 1) + 1) hs (by omega)
      obtain ⟨g4, w4⟩ := q381_is (t := q) (s := s) (j := 1) hs (by omega)
      rw [xq _ (by omega)] at w1 w2 w3 w4
      obtain ⟨du, ed⟩ : ∃ du, du = ab (2 * (k + 1)) - ab 0 := ⟨_, rfl⟩
      obtain ⟨dv, ev2⟩ : ∃ dv, dv = ab (2 * (k + 1) + 1) - ab 1 := ⟨_, rfl⟩
      obtain ⟨b1, b2, b3⟩ := dif64 (bd (2 * (k + 1)) (by omega)) (bd 0 (by omega))
      obtain ⟨b4, b5, b6⟩ := dif64 (bd (2 * (k + 1) + 1) (by omega)) (bd 1 (by omega))
      have nxt : ∀ (q' : AH) (x6 x8 : Int) (u7 u9 u10 u11 : AV), LX B n q' → Agr (fun c _ => c = a) h q' → SG n q' a (pcsU n ax ab S (k + 1)) → Ends (ev PP (gsF gv) B d 294 163 [(2, rf (B + 92)), (2, rf a), (0, (s : Int)), (0, (m : Int)), (0, (ax : Int)), (0, ((k + 1 : Nat) : Int)), (1, x6), u7, (1, x8), u9, u10, u11] [] q') Q := fun q' x6 x8 u7 u9 u10 u11 l' g' s' => by
        refine Ends.eq (b294_163 l' (by omega)) ?_
        rw [w_succ (i := k + 1) (by omega)]
        exact ih (k + 1) q' _ _ _ _ _ _ (by omega) l' g' s'
      refine Ends.eq (b294_13 lq (by omega)) (Ends.b3 (fun z => by omega) (fun _ => ?_))
      rw [p2, p1]
      refine Ends.g g1 (Ends.g g2 (Ends.g g3 (Ends.g g4 ?_)))
      rw [w1, show v381 B q (s : Int) 0 = ab 0 from w2, w3, show v381 B q (s : Int) 1 = ab 1 from w4, b1, b4, ← ed, ← ev2]
      rw [← ed] at b2 b3
      rw [← ev2] at b5 b6
      rw [abs64 b2 b3, abs64 b5 b6]
      clear w1 w2 w3 w4 b1 b4 p1 p2 g1 g2 g3 g4
      have skip : 64 < (du.natAbs : Int) ∨ 64 < (dv.natAbs : Int) → ∀ (x6 x8 : Int) (u7 u9 u10 u11 : AV), Ends (ev PP (gsF gv) B d 294 163 [(2, rf (B + 92)), (2, rf a), (0, (s : Int)), (0, (m : Int)), (0, (ax : Int)), (0, ((k + 1 : Nat) : Int)), (1, x6), u7, (1, x8), u9, u10, u11] [] q) Q := fun z x6 x8 u7 u9 u10 u11 => nxt q x6 x8 _ _ _ _ lq g (sq.congr hn0 (fun g0 hg => by
        show pcsU n ax ab S k g0 = (pcsU n ax ab S k g0 || pcsM n ax _ _ S g0)
        rw [pcsM_far hax hg (by rw [← ed, ← ev2]; omega), Bool.or_false]))
      refine Ends.b4 (fun z => skip (Or.inl (cmp64_pos.mp z)) _ _ _ _ _ _) (fun z1 => Ends.b5 (fun z2 => ?_) (fun z => skip (Or.inr (cmp64_pos.mp z)) _ _ _ _ _ _))
      have c1 : (du.natAbs : Int) ≤ 64 := by
        by_cases w : (64 : Int) < (du.natAbs : Int)
        · have := cmp64_pos.mpr w; omega
        · omega
      have c2 : (dv.natAbs : Int) ≤ 64 := by
        by_cases w : (64 : Int) < (dv.natAbs : Int)
        · have := cmp64_pos.mpr w; omega
        · omega
      clear z1 z2 b2 b3 b5 b6
      rw [uop3, uop3, w32_id ⟨by omega, by omega⟩, w32_id ⟨by omega, by omega⟩, (plv_d (y := dv) hax).1, (plv_d hax).2.1, (plv_d (x := du) hax).2.2, show hv q (B + 92) 13 = rf mo from by rw [g.at _ _ (by omega)]; exact e13]
      have pb : ∀ i, -64 ≤ plv ax du dv i ∧ plv ax du dv i ≤ 64 := fun i => plv_b (by omega) (by omega)
      have p0 := pb 0
      have p1 := pb 1
      have p2 := pb 2
      refine Ends.cv lq (by decide +kernel) (c_uniteMoved lq (by omega) hn0 hn sq (sm.agr g (fun _ z => hne z.symm)) hne.symm (by omega) (dx := plv ax du dv 0) (dy := plv ax du dv 1) (dz := plv ax du dv 2) (by omega) (by omega) (by omega)) (fun q3 l3 _ _ _ ⟨f3, s3⟩ => ?_)
      refine nxt q3 _ _ _ _ _ _ l3 (g.tr f3.agr (fun c k z => z)) (SG.of hn0 s3 (fun t z y x ht hz hy hx => ?_))
      show (onK n _ _ _ || onK n _ _ _) = (pcsU n ax ab S k (gI n x y z t) || pcsM n ax _ _ S (gI n x y z t))
      unfold pcsM mvG
      rw [onK_at hz hy, onK_at hz hy, gSo_I ht, gZ_I hx hy ht, gY_I hx hy ht, gX_I hx ht, ← ed, ← ev2]
  exact key (m - 1) 0 h _ _ _ _ _ _ (by omega) l Agr.rf (sa.congr hn0 (fun _ _ => rfl))
/-- what placing comes to -/
def PlP (n nk np : Nat) (cs : Nat → Cst) (w dr : Nat → Int) (isC gk : Nat → Bool) (ax : Nat) (S T : Nat → Bool) (x r1 r2 : Int) : Prop :=
  (1 < slS nk np isC gk cs w ∧ x = 0 ∧ r1 = 2 ∧ r2 = 1) ∨ (slS nk np isC gk cs w ≤ 1 ∧ ∃ X t, Sln (EqE nk isC cs w) (2 * np) dr X t ∧ (((∃ j, j < 2 * np ∧ mD (X j) t ≠ 1) ∧ x = 0 ∧ r1 = 2 ∧ r2 = 2) ∨ ((∀ j, j < 2 * np → mD (X j) t = 1) ∧ x = 1 ∧ ∀ g, g < gN n → T g = pcsU n ax (fun j => mN (X j) t) S (np - 1) g)))
/-- the solved numbers of a sketch are far from overflowing -/
def MnB (nk np : Nat) (cs : Nat → Cst) (w dr : Nat → Int) (isC : Nat → Bool) : Prop := ∀ X t, Sln (EqE nk isC cs w) (2 * np) dr X t → BdA np (fun j => mN (X j) t)
/-- where placing writes (model) -/
def pcsW (B n : Nat) : Nat → Nat → Prop := fun c k => hlW B c k ∨ rpW B n c k ∨ (c = B + 149 ∧ (k = 100 ∨ k = 101))
theorem hl_no {c k : Nat} (z : hlW B c k) : (c = B + 149 ∧ 35 ≤ k ∧ k ≤ 47) ∨ (B + 154 ≤ c ∧ c ≤ B + 167) ∨ mfW B c k := by unfold hlW skW wvW at z; omega
theorem rp_lo {c k : Nat} (z : rpW B n c k) : c < B + 246 := by unfold rpW wto at z; omega
set_option maxHeartbeats 2000000 in
theorem c_places779 (l : LX B n h) (hd : 998 ≤ d) (hn : n ≤ 52) (hax : ax < 3) (mt : TbM B h) (F1 : YF B f1 h) (M : MdC B q0 s w1 h) (H : MdH gv B n w1 nk np h cs w xa xb xc dr isC gk Inv) (i0 : Inv h) (hR : ∀ q q', Inv q → Agr (fun c k => rpW B n c k ∨ (c = B + 149 ∧ (k = 100 ∨ k = 101))) q q' → Inv q') (e0 : hv h w1 0 = (ax : Int)) (ef : hv h (B + 198) 0 = (s : Int)) (bd : MnB nk np cs w dr isC) (b17 : MB B n h 17 S) (b12 : MB B n h 12 (fun _ => false)) :
    Vt 0 (cll PP (ev PP (gsF gv) B) d 779 [(2, rf (B + 149)), (2, rf f1), (0, (17 : Int)), (0, (12 : Int))] h) (fun x h' => Agr (pcsW B n) h h' ∧ Inv h' ∧ ∃ T, MB B n h' 12 T ∧ PlP n nk np cs w dr isC gk ax S T x (hv h' (B + 149) 100) (hv h' (B + 149) 101)) := by
  obtain ⟨hq, D, e1, hs, e7⟩ := id M
  have n12 : np ≤ 12 := H.1.2.2.1.2.1
  have enp : ∀ q : AH, (∀ k, hv q w1 k = hv h w1 k) → hv q w1 2 = (np : Int) := fun q e => by rw [e]; exact H.1.2.2.1.1
  have lo := H.1.1.lo
  refine Vt.inq (D := 997) hd (Nat.le_of_ble_eq_true rfl) rfl (fun d hd Q K => ?_)
  refine Ends.eq (b779_0 l (by omega) hq D) (Ends.g (by rw [show Int.toNat 0 = 0 from rfl, ef]; exact ⟨by omega, by omega⟩) ?_)
  rw [show Int.toNat 0 = 0 from rfl, ef, tn, ← e1]
  refine Ends.ct l (by decide +kernel) (by decide) (c_solveM l (by omega) M H i0) (fun y q2 l2 _ _ _ ⟨g2, i2, S2⟩ => ?_)
  have hno : ∀ c k, hlW B c k → c ≠ B + 236 ∧ c ≠ B + 186 ∧ c ≠ B + 198 := fun c k z => by have := hl_no z; unfold mfW at this; omega
  have b17' : MB B n q2 17 S := b17.agr g2 (fun k _ z => (hno _ _ z).1 rfl)
  have b12' : MB B n q2 12 (fun _ => false) := b12.agr g2 (fun k _ z => (hno _ _ z).1 rfl)
  have mt2 : TbM B q2 := mt.agr g2 (fun c k a b e z => by have := hl_no z; unfold mfW at this; omega)
  have G2 : Agr (pcsW B n) h q2 := g2.sub (fun c k z => Or.inl z)
  have S4 : YS B w1 q2 := H.1.1.agr g2 (fun k _ z => by have := ho_lo z; omega)
  have w1at : ∀ q : AH, Agr (pcsW B n) h q → ∀ k, hv q w1 k = hv h w1 k := fun q g k => g.at _ _ (fun z => by
    rcases z with z | z | z
    · have := ho_lo z; omega
    · have := rp_lo z; omega
    · omega)
  have S4q : ∀ q : AH, Agr (pcsW B n) h q → YS B w1 q := fun q g => H.1.1.agr g (fun k _ z => by
    rcases z with z | z | z
    · have := ho_lo z; omega
    · have := rp_lo z; omega
    · omega)
  have why : ∀ (q q3 : AH) (T : Nat → Bool), Agr (pcsW B n) h q → Inv q → MB B n q 12 T → Agr (fun c k => c = B + 149 ∧ (k = 100 ∨ k = 101)) q q3 → ∀ x, PlP n nk np cs w dr isC gk ax S T x (hv q3 (B + 149) 100) (hv q3 (B + 149) 101) → Q ((0, (0, x)), q3) := fun q q3 T g i b g3 x r => K _ _ ⟨g.tr g3 (fun c k z => Or.inr (Or.inr z)), hR _ _ i (g3.sub (fun c k z => Or.inr z)), T, b.agr g3 (fun k _ z => by omega), r⟩
  have ey := S2.x
  refine Ends.eq (b779_22 l2 (by omega) S4) (Ends.b2 (fun y2 => ?_) (fun y2 => ?_))
  rotate_left
  · refine Ends.ct l2 (by decide +kernel) (by decide) (c_because552 (x := 2) (y := 1) l2 (by omega)) (fun v q5 l5 _ _ _ ⟨ev5, g5, r1, r2⟩ => ?_)
    rw [ev5]
    exact Ends.eq (b779_32 l5 (by omega)) (Ends.g (Or.inl rfl) (Ends.sm (why q2 q5 (fun _ => false) G2 i2 b12' g5 0 (Or.inl ⟨by rw [← ey]; omega, rfl, r1, r2⟩))))
  obtain ⟨X, t, SL, eX⟩ : ∃ X t, Sln (EqE nk isC cs w) (2 * np) dr X t ∧ ∀ k, k < 2 * np → hv q2 (B + 166) k = mN (X k) t ∧ hv q2 (B + 167) k = mD (X k) t := by
    rcases S2 with ⟨z, -⟩ | ⟨z, -⟩ | ⟨-, -, -, -, X, t, z1, z2⟩
    · omega
    · omega
    · exact ⟨X, t, z1, z2⟩
  have sl1 : slS nk np isC gk cs w ≤ 1 := by rw [← ey]; omega
  have bdX := bd X t SL
  have ok : ∀ (r j : Nat), j + r = 2 * np → (∀ i, i < j → mD (X i) t = 1) → ((∀ i, i < 2 * np → mD (X i) t = 1) → ∀ u5, Ends (ev PP (gsF gv) B d 779 76 [(2, rf (B + 149)), (2, rf f1), (0, 17), (0, 12), (2, rf w1), (0, ((0 + 1 : Nat) : Int)), u5, (9, 0), (9, 0), (9, 0), (9, 0), (9, 0), (9, 0)] [] q2) Q) → Ends (ev PP (gsF gv) B d 779 36 [(2, rf (B + 149)), (2, rf f1), (0, 17), (0, 12), (2, rf w1), (0, (j : Int)), (9, 0), (9, 0), (9, 0), (9, 0), (9, 0), (9, 0), (9, 0)] [] q2) Q := by
    intro r
    induction r with
    | zero =>
      intro j e G kn
      have ej : j = 2 * np := by omega
      refine Ends.eq (b779_36 l2 (by omega) S4) ?_
      rw [enp q2 (w1at q2 G2), show bop32 104 2 (np : Int) = ((2 * np : Nat) : Int) from mulNN (x := 2) (by omega)]
      exact Ends.b3 (fun _ => kn (fun i hi => G i (by omega)) _) (fun z => by omega)
    | succ r ih =>
      intro j e G kn
      refine Ends.eq (b779_36 l2 (by omega) S4) ?_
      rw [enp q2 (w1at q2 G2), show bop32 104 2 (np : Int) = ((2 * np : Nat) : Int) from mulNN (x := 2) (by omega)]
      refine Ends.b3 (fun z => by omega) (fun _ => Ends.g ⟨by omega, by omega⟩ ?_)
      rw [tn, (eX j (by omega)).2]
      refine Ends.b0 (fun z => ?_) (fun z => ?_)
      · rw [w_succ (i := j) (by omega)]
        have e1 : mD (X j) t = 1 := cmp64_z.mp z
        exact ih (j + 1) (by omega) (fun i hi => by rcases (by omega : i < j ∨ i = j) with y | y; exact G i y; rw [y]; exact e1) kn
      · refine Ends.ct l2 (by decide +kernel) (by decide) (c_because552 (x := 2) (y := 2) l2 (by omega)) (fun v q5 l5 _ _ _ ⟨ev5, g5, r1, r2⟩ => ?_)
        rw [ev5]
        exact Ends.eq (b779_66 l5 (by omega)) (Ends.g (Or.inl rfl) (Ends.sm (why q2 q5 (fun _ => false) G2 i2 b12' g5 0 (Or.inr ⟨sl1, X, t, SL, Or.inl ⟨⟨j, by omega, fun y => z (cmp64_z.mpr y)⟩, rfl, r1, r2⟩⟩))))
  have fin : ∀ (q : AH), Agr (fun c k => rpW B n c k) q2 q → MB B n q 12 (pcsU n ax (fun j => mN (X j) t) S (np - 1)) → (∀ i, i < 2 * np → mD (X i) t = 1) → Q ((0, (0, 1)), q) := fun q g b G => K _ _ ⟨G2.tr g (fun c k z => Or.inr (Or.inl z)), hR _ _ i2 (g.sub (fun c k z => Or.inl z)), _, b, Or.inr ⟨sl1, X, t, SL, Or.inr ⟨G, rfl, fun g hg => rfl⟩⟩⟩
  have key : (∀ i, i < 2 * np → mD (X i) t = 1) → ∀ (r k : Nat) (q : AH) (u6 u7 u8 u9 u10 u11 u12 : AV), ¬ u9.1 = 1 → (k + 1 + r = np ∨ (np = 0 ∧ k = 0 ∧ r = 0)) → LX B n q → Agr (fun c k => rpW B n c k) q2 q → MB B n q 12 (pcsU n ax (fun j => mN (X j) t) S k) → Ends (ev PP (gsF gv) B d 779 76 [(2, rf (B + 149)), (2, rf f1), (0, 17), (0, 12), (2, rf w1), (0, ((k + 1 : Nat) : Int)), u6, u7, u8, u9, u10, u11, u12] [] q) Q := by
    intro G r
    have GG : ∀ {q : AH}, Agr (fun c k => rpW B n c k) q2 q → Agr (pcsW B n) h q := fun g => G2.tr g (fun c k z => Or.inr (Or.inl z))
    induction r with
    | zero =>
      intro k q u6 u7 u8 u9 u10 u11 u12 nu e lq g b
      have ek : k = np - 1 := by omega
      refine Ends.eq (b779_76 lq (by omega) (S4q q (GG g))) ?_
      rw [enp q (w1at q (GG g))]
      exact Ends.b3 (fun _ => Ends.sm (fin q g (by rw [← ek]; exact b) G)) (fun z => by omega)
    | succ r ih =>
      intro k q u6 u7 u8 u9 u10 u11 u12 nu e lq g b
      have hk : k + 1 < np := by omega
      obtain ⟨p1, p2⟩ := two_p (p := k + 1) (by omega)
      have xq : ∀ j, j < 2 * np → hv q (B + 166) j = mN (X j) t := fun j hj => by rw [g.at _ _ (fun z => by unfold rpW wto at z; omega)]; exact (eX j hj).1
      obtain ⟨du, ed⟩ : ∃ du, du = mN (X (2 * (k + 1))) t - mN (X 0) t := ⟨_, rfl⟩
      obtain ⟨dv, ev2⟩ : ∃ dv, dv = mN (X (2 * (k + 1) + 1)) t - mN (X 1) t := ⟨_, rfl⟩
      obtain ⟨b1, b2, b3⟩ := dif64 (bdX (2 * (k + 1)) (by omega)) (bdX 0 (by omega))
      obtain ⟨b4, b5, b6⟩ := dif64 (bdX (2 * (k + 1) + 1) (by omega)) (bdX 1 (by omega))
      have nxt : ∀ (q' : AH) (x6 x8 : Int) (u7 u9 u10 u11 u12 : AV), ¬ u9.1 = 1 → LX B n q' → Agr (fun c k => rpW B n c k) q2 q' → MB B n q' 12 (pcsU n ax (fun j => mN (X j) t) S (k + 1)) → Ends (ev PP (gsF gv) B d 779 275 [(2, rf (B + 149)), (2, rf f1), (0, 17), (0, 12), (2, rf w1), (0, ((k + 1 : Nat) : Int)), (1, x6), u7, (1, x8), u9, u10, u11, u12] [] q') Q := fun q' x6 x8 u7 u9 u10 u11 u12 nu l' g' b' => by
        refine Ends.eq (b779_275 l' (by omega) (S4q q' (GG g'))) ?_
        rw [w_succ (i := k + 1) (by omega)]
        exact ih (k + 1) q' _ _ _ _ _ _ _ nu (by omega) l' g' b'
      refine Ends.eq (b779_76 lq (by omega) (S4q q (GG g))) ?_
      rw [enp q (w1at q (GG g)), p2, p1]
      refine Ends.b3 (fun z => by omega) (fun _ => Ends.g ⟨by omega, by omega⟩ (Ends.g ⟨by omega, by omega⟩ ?_))
      rw [tn, tn, show Int.toNat 0 = 0 from rfl, show Int.toNat 1 = 1 from rfl, xq _ (by omega), xq _ (by omega), xq _ (by omega), xq _ (by omega), b1, b4, ← ed, ← ev2, show uop 2 ((n : Nat) : Int) = (n : Int) from rfl, show uop 2 (uop 0 ((n : Nat) : Int)) = -(n : Int) from by rw [neg32 (by omega) (by omega)]; rfl]
      clear b1 b4 p1 p2
      rw [← ed] at b2 b3
      rw [← ev2] at b5 b6
      have skip : ((n : Int) < du ∨ du < -(n : Int)) ∨ (n : Int) < dv ∨ dv < -(n : Int) → ∀ (x6 x8 : Int) (u7 u9 u10 u11 u12 : AV), ¬ u9.1 = 1 → Ends (ev PP (gsF gv) B d 779 275 [(2, rf (B + 149)), (2, rf f1), (0, 17), (0, 12), (2, rf w1), (0, ((k + 1 : Nat) : Int)), (1, x6), u7, (1, x8), u9, u10, u11, u12] [] q) Q := fun z x6 x8 u7 u9 u10 u11 u12 nu => nxt q x6 x8 _ _ _ _ _ nu lq g (b.congr (fun g0 hg => by
        show pcsU n ax _ S k g0 = (pcsU n ax _ S k g0 || pcsM n ax _ _ S g0)
        rw [pcsM_far hax hg (by rw [← ed, ← ev2]; exact z), Bool.or_false]))
      have n9 : ¬ ((9, 0) : AV).1 = 1 := by decide
      refine Ends.b4 (fun z => skip (Or.inl (Or.inl (cmp64_pos.mp z))) _ _ _ _ _ _ _ n9) (fun z1 => Ends.b2 (fun z => skip (Or.inl (Or.inr (cmp64_neg.mp z))) _ _ _ _ _ _ _ n9) (fun z2 => Ends.b4 (fun z => skip (Or.inr (Or.inl (cmp64_pos.mp z))) _ _ _ _ _ _ _ n9) (fun z3 => Ends.b3 (fun z4 => ?_) (fun z => skip (Or.inr (Or.inr (cmp64_neg.mp z))) _ _ _ _ _ _ _ n9))))
      have c1 : du ≤ n := by
        by_cases y : (n : Int) < du
        · have := cmp64_pos.mpr y; omega
        · omega
      have c2 : -(n : Int) ≤ du := by
        by_cases y : du < -(n : Int)
        · have := cmp64_neg.mpr y; omega
        · omega
      have c3 : dv ≤ n := by
        by_cases y : (n : Int) < dv
        · have := cmp64_pos.mpr y; omega
        · omega
      have c4 : -(n : Int) ≤ dv := by
        by_cases y : dv < -(n : Int)
        · have := cmp64_neg.mpr y; omega
        · omega
      clear z1 z2 z3 z4 b2 b3 b5 b6
      have z3 : ∀ (r i : Nat) (q' : AH) (u11 u12 : AV), i + r = 3 → LX B n q' → Agr (fun c _ => c = B + 186) q q' → (∀ k, k < i → hv q' (B + 186) k = 0) → (∀ q', LX B n q' → Agr (fun c _ => c = B + 186) q q' → (∀ k, k < 3 → hv q' (B + 186) k = 0) → ∀ u11 u12 : AV, Ends (ev PP (gsF gv) B d 779 176 [(2, rf (B + 149)), (2, rf f1), (0, 17), (0, 12), (2, rf w1), (0, ((k + 1 : Nat) : Int)), (1, du), (9, 0), (1, dv), (9, 0), (0, ((3 : Nat) : Int)), u11, u12] [] q') Q) → Ends (ev PP (gsF gv) B d 779 176 [(2, rf (B + 149)), (2, rf f1), (0, 17), (0, 12), (2, rf w1), (0, ((k + 1 : Nat) : Int)), (1, du), (9, 0), (1, dv), (9, 0), (0, (i : Int)), u11, u12] [] q') Q := by
        intro r
        induction r with
        | zero =>
          intro i q' u11 u12 e l' g' I kn
          have e' : i = 3 := by omega
          rw [e'] at I ⊢
          exact kn q' l' g' I u11 u12
        | succ r ih3 =>
          intro i q' u11 u12 e l' g' I kn
          have gq' : Agr (fun c k => rpW B n c k) q2 q' := g.tr g' (fun c k z => by unfold rpW; omega)
          refine Ends.eq (b779_176 n9 l' (by omega) (S4q q' (GG gq'))) (Ends.b3 (fun z => by omega) (fun _ => Ends.g ⟨by omega, by omega⟩ ?_))
          rw [tn, an0, w_succ (i := i) (by omega)]
          refine ih3 (i + 1) _ _ _ (by omega) (LX.setS l' rfl) (g'.set rfl) (fun j hj => ?_) kn
          by_cases y : j = i
          · rw [y, hv_set_at]
          · rw [hv_set_ne (fun v => y v.2)]; exact I j (by omega)
      refine z3 3 0 q _ _ (by omega) lq Agr.rf (fun k hk => absurd hk (Nat.not_lt_zero _)) (fun q' l' g' I u11 u12 => ?_)
      have gq' : Agr (fun c k => rpW B n c k) q2 q' := g.tr g' (fun c k z => by unfold rpW; omega)
      have e0q : hv q' w1 0 = (ax : Int) := by rw [w1at q' (GG gq')]; exact e0
      have f3 : fA ax < 3 := by have := @fA_2 ax; omega
      have s3 : sA ax < 3 := by have := @sA_2 ax; omega
      have fs := (fs_A ⟨ax, hax⟩).2.2.1
      refine Ends.eq (b779_176 n9 l' (by omega) (S4q q' (GG gq'))) (Ends.b3 (fun _ => ?_) (fun z => absurd z (by decide)))
      rw [e0q, (f635_is hax).1, (f635_is hax).2, tn, tn, an0, an0, uop3, uop3, w32_id ⟨by omega, by omega⟩, w32_id ⟨by omega, by omega⟩]
      obtain ⟨qh, eq⟩ : ∃ qh, qh = hset (hset q' (B + 186) (fA ax) du) (B + 186) (sA ax) dv := ⟨_, rfl⟩
      rw [← eq]
      have lh : LX B n qh := by rw [eq]; exact LX.setS (LX.setS l' rfl) rfl
      have gh : Agr (fun c _ => c = B + 186) q qh := by rw [eq]; exact (g'.set rfl).set rfl
      have vh : ∀ i, i < 3 → hv qh (B + 186) i = plv ax du dv i := fun i hi => by
        rw [eq]
        unfold plv
        by_cases y : i = sA ax
        · rw [y, hv_set_at, if_neg (fun v => fs v.symm), if_pos rfl]
        · rw [hv_set_ne (fun v => y v.2), if_neg y]
          by_cases y2 : i = fA ax
          · rw [y2, hv_set_at, if_pos rfl]
          · rw [hv_set_ne (fun v => y2 v.2), if_neg y2]; exact I i hi
      have gqh : Agr (fun c k => rpW B n c k) q2 qh := g.tr gh (fun c k z => by unfold rpW; omega)
      refine Ends.g ⟨by omega, by omega⟩ (Ends.g ⟨by omega, by omega⟩ ?_)
      rw [show Int.toNat 0 = 0 from rfl, show Int.toNat 1 = 1 from rfl, show Int.toNat 2 = 2 from rfl, vh 0 (by decide), vh 1 (by decide), vh 2 (by decide)]
      have pb : ∀ i, -(n : Int) ≤ plv ax du dv i ∧ plv ax du dv i ≤ (n : Int) := fun i => plv_b ⟨c2, c1⟩ ⟨c4, c3⟩
      have p0 := pb 0
      have p1 := pb 1
      have p2 := pb 2
      refine Ends.cv lh (by decide +kernel) (c_turnM (s := 17) (t := 13) (w := 0) lh (by omega) hn (by decide) (by decide) (by decide) (al_tb mt2 (gqh.sub (fun c k z => rp_al z))) (rp_row b17' (by decide) (by decide) gqh) (by decide) (dx := plv ax du dv 0) (dy := plv ax du dv 1) (dz := plv ax du dv 2) (by omega) (by omega) (by omega)) (fun q3 l3 _ _ _ ⟨g3, ⟨R, mR, hR'⟩, _⟩ => ?_)
      have G3 : Agr (fun c k => rpW B n c k) q2 q3 := gqh.tr g3 (fun c k z => by
        rcases z with z | z | z
        · exact Or.inr (Or.inl z)
        · exact Or.inr (Or.inr (Or.inl z))
        · exact Or.inr (Or.inr (Or.inr z)))
      have m3 : MB B n q3 12 (pcsU n ax (fun j => mN (X j) t) S k) := (b.agr gh (fun k _ z => by omega)).agr g3 (fun k hk z => by
        rcases z with z | z | z
        · exact wto_row hk (Nat.le_refl _) (by decide) z
        · omega
        · omega)
      refine Ends.eq (b779_266 l3 (by omega) (S4q q3 (GG G3))) ?_
      refine Ends.cv l3 (by decide +kernel) (c_combineM (s := 12) (t := 13) (u := 12) l3 (by omega) hn (by decide) (by decide) (by decide) m3 mR (op := 0) (by omega)) (fun q4 l4 _ _ _ ⟨g4, m4⟩ => ?_)
      refine nxt q4 _ _ _ _ _ _ _ n9 l4 (G3.tr g4 (fun c k z => Or.inl z)) (m4.congr (fun g0 hg => ?_))
      show (pcsU n ax (fun j => mN (X j) t) S k g0 || R g0) = (pcsU n ax (fun j => mN (X j) t) S k g0 || pcsM n ax _ _ S g0)
      congr 1
      rw [← ed, ← ev2]
      exact Bool.eq_iff_iff.mpr ((hR' g0 hg).trans (mvG_iff hn hg).symm)
  exact ok (2 * np) 0 (Nat.zero_add _) (fun i hi => absurd hi (Nat.not_lt_zero _)) (fun G u5 => key G (np - 1) 0 q2 _ _ _ _ _ _ _ (by decide) (by omega) l2 Agr.rf (b12'.congr (fun _ _ => rfl)))
end PLC
