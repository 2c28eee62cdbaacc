/-! L3: distances between faces told by names (both sides) -/
noncomputable section MSR
variable {gv : Nat → Int} {B n d a pc cap kc mm : Nat} {h t : AH} {S : Nat → Bool} {ka F mk : Nat → Nat} {is : Nat → Bool} {cl : Nat → Nat} {SS : Nat → Nat → Bool} {V : Nat → Int}
/-- the axis that a DIRECTION goes along; the plane of a facet -/
def axD (d : Nat) : Int := v250 (d : Int)
def plK (n K : Nat) : Int := if 13 < drT (K % 96) then ofF n K else -ofF n K
/-- how far b's plane is behind a's -/
def dsV (n : Nat) (F : Nat → Nat) (a b : Int) : Int := if a < 0 ∨ b < 0 then -1000000 else if axD (drT (F a.toNat % 96)) < 0 ∨ axD (drT (F a.toNat % 96)) ≠ axD (drT (F b.toNat % 96)) then -1000000 else plK n (F b.toNat) - plK n (F a.toNat)
def DsR (n : Nat) (mk F : Nat → Nat) (M : Nat) (V : Nat → Int) (r : Int) : Prop := ∃ a b, FnR (mmk mk F) (mdr F) M (V 0) (V 1) (V 2) a ∧ FnR (mmk mk F) (mdr F) M (V 3) (V 4) (V 5) b ∧ r = dsV n F a b
theorem DsR.uniq {M : Nat} {r r' : Int} (x : DsR n mk F M V r) (y : DsR n mk F M V r') : r = r' := by
  obtain ⟨a, b, x1, x2, x3⟩ := x
  obtain ⟨a', b', y1, y2, y3⟩ := y
  rw [x3, y3, x1.uniq y1, x2.uniq y2]
theorem DsR.congr {M : Nat} {F' : Nat → Nat} {r : Int} (x : DsR n mk F M V r) (e : ∀ i, i < M → F' i = F i) : DsR n mk F' M V r := by
  obtain ⟨a, b, x1, x2, x3⟩ := x
  have ee : ∀ k, k < M → mmk mk F' k = mmk mk F k ∧ mdr F' k = mdr F k := fun k hk => by unfold mmk mdr; rw [e k hk]; exact ⟨rfl, rfl⟩
  refine ⟨a, b, x1.congr ee, x2.congr ee, ?_⟩
  rw [x3]
  unfold dsV
  by_cases z : a < 0 ∨ b < 0
  · rw [if_pos z, if_pos z]
  · rw [if_neg z, if_neg z]
    rcases x1.lt with w | ⟨i, w, hi⟩
    · omega
    · rcases x2.lt with w2 | ⟨j, w2, hj⟩
      · omega
      · subst w w2
        rw [tn, tn, e i hi, e j hj]
theorem ax_all : ∀ d : Fin 27, (v250 ((d : Nat) : Int) = if (d : Nat) = 4 ∨ (d : Nat) = 22 then 0 else if (d : Nat) = 10 ∨ (d : Nat) = 16 then 1 else if (d : Nat) = 12 ∨ (d : Nat) = 14 then 2 else -1) ∧ (bop32 96 (bop32 96 (v832 (nvI d 0)) (v832 (nvI d 1))) (v832 (nvI d 2)) = 1 ↔ 0 ≤ v250 ((d : Nat) : Int)) ∧ (0 ≤ v250 ((d : Nat) : Int) → (cond (tst 0 (nvI d 0) 0) (cond (tst 0 (nvI d 1) 0) (2 : Int) 1) 0) = v250 ((d : Nat) : Int) ∧ v250 ((d : Nat) : Int) < 3 ∧ nvI d (v250 ((d : Nat) : Int)).toNat = if 13 < (d : Nat) then 1 else -1) := by decide +kernel
theorem ofF_b {K : Nat} (hn : n ≤ 52) (hK : K < 4 * gN n) : -400 ≤ ofF n K ∧ ofF n K ≤ 400 := by
  obtain ⟨hn0, g1, g2, g3, g4⟩ := g_lt (K4_lt hK)
  have c := fun i (hi : i < 9) => (fcC_le (k := K % 96) (i := i) K96_lt hi).1
  have d27 := (fcC_le (k := K % 96) (i := 0) K96_lt (by decide)).2
  have n0 := nv_lt (x := drT (K % 96)) (a := 0) d27
  have n1 := nv_lt (x := drT (K % 96)) (a := 1) d27
  have n2 := nv_lt (x := drT (K % 96)) (a := 2) d27
  have tri : ∀ (N : Int) (x : Nat), -1 ≤ N ∧ N ≤ 1 → x ≤ 60 → -60 ≤ N * (x : Int) ∧ N * (x : Int) ≤ 60 := fun N x hN hx => by
    rcases (by omega : N = -1 ∨ N = 0 ∨ N = 1) with z | z | z
    · rw [z, Int.neg_mul, Int.one_mul]; omega
    · rw [z, Int.zero_mul]; omega
    · rw [z, Int.one_mul]; omega
  have c0 := c 0 (by decide)
  have c1 := c 1 (by decide)
  have c2 := c 2 (by decide)
  have t0 := tri _ (gX n (K / 4) + fcC (K % 96) 0 / 2) n0 (by omega)
  have t1 := tri _ (gY n (K / 4) + fcC (K % 96) 1 / 2) n1 (by omega)
  have t2 := tri _ (gZ n (K / 4) + fcC (K % 96) 2 / 2) n2 (by omega)
  unfold ofF
  omega
theorem plK_b {K : Nat} (hn : n ≤ 52) (hK : K < 4 * gN n) : -400 ≤ plK n K ∧ plK n K ≤ 400 := by
  have := ofF_b hn hK
  unfold plK
  by_cases z : 13 < drT (K % 96)
  · rw [if_pos z]; exact this
  · rw [if_neg z]; omega
/-- the dimensions told (desk) -/
def DmD (B : Nat) (h : AH) (D : Nat) (V : Nat → Nat → Int) : Prop := hv h (B + 0) 25 = (D : Int) ∧ D ≤ 16 ∧ ∀ i k, i < D → k < 8 → hv h (B + 31) (8 * i + k) = V i k
def DmM (B : Nat) (h : AH) (D : Nat) (V : Nat → Nat → Int) : Prop := hv h (B + 149) 152 = (D : Int) ∧ D ≤ 16 ∧ ∀ i k, i < D → k < 8 → hv h (B + 227) (8 * i + k) = V i k
/-- behind the faces: the desk's distance -/
theorem e_distance {D i : Nat} {VV : Nat → Nat → Int} {Q : Rs → Prop} (l : LX B n h) (hd : 14 ≤ d) (hn : n ≤ 52) (A : FaI B h pc cap ka kc) (f : FdS B n h S mm F ka kc) (ms : MkS B h (mmk mk F) (mdr F) (min mm 4096)) (dm : DmD B h D VV) (hi : i < D) (K : ∀ r, DsR n mk F (min mm 4096) (VV i) r → (r = -1000000 ∨ (-1000 ≤ r ∧ r ≤ 1000)) → Q ((0, (0, r)), h)) (u2 u3 u4 u5 : AV) :
    Ends (ev PP (gsF gv) B d 20 4 [(2, rf (B + 0)), (0, (i : Int)), u2, u3, u4, u5] [] h) Q := by
  have hb0 := l.2.2
  obtain ⟨d1, d2, d3⟩ := dm
  obtain ⟨f1, f2, f3, f4, f5⟩ := id f
  have m4 : min mm 4096 ≤ 4096 := Nat.min_le_right _ _
  have e8 : bop32 104 (8 : Int) (i : Int) = ((8 * i : Nat) : Int) := mulNN (x := 8) (by omega)
  have ix : ∀ k : Nat, k < 8 → bop32 96 ((8 * i : Nat) : Int) (k : Int) = ((8 * i + k : Nat) : Int) := fun k hk => addNN (by omega)
  have cells : ∀ k, k < 8 → hv h (B + 31) (8 * i + k) = VV i k := fun k hk => d3 i k hi hk
  have drr : ∀ k, k < min mm 4096 → hv h (ka 0) k = mdr F k := fun k hk => by rw [f5 k hk 0 (by decide)]; unfold kpV mdr; rw [if_pos rfl]
  have ofr : ∀ k, k < min mm 4096 → hv h (ka 1) k = ofF n (F k) := fun k hk => by rw [f5 k hk 1 (by decide)]; unfold kpV; rw [if_neg (by decide), if_pos rfl]
  obtain ⟨k0, k0', k0b, k0c⟩ := A.2.1.1 0 (by decide)
  obtain ⟨k1, k1', k1b, k1c⟩ := A.2.1.1 1 (by decide)
  have k0 : hv h (B + 82) 7 = rf (ka 0) := k0
  have k1 : hv h (B + 82) 8 = rf (ka 1) := k1
  refine Ends.eq (b20_4 l (by omega)) ?_
  rw [e8, show bop32 96 ((8 * i : Nat) : Int) (1 : Int) = ((8 * i + 1 : Nat) : Int) from ix 1 (by decide), show bop32 96 ((8 * i : Nat) : Int) (2 : Int) = ((8 * i + 2 : Nat) : Int) from ix 2 (by decide), tn, tn, tn, cells 1 (by decide), cells 2 (by decide), show hv h (B + 31) (8 * i) = VV i 0 from cells 0 (by decide)]
  refine Ends.g ⟨by omega, by omega⟩ (Ends.g ⟨by omega, by omega⟩ (Ends.g ⟨by omega, by omega⟩ ?_))
  refine Ends.ct l (by decide +kernel) (by decide) (c_faceOf264 l (by omega) m4 f4 A f3 drr ms) (fun a h2 l2 _ _ _ ⟨ra, e2⟩ => ?_)
  subst e2
  refine Ends.eq (b20_38 l2 (by omega)) ?_
  rw [show bop32 96 ((8 * i : Nat) : Int) (3 : Int) = ((8 * i + 3 : Nat) : Int) from ix 3 (by decide), show bop32 96 ((8 * i : Nat) : Int) (4 : Int) = ((8 * i + 4 : Nat) : Int) from ix 4 (by decide), show bop32 96 ((8 * i : Nat) : Int) (5 : Int) = ((8 * i + 5 : Nat) : Int) from ix 5 (by decide), tn, tn, tn, cells 3 (by decide), cells 4 (by decide), cells 5 (by decide)]
  refine Ends.g ⟨by omega, by omega⟩ (Ends.g ⟨by omega, by omega⟩ (Ends.g ⟨by omega, by omega⟩ ?_))
  refine Ends.ct l2 (by decide +kernel) (by decide) (c_faceOf264 l2 (by omega) m4 f4 A f3 drr ms) (fun b h3 l3 _ _ _ ⟨rb, e3⟩ => ?_)
  subst e3
  have lost : dsV n F a b = -1000000 → Q ((0, (0, -1000000)), h3) := fun z => K _ ⟨a, b, ra, rb, z.symm⟩ (Or.inl rfl)
  refine Ends.eq (b20_70 l3 (by omega)) ?_
  refine Ends.b2 (fun z => Ends.eq (b20_81 l3 (by omega)) (Ends.sm (lost (by unfold dsV; rw [if_pos (Or.inl z)])))) (fun z1 => Ends.b3 (fun z2 => ?_) (fun z => Ends.eq (b20_81 l3 (by omega)) (Ends.sm (lost (by unfold dsV; rw [if_pos (Or.inr z)])))))
  obtain ⟨x, ex, hx⟩ : ∃ x : Nat, a = (x : Int) ∧ x < min mm 4096 := by
    rcases ra.lt with w | ⟨x, w, hx⟩
    · omega
    · exact ⟨x, w, hx⟩
  obtain ⟨y, ey, hy⟩ : ∃ y : Nat, b = (y : Int) ∧ y < min mm 4096 := by
    rcases rb.lt with w | ⟨x, w, hx⟩
    · omega
    · exact ⟨x, w, hx⟩
  subst ex ey
  have gd0 : ∀ k, k < min mm 4096 → (0 < rf (ka 0) ∧ ((2, kc) : Nat × Nat).1 = 0 + 2 ∧ (0 : Int) ≤ (k : Int) ∧ (k : Int) < (((2, kc) : Nat × Nat).2 : Int)) := fun k hk => ⟨rf_pos _, rfl, by omega, by show (k : Int) < (kc : Int); omega⟩
  have gd1 : ∀ k, k < min mm 4096 → (0 < rf (ka 1) ∧ ((2, kc) : Nat × Nat).1 = 0 + 2 ∧ (0 : Int) ≤ (k : Int) ∧ (k : Int) < (((2, kc) : Nat × Nat).2 : Int)) := fun k hk => ⟨rf_pos _, rfl, by omega, by show (k : Int) < (kc : Int); omega⟩
  have dv : dsV n F (x : Int) (y : Int) = if axD (drT (F x % 96)) < 0 ∨ axD (drT (F x % 96)) ≠ axD (drT (F y % 96)) then -1000000 else plK n (F y) - plK n (F x) := by
    unfold dsV; rw [if_neg (by omega), tn, tn]
  rw [k0, ad_rf, k0', tn, tn, drr x hx, drr y hy]
  have lost1 : axD (drT (F x % 96)) < 0 ∨ axD (drT (F x % 96)) ≠ axD (drT (F y % 96)) → Q ((0, (0, -1000000)), h3) := fun z => lost (by rw [dv, if_pos z])
  refine Ends.g (gd0 x hx) (Ends.b2 (fun z => Ends.eq (b20_122 l3 (by omega)) (Ends.sm (lost1 (Or.inl z)))) (fun z3 => ?_))
  refine Ends.g (gd0 y hy) (Ends.b0 (fun z4 => ?_) (fun z => Ends.eq (b20_122 l3 (by omega)) (Ends.sm (lost1 (Or.inr z)))))
  have pl : ∀ k, k < min mm 4096 → q72 B h3 (k : Int) ∧ v72 B h3 (k : Int) = plK n (F k) := fun k hk => by
    have fk := (f.fst (i := k) (by omega)).1
    have ob := ofF_b hn fk
    unfold q72 v72
    rw [k0, k1, ad_rf, ad_rf, k0', k1', tn, drr k hk, ofr k hk, ct5, ct5]
    refine ⟨⟨gd0 k hk, ?_⟩, ?_⟩
    · by_cases w : 13 < mdr F k
      · rw [if_pos w]; exact gd1 k hk
      · rw [if_neg w]; exact gd1 k hk
    · unfold plK
      by_cases w : 13 < drT (F k % 96)
      · rw [if_pos (show 13 < mdr F k by unfold mdr; omega), if_pos w]
      · rw [if_neg (show ¬ 13 < mdr F k by unfold mdr; omega), if_neg w, neg32 (by omega) (by omega)]
  obtain ⟨qx, vx⟩ := pl x hx
  obtain ⟨qy, vy⟩ := pl y hy
  have bx := plK_b hn (f.fst (i := x) (by omega)).1
  have by' := plK_b hn (f.fst (i := y) (by omega)).1
  rw [vx, vy, sub32 (by omega) (by omega)]
  have z3' : ¬ axD (drT (F x % 96)) < 0 := by show ¬ v250 (mdr F x) < 0; omega
  have z4' : axD (drT (F x % 96)) = axD (drT (F y % 96)) := z4
  refine Ends.g qy (Ends.g qx (Ends.sm (K _ ⟨(x : Int), (y : Int), ra, rb, ?_⟩ (Or.inr (by omega)))))
  rw [dv, if_neg (fun w => by rcases w with w | w; exact z3' w; exact w z4')]
theorem c_distance20 {D i : Nat} {VV : Nat → Nat → Int} (l : LX B n h) (hd : 40 ≤ d) (hn4 : 4 ≤ n) (hn : n ≤ 52) (f : FcN B n h pc cap ka kc) (s : SG n h (B + 117) (SS 10)) (P : PmD B n h (SS 10) mk) (o : FoD B n h is SS mk ka kc) (dm : DmD B h D VV) (hi : i < D) :
    Vt 0 (cll PP (ev PP (gsF gv) B) d 20 [(2, rf (B + 0)), (0, (i : Int))] h) (fun r h' => ∃ mm F pc' cap' ka' kc', SfP B n h (SS 10) cap kc h' mm F pc' cap' ka' kc' ∧ MkS B h' (mmk mk F) (mdr F) (min mm 4096) ∧ hv h' (B + 0) 20 = -1 ∧ DsR n mk F (min mm 4096) (VV i) r ∧ (r = -1000000 ∨ (-1000 ≤ r ∧ r ≤ 1000)) ∧ (hv h (B + 0) 20 = -1 → h' = h)) := by
  have hb0 := l.2.2
  refine Vt.inq (D := 39) hd (Nat.le_of_ble_eq_true rfl) rfl (fun d hd Q K => ?_)
  refine Ends.eq (b20_0 l (by omega)) ?_
  by_cases z : hv h (B + 0) 20 = -1
  · have pf : Vd (cll PP (ev PP (gsF gv) B) d 68 [(2, rf (B + 0))] h) (fun h' => h' = h) := by
      refine Vd.inq (D := 9) (by omega) (Nat.le_of_ble_eq_true rfl) rfl (fun d hd Q K => ?_)
      exact Ends.eq (b68_0 l (by omega)) (Ends.b1 (fun y => absurd z y) (fun _ => Ends.sm (K _ rfl)))
    refine Ends.cv l (by decide +kernel) pf (fun h2 l2 _ _ _ e2 => ?_)
    subst e2
    rcases o with y | ⟨_, mm, F, y2, y3⟩ | ⟨j, hj, y, _⟩
    · omega
    · exact e_distance l2 (by omega) hn f.2.2.2.2 y2 y3 dm hi (fun r r1 r2 => K _ _ ⟨mm, F, pc, cap, ka, kc, SfP.self l2 f y2, y3, z, r1, r2, fun _ => rfl⟩) _ _ _ _
    · omega
  · refine Ends.cv l (by decide +kernel) (c_partFaces68 l (by omega) hn4 hn f s P o) (fun h2 l2 _ _ _ ⟨mm, F, pc', cap', ka', kc', t1, t2, t3⟩ => ?_)
    have lo : ∀ {c k : Nat}, sfW B h c k → _ := fun w => sfW_lo f.2.2.2.1 f.2.2.2.2 w
    have dm2 : DmD B h2 D VV := ⟨by rw [t1.2.2.2.2.at _ (by omega) (fun w => by have := lo w; omega)]; exact dm.1, dm.2.1, fun i k hi hk => by rw [t1.2.2.2.2.at _ (by omega) (fun w => by have := lo w; omega)]; exact dm.2.2 i k hi hk⟩
    exact e_distance l2 (by omega) hn t1.1.1.2.2.2.2 t1.2.1 t2 dm2 hi (fun r r1 r2 => K _ _ ⟨mm, F, pc', cap', ka', kc', t1, t2, t3, r1, r2, fun w => absurd w z⟩) _ _ _ _
/-- what is measured -/
def msV (r less more w : Int) : Int := if r = -1000000 then -1 else if w = 0 then (if r < 0 then -r else r) else if w = 1 then (if (if r < 0 then -r else r) - less < 0 then 0 else (if r < 0 then -r else r) - less) else (if r < 0 then -r else r) + more
def DmG (D : Nat) (V : Nat → Nat → Int) : Prop := ∀ i, i < D → (∀ k, k < 6 → 0 ≤ V i k ∧ V i k < 100000) ∧ (0 ≤ V i 6 ∧ V i 6 ≤ 200) ∧ 0 ≤ V i 7 ∧ V i 7 ≤ 200
theorem c_measure60 {D : Nat} {x w : Int} {VV : Nat → Nat → Int} (l : LX B n h) (hd : 42 ≤ d) (hn4 : 4 ≤ n) (hn : n ≤ 52) (f : FcN B n h pc cap ka kc) (s : SG n h (B + 117) (SS 10)) (P : PmD B n h (SS 10) mk) (o : FoD B n h is SS mk ka kc) (dm : DmD B h D VV) (dg : DmG D VV) :
    Opx 0 (cll PP (ev PP (gsF gv) B) d 60 [(2, rf (B + 0)), (0, x), (0, w)] h) (fun v h' => (0 ≤ x ∧ x < (D : Int)) ∧ (0 ≤ w ∧ w ≤ 2) ∧ ∃ mm F pc' cap' ka' kc' r, SfP B n h (SS 10) cap kc h' mm F pc' cap' ka' kc' ∧ MkS B h' (mmk mk F) (mdr F) (min mm 4096) ∧ hv h' (B + 0) 20 = -1 ∧ DsR n mk F (min mm 4096) (VV x.toNat) r ∧ v = msV r (VV x.toNat 6) (VV x.toNat 7) w) (fun c q => q = h ∧ ((c = 31 ∧ ¬ (0 ≤ x ∧ x < (D : Int))) ∨ (c = 27 ∧ (0 ≤ x ∧ x < (D : Int)) ∧ ¬ (0 ≤ w ∧ w ≤ 2)))) := by
  have hb0 := l.2.2
  have d16 := dm.2.1
  refine Opx.inq (D := 41) hd (Nat.le_of_ble_eq_true rfl) rfl (fun d hd Q K KE => ?_)
  refine Ends.eq (b60_0 l (by omega)) ?_
  rw [dm.1, sub32 (x := (D : Int)) (by omega) (by omega)]
  refine Ends.there (p := decide (0 ≤ x ∧ x ≤ (D : Int) - 1)) l (by omega) (by rw [v42_in]; simp only [decide_eq_true_eq]) (fun hx => ?_) (fun hx => Ends.thn rfl (KE _ _ ⟨rfl, Or.inl ⟨rfl, fun z => of_decide_eq_false hx (by omega)⟩⟩))
  have hx : 0 ≤ x ∧ x < (D : Int) := by have := of_decide_eq_true hx; omega
  refine Ends.eq (b60_14 l (by omega)) ?_
  refine Ends.need (p := decide (0 ≤ w ∧ w ≤ 2)) l (by omega) (by rw [v42_in]; simp only [decide_eq_true_eq]) (fun hw => ?_) (fun hw => Ends.thn rfl (KE _ _ ⟨rfl, Or.inr ⟨rfl, hx, of_decide_eq_false hw⟩⟩))
  have hw := of_decide_eq_true hw
  obtain ⟨i, rfl⟩ : ∃ i : Nat, x = (i : Int) := ⟨x.toNat, by omega⟩
  have hi : i < D := by omega
  refine Ends.eq (b60_23 l (by omega)) ?_
  refine Ends.ct l (by decide +kernel) (by decide) (c_distance20 l (by omega) hn4 hn f s P o dm hi) (fun r h2 l2 _ _ _ ⟨mm, F, pc', cap', ka', kc', t1, t2, t3, t4, t5, _⟩ => ?_)
  have lo : ∀ {c k : Nat}, sfW B h c k → _ := fun w => sfW_lo f.2.2.2.1 f.2.2.2.2 w
  have cells : ∀ k, k < 8 → hv h2 (B + 31) (8 * i + k) = VV i k := fun k hk => by rw [t1.2.2.2.2.at _ (by omega) (fun w => by have := lo w; omega)]; exact dm.2.2 i k hi hk
  obtain ⟨-, g6, g7⟩ := dg i hi
  have fin : ∀ v, v = msV r (VV i 6) (VV i 7) w → Q ((0, (0, v)), h2) := fun v e => K _ _ ⟨hx, hw, mm, F, pc', cap', ka', kc', r, t1, t2, t3, by rw [tn]; exact t4, by rw [tn]; exact e⟩
  refine Ends.eq (b60_28 l2 (by omega)) (Ends.b1 (fun z => ?_) (fun z => Ends.sm (fin _ (by unfold msV; rw [if_pos z]))))
  have rb : -1000 ≤ r ∧ r ≤ 1000 := t5.resolve_left z
  have e8 : bop32 104 (8 : Int) (i : Int) = ((8 * i : Nat) : Int) := mulNN (x := 8) (by omega)
  have ix : ∀ k : Nat, k < 8 → bop32 96 ((8 * i : Nat) : Int) (k : Int) = ((8 * i + k : Nat) : Int) := fun k hk => addNN (by omega)
  have ab : v886 r = if r < 0 then -r else r := by
    unfold v886; rw [ct3]
    by_cases y : r < 0
    · rw [if_pos y, if_pos y, neg32 (by omega) (by omega)]
    · rw [if_neg y, if_neg y]
  have abb : 0 ≤ (if r < 0 then -r else r) ∧ (if r < 0 then -r else r) ≤ 1000 := by
    by_cases y : r < 0
    · rw [if_pos y]; omega
    · rw [if_neg y]; omega
  rw [e8, show bop32 96 ((8 * i : Nat) : Int) (6 : Int) = ((8 * i + 6 : Nat) : Int) from ix 6 (by decide), show bop32 96 ((8 * i : Nat) : Int) (7 : Int) = ((8 * i + 7 : Nat) : Int) from ix 7 (by decide), tn, tn, cells 6 (by decide), cells 7 (by decide), ab]
  refine Ends.g ?_ (Ends.sm (fin _ ?_))
  · rw [ct1, ct1]
    by_cases y : w = 0
    · rw [if_pos y]; trivial
    · rw [if_neg y]
      by_cases y' : w = 1
      · rw [if_pos y']; omega
      · rw [if_neg y']; omega
  · unfold msV
    rw [if_neg z, ct1, ct1]
    by_cases y : w = 0
    · rw [if_pos y, if_pos y]
    · rw [if_neg y, if_neg y]
      by_cases y' : w = 1
      · rw [if_pos y', if_pos y', sub32 (by omega) (by omega), max_J]
        by_cases q : (if r < 0 then -r else r) - VV i 6 < 0
        · rw [if_pos q, if_neg (by omega)]
        · rw [if_neg q]
          by_cases q2 : 0 < (if r < 0 then -r else r) - VV i 6
          · rw [if_pos q2]
          · rw [if_neg q2]; omega
      · rw [if_neg y', if_neg y', add32 (by omega) (by omega)]
end MSR
