/-! L3: distances between faces told by names (model) -/
noncomputable section MMS
variable {gv : Nat → Int} {B n d : Nat} {h t : AH} {mk F : Nat → Nat} {is : Nat → Bool} {SS : Nat → Nat → Bool}
/-- what asking whether a dimension is there writes -/
def itW (B : Nat) : Nat → Nat → Prop := fun c k => fgoW B c k ∨ (c = B + 149 ∧ 153 ≤ k ∧ k ≤ 155)
theorem itW_in {c k : Nat} (z : itW B c k) : c = B + 188 ∨ c = B + 189 ∨ c = B + 190 ∨ c = B + 238 ∨ c = B + 239 ∨ (c = B + 149 ∧ (74 ≤ k ∧ k ≤ 76 ∨ k = 85 ∨ k = 86 ∨ k = 88 ∨ k = 89 ∨ 153 ≤ k ∧ k ≤ 155)) := by
  unfold itW fgoW fdfW at z; omega
theorem c_findSpot633 {a w i : Int} (l : LX B n h) (hd : 34 ≤ d) (hn0 : 0 < n) (hn : n ≤ 52) (tb : TbM B h) (bd : BdM B n h is SS) (f : FoM B n h SS) (M : MkM B n h mk) (hi : 0 ≤ i ∧ i < 1000000) :
    Vt 0 (cll PP (ev PP (gsF gv) B) d 633 [(2, rf (B + 149)), (0, a), (0, w), (0, i)] h) (fun v h' => ∃ mm F k, MFc B n h' 10 (SS 10) mm F ∧ FoM B n h' SS ∧ Agr (itW B) h h' ∧ FnR (mmk mk F) (mdr F) (min mm 4096) a w i k ∧ ((v = 0 ∧ (k < 0 ∨ axD (drT (F k.toNat % 96)) < 0)) ∨ (v = 1 ∧ 0 ≤ k ∧ 0 ≤ axD (drT (F k.toNat % 96)) ∧ hv h' (B + 149) 153 = axD (drT (F k.toNat % 96)) ∧ hv h' (B + 149) 154 = plK n (F k.toNat)))) := by
  obtain ⟨s1, s2⟩ := bd.sol (o := -1) (by unfold thS; rfl)
  have s1 : MB B n h 10 (SS 10) := s1
  refine Vt.inq (D := 33) hd (Nat.le_of_ble_eq_true rfl) rfl (fun d hd Q K => ?_)
  refine Ends.eq (b633_0 l (by omega)) ?_
  refine Ends.ct l (by decide +kernel) (by decide) (c_faceNamed618 (s := 10) l (by omega) hn0 hn tb (by decide) s1 f.1 (f.at (by decide)) M hi) (fun k h2 l2 _ _ _ ⟨mm, F, y1, y2, y3, y4⟩ => ?_)
  have G2 : Agr (itW B) h h2 := y4.sub (fun c k z => Or.inl z)
  have m4 : min mm 4096 ≤ 4096 := Nat.min_le_right _ _
  refine Ends.eq (b633_9 l2 (by omega)) (Ends.b3 (fun z => ?_) (fun z => Ends.sm (K _ _ ⟨mm, F, k, y1, y1.foM (by decide) y3, G2, y2, Or.inl ⟨rfl, Or.inl z⟩⟩)))
  obtain ⟨x, ex, hx⟩ : ∃ x : Nat, k = (x : Int) ∧ x < min mm 4096 := by
    rcases y2.lt with w | ⟨x, w, hx⟩
    · omega
    · exact ⟨x, w, hx⟩
  subst ex
  obtain ⟨f1, f2, f3⟩ := y1.fst hx
  rw [tn, f1]
  refine Ends.g ⟨by omega, by omega⟩ ?_
  have tb2 : TbM B h2 := tb.agr G2 (fun c k a b _ z => by have := itW_in z; omega)
  refine Ends.ct l2 (by decide +kernel) (by decide) (c_direction593 l2 (by omega) hn tb2 f2) (fun v h3 l3 _ _ _ ⟨ev', I3, g3⟩ => ?_)
  have G3 : Agr (itW B) h h3 := G2.tr g3 (fun c k z => Or.inl (Or.inl (Or.inl z.1)))
  have a3 := y1.agr g3 (by omega) (by omega) (fun k => by omega)
  have o3 := a3.foM (SS := SS) (by decide) (y3.agr g3 (fun k => by omega))
  have d27 := (fcC_le (k := F x % 96) (i := 0) K96_lt (by decide)).2
  obtain ⟨x1, x2, x3⟩ := ax_all ⟨drT (F x % 96), d27⟩
  have x2 : bop32 96 (bop32 96 (v832 (nvI (drT (F x % 96)) 0)) (v832 (nvI (drT (F x % 96)) 1))) (v832 (nvI (drT (F x % 96)) 2)) = 1 ↔ 0 ≤ axD (drT (F x % 96)) := x2
  have x3 : 0 ≤ axD (drT (F x % 96)) → (cond (tst 0 (nvI (drT (F x % 96)) 0) 0) (cond (tst 0 (nvI (drT (F x % 96)) 1) 0) (2 : Int) 1) 0) = axD (drT (F x % 96)) ∧ axD (drT (F x % 96)) < 3 ∧ nvI (drT (F x % 96)) (axD (drT (F x % 96))).toNat = if 13 < drT (F x % 96) then 1 else -1 := x3
  refine Ends.eq (b633_29 l3 (by omega)) ?_
  rw [show Int.toNat (0 : Int) = 0 from rfl, show Int.toNat (1 : Int) = 1 from rfl, show Int.toNat (2 : Int) = 2 from rfl, I3 0 (by decide), I3 1 (by decide), I3 2 (by decide)]
  refine Ends.b0 (fun z1 => ?_) (fun z1 => Ends.sm (K _ _ ⟨mm, F, (x : Int), a3, o3, G3, y2, Or.inl ⟨rfl, Or.inr (by rw [tn]; have := fun w => z1 (x2.mpr w); omega)⟩⟩))
  have ax0 := x2.mp z1
  obtain ⟨w1, w2, w3⟩ := x3 ax0
  rw [w1]
  refine Ends.g ⟨ax0, w2⟩ (Ends.sm (K _ _ ⟨mm, F, (x : Int), ?_, ?_, ?_, y2, Or.inr ⟨rfl, by omega, by rw [tn]; exact ax0, ?_, ?_⟩⟩))
  · exact (a3.agr (Agr.rf.set (W := fun c k => c = B + 149 ∧ 153 ≤ k ∧ k ≤ 155) ⟨rfl, by decide, by decide⟩) (by omega) (by omega) (fun k => by omega)).agr (Agr.rf.set (W := fun c k => c = B + 149 ∧ 153 ≤ k ∧ k ≤ 155) ⟨rfl, by decide, by decide⟩) (by omega) (by omega) (fun k => by omega)
  · exact (o3.agr (Agr.rf.set (W := fun c k => c = B + 149 ∧ 153 ≤ k ∧ k ≤ 155) ⟨rfl, by decide, by decide⟩) (fun k => by omega) (by omega) (by omega) (fun k => by omega)).agr (Agr.rf.set (W := fun c k => c = B + 149 ∧ 153 ≤ k ∧ k ≤ 155) ⟨rfl, by decide, by decide⟩) (fun k => by omega) (by omega) (by omega) (fun k => by omega)
  · exact (G3.set (Or.inr ⟨rfl, by decide, by decide⟩)).set (Or.inr ⟨rfl, by decide, by decide⟩)
  · rw [hv_set_ne (by omega), hv_set_at, tn]
  · rw [hv_set_at, ev', tn, I3 _ (by omega), w3]
    have ob := ofF_b hn f2
    unfold plK
    by_cases q : 13 < drT (F x % 96)
    · rw [if_pos q, if_pos q, mul32 (by omega) (by omega), Int.one_mul]
    · rw [if_neg q, if_neg q, mul32 (by omega) (by omega)]; omega
theorem c_isThere719 {D i : Nat} {VV : Nat → Nat → Int} (l : LX B n h) (hd : 37 ≤ d) (hn0 : 0 < n) (hn : n ≤ 52) (tb : TbM B h) (bd : BdM B n h is SS) (f : FoM B n h SS) (M : MkM B n h mk) (dm : DmM B h D VV) (dg : DmG D VV) (hi : i < D) :
    Vt 0 (cll PP (ev PP (gsF gv) B) d 719 [(2, rf (B + 149)), (0, (i : Int))] h) (fun v h' => ∃ mm F r, MFc B n h' 10 (SS 10) mm F ∧ FoM B n h' SS ∧ Agr (itW B) h h' ∧ DsR n mk F (min mm 4096) (VV i) r ∧ ((v = 0 ∧ r = -1000000) ∨ (v = 1 ∧ (-1000 ≤ r ∧ r ≤ 1000) ∧ hv h' (B + 149) 155 = r))) := by
  have hb0 := l.2.2
  have d16 := dm.2.1
  obtain ⟨g0, -, -⟩ := dg i hi
  have e8 : bop32 104 (8 : Int) (i : Int) = ((8 * i : Nat) : Int) := mulNN (x := 8) (by omega)
  have ix : ∀ k : Nat, k < 8 → bop32 96 ((8 * i : Nat) : Int) (k : Int) = ((8 * i + k : Nat) : Int) := fun k hk => addNN (by omega)
  have cells : ∀ k, k < 8 → hv h (B + 227) (8 * i + k) = VV i k := fun k hk => dm.2.2 i k hi hk
  refine Vt.inq (D := 36) hd (Nat.le_of_ble_eq_true rfl) rfl (fun d hd Q K => ?_)
  refine Ends.eq (b719_0 l (by omega)) ?_
  rw [e8, show bop32 96 ((8 * i : Nat) : Int) (1 : Int) = ((8 * i + 1 : Nat) : Int) from ix 1 (by decide), show bop32 96 ((8 * i : Nat) : Int) (2 : Int) = ((8 * i + 2 : Nat) : Int) from ix 2 (by decide), tn, tn, tn, cells 1 (by decide), cells 2 (by decide), show hv h (B + 227) (8 * i) = VV i 0 from cells 0 (by decide)]
  refine Ends.g ⟨by omega, by omega⟩ (Ends.g ⟨by omega, by omega⟩ (Ends.g ⟨by omega, by omega⟩ ?_))
  have b2 := g0 2 (by decide)
  have b5 := g0 5 (by decide)
  refine Ends.ct l (by decide +kernel) (by decide) (c_findSpot633 l (by omega) hn0 hn tb bd f M ⟨b2.1, by omega⟩) (fun v h2 l2 _ _ _ ⟨mm, F, ka, y1, y2, y3, y4, y5⟩ => ?_)
  have cells2 : ∀ k, k < 8 → hv h2 (B + 227) (8 * i + k) = VV i k := fun k hk => by rw [y3.at _ _ (fun z => by have := itW_in z; omega)]; exact cells k hk
  have tb2 : TbM B h2 := tb.agr y3 (fun c k a b _ z => by have := itW_in z; omega)
  have bd2 : BdM B n h2 is SS := bd.agr y3 (fun k z => by have := itW_in z; omega) (fun s k _ _ z => by have := itW_in z; omega)
  have M2 : MkM B n h2 mk := M.agr y3 (fun k z => by have := itW_in z; omega)
  -- the second face is always told, whether it is looked for or not
  have second : ∃ kb, FnR (mmk mk F) (mdr F) (min mm 4096) (VV i 3) (VV i 4) (VV i 5) kb := by
    by_cases w : ∃ k, k < min mm 4096 ∧ fnM (mmk mk F) (mdr F) (VV i 3) (VV i 4) k = true ∧ ((cntN (fnM (mmk mk F) (mdr F) (VV i 3) (VV i 4)) k : Nat) : Int) = VV i 5
    · obtain ⟨k, k1, k2, k3⟩ := w; exact ⟨_, Or.inl ⟨k, k1, k2, k3, rfl⟩⟩
    · exact ⟨_, Or.inr ⟨w, rfl⟩⟩
  refine Ends.eq (b719_31 l2 (by omega)) ?_
  rcases y5 with ⟨v0, bad⟩ | ⟨v1, k0, x0, s1, s2⟩
  · rw [v0]
    refine Ends.b1 (fun z => absurd rfl z) (fun _ => ?_)
    obtain ⟨kb, rb⟩ := second
    refine Ends.sm (K _ _ ⟨mm, F, -1000000, y1, y2, y3, ⟨ka, kb, y4, rb, ?_⟩, Or.inl ⟨rfl, rfl⟩⟩)
    unfold dsV
    by_cases w : ka < 0 ∨ kb < 0
    · rw [if_pos w]
    · rw [if_neg w, if_pos (Or.inl (by rcases bad with q | q; omega; exact q))]
  rw [v1]
  refine Ends.b1 (fun _ => ?_) (fun z => absurd z (by decide))
  rw [show bop32 96 ((8 * i : Nat) : Int) (3 : Int) = ((8 * i + 3 : Nat) : Int) from ix 3 (by decide), show bop32 96 ((8 * i : Nat) : Int) (4 : Int) = ((8 * i + 4 : Nat) : Int) from ix 4 (by decide), show bop32 96 ((8 * i : Nat) : Int) (5 : Int) = ((8 * i + 5 : Nat) : Int) from ix 5 (by decide), tn, tn, tn, cells2 3 (by decide), cells2 4 (by decide), cells2 5 (by decide), s1, s2]
  refine Ends.g ⟨by omega, by omega⟩ (Ends.g ⟨by omega, by omega⟩ (Ends.g ⟨by omega, by omega⟩ ?_))
  refine Ends.ct l2 (by decide +kernel) (by decide) (c_findSpot633 l2 (by omega) hn0 hn tb2 bd2 y2 M2 ⟨b5.1, by omega⟩) (fun v' h3 l3 _ _ _ ⟨mm', F', kb, z1, z2, z3, z4, z5⟩ => ?_)
  have G3 : Agr (itW B) h h3 := y3.tr z3 (fun _ _ z => z)
  obtain ⟨em, eF⟩ := y1.1.uniq z1.1
  subst em
  have ee : ∀ k, k < min mm 4096 → mmk mk F k = mmk mk F' k ∧ mdr F k = mdr F' k := fun k hk => by unfold mmk mdr; rw [eF k (by omega)]; exact ⟨rfl, rfl⟩
  have ra : FnR (mmk mk F') (mdr F') (min mm 4096) (VV i 0) (VV i 1) (VV i 2) ka := y4.congr (fun k hk => ⟨(ee k hk).1.symm, (ee k hk).2.symm⟩)
  obtain ⟨x, ex, hx⟩ : ∃ x : Nat, ka = (x : Int) ∧ x < min mm 4096 := by
    rcases ra.lt with w | ⟨x, w, hx⟩
    · omega
    · exact ⟨x, w, hx⟩
  subst ex
  rw [tn] at x0 s1 s2
  have eFx : F x = F' x := eF x (by omega)
  rw [tn, eFx]
  rw [eFx] at x0
  have lostq : (kb < 0 ∨ axD (drT (F' kb.toNat % 96)) < 0 ∨ axD (drT (F' x % 96)) ≠ axD (drT (F' kb.toNat % 96))) → dsV n F' (x : Int) kb = -1000000 := fun q => by
    unfold dsV
    by_cases w : (x : Int) < 0 ∨ kb < 0
    · rw [if_pos w]
    · rw [if_neg w, tn, if_pos]
      rcases q with q | q | q
      · omega
      · exact Or.inr (fun e => by omega)
      · exact Or.inr q
  have lost : dsV n F' (x : Int) kb = -1000000 → ∀ L, Ends (ev PP (gsF gv) B d 719 86 L [] h3) Q ∨ True := fun _ _ => Or.inr trivial
  refine Ends.eq (b719_75 l3 (by omega)) ?_
  rcases z5 with ⟨v0, bad⟩ | ⟨v1', kb0, xb0, s3, s4⟩
  · rw [v0]
    refine Ends.b0 (fun _ => Ends.eq (b719_86 l3 (by omega)) (Ends.sm (K _ _ ⟨mm, F', -1000000, z1, z2, G3, ⟨(x : Int), kb, ra, z4, (lostq (by rcases bad with q | q; exact Or.inl q; exact Or.inr (Or.inl q))).symm⟩, Or.inl ⟨rfl, rfl⟩⟩))) (fun z => absurd rfl z)
  rw [v1', s3, s4]
  refine Ends.b0 (fun z => absurd z (by decide)) (fun _ => Ends.b0 (fun z => ?_) (fun z => ?_))
  rotate_left
  · exact Ends.eq (b719_86 l3 (by omega)) (Ends.sm (K _ _ ⟨mm, F', -1000000, z1, z2, G3, ⟨(x : Int), kb, ra, z4, (lostq (Or.inr (Or.inr (fun e => z e.symm)))).symm⟩, Or.inl ⟨rfl, rfl⟩⟩))
  have f1 := (z1.fst hx).2.1
  obtain ⟨y, ey, hy⟩ : ∃ y : Nat, kb = (y : Int) ∧ y < min mm 4096 := by
    rcases z4.lt with w | ⟨x, w, hx⟩
    · omega
    · exact ⟨x, w, hx⟩
  subst ey
  rw [tn] at z ⊢
  have f2 := (z1.fst hy).2.1
  have p1 := plK_b hn f1
  have p2 := plK_b hn f2
  rw [sub32 (by omega) (by omega)]
  have dv : dsV n F' (x : Int) (y : Int) = plK n (F' y) - plK n (F' x) := by
    unfold dsV
    rw [if_neg (by omega), tn, tn, if_neg (fun w => by rcases w with w | w; omega; exact w z.symm)]
  have g9 : Agr (fun c k => c = B + 149 ∧ k = 155) h3 (hset h3 (B + 149) 155 (plK n (F' y) - plK n (F' x))) := Agr.rf.set ⟨rfl, rfl⟩
  refine Ends.sm (K _ _ ⟨mm, F', plK n (F' y) - plK n (F' x), z1.agr g9 (by omega) (by omega) (fun k => by omega), z2.agr g9 (fun k => by omega) (by omega) (by omega) (fun k => by omega), G3.tr g9 (fun c k z => Or.inr ⟨z.1, by omega, by omega⟩), ⟨(x : Int), (y : Int), ra, z4, dv.symm⟩, Or.inr ⟨rfl, by omega, hv_set_at ..⟩⟩)
theorem c_measure745 {D : Nat} {x w : Int} {VV : Nat → Nat → Int} (l : LX B n h) (hd : 39 ≤ d) (hn0 : 0 < n) (hn : n ≤ 52) (tb : TbM B h) (bd : BdM B n h is SS) (f : FoM B n h SS) (M : MkM B n h mk) (dm : DmM B h D VV) (dg : DmG D VV) :
    Vt 0 (cll PP (ev PP (gsF gv) B) d 745 [(2, rf (B + 149)), (0, x), (0, w)] h) (fun v h' => (¬ (0 ≤ x ∧ x < (D : Int)) ∧ MdA B h 1 v h') ∨ ((0 ≤ x ∧ x < (D : Int)) ∧ ¬ (0 ≤ w ∧ w ≤ 2) ∧ MdA B h 2 v h') ∨ ((0 ≤ x ∧ x < (D : Int)) ∧ (0 ≤ w ∧ w ≤ 2) ∧ hv h' (B + 149) 0 = 0 ∧ ∃ mm F r, MFc B n h' 10 (SS 10) mm F ∧ FoM B n h' SS ∧ Agr (fun c k => itW B c k ∨ (c = B + 149 ∧ k = 0)) h h' ∧ DsR n mk F (min mm 4096) (VV x.toNat) r ∧ v = msV r (VV x.toNat 6) (VV x.toNat 7) w)) := by
  have hb0 := l.2.2
  have d16 := dm.2.1
  refine Vt.inq (D := 38) hd (Nat.le_of_ble_eq_true rfl) rfl (fun d hd P K => ?_)
  refine Ends.eq (b745_0 (n := n) (by (repeat' first | assumption | refine LX.setF _ _ ?_ (by decide +kernel) | refine LX.setS ?_ rfl | refine LX.setA ?_ (by first | assumption | omega))) (by first | assumption | omega)) ?_
  rw [dm.1, ct2, ct2, ct2, ct5]
  have bad : ∀ (c : Nat), c ≠ 0 → P ((0, (0, 0)), hset h (B + 149) 0 (c : Int)) → Ends (ev PP (gsF gv) B d 745 34 [(2, rf (B + 149)), (0, x), (0, w), (9, 0), (9, 0)] [(0, 1)] (hset h (B + 149) 0 (c : Int))) P := fun c hc q => by
    have l2 : LX B n (hset h (B + 149) 0 (c : Int)) := LX.setF 149 0 l (by decide +kernel)
    exact Ends.eq (b745_34 l2 (by omega)) (Ends.b0 (fun z => absurd z (by decide)) (fun _ => Ends.sm q))
  by_cases hx : 0 ≤ x ∧ x < (D : Int)
  rotate_left
  · rw [show (if x < 0 then (1 : Int) else if x < (D : Int) then (if w < 0 then 2 else if 2 < w then 2 else 0) else 1) = ((1 : Nat) : Int) from by
      by_cases y : x < 0
      · rw [if_pos y]; rfl
      · rw [if_neg y, if_neg (by omega)]; rfl]
    exact Ends.mbad l (by omega) (c := 1) (by decide) rfl (bad 1 (by decide) (K _ _ (Or.inl ⟨hx, rfl, rfl⟩)))
  rw [if_neg (show ¬ x < 0 by omega), if_pos hx.2]
  by_cases hw : 0 ≤ w ∧ w ≤ 2
  rotate_left
  · rw [show (if w < 0 then (2 : Int) else if 2 < w then 2 else 0) = ((2 : Nat) : Int) from by
      by_cases y : w < 0
      · rw [if_pos y]; rfl
      · rw [if_neg y, if_pos (by omega)]; rfl]
    exact Ends.mbad l (by omega) (c := 2) (by decide) rfl (bad 2 (by decide) (K _ _ (Or.inr (Or.inl ⟨hx, hw, rfl, rfl⟩))))
  rw [if_neg (show ¬ w < 0 by omega), if_neg (show ¬ 2 < w by omega)]
  refine Ends.mok l (by omega) rfl ?_
  have l2 : LX B n (hset h (B + 149) 0 0) := LX.setF 149 0 l (by decide +kernel)
  have g2 : Agr (fun c k => c = B + 149 ∧ k = 0) h (hset h (B + 149) 0 0) := Agr.rf.set ⟨rfl, rfl⟩
  have v0 : hv (hset h (B + 149) 0 0) (B + 149) 0 = 0 := hv_set_at ..
  generalize hset h (B + 149) 0 0 = h2 at *
  obtain ⟨i, rfl⟩ : ∃ i : Nat, x = (i : Int) := ⟨x.toNat, by omega⟩
  have hi : i < D := by omega
  have dm2 : DmM B h2 D VV := ⟨by rw [g2.at _ _ (by omega)]; exact dm.1, d16, fun i k hi hk => by rw [g2.at _ _ (by omega)]; exact dm.2.2 i k hi hk⟩
  refine Ends.eq (b745_34 l2 (by omega)) (Ends.b0 (fun _ => ?_) (fun z => absurd rfl z))
  refine Ends.ct l2 (by decide +kernel) (by decide) (c_isThere719 l2 (by omega) hn0 hn (tb.agr g2 (fun c k a b _ z => by omega)) (bd.agr g2 (fun k z => by omega) (fun s k _ _ z => by omega)) (f.agr g2 (fun k => by omega) (by omega) (by omega) (fun k => by omega)) (M.agr g2 (fun k z => by omega)) dm2 dg hi) (fun v h3 l3 _ _ _ ⟨mm, F, r, y1, y2, y3, y4, y5⟩ => ?_)
  have fin : ∀ v, v = msV r (VV i 6) (VV i 7) w → P ((0, (0, v)), h3) := fun v e => K _ _ (Or.inr (Or.inr ⟨hx, hw, by rw [y3.at _ _ (fun z => by have := itW_in z; omega)]; exact v0, mm, F, r, y1, y2, (g2.sub (fun c k z => Or.inr z)).tr y3 (fun c k z => Or.inl z), by rw [tn]; exact y4, by rw [tn]; exact e⟩))
  refine Ends.eq (b745_44 l3 (by omega)) ?_
  rcases y5 with ⟨v0', r0⟩ | ⟨v1, rb, e155⟩
  · rw [v0']
    exact Ends.b1 (fun z => absurd rfl z) (fun _ => Ends.sm (fin _ (by unfold msV; rw [if_pos r0])))
  rw [v1, e155]
  refine Ends.b1 (fun _ => ?_) (fun z => absurd z (by decide))
  obtain ⟨-, g6, g7⟩ := dg i hi
  have e8 : bop32 104 (8 : Int) (i : Int) = ((8 * i : Nat) : Int) := mulNN (x := 8) (by omega)
  have ix : ∀ k : Nat, k < 8 → bop32 96 ((8 * i : Nat) : Int) (k : Int) = ((8 * i + k : Nat) : Int) := fun k hk => addNN (by omega)
  have cells : ∀ k, k < 8 → hv h3 (B + 227) (8 * i + k) = VV i k := fun k hk => by rw [y3.at _ _ (fun z => by have := itW_in z; omega)]; exact dm2.2.2 i k hi hk
  have ab : v832 r = if r < 0 then -r else r := by
    unfold v832; rw [ct3]
    by_cases y : r < 0
    · rw [if_pos y, if_pos y, neg32 (by omega) (by omega)]
    · rw [if_neg y, if_neg y]
  have abb : 0 ≤ (if r < 0 then -r else r) ∧ (if r < 0 then -r else r) ≤ 1000 := by
    by_cases y : r < 0
    · rw [if_pos y]; omega
    · rw [if_neg y]; omega
  have rn : ¬ r = -1000000 := by omega
  rw [e8, show bop32 96 ((8 * i : Nat) : Int) (6 : Int) = ((8 * i + 6 : Nat) : Int) from ix 6 (by decide), show bop32 96 ((8 * i : Nat) : Int) (7 : Int) = ((8 * i + 7 : Nat) : Int) from ix 7 (by decide), tn, tn, cells 6 (by decide), cells 7 (by decide), ab]
  refine Ends.b1 (fun z => Ends.g ?_ (Ends.sm (fin _ ?_))) (fun z => Ends.sm (fin _ (by unfold msV; rw [if_neg rn, if_pos z])))
  · rw [ct1]
    by_cases y' : w = 1
    · rw [if_pos y']; omega
    · rw [if_neg y']; omega
  · unfold msV
    rw [if_neg rn, if_neg z, ct3, ct1]
    by_cases y' : w = 1
    · rw [if_pos y', if_pos y', sub32 (by omega) (by omega)]
    · rw [if_neg y', if_neg y', add32 (by omega) (by omega), if_neg (by omega)]
end MMS
