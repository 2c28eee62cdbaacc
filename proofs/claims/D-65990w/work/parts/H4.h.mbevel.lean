/-! L3: bevels (model) -/
noncomputable section MBV
variable {gv : Nat → Int} {B n d f1 mm kd : Nat} {h t : AH} {S V : Nat → Bool} {F mk : Nat → Nat} {N0 N1 : Nat → Int} {hh : Int}
def farW (n : Nat) (w : Int) (K g : Nat) : Int := w * sgF K * (((g8 n g (bvA K) : Nat) : Int) - 8 * plK n K)
def bvM (n : Nat) (S : Nat → Bool) (w : Int) (Ka Kb : Nat) (hh : Int) (g : Nat) : Bool := decide ((0 < farW n w Ka g ∧ 0 < farW n w Kb g) ∧ farW n w Ka g + farW n w Kb g ≤ 8 * hh) && (mqB n (bvA Ka) (bvA Kb) (3 - bvA Ka - bvA Kb) (plK n Ka) (plK n Kb) (FRb n (bdr n S) Ka) (gC n g (3 - bvA Ka - bvA Kb)) && mqB n (bvA Ka) (bvA Kb) (3 - bvA Ka - bvA Kb) (plK n Ka) (plK n Kb) (FRb n (bdr n S) Kb) (gC n g (3 - bvA Ka - bvA Kb)))
/-- going over a face for edges -/
theorem c_goEdge {i a b c by0 : Nat} {pa pb : Int} (l : LX B n h) (hd : 27 ≤ d) (hn : n ≤ 52) (m : TbM B h) (b11 : MB B n h 11 S) (nw : NwF B n h S) (f : MFc B n h 11 S mm F) (hi : i < min mm 4096) (ha : a < 3) (hb : b < 3) (hc : c < 3) (hby : by0 + n ≤ 4 * n * n) (hpa : -400 ≤ pa ∧ pa ≤ 400) (hpb : -400 ≤ pb ∧ pb ≤ 400) (eg : EgF B h a b c pa pb by0) (z : ∀ x, x < n → hv h (B + 240) (by0 + x) = 0) :
    Vd (cll PP (ev PP (gsF gv) B) d 657 [(2, rf (B + 149)), (0, 11), (0, (i : Int)), (0, 4)] h) (fun h' => Agr (fun c k => fdfW B c k ∨ egW B n by0 c k) h h' ∧ NwF B n h' S ∧ ∀ x, x < n → hv h' (B + 240) (by0 + x) = if mqB n a b c pa pb (FRb n (bdr n S) (F i)) x = true then 1 else 0) := by
  obtain ⟨f1, f2, f3⟩ := f.fst hi
  have m4 : min mm 4096 ≤ 4096 := Nat.min_le_right _ _
  have wt : MWat gv B n (bdr n S) (F i) 4 (i : Int) (egW B n by0) (EgI B n a b c pa pb by0) := fun d hd V K q lq I hK hV _ => c_visitEdge lq hd hn ha hb hc hby hpa hpb I hK
  obtain ⟨h', e, P, p1, p2, p3, -, -, p5⟩ := c_goOver657 (gv := gv) (d := d) (s := 11) (i := i) (md := 4) l hd hn m (by decide) b11 nw.1 (by omega) f1 f2 f3 wt ⟨m, eg, fun x hx => by rw [z x hx, mqB_none, if_neg Bool.false_ne_true]⟩ (fun c k z y => by unfold egW at z; unfold flN fdfW at y; omega) (fun V q q' ⟨t1, ⟨t2, t3, t4, t5, t6, t7⟩, t8⟩ g => ⟨t1.agr g (fun c k a b _ z => by unfold fdfW at z; omega), ⟨by rw [g.at _ _ (by unfold fdfW; omega)]; exact t2, by rw [g.at _ _ (by unfold fdfW; omega)]; exact t3, by rw [g.at _ _ (by unfold fdfW; omega)]; exact t4, by rw [g.at _ _ (by unfold fdfW; omega)]; exact t5, by rw [g.at _ _ (by unfold fdfW; omega)]; exact t6, by rw [g.at _ _ (by unfold fdfW; omega)]; exact t7⟩, fun x hx => by rw [g.at _ _ (by unfold fdfW; omega)]; exact t8 x hx⟩)
  exact ⟨h', e, p3, ⟨p2, fun _ => ⟨mm, F, f.agr p3 (by unfold fdfW egW; omega) (by unfold fdfW egW; omega) (fun k => by unfold fdfW egW; omega)⟩⟩, fun x hx => by rw [p5 x hx, mqB_congr (fun k hk => (p1 k hk).trans FRb_iff.symm)]⟩
/-- no second face, or along the same axis -/
def noB (F : Nat → Nat) (a b : Int) : Prop := noL F b ∨ axD (drT (F b.toNat % 96)) = axD (drT (F a.toNat % 96))
def BvM (B n : Nat) (S : Nat → Bool) (kd : Nat) (N1 : Nat → Int) (hh v : Int) (q : AH) (mk : Nat → Nat) (mm : Nat) (F : Nat → Nat) (a : Int) : Prop := ∃ b, FnR (mmk mk F) (mdr F) (min mm 4096) (N1 0) (N1 1) (N1 2) b ∧ ((noB F a b ∧ v = 0 ∧ hv q (B + 149) 100 = 3 ∧ hv q (B + 149) 101 = 1) ∨ (¬ noB F a b ∧ TkM B n (if kd = 20 then 1 else 0) S (bvM n S (if kd = 20 then -1 else 1) (F a.toNat) (F b.toNat) hh) v q))
theorem farW_v {w : Int} {K g : Nat} (hn : n ≤ 52) (hw : w = 1 ∨ w = -1) (hK : K < 4 * gN n) (hg : g < gN n) : bop32 104 (bop32 104 w (sgF K)) (bop32 100 ((g8 n g (bvA K) : Nat) : Int) (bop32 104 (8 : Int) (plK n K))) = farW n w K g ∧ -10000 ≤ farW n w K g ∧ farW n w K g ≤ 10000 := by
  have b := plK_b hn hK
  have g8l := g8_lt hg (bvA K)
  have s := sgF_pm (K := K)
  have hws : w * sgF K = 1 ∨ w * sgF K = -1 := by rcases hw with e | e <;> rcases s with y | y <;> rw [e, y] <;> decide
  rw [(mulW hw (z := sgF K) (by omega)).1, mul32 (x := 8) (by omega) (by omega), sub32 (by omega) (by omega)]
  obtain ⟨y1, y2, y3⟩ := mulW hws (z := ((g8 n g (bvA K) : Nat) : Int) - 8 * plK n K) (by omega)
  rw [y1]
  unfold farW
  rcases hws with e | e
  · rw [e]; exact ⟨rfl, by omega, by omega⟩
  · rw [e]; exact ⟨rfl, by omega, by omega⟩
set_option maxHeartbeats 4000000 in
theorem c_bevel558 (l : LX B n h) (hd : 40 ≤ d) (hn0 : 0 < n) (hn : n ≤ 52) (m : TbM B h) (b : MB B n h 11 S) (nw : NwF B n h S) (M : MkM B n h mk) (F1 : YF B f1 h) (hk : hv h f1 1 = (kd : Int)) (hkd : kd = 20 ∨ kd = 21) (fd0 : FnM B h f1 0 N0) (fd1 : FnM B h f1 1 N1) (n20 : 0 ≤ N0 2 ∧ N0 2 < 1000000) (n21 : 0 ≤ N1 2 ∧ N1 2 < 1000000) (e2 : hv h (B + 198) 2 = hh) (bh : -200 ≤ hh ∧ hh ≤ 200) :
    Vt 0 (cll PP (ev PP (gsF gv) B) d 558 [(2, rf (B + 149)), (2, rf f1)] h) (fun v h' => Agr (byM B n) h h' ∧ NwF B n h' S ∧ LvR B n S mk N0 (fun mk mm F a => BvM B n S kd N1 hh v h' mk mm F a) v h') := by
  have hN := gN_le hn
  have nn := n4_b hn
  have n2n : 2 * n ≤ 4 * n * n := by
    have := Nat.mul_le_mul_left (4 * n) hn0
    omega
  have kf : B + 246 ≤ f1 := F1.1.2
  refine Vt.inq (D := 39) hd (Nat.le_of_ble_eq_true rfl) rfl (fun d hd Q K => ?_)
  refine Ends.eq (b558_0 l (by omega)) ?_
  refine Ends.ct l (by decide +kernel) (by decide) (e_level (k := 0) l (by omega) hn0 hn m b nw M F1 fd0 (by decide) n20) (fun a h2 l2 _ _ _ ⟨mm, F, c0, f2, r, nw2, g2⟩ => ?_)
  have fail : ∀ (q : AH) (u3 u4 u5 u6 u7 u8 u9 u10 u11 u12 u13 u14 : AV), LX B n q → Agr (byM B n) h q → NwF B n q S → noL F a → Ends (ev PP (gsF gv) B d 558 19 [(2, rf (B + 149)), (2, rf f1), (0, a), u3, u4, u5, u6, u7, u8, u9, u10, u11, u12, u13, u14] [] q) Q := fun q u3 u4 u5 u6 u7 u8 u9 u10 u11 u12 u13 u14 lq g nwq no => by
    refine Ends.eq (b558_19 lq (by omega)) ?_
    refine Ends.ct lq (by decide +kernel) (by decide) (c_because552 (x := 3) (y := 0) lq (by omega)) (fun v q2 l2 _ _ _ ⟨v0, g3, w0, w1⟩ => ?_)
    refine Ends.eq (b558_25 l2 (by omega)) (Ends.g (Or.inl v0) (Ends.sm (K _ _ ⟨g.tr g3 (fun c k z => Or.inl (be_al z)), nwq.al (g3.sub (fun c k z => be_al z)), mm, F, a, c0, r, Or.inl ⟨no, v0, w0, w1⟩⟩)))
  refine Ends.eq (b558_6 l2 (by omega)) (Ends.b2 (fun z => fail h2 _ _ _ _ _ _ _ _ _ _ _ _ l2 g2 nw2 (Or.inl z)) (fun a0 => ?_))
  obtain ⟨y, ey, hy⟩ : ∃ y : Nat, a = (y : Int) ∧ y < min mm 4096 := by
    rcases r.lt with w | ⟨x, w, hx⟩
    · omega
    · exact ⟨x, w, hx⟩
  subst ey
  have hK := (f2.fst hy).2.1
  refine Ends.ct l2 (by decide +kernel) (by decide) (c_isLevel701 l2 (by omega) hn (by_tb m g2) f2 hy) (fun v h3 l3 _ _ _ ⟨g3, r3⟩ => ?_)
  have G3 : Agr (byM B n) h h3 := g2.tr g3 (fun c k z => lv_by z)
  have nw3 := nw2.lv g3
  refine Ends.eq (b558_16 l3 (by omega)) ?_
  rcases r3 with ⟨v0, no⟩ | ⟨v1, lev, w107, w109, w108⟩
  · rw [v0]
    exact Ends.b1 (fun z => absurd rfl z) (fun _ => fail h3 _ _ _ _ _ _ _ _ _ _ _ _ l3 G3 nw3 (Or.inr (by rw [tn]; exact no)))
  rw [v1]
  have axy : axD (drT (F y % 96)) = ((bvA (F y) : Nat) : Int) ∧ bvA (F y) < 3 := by
    rcases axD_lt (K := F y) with z | z
    · omega
    · exact z
  have yes : ¬ noL F ((y : Nat) : Int) := fun w => by
    rcases w with w | w
    · omega
    · rw [tn] at w; omega
  obtain ⟨ax, eax⟩ : ∃ ax, ax = bvA (F y) := ⟨_, rfl⟩
  obtain ⟨pa, epa⟩ : ∃ pa, pa = plK n (F y) := ⟨_, rfl⟩
  have hax : ax < 3 := by rw [eax]; exact axy.2
  rw [w107, w108, w109, axy.1, ← eax, ← epa]
  refine Ends.b1 (fun _ => ?_) (fun z => absurd z (by decide))
  -- the second face
  refine Ends.ct l3 (by decide +kernel) (by decide) (e_level (k := 1) l3 (by omega) hn0 hn (by_tb m G3) (by_row b (by decide) G3) nw3 (by_mk M G3) (by_yf F1 G3) (by_fn fd1 G3) (by decide) n21) (fun b2 h4 l4 _ _ _ ⟨mm4, F4, c4, f4, r4, nw4, g4⟩ => ?_)
  have G4 : Agr (byM B n) h h4 := G3.tr g4 (fun _ _ z => z)
  obtain ⟨em, eF⟩ := c0.uniq c4
  subst em
  have eF' : ∀ k, k < min mm 4096 → F k = F4 k := fun k hk => eF k (Nat.lt_of_lt_of_le hk (Nat.min_le_left _ _))
  have r4 : FnR (mmk mk F) (mdr F) (min mm 4096) (N1 0) (N1 1) (N1 2) b2 := r4.congr (fun k hk => by unfold mmk mdr; rw [eF' k hk]; exact ⟨rfl, rfl⟩)
  have f4 : MFc B n h4 11 S mm F := ⟨c0, f4.2.1, f4.2.2.1, fun i hi => by rw [eF' i hi]; exact f4.2.2.2 i hi⟩
  have fail2 : ∀ (q : AH) (u7 u8 u9 u10 u11 u12 u13 u14 : AV), LX B n q → Agr (byM B n) h q → NwF B n q S → noB F ((y : Nat) : Int) b2 → Ends (ev PP (gsF gv) B d 558 73 [(2, rf (B + 149)), (2, rf f1), (0, (y : Int)), (0, (ax : Int)), (0, pa), (0, sgF (F y)), (0, b2), u7, u8, u9, u10, u11, u12, u13, u14] [] q) Q := fun q u7 u8 u9 u10 u11 u12 u13 u14 lq g nwq no => by
    refine Ends.eq (b558_73 lq (by omega)) ?_
    refine Ends.ct lq (by decide +kernel) (by decide) (c_because552 (x := 3) (y := 1) lq (by omega)) (fun v q2 l2 _ _ _ ⟨v0, g3, w0, w1⟩ => ?_)
    refine Ends.eq (b558_79 l2 (by omega)) (Ends.g (Or.inl v0) (Ends.sm (K _ _ ⟨g.tr g3 (fun c k z => Or.inl (be_al z)), nwq.al (g3.sub (fun c k z => be_al z)), mm, F, (y : Int), c0, r, Or.inr ⟨yes, b2, r4, Or.inl ⟨no, v0, w0, w1⟩⟩⟩)))
  refine Ends.eq (b558_49 l4 (by omega)) (Ends.b2 (fun z => fail2 h4 _ _ _ _ _ _ _ _ l4 G4 nw4 (Or.inl (Or.inl z))) (fun b0 => ?_))
  obtain ⟨y2, ey2, hy2⟩ : ∃ y : Nat, b2 = (y : Int) ∧ y < min mm 4096 := by
    rcases r4.lt with w | ⟨x, w, hx⟩
    · omega
    · exact ⟨x, w, hx⟩
  subst ey2
  have hK2 := (f4.fst hy2).2.1
  refine Ends.ct l4 (by decide +kernel) (by decide) (c_isLevel701 l4 (by omega) hn (by_tb m G4) f4 hy2) (fun v h5 l5 _ _ _ ⟨g5, r5⟩ => ?_)
  have G5 : Agr (byM B n) h h5 := G4.tr g5 (fun c k z => lv_by z)
  have nw5 := nw4.lv g5
  have f5 : MFc B n h5 11 S mm F := f4.agr g5 (by unfold lvW; omega) (by unfold lvW; omega) (fun k => by unfold lvW; omega)
  refine Ends.eq (b558_62 l5 (by omega)) ?_
  rcases r5 with ⟨v0, no⟩ | ⟨v1, lev2, x107, x109, x108⟩
  · rw [v0]
    exact Ends.b0 (fun _ => fail2 h5 _ _ _ _ _ _ _ _ l5 G5 nw5 (Or.inl (Or.inr (by rw [tn]; exact no)))) (fun z => absurd rfl z)
  rw [v1]
  have axz : axD (drT (F y2 % 96)) = ((bvA (F y2) : Nat) : Int) ∧ bvA (F y2) < 3 := by
    rcases axD_lt (K := F y2) with z | z
    · omega
    · exact z
  obtain ⟨bx, ebx⟩ : ∃ bx, bx = bvA (F y2) := ⟨_, rfl⟩
  obtain ⟨pb, epb⟩ : ∃ pb, pb = plK n (F y2) := ⟨_, rfl⟩
  have hbx : bx < 3 := by rw [ebx]; exact axz.2
  have bpa := plK_b hn hK
  have bpb := plK_b hn hK2
  rw [← epa] at bpa
  rw [← epb] at bpb
  refine Ends.b0 (fun z => absurd z (by decide)) (fun _ => ?_)
  rw [x107, x108, x109, axz.1, ← ebx, ← epb]
  refine Ends.b1 (fun ne => ?_) (fun z => fail2 h5 _ _ _ _ _ _ _ _ l5 G5 nw5 (Or.inr (by rw [tn, tn, axz.1, axy.1, ← eax, ← ebx]; exact z)))
  have ne : bx ≠ ax := fun z => ne (by rw [z])
  have yes2 : ¬ noB F ((y : Nat) : Int) ((y2 : Nat) : Int) := fun w => by
    rcases w with (w | w) | w
    · omega
    · rw [tn] at w; omega
    · rw [tn, tn] at w; omega
  obtain ⟨c, ec⟩ : ∃ c, c = 3 - ax - bx := ⟨_, rfl⟩
  have hc : c < 3 := by omega
  have bc : bop32 100 (bop32 100 (3 : Int) (ax : Int)) (bx : Int) = (c : Int) := by rw [sub32 (x := 3) (by omega) (by omega), sub32 (by omega) (by omega)]; omega
  rw [bc]
  clear bc
  -- nothing is marked yet
  have clr : ∀ (r i : Nat) (q : AH), i + r = 2 * n → LX B n q → Agr (fun c _ => c = B + 240) h5 q → (∀ C, C < i → hv q (B + 240) C = 0) → (∀ q, LX B n q → Agr (fun c _ => c = B + 240) h5 q → (∀ C, C < 2 * n → hv q (B + 240) C = 0) → Ends (ev PP (gsF gv) B d 558 109 [(2, rf (B + 149)), (2, rf f1), (0, (y : Int)), (0, (ax : Int)), (0, pa), (0, sgF (F y)), (0, (y2 : Int)), (0, (bx : Int)), (0, pb), (0, sgF (F y2)), (0, (c : Int)), (0, ((2 * n : Nat) : Int)), (9, 0), (9, 0), (9, 0)] [] q) Q) → Ends (ev PP (gsF gv) B d 558 109 [(2, rf (B + 149)), (2, rf f1), (0, (y : Int)), (0, (ax : Int)), (0, pa), (0, sgF (F y)), (0, (y2 : Int)), (0, (bx : Int)), (0, pb), (0, sgF (F y2)), (0, (c : Int)), (0, (i : Int)), (9, 0), (9, 0), (9, 0)] [] q) Q := by
    intro r
    induction r with
    | zero =>
      intro i q e lq g I kn
      have e' : i = 2 * n := by omega
      rw [e'] at I ⊢
      exact kn q lq g I
    | succ r ih =>
      intro i q e lq g I kn
      refine Ends.eq (b558_109 lq (by omega)) ?_
      rw [show bop32 104 (2 : Int) (n : Int) = ((2 * n : Nat) : Int) from mulNN (x := 2) (by omega)]
      refine Ends.b3 (fun z => by omega) (fun _ => Ends.g ⟨by omega, by omega⟩ ?_)
      rw [tn, an0, w_succ (i := i) (by omega)]
      refine ih (i + 1) _ (by omega) (LX.setS lq rfl) (g.set rfl) (fun C hC => ?_) kn
      by_cases z : C = i
      · rw [z, hv_set_at]
      · rw [hv_set_ne (fun w => z w.2)]; exact I C (by omega)
  refine clr (2 * n) 0 h5 (Nat.zero_add _) l5 Agr.rf (fun C hC => absurd hC (Nat.not_lt_zero _)) (fun h6 l6 g6 z6 => ?_)
  have G6 : Agr (byM B n) h h6 := G5.tr g6 (fun c k z => Or.inr (Or.inr (Or.inr (Or.inl z))))
  have nw6 : NwF B n h6 S := nw5.agr g6 (fun k => by omega) (by omega) (by omega) (fun k => by omega)
  have f6 : MFc B n h6 11 S mm F := f5.agr g6 (by omega) (by omega) (fun k => by omega)
  refine Ends.eq (b558_109 l6 (by omega)) ?_
  rw [show bop32 104 (2 : Int) (n : Int) = ((2 * n : Nat) : Int) from mulNN (x := 2) (by omega)]
  refine Ends.b3 (fun _ => ?_) (fun z => absurd z (Int.lt_irrefl _))
  have l7 : LX B n (hset (hset (hset (hset (hset (hset h6 (B + 149) 110 (ax : Int)) (B + 149) 111 (bx : Int)) (B + 149) 112 (c : Int)) (B + 149) 113 pa) (B + 149) 114 pb) (B + 149) 115 0) := LX.setF 149 115 (LX.setF 149 114 (LX.setF 149 113 (LX.setF 149 112 (LX.setF 149 111 (LX.setF 149 110 l6 (by decide +kernel)) (by decide +kernel)) (by decide +kernel)) (by decide +kernel)) (by decide +kernel)) (by decide +kernel)
  have g7 : Agr (fun c k => c = B + 149 ∧ 110 ≤ k ∧ k ≤ 115) h6 (hset (hset (hset (hset (hset (hset h6 (B + 149) 110 (ax : Int)) (B + 149) 111 (bx : Int)) (B + 149) 112 (c : Int)) (B + 149) 113 pa) (B + 149) 114 pb) (B + 149) 115 0) := (((((Agr.rf.set ⟨rfl, by decide, by decide⟩).set ⟨rfl, by decide, by decide⟩).set ⟨rfl, by decide, by decide⟩).set ⟨rfl, by decide, by decide⟩).set ⟨rfl, by decide, by decide⟩).set ⟨rfl, by decide, by decide⟩
  have eg7 : EgF B (hset (hset (hset (hset (hset (hset h6 (B + 149) 110 (ax : Int)) (B + 149) 111 (bx : Int)) (B + 149) 112 (c : Int)) (B + 149) 113 pa) (B + 149) 114 pb) (B + 149) 115 0) ax bx c pa pb 0 := by
    refine ⟨?_, ?_, ?_, ?_, ?_, hv_set_at ..⟩
    · rw [hv_set_ne (by omega), hv_set_ne (by omega), hv_set_ne (by omega), hv_set_ne (by omega), hv_set_ne (by omega), hv_set_at]
    · rw [hv_set_ne (by omega), hv_set_ne (by omega), hv_set_ne (by omega), hv_set_ne (by omega), hv_set_at]
    · rw [hv_set_ne (by omega), hv_set_ne (by omega), hv_set_ne (by omega), hv_set_at]
    · rw [hv_set_ne (by omega), hv_set_ne (by omega), hv_set_at]
    · rw [hv_set_ne (by omega), hv_set_at]
  generalize hset (hset (hset (hset (hset (hset h6 (B + 149) 110 (ax : Int)) (B + 149) 111 (bx : Int)) (B + 149) 112 (c : Int)) (B + 149) 113 pa) (B + 149) 114 pb) (B + 149) 115 0 = h7 at *
  have G7 : Agr (byM B n) h h7 := G6.tr g7 (fun c k z => Or.inr (Or.inr (Or.inr (Or.inr z))))
  have nw7 : NwF B n h7 S := nw6.agr g7 (fun k => by omega) (by omega) (by omega) (fun k => by omega)
  have f7 : MFc B n h7 11 S mm F := f6.agr g7 (by omega) (by omega) (fun k => by omega)
  have z7 : ∀ C, C < 2 * n → hv h7 (B + 240) C = 0 := fun C hC => by rw [g7.at _ _ (by omega)]; exact z6 C hC
  refine Ends.cv l7 (by decide +kernel) (c_goEdge (i := y) (by0 := 0) l7 (by omega) hn (by_tb m G7) (by_row b (by decide) G7) nw7 f7 hy hax hbx hc (by omega) bpa bpb eg7 (fun x hx => by rw [Nat.zero_add]; exact z7 x (by omega))) (fun h8 l8 _ _ _ ⟨g8', nw8, c8⟩ => ?_)
  have G8 : Agr (byM B n) h h8 := G7.tr g8' (fun c k z => by
    rcases z with z | z
    · exact Or.inr (Or.inl (Or.inl z))
    · unfold egW at z
      rcases z with z | z
      · exact Or.inr (Or.inl (Or.inl (Or.inr (Or.inl z))))
      · exact Or.inr (Or.inr (Or.inr (Or.inl z.1))))
  have f8 : MFc B n h8 11 S mm F := f7.agr g8' (by unfold fdfW egW; omega) (by unfold fdfW egW; omega) (fun k => by unfold fdfW egW; omega)
  refine Ends.eq (b558_176 l8 (by omega)) ?_
  have l9 : LX B n (hset h8 (B + 149) 115 (n : Int)) := LX.setF 149 115 l8 (by decide +kernel)
  have g9 : Agr (fun c k => c = B + 149 ∧ k = 115) h8 (hset h8 (B + 149) 115 (n : Int)) := Agr.rf.set ⟨rfl, rfl⟩
  have w115 : hv (hset h8 (B + 149) 115 (n : Int)) (B + 149) 115 = (n : Int) := hv_set_at ..
  generalize hset h8 (B + 149) 115 (n : Int) = h9 at *
  have at9 : ∀ k, 110 ≤ k → k ≤ 114 → hv h9 (B + 149) k = hv h7 (B + 149) k := fun k h1 h2 => by rw [g9.at _ _ (by omega), g8'.at _ _ (by unfold fdfW egW; omega)]
  have eg9 : EgF B h9 ax bx c pa pb n := by
    obtain ⟨q1, q2, q3, q4, q5, -⟩ := eg7
    exact ⟨by rw [at9 _ (by decide) (by decide)]; exact q1, by rw [at9 _ (by decide) (by decide)]; exact q2, by rw [at9 _ (by decide) (by decide)]; exact q3, by rw [at9 _ (by decide) (by decide)]; exact q4, by rw [at9 _ (by decide) (by decide)]; exact q5, w115⟩
  have G9 : Agr (byM B n) h h9 := G8.tr g9 (fun c k z => Or.inr (Or.inr (Or.inr (Or.inr (by omega)))))
  have nw9 : NwF B n h9 S := nw8.agr g9 (fun k => by omega) (by omega) (by omega) (fun k => by omega)
  have f9 : MFc B n h9 11 S mm F := f8.agr g9 (by omega) (by omega) (fun k => by omega)
  refine Ends.cv l9 (by decide +kernel) (c_goEdge (i := y2) (by0 := n) l9 (by omega) hn (by_tb m G9) (by_row b (by decide) G9) nw9 f9 hy2 hax hbx hc (by omega) bpa bpb eg9 (fun x hx => by rw [g9.at _ _ (by omega), g8'.at _ _ (by unfold fdfW egW; omega)]; exact z7 _ (by omega))) (fun h10 l10 _ _ _ ⟨g10, nw10, c10⟩ => ?_)
  have G10 : Agr (byM B n) h h10 := G9.tr g10 (fun c k z => by
    rcases z with z | z
    · exact Or.inr (Or.inl (Or.inl z))
    · unfold egW at z
      rcases z with z | z
      · exact Or.inr (Or.inl (Or.inl (Or.inr (Or.inl z))))
      · exact Or.inr (Or.inr (Or.inr (Or.inl z.1))))
  have c8' : ∀ x, x < n → hv h10 (B + 240) x = if mqB n ax bx c pa pb (FRb n (bdr n S) (F y)) x = true then 1 else 0 := fun x hx => by
    have := c8 x hx
    rw [Nat.zero_add] at this
    rw [g10.at _ _ (by unfold fdfW egW; omega), g9.at _ _ (by omega)]; exact this
  clear c8 z7 z6 eg7 eg9 w115 at9 g9 g10 g8' g7 g6
  refine Ends.eq (b558_193 l10 (by omega)) ?_
  obtain ⟨E, eE⟩ : ∃ E : Nat → Bool, E = fun x => mqB n ax bx c pa pb (FRb n (bdr n S) (F y)) x && mqB n ax bx c pa pb (FRb n (bdr n S) (F y2)) x := ⟨_, rfl⟩
  obtain ⟨w, ew⟩ : ∃ w : Int, w = if kd = 20 then -1 else 1 := ⟨_, rfl⟩
  have hw : w = 1 ∨ w = -1 := by
    rw [ew]
    by_cases z : kd = 20
    · rw [if_pos z]; exact Or.inr rfl
    · rw [if_neg z]; exact Or.inl rfl
  have tool : ∀ g, bvM n S w (F y) (F y2) hh g = (decide ((0 < farW n w (F y) g ∧ 0 < farW n w (F y2) g) ∧ farW n w (F y) g + farW n w (F y2) g ≤ 8 * hh) && E (gC n g c)) := fun g => by
    unfold bvM
    rw [eE, ec, eax, ebx, epa, epb]
  -- the tool
  have grains : ∀ (q : AH), LX B n q → Agr (fun c _ => c = B + 240) h10 q → (∀ x, x < n → hv q (B + 240) x = if E x = true then 1 else 0) → ∀ u12 u13 u14 : AV, Ends (ev PP (gsF gv) B d 558 196 [(2, rf (B + 149)), (2, rf f1), (0, (y : Int)), (0, (ax : Int)), (0, pa), (0, sgF (F y)), (0, (y2 : Int)), (0, (bx : Int)), (0, pb), (0, sgF (F y2)), (0, (c : Int)), (0, (n : Int)), u12, u13, u14] [] q) Q := fun q lq gq cq u12 u13 u14 => by
    have GQ : Agr (byM B n) h q := G10.tr gq (fun c k z => Or.inr (Or.inr (Or.inr (Or.inl z))))
    have nwq : NwF B n q S := nw10.agr gq (fun k => by omega) (by omega) (by omega) (fun k => by omega)
    refine Ends.eq (b558_196 lq (by omega)) (Ends.b3 (fun _ => ?_) (fun z => absurd z (Int.lt_irrefl _)))
    refine Ends.cv lq (by decide +kernel) (c_empty (s := 12) lq (by omega) hn (by decide)) (fun h11 l11 _ _ _ ⟨g11, m11⟩ => ?_)
    have G11 : Agr (byM B n) h h11 := GQ.tr g11 (fun c k z => Or.inl (wto_al (by decide) z))
    have nw11 := nwq.r12 g11
    have cq' : ∀ x, x < n → hv h11 (B + 240) x = if E x = true then 1 else 0 := fun x hx => by rw [g11.at _ _ (by unfold wto; omega)]; exact cq x hx
    have hkq : ∀ {q : AH}, Agr (byM B n) h q → hv q f1 1 = (kd : Int) := fun g => by rw [g.at _ _ (fun z => by have := byM_in z; omega)]; exact hk
    refine Ends.eq (b558_240 l11 (by omega) (by_yf F1 G11)) ?_
    rw [hkq G11, show cond (tst 1 (kd : Int) 20) (1 : Int) (-1) = w from by
      rw [ct1, ew]
      rcases hkd with z | z
      · rw [if_pos (by omega), if_pos z]
      · rw [if_neg (by omega), if_neg (by omega)]]
    have fin : ∀ (q : AH) (u13 u14 : AV), LX B n q → Agr (alW B n) h11 q → MB B n q 12 (fun g => false || bvM n S w (F y) (F y2) hh g) → Ends (ev PP (gsF gv) B d 558 259 [(2, rf (B + 149)), (2, rf f1), (0, (y : Int)), (0, (ax : Int)), (0, pa), (0, sgF (F y)), (0, (y2 : Int)), (0, (bx : Int)), (0, pb), (0, sgF (F y2)), (0, (c : Int)), (0, w), (0, ((gN n : Nat) : Int)), u13, u14] [] q) Q := fun q u13 u14 lq gq mq => by
      have GQ : Agr (byM B n) h q := G11.tr gq (fun c k z => Or.inl z)
      refine Ends.eq (b558_259 lq (by omega) (by_yf F1 GQ)) (Ends.b3 (fun _ => ?_) (fun z => absurd z (Int.lt_irrefl _)))
      rw [hkq GQ, show cond (tst 1 (kd : Int) 20) (0 : Int) 1 = (((if kd = 20 then 1 else 0) : Nat) : Int) from by
        rw [ct1]
        rcases hkd with z | z
        · rw [if_pos (by omega), if_pos z]; rfl
        · rw [if_neg (by omega), if_neg (by omega)]; rfl]
      refine Ends.ct lq (by decide +kernel) (by decide) (c_with865 (op := if kd = 20 then 1 else 0) (T := bvM n S w (F y) (F y2) hh) lq (by omega) hn (by_row b (by decide) GQ) (mq.congr (fun x _ => Bool.false_or _)) (by rcases hkd with z | z; rw [if_pos z]; decide; rw [if_neg (by omega)]; decide)) (fun v q3 l3 _ _ _ ⟨g3, r3⟩ => ?_)
      refine Ends.eq (b558_389 l3 (by omega)) (Ends.g (by rcases r3 with ⟨_, z, _⟩ | ⟨_, z, _⟩ <;> omega) (Ends.sm (K _ _ ⟨GQ.tr g3 (fun c k z => Or.inl z), (nw11.al gq).al g3, mm, F, (y : Int), c0, r, Or.inr ⟨yes, (y2 : Int), r4, Or.inr ⟨yes2, ?_⟩⟩⟩)))
      rw [tn, tn, ← ew]; exact r3
    refine mput (B := B) (n := n) (h := h11) (t := 12) (W := alW B n) (R0 := fun _ => false) (E := fun i q => ∀ u13 u14 : AV, Ends (ev PP (gsF gv) B d 558 259 [(2, rf (B + 149)), (2, rf f1), (0, (y : Int)), (0, (ax : Int)), (0, pa), (0, sgF (F y)), (0, (y2 : Int)), (0, (bx : Int)), (0, pb), (0, sgF (F y2)), (0, (c : Int)), (0, w), (0, (i : Int)), u13, u14] [] q) Q) (bvM n S w (F y) (F y2) hh) ?_ (fun q lq gq mq u13 u14 => fin q u13 u14 lq gq mq) h11 l11 Agr.rf m11 _ _
    intro i q hi lq gq mq go u13 u14
    have GQ : Agr (byM B n) h q := G11.tr gq (fun c k z => Or.inl z)
    have tq := by_tb m GQ
    obtain ⟨x0, y0⟩ := coord_is tq hn hi hax
    obtain ⟨x1, y1⟩ := coord_is tq hn hi hbx
    obtain ⟨x2, y2'⟩ := coord_is tq hn hi hc
    have g8l := g8_lt hi c
    have gcl : gC n i c < n := gC_lt hi
    have pq : hv q (B + 198) 2 = hh := by rw [GQ.at _ _ (fun z => by have := byM_in z; omega)]; exact e2
    have fvA := farW_v hn hw hK hi
    have fvB := farW_v hn hw hK2 hi
    rw [← eax, ← epa] at fvA
    rw [← ebx, ← epb] at fvB
    obtain ⟨va, a1, a2⟩ := fvA
    obtain ⟨vb, b1, b2⟩ := fvB
    obtain ⟨A, eA⟩ : ∃ A, A = farW n w (F y) i := ⟨_, rfl⟩
    obtain ⟨Bb, eB⟩ : ∃ Bb, Bb = farW n w (F y2) i := ⟨_, rfl⟩
    have ti := tool i
    rw [← eA, ← eB] at ti
    rw [← eA] at va a1 a2
    rw [← eB] at vb b1 b2
    refine Ends.eq (b558_259 lq (by omega) (by_yf F1 GQ)) (Ends.b3 (fun z => by omega) (fun _ => ?_))
    rw [y0, y1, y2', va, vb, show Int.toNat 2 = 2 from rfl, pq, show bop32 104 8 hh = 8 * hh from mul32 (by omega) (by omega), show bop32 96 A Bb = A + Bb from add32 (by omega) (by omega), shr3 (by omega), g8_div hi hc, tn, gq.at (B + 240) _ (by unfold alW; omega), cq' _ gcl]
    clear va vb eA eB
    have nxt : ∀ (q' : AH), LX B n q' → Agr (alW B n) h11 q' → MB B n q' 12 (fun g => false || (decide (g < i + 1) && bvM n S w (F y) (F y2) hh g)) → Ends (ev PP (gsF gv) B d 558 365 [(2, rf (B + 149)), (2, rf f1), (0, (y : Int)), (0, (ax : Int)), (0, pa), (0, sgF (F y)), (0, (y2 : Int)), (0, (bx : Int)), (0, pb), (0, sgF (F y2)), (0, (c : Int)), (0, w), (0, (i : Int)), (0, A), (0, Bb)] [] q') Q := fun q' l' g' m' => by
      refine Ends.eq (b558_365 l' (by omega)) ?_
      rw [w_succ (i := i) (by omega)]
      exact go q' l' g' m' _ _
    have skip : bvM n S w (F y) (F y2) hh i = false → Ends (ev PP (gsF gv) B d 558 365 [(2, rf (B + 149)), (2, rf f1), (0, (y : Int)), (0, (ax : Int)), (0, pa), (0, sgF (F y)), (0, (y2 : Int)), (0, (bx : Int)), (0, pb), (0, sgF (F y2)), (0, (c : Int)), (0, w), (0, (i : Int)), (0, A), (0, Bb)] [] q) Q := fun z => nxt q lq gq (mput_skip z mq)
    refine Ends.g x0 (Ends.g x1 (Ends.b5 (fun z => skip (by rw [ti, decide_eq_false (fun w => by omega), Bool.false_and])) (fun z1 => Ends.b5 (fun z => skip (by rw [ti, decide_eq_false (fun w => by omega), Bool.false_and])) (fun z2 => Ends.b4 (fun z => skip (by rw [ti, decide_eq_false (fun w => by omega), Bool.false_and])) (fun z3 => Ends.g x2 (Ends.g ⟨by omega, by omega⟩ ?_))))))
    rw [decide_eq_true (show (0 < A ∧ 0 < Bb) ∧ A + Bb ≤ 8 * hh from ⟨⟨by omega, by omega⟩, by omega⟩), Bool.true_and] at ti
    cases cb : E (gC n i c)
    · rw [if_neg Bool.false_ne_true]
      exact Ends.b1 (fun _ => skip (by rw [ti, cb])) (fun w => absurd w (by decide))
    · rw [if_pos rfl]
      refine Ends.b1 (fun w => absurd rfl w) (fun _ => ?_)
      refine Ends.cv lq (by decide +kernel) (c_putM (t := 12) lq (by omega) hn (by decide) mq hi) (fun q3 l3 _ _ _ ⟨_, g3, m3⟩ => ?_)
      exact nxt q3 l3 (gq.tr g3 (fun c k z => wto_al (by decide) z)) (mput_put (by rw [ti, cb]) m3)
  -- edges that both have
  have both : ∀ (r i : Nat) (q : AH) (u12 u13 u14 : AV), i + r = n → LX B n q → Agr (fun c k => c = B + 240 ∧ k < n) h10 q → (∀ x, x < i → hv q (B + 240) x = if E x = true then 1 else 0) → (∀ x, i ≤ x → x < n → hv q (B + 240) x = hv h10 (B + 240) x) → Ends (ev PP (gsF gv) B d 558 196 [(2, rf (B + 149)), (2, rf f1), (0, (y : Int)), (0, (ax : Int)), (0, pa), (0, sgF (F y)), (0, (y2 : Int)), (0, (bx : Int)), (0, pb), (0, sgF (F y2)), (0, (c : Int)), (0, (i : Int)), u12, u13, u14] [] q) Q := by
    intro r
    induction r with
    | zero =>
      intro i q u12 u13 u14 e lq g I J
      obtain rfl : n = i := by omega
      exact grains q lq (g.sub (fun c k z => z.1)) I _ _ _
    | succ r ih =>
      intro i q u12 u13 u14 e lq g I J
      have hi : i < n := by omega
      have Ei : E i = (mqB n ax bx c pa pb (FRb n (bdr n S) (F y)) i && mqB n ax bx c pa pb (FRb n (bdr n S) (F y2)) i) := by rw [eE]
      refine Ends.eq (b558_196 lq (by omega)) (Ends.b3 (fun z => by omega) (fun _ => ?_))
      rw [show bop32 96 (n : Int) (i : Int) = ((n + i : Nat) : Int) from addNN (by omega), tn, tn, an0, g.at (B + 240) (n + i) (by omega), c10 i hi]
      refine Ends.g ⟨by omega, by omega⟩ ?_
      have nxt : ∀ (q' : AH), LX B n q' → Agr (fun c k => c = B + 240 ∧ k < n) h10 q' → (∀ x, x < i + 1 → hv q' (B + 240) x = if E x = true then 1 else 0) → (∀ x, i + 1 ≤ x → x < n → hv q' (B + 240) x = hv h10 (B + 240) x) → Ends (ev PP (gsF gv) B d 558 228 [(2, rf (B + 149)), (2, rf f1), (0, (y : Int)), (0, (ax : Int)), (0, pa), (0, sgF (F y)), (0, (y2 : Int)), (0, (bx : Int)), (0, pb), (0, sgF (F y2)), (0, (c : Int)), (0, (i : Int)), u12, u13, u14] [] q') Q := fun q' l' g' I' J' => by
        refine Ends.eq (b558_228 l' (by omega)) ?_
        rw [w_succ (i := i) (by omega)]
        exact ih (i + 1) q' _ _ _ (by omega) l' g' I' J'
      cases cb : mqB n ax bx c pa pb (FRb n (bdr n S) (F y2)) i
      · rw [if_neg Bool.false_ne_true]
        refine Ends.b1 (fun w => absurd rfl w) (fun _ => Ends.g ⟨by omega, by omega⟩ (nxt _ (LX.setS lq rfl) (g.set ⟨rfl, hi⟩) (fun x hx => ?_) (fun x h1 h2 => ?_)))
        · by_cases z : x = i
          · rw [z, hv_set_at, Ei, cb, Bool.and_false, if_neg Bool.false_ne_true]
          · rw [hv_set_ne (fun w => z w.2)]; exact I x (by omega)
        · rw [hv_set_ne (by omega)]; exact J x (by omega) h2
      · rw [if_pos rfl]
        refine Ends.b1 (fun _ => nxt q lq g (fun x hx => ?_) (fun x h1 h2 => J x (by omega) h2)) (fun w => absurd w (by decide))
        by_cases z : x = i
        · rw [z, J i (Nat.le_refl _) hi, c8' i hi, Ei, cb, Bool.and_true]
        · exact I x (by omega)
  exact both n 0 h10 _ _ _ (Nat.zero_add _) l10 Agr.rf (fun x hx => absurd hx (Nat.not_lt_zero _)) (fun x _ _ => rfl)
end MBV
