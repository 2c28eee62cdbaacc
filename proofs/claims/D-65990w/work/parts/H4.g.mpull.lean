/-! L3: pulls and bores (model) -/
noncomputable section MPL
variable {gv : Nat → Int} {B n d f1 k mm : Nat} {h t : AH} {S V T : Nat → Bool} {F mk : Nat → Nat} {N N0 nb : Nat → Int} {x : Int}
/-- where changes by names write (model) -/
def byM (B n : Nat) : Nat → Nat → Prop := fun c k => alW B n c k ∨ fgoW B c k ∨ lvW B c k ∨ c = B + 240 ∨ (c = B + 149 ∧ 110 ≤ k ∧ k ≤ 115)
theorem byM_in {c k : Nat} (z : byM B n c k) : c = B + 186 ∨ c = B + 188 ∨ c = B + 189 ∨ c = B + 190 ∨ c = B + 201 ∨ c = B + 202 ∨ c = B + 238 ∨ c = B + 239 ∨ c = B + 240 ∨ (c = B + 236 ∧ wN n * 12 ≤ k) ∨ (c = B + 149 ∧ (74 ≤ k ∧ k ≤ 78 ∨ k = 85 ∨ k = 86 ∨ 88 ≤ k ∧ k ≤ 92 ∨ k = 100 ∨ k = 101 ∨ 107 ≤ k ∧ k ≤ 115)) := by
  unfold byM alW fgoW fdfW lvW at z; omega
theorem by_row {s : Nat} {q : AH} (b : MB B n h s S) (hs : s ≤ 11) (g : Agr (byM B n) h q) : MB B n q s S := b.agr g (fun k hk z => by
  have := byM_in z
  have := Nat.mul_le_mul_left (wN n) (show s + 1 ≤ 12 by omega)
  rw [Nat.mul_add, Nat.mul_one] at this
  omega)
theorem by_tb {q : AH} (m : TbM B h) (g : Agr (byM B n) h q) : TbM B q := m.agr g (fun c k a b e z => by have := byM_in z; omega)
theorem by_pv {m : Nat} {q : AH} (b : PvM B h m nb) (g : Agr (byM B n) h q) : PvM B q m nb := b.agr g (fun k z => by have := byM_in z; omega)
theorem by_yf {q : AH} (F1 : YF B f1 h) (g : Agr (byM B n) h q) : YF B f1 q := by
  have b := F1.1.2
  exact ⟨⟨by rw [g.hk]; exact F1.1.1, b⟩, by rw [g.hk]; exact F1.2.1, by rw [g.at _ _ (fun z => by have := byM_in z; omega)]; exact F1.2.2⟩
theorem by_mk {q : AH} (M : MkM B n h mk) (g : Agr (byM B n) h q) : MkM B n q mk := M.agr g (fun k z => by have := byM_in z; omega)
theorem by_fn {q : AH} (f : FnM B h f1 k N) (g : Agr (byM B n) h q) : FnM B q f1 k N := f.agr g (fun c k z => by have := byM_in z; omega)
/-- the faces of the solid as it is -/
def NwF (B n : Nat) (h : AH) (S : Nat → Bool) : Prop := BtM n h (B + 239) (fun _ => false) ∧ (hv h (B + 149) 86 = ((11 : Nat) : Int) → ∃ mm F, MFc B n h 11 S mm F)
theorem NwF.agr {W : Nat → Nat → Prop} (f : NwF B n h S) (g : Agr W h t) (h0 : ∀ k, ¬ W (B + 239) k) (h1 : ¬ W (B + 149) 85) (h2 : ¬ W (B + 149) 86) (h3 : ∀ k, ¬ W (B + 190) k) : NwF B n t S := ⟨f.1.agr g h0, fun e => by
  rw [g.at _ _ h2] at e
  obtain ⟨mm, F, x⟩ := f.2 e
  exact ⟨mm, F, x.agr g h1 h2 h3⟩⟩
/-- what a tool makes of the solid (model) -/
def TkM (B n : Nat) (op : Nat) (S T0 : Nat → Bool) (v : Int) (q : AH) : Prop := ((∀ g, g < gN n → T0 g = false) ∧ v = 0 ∧ hv q (B + 149) 100 = 4 ∧ hv q (B + 149) 101 = 0) ∨ ((∃ g, g < gN n ∧ T0 g = true) ∧ v = 1 ∧ MB B n q 18 (fun g => jn (op : Int) (S g) (T0 g)))
def farM (n K g : Nat) : Int := sgF K * (((g8 n g (bvA K) : Nat) : Int) - 8 * plK n K)
def puM (n : Nat) (S : Nat → Bool) (K : Nat) (x : Int) (g : Nat) : Bool := decide (if 0 < x then 0 < farM n K g ∧ farM n K g < 8 * x else farM n K g < 0 ∧ 8 * x < farM n K g) && clB n (bvA K) (FRb n (bdr n S) K) (colG n (bvA K) g)
def boM (n K : Nat) (nb : Nat → Int) (g : Nat) : Bool := decide (0 < -farM n K g ∧ -farM n K g < 8 * nb 3) && und (nb 4).toNat (((g8 n g (fA (bvA K)) : Nat) : Int) - 8 * nb 1) (((g8 n g (sA (bvA K)) : Nat) : Int) - 8 * nb 2) 0
/-- there is no such face, or none across an axis -/
def noL (F : Nat → Nat) (a : Int) : Prop := a < 0 ∨ axD (drT (F a.toNat % 96)) < 0
def LvR (B n : Nat) (S : Nat → Bool) (mk : Nat → Nat) (N0 : Nat → Int) (Rs : (Nat → Nat) → Nat → (Nat → Nat) → Int → Prop) (v : Int) (q : AH) : Prop := ∃ mm F a, FcL n (bdr n S) (4 * rw3 (8 * n) (8 * n) 0 0) mm F ∧ FnR (mmk mk F) (mdr F) (min mm 4096) (N0 0) (N0 1) (N0 2) a ∧ ((noL F a ∧ v = 0 ∧ hv q (B + 149) 100 = 3 ∧ hv q (B + 149) 101 = 0) ∨ (¬ noL F a ∧ Rs mk mm F a))
theorem far_v {K g : Nat} (hn : n ≤ 52) (hK : K < 4 * gN n) (hg : g < gN n) : bop32 104 (sgF K) (bop32 100 ((g8 n g (bvA K) : Nat) : Int) (bop32 104 (8 : Int) (plK n K))) = farM n K g ∧ bop32 104 (sgF K) (bop32 100 (bop32 104 (8 : Int) (plK n K)) ((g8 n g (bvA K) : Nat) : Int)) = -farM n K g ∧ -10000 ≤ farM n K g ∧ farM n K g ≤ 10000 := by
  have b := plK_b hn hK
  have g8l := g8_lt hg (bvA K)
  rw [mul32 (x := 8) (by omega) (by omega), sub32 (by omega) (by omega), sub32 (by omega) (by omega)]
  obtain ⟨y1, y2, y3⟩ := mulW (sgF_pm (K := K)) (z := ((g8 n g (bvA K) : Nat) : Int) - 8 * plK n K) (by omega)
  obtain ⟨z1, z2, z3⟩ := mulW (sgF_pm (K := K)) (z := 8 * plK n K - ((g8 n g (bvA K) : Nat) : Int)) (by omega)
  rw [y1, z1]
  unfold farM
  rcases sgF_pm (K := K) with e | e
  · rw [e]; exact ⟨rfl, by omega, by omega, by omega⟩
  · rw [e]; exact ⟨rfl, by omega, by omega, by omega⟩
/-- a face by a name, and whether it is level -/
theorem e_level (l : LX B n h) (hd : 36 ≤ d) (hn0 : 0 < n) (hn : n ≤ 52) (m : TbM B h) (b : MB B n h 11 S) (nw : NwF B n h S) (M : MkM B n h mk) (F1 : YF B f1 h) (fd : FnM B h f1 k N0) (hk7 : k < 7) (n2 : 0 ≤ N0 2 ∧ N0 2 < 1000000) : Vt 0 (cll PP (ev PP (gsF gv) B) d 619 [(2, rf (B + 149)), (2, rf f1), (0, (k : Int))] h) (fun a h' => ∃ mm F, FcL n (bdr n S) (4 * rw3 (8 * n) (8 * n) 0 0) mm F ∧ MFc B n h' 11 S mm F ∧ FnR (mmk mk F) (mdr F) (min mm 4096) (N0 0) (N0 1) (N0 2) a ∧ NwF B n h' S ∧ Agr (byM B n) h h') := by
  obtain ⟨v, h', e, mm, F, y1, y2, y3, y4⟩ := c_faceOf619 (gv := gv) (d := d) l (by omega) hn0 hn m b nw.1 nw.2 M F1 fd hk7 n2
  exact ⟨v, h', e, mm, F, y1.1, y1, y2, ⟨y3, fun _ => ⟨mm, F, y1⟩⟩, y4.sub (fun c k z => Or.inr (Or.inl z))⟩
theorem lv_by {c k : Nat} (z : lvW B c k) : byM B n c k := Or.inr (Or.inr (Or.inl z))
theorem NwF.lv (f : NwF B n h S) (g : Agr (lvW B) h t) : NwF B n t S := f.agr g (fun k z => by unfold lvW at z; omega) (by unfold lvW; omega) (by unfold lvW; omega) (fun k z => by unfold lvW at z; omega)
theorem NwF.r12 (f : NwF B n h S) (g : Agr (wto B n 12 (wN n)) h t) : NwF B n t S := f.agr g (fun k z => by unfold wto at z; omega) (by unfold wto; omega) (by unfold wto; omega) (fun k z => by unfold wto at z; omega)
theorem NwF.al (f : NwF B n h S) (g : Agr (alW B n) h t) : NwF B n t S := f.agr g (fun k z => by unfold alW at z; omega) (by unfold alW; omega) (by unfold alW; omega) (fun k z => by unfold alW at z; omega)
/-- looking at a face's columns -/
theorem c_goCol {i : Nat} (l : LX B n h) (hd : 27 ≤ d) (hn : n ≤ 52) (m : TbM B h) (b : MB B n h 11 S) (nw : NwF B n h S) (f : MFc B n h 11 S mm F) (hi : i < min mm 4096) (hA : bvA (F i) < 3) (e107 : hv h (B + 149) 107 = ((bvA (F i) : Nat) : Int)) (z : ∀ C, C < 4 * n * n → hv h (B + 240) C = 0) :
    Vd (cll PP (ev PP (gsF gv) B) d 657 [(2, rf (B + 149)), (0, 11), (0, (i : Int)), (0, 3)] h) (fun h' => Agr (fun c k => fdfW B c k ∨ c = B + 240) h h' ∧ NwF B n h' S ∧ ∀ C, C < 4 * n * n → hv h' (B + 240) C = if clB n (bvA (F i)) (FRb n (bdr n S) (F i)) C = true then 1 else 0) := by
  obtain ⟨f1, f2, f3⟩ := f.fst hi
  have m4 : min mm 4096 ≤ 4096 := Nat.min_le_right _ _
  have wt : MWat gv B n (bdr n S) (F i) 3 (i : Int) (fun c _ => c = B + 240) (CoI B n (bvA (F i))) := fun d hd V K q lq I hK hV _ => c_visitCol lq hd hn hA I hK
  obtain ⟨h', e, P, p1, p2, p3, -, p4, p5⟩ := c_goOver657 (gv := gv) (d := d) (s := 11) (i := i) (md := 3) l hd hn m (by decide) b nw.1 (by omega) f1 f2 f3 wt ⟨m, e107, fun C hC => by rw [z C hC, clB_none, if_neg Bool.false_ne_true]⟩ (fun c k z y => by unfold flN fdfW at y; omega) (fun V q q' ⟨t1, t2, t3⟩ g => ⟨t1.agr g (fun c k a b _ z => by unfold fdfW at z; omega), by rw [g.at _ _ (by unfold fdfW; omega)]; exact t2, fun C hC => by rw [g.at _ _ (by unfold fdfW; omega)]; exact t3 C hC⟩)
  exact ⟨h', e, p3, ⟨p2, fun _ => ⟨mm, F, f.agr p3 (by unfold fdfW; omega) (by unfold fdfW; omega) (fun k => by unfold fdfW; omega)⟩⟩, fun C hC => by rw [p5 C hC, clB_congr (fun k hk => (p1 k hk).trans FRb_iff.symm)]⟩
set_option maxHeartbeats 2000000 in
theorem c_pull786 (l : LX B n h) (hd : 38 ≤ d) (hn0 : 0 < n) (hn : n ≤ 52) (m : TbM B h) (b : MB B n h 11 S) (nw : NwF B n h S) (M : MkM B n h mk) (F1 : YF B f1 h) (fd : FnM B h f1 0 N0) (n2 : 0 ≤ N0 2 ∧ N0 2 < 1000000) (e1 : hv h (B + 198) 1 = x) (bx : -200 ≤ x ∧ x ≤ 200) :
    Vt 0 (cll PP (ev PP (gsF gv) B) d 786 [(2, rf (B + 149)), (2, rf f1)] h) (fun v h' => Agr (byM B n) h h' ∧ NwF B n h' S ∧ LvR B n S mk N0 (fun _ _ F a => TkM B n (if 0 < x then 0 else 1) S (puM n S (F a.toNat) x) v h') v h') := by
  have hN := gN_le hn
  have nn := n4_b hn
  refine Vt.inq (D := 37) hd (Nat.le_of_ble_eq_true rfl) rfl (fun d hd Q K => ?_)
  refine Ends.eq (b786_0 l (by omega)) ?_
  refine Ends.ct l (by decide +kernel) (by decide) (e_level (k := 0) l (by omega) hn0 hn m b nw M F1 fd (by decide) n2) (fun a h2 l2 _ _ _ ⟨mm, F, c0, f2, r, nw2, g2⟩ => ?_)
  have fail : ∀ (q : AH) (u3 u4 u5 u6 u7 u8 : AV), LX B n q → Agr (byM B n) h q → NwF B n q S → noL F a → Ends (ev PP (gsF gv) B d 786 19 [(2, rf (B + 149)), (2, rf f1), (0, a), u3, u4, u5, u6, u7, u8] [] q) Q := fun q u3 u4 u5 u6 u7 u8 lq g nwq no => by
    refine Ends.eq (b786_19 lq (by omega)) ?_
    refine Ends.ct lq (by decide +kernel) (by decide) (c_because552 (x := 3) (y := 0) lq (by omega)) (fun v q2 l2 _ _ _ ⟨v0, g3, w0, w1⟩ => ?_)
    refine Ends.eq (b786_25 l2 (by omega)) (Ends.g (Or.inl v0) (Ends.sm (K _ _ ⟨g.tr g3 (fun c k z => Or.inl (be_al z)), nwq.al (g3.sub (fun c k z => be_al z)), mm, F, a, c0, r, Or.inl ⟨no, v0, w0, w1⟩⟩)))
  refine Ends.eq (b786_6 l2 (by omega)) (Ends.b2 (fun z => fail h2 _ _ _ _ _ _ l2 g2 nw2 (Or.inl z)) (fun a0 => ?_))
  obtain ⟨y, ey, hy⟩ : ∃ y : Nat, a = (y : Int) ∧ y < min mm 4096 := by
    rcases r.lt with w | ⟨x, w, hx⟩
    · omega
    · exact ⟨x, w, hx⟩
  subst ey
  have hK := (f2.fst hy).2.1
  refine Ends.ct l2 (by decide +kernel) (by decide) (c_isLevel701 l2 (by omega) hn (by_tb m g2) f2 hy) (fun v h3 l3 _ _ _ ⟨g3, r3⟩ => ?_)
  have G3 : Agr (byM B n) h h3 := g2.tr g3 (fun c k z => lv_by z)
  have nw3 := nw2.lv g3
  have f3 : MFc B n h3 11 S mm F := f2.agr g3 (by unfold lvW; omega) (by unfold lvW; omega) (fun k => by unfold lvW; omega)
  refine Ends.eq (b786_16 l3 (by omega)) ?_
  rcases r3 with ⟨v0, no⟩ | ⟨v1, lev, w107, w109, w108⟩
  · rw [v0]
    exact Ends.b1 (fun z => absurd rfl z) (fun _ => fail h3 _ _ _ _ _ _ l3 G3 nw3 (Or.inr (by rw [tn]; exact no)))
  rw [v1]
  have axy : axD (drT (F y % 96)) = ((bvA (F y) : Nat) : Int) ∧ bvA (F y) < 3 := by
    rcases axD_lt (K := F y) with z | z
    · omega
    · exact z
  obtain ⟨ax, eax⟩ : ∃ ax, ax = bvA (F y) := ⟨_, rfl⟩
  have hax : ax < 3 := by rw [eax]; exact axy.2
  have fA3 : fA ax < 3 := by have := @fA_2 ax; omega
  have sA3 : sA ax < 3 := by have := @sA_2 ax; omega
  have yes : ¬ noL F ((y : Nat) : Int) := fun w => by
    rcases w with w | w
    · omega
    · rw [tn] at w; omega
  have w107 : hv h3 (B + 149) 107 = (ax : Int) := by rw [w107, axy.1, eax]
  refine Ends.b1 (fun _ => ?_) (fun z => absurd z (by decide))
  refine Ends.cv l3 (by decide +kernel) (c_empty (s := 12) l3 (by omega) hn (by decide)) (fun h4 l4 _ _ _ ⟨g4, m4⟩ => ?_)
  have G4 : Agr (byM B n) h h4 := G3.tr g4 (fun c k z => Or.inl (wto_al (by decide) z))
  have nw4 := nw3.r12 g4
  have f4 : MFc B n h4 11 S mm F := f3.agr g4 (by unfold wto; omega) (by unfold wto; omega) (fun k => by unfold wto; omega)
  have at4 : ∀ k, hv h4 (B + 149) k = hv h3 (B + 149) k := fun k => g4.at _ _ (by unfold wto; omega)
  have ex : hv h3 (B + 198) (Int.toNat (1 : Int)) = x := by rw [show Int.toNat (1 : Int) = 1 from rfl, G3.at _ _ (fun z => by have := byM_in z; omega)]; exact e1
  refine Ends.eq (b786_39 l4 (by omega)) ?_
  rw [at4, w107, (f635_is hax).1, (f635_is hax).2, ex]
  have d4 : MB B n h4 12 (fun _ => false) := m4
  -- no column yet
  have clr : ∀ (r i : Nat) (q : AH), i + r = 4 * n * n → LX B n q → Agr (fun c _ => c = B + 240) h4 q → (∀ C, C < i → hv q (B + 240) C = 0) → (∀ q, LX B n q → Agr (fun c _ => c = B + 240) h4 q → (∀ C, C < 4 * n * n → hv q (B + 240) C = 0) → Ends (ev PP (gsF gv) B d 786 60 [(2, rf (B + 149)), (2, rf f1), (0, (y : Int)), (0, x), (0, ((fA ax : Nat) : Int)), (0, ((sA ax : Nat) : Int)), (0, ((4 * n * n : Nat) : Int)), (9, 0), (9, 0)] [] q) Q) → Ends (ev PP (gsF gv) B d 786 60 [(2, rf (B + 149)), (2, rf f1), (0, (y : Int)), (0, x), (0, ((fA ax : Nat) : Int)), (0, ((sA ax : Nat) : Int)), (0, (i : Int)), (9, 0), (9, 0)] [] q) Q := by
    intro r
    induction r with
    | zero =>
      intro i q e lq g I kn
      have e' : i = 4 * n * n := by omega
      rw [e'] at I ⊢
      exact kn q lq g I
    | succ r ih =>
      intro i q e lq g I kn
      refine Ends.eq (b786_60 lq (by omega)) (Ends.b3 (fun z => by omega) (fun _ => Ends.g ⟨by omega, by omega⟩ ?_))
      rw [tn, an0, w_succ (i := i) (by omega)]
      refine ih (i + 1) _ (by omega) (LX.setS lq rfl) (g.set rfl) (fun C hC => ?_) kn
      by_cases z : C = i
      · rw [z, hv_set_at]
      · rw [hv_set_ne (fun w => z w.2)]; exact I C (by omega)
  refine clr (4 * n * n) 0 h4 (Nat.zero_add _) l4 Agr.rf (fun C hC => absurd hC (Nat.not_lt_zero _)) (fun h5 l5 g5 z5 => ?_)
  have G5 : Agr (byM B n) h h5 := G4.tr g5 (fun c k z => Or.inr (Or.inr (Or.inr (Or.inl z))))
  have nw5 : NwF B n h5 S := nw4.agr g5 (fun k => by omega) (by omega) (by omega) (fun k => by omega)
  have f5 : MFc B n h5 11 S mm F := f4.agr g5 (by omega) (by omega) (fun k => by omega)
  refine Ends.eq (b786_60 l5 (by omega)) (Ends.b3 (fun _ => ?_) (fun z => absurd z (Int.lt_irrefl _)))
  refine Ends.cv l5 (by decide +kernel) (c_goCol (i := y) l5 (by omega) hn (by_tb m G5) (by_row b (by decide) G5) nw5 f5 hy axy.2 (by rw [g5.at _ _ (by omega), at4, w107, eax]) z5) (fun h6 l6 _ _ _ ⟨g6, nw6, c6⟩ => ?_)
  have G6 : Agr (byM B n) h h6 := G5.tr g6 (fun c k z => by rcases z with z | z; exact Or.inr (Or.inl (Or.inl z)); exact Or.inr (Or.inr (Or.inr (Or.inl z))))
  have d6 : MB B n h6 12 (fun _ => false) := (d4.agr g5 (fun k _ => by omega)).agr g6 (fun k _ z => by unfold fdfW at z; omega)
  have at6 : ∀ k, 107 ≤ k → k ≤ 109 → hv h6 (B + 149) k = hv h3 (B + 149) k := fun k h1 h2 => by rw [g6.at _ _ (by unfold fdfW; omega), g5.at _ _ (by omega), at4]
  refine Ends.eq (b786_92 l6 (by omega)) ?_
  obtain ⟨pK, epK⟩ : ∃ pK, pK = plK n (F y) := ⟨_, rfl⟩
  have fin : ∀ (q : AH) (u7 u8 : AV), LX B n q → Agr (alW B n) h6 q → MB B n q 12 (fun g => false || puM n S (F y) x g) → Ends (ev PP (gsF gv) B d 786 95 [(2, rf (B + 149)), (2, rf f1), (0, (y : Int)), (0, x), (0, ((fA ax : Nat) : Int)), (0, ((sA ax : Nat) : Int)), (0, ((gN n : Nat) : Int)), u7, u8] [] q) Q := fun q u7 u8 lq gq mq => by
    have GQ : Agr (byM B n) h q := G6.tr gq (fun c k z => Or.inl z)
    refine Ends.eq (b786_95 lq (by omega)) (Ends.b3 (fun _ => ?_) (fun z => absurd z (Int.lt_irrefl _)))
    rw [show cond (tst 5 x 0) (1 : Int) 0 = (((if 0 < x then 0 else 1) : Nat) : Int) from by
      rw [ct5]
      by_cases z : 0 < x
      · rw [if_pos z, if_pos z]; rfl
      · rw [if_neg z, if_neg z]; rfl]
    refine Ends.ct lq (by decide +kernel) (by decide) (c_with865 (op := if 0 < x then 0 else 1) (T := puM n S (F y) x) lq (by omega) hn (by_row b (by decide) GQ) (mq.congr (fun x _ => Bool.false_or _)) (by by_cases z : 0 < x; rw [if_pos z]; decide; rw [if_neg z]; decide)) (fun v q3 l3 _ _ _ ⟨g3, r3⟩ => ?_)
    refine Ends.eq (b786_237 l3 (by omega)) (Ends.g (by rcases r3 with ⟨_, z, _⟩ | ⟨_, z, _⟩ <;> omega) (Ends.sm (K _ _ ⟨GQ.tr g3 (fun c k z => Or.inl z), (nw6.al gq).al g3, mm, F, (y : Int), c0, r, Or.inr ⟨yes, ?_⟩⟩)))
    show TkM B n (if 0 < x then 0 else 1) S (puM n S (F ((y : Nat) : Int).toNat) x) v q3; rw [tn]; exact r3
  refine mput (B := B) (n := n) (h := h6) (t := 12) (W := alW B n) (R0 := fun _ => false) (E := fun i q => ∀ u7 u8 : AV, Ends (ev PP (gsF gv) B d 786 95 [(2, rf (B + 149)), (2, rf f1), (0, (y : Int)), (0, x), (0, ((fA ax : Nat) : Int)), (0, ((sA ax : Nat) : Int)), (0, (i : Int)), u7, u8] [] q) Q) (puM n S (F y) x) ?_ (fun q lq gq mq u7 u8 => fin q u7 u8 lq gq mq) h6 l6 Agr.rf d6 _ _
  intro i q hi lq gq mq go u7 u8
  have tq := by_tb m (G6.tr gq (fun c k z => Or.inl z))
  obtain ⟨x0, y0⟩ := coord_is tq hn hi hax
  obtain ⟨x1, y1⟩ := coord_is tq hn hi fA3
  obtain ⟨x2, y2⟩ := coord_is tq hn hi sA3
  have atq : ∀ k, 107 ≤ k → k ≤ 109 → hv q (B + 149) k = hv h3 (B + 149) k := fun k h1 h2 => by rw [gq.at _ _ (by unfold alW; omega)]; exact at6 k h1 h2
  have fv := far_v hn hK hi
  rw [← eax] at fv
  obtain ⟨fv1, -, fb1, fb2⟩ := fv
  have cl := cl_lt (n := n) hi hax
  have e8 : bop32 104 (8 : Int) x = 8 * x := mul32 (by omega) (by omega)
  refine Ends.eq (b786_95 lq (by omega)) (Ends.b3 (fun z => by omega) (fun _ => ?_))
  rw [atq 107 (by decide) (by decide), atq 108 (by decide) (by decide), atq 109 (by decide) (by decide), w107, w108, w109, y0, fv1, y1, y2, v573_is hn hi hax, tn, gq.at (B + 240) _ (by unfold alW; omega), c6 _ cl, e8, ← eax]
  obtain ⟨fr, efr⟩ : ∃ fr, fr = farM n (F y) i := ⟨_, rfl⟩
  rw [← efr] at fb1 fb2 ⊢
  have pis : puM n S (F y) x i = (decide (if 0 < x then 0 < fr ∧ fr < 8 * x else fr < 0 ∧ 8 * x < fr) && clB n ax (FRb n (bdr n S) (F y)) (colG n ax i)) := by rw [efr, eax]; rfl
  have isv : cond (tst 5 x 0) (cond (tst 3 fr 0) (0 : Int) (cond (tst 5 fr (8 * x)) 0 1)) (cond (tst 5 fr 0) 0 (cond (tst 3 fr (8 * x)) 0 1)) = if (if 0 < x then 0 < fr ∧ fr < 8 * x else fr < 0 ∧ 8 * x < fr) then 1 else 0 := by
    rw [ct5, ct3, ct5, ct5, ct3]
    by_cases z : 0 < x
    · rw [if_pos z]
      simp only [if_pos z]
      by_cases z1 : 0 < fr
      · rw [if_pos z1]
        by_cases z2 : fr < 8 * x
        · rw [if_pos z2, if_pos ⟨z1, z2⟩]
        · rw [if_neg z2, if_neg (fun w => z2 w.2)]
      · rw [if_neg z1, if_neg (fun w => z1 w.1)]
    · rw [if_neg z]
      simp only [if_neg z]
      by_cases z1 : fr < 0
      · rw [if_pos z1]
        by_cases z2 : 8 * x < fr
        · rw [if_pos z2, if_pos ⟨z1, z2⟩]
        · rw [if_neg z2, if_neg (fun w => z2 w.2)]
      · rw [if_neg z1, if_neg (fun w => z1 w.1)]
  rw [isv]
  clear isv efr
  have nxt : ∀ (q' : AH) (x7 x8 : Int), LX B n q' → Agr (alW B n) h6 q' → MB B n q' 12 (fun g => false || (decide (g < i + 1) && puM n S (F y) x g)) → Ends (ev PP (gsF gv) B d 786 218 [(2, rf (B + 149)), (2, rf f1), (0, (y : Int)), (0, x), (0, ((fA ax : Nat) : Int)), (0, ((sA ax : Nat) : Int)), (0, (i : Int)), (0, x7), (0, x8)] [] q') Q := fun q' x7 x8 l' g' m' => by
    refine Ends.eq (b786_218 l' (by omega)) ?_
    rw [w_succ (i := i) (by omega)]
    exact go q' l' g' m' _ _
  by_cases z : (if 0 < x then 0 < fr ∧ fr < 8 * x else fr < 0 ∧ 8 * x < fr)
  rotate_left
  · rw [if_neg z]
    exact Ends.g x0 (Ends.b0 (fun _ => nxt q _ _ lq gq (mput_skip (by rw [pis, decide_eq_false z, Bool.false_and]) mq)) (fun w => absurd rfl w))
  rw [if_pos z]
  rw [decide_eq_true z, Bool.true_and] at pis
  refine Ends.g x0 (Ends.b0 (fun w => absurd w (by decide)) (fun _ => Ends.g x1 (Ends.g x2 (Ends.g ⟨by omega, by omega⟩ ?_))))
  cases cb : clB n ax (FRb n (bdr n S) (F y)) (colG n ax i)
  · rw [if_neg Bool.false_ne_true]
    exact Ends.b1 (fun _ => nxt q _ _ lq gq (mput_skip (by rw [pis, cb]) mq)) (fun w => absurd w (by decide))
  · rw [if_pos rfl]
    refine Ends.b1 (fun w => absurd rfl w) (fun _ => ?_)
    refine Ends.cv lq (by decide +kernel) (c_putM (t := 12) lq (by omega) hn (by decide) mq hi) (fun q3 l3 _ _ _ ⟨_, g3, m3⟩ => ?_)
    exact nxt q3 _ _ l3 (gq.tr g3 (fun c k z => wto_al (by decide) z)) (mput_put (by rw [pis, cb]) m3)
set_option maxHeartbeats 2000000 in
theorem c_bore560 (l : LX B n h) (hd : 38 ≤ d) (hn0 : 0 < n) (hn : n ≤ 52) (m : TbM B h) (b : MB B n h 11 S) (nw : NwF B n h S) (M : MkM B n h mk) (F1 : YF B f1 h) (fd : FnM B h f1 0 N0) (n2 : 0 ≤ N0 2 ∧ N0 2 < 1000000) (pv : ∀ k, 1 ≤ k → k < 5 → hv h (B + 198) k = nb k) (bb : ∀ k, k < 5 → -200 ≤ nb k ∧ nb k ≤ 200) (b4 : 1 ≤ nb 4 ∧ nb 4 ≤ 64) :
    Vt 0 (cll PP (ev PP (gsF gv) B) d 560 [(2, rf (B + 149)), (2, rf f1)] h) (fun v h' => Agr (byM B n) h h' ∧ NwF B n h' S ∧ LvR B n S mk N0 (fun _ _ F a => TkM B n 1 S (boM n (F a.toNat) nb) v h') v h') := by
  have hN := gN_le hn
  refine Vt.inq (D := 37) hd (Nat.le_of_ble_eq_true rfl) rfl (fun d hd Q K => ?_)
  refine Ends.eq (b560_0 l (by omega)) ?_
  refine Ends.ct l (by decide +kernel) (by decide) (e_level (k := 0) l (by omega) hn0 hn m b nw M F1 fd (by decide) n2) (fun a h2 l2 _ _ _ ⟨mm, F, c0, f2, r, nw2, g2⟩ => ?_)
  have fail : ∀ (q : AH) (u3 u4 : AV), LX B n q → Agr (byM B n) h q → NwF B n q S → noL F a → Ends (ev PP (gsF gv) B d 560 19 [(2, rf (B + 149)), (2, rf f1), (0, a), u3, u4] [] q) Q := fun q u3 u4 lq g nwq no => by
    refine Ends.eq (b560_19 lq (by omega)) ?_
    refine Ends.ct lq (by decide +kernel) (by decide) (c_because552 (x := 3) (y := 0) lq (by omega)) (fun v q2 l2 _ _ _ ⟨v0, g3, w0, w1⟩ => ?_)
    refine Ends.eq (b560_25 l2 (by omega)) (Ends.g (Or.inl v0) (Ends.sm (K _ _ ⟨g.tr g3 (fun c k z => Or.inl (be_al z)), nwq.al (g3.sub (fun c k z => be_al z)), mm, F, a, c0, r, Or.inl ⟨no, v0, w0, w1⟩⟩)))
  refine Ends.eq (b560_6 l2 (by omega)) (Ends.b2 (fun z => fail h2 _ _ l2 g2 nw2 (Or.inl z)) (fun a0 => ?_))
  obtain ⟨y, ey, hy⟩ : ∃ y : Nat, a = (y : Int) ∧ y < min mm 4096 := by
    rcases r.lt with w | ⟨x, w, hx⟩
    · omega
    · exact ⟨x, w, hx⟩
  subst ey
  have hK := (f2.fst hy).2.1
  refine Ends.ct l2 (by decide +kernel) (by decide) (c_isLevel701 l2 (by omega) hn (by_tb m g2) f2 hy) (fun v h3 l3 _ _ _ ⟨g3, r3⟩ => ?_)
  have G3 : Agr (byM B n) h h3 := g2.tr g3 (fun c k z => lv_by z)
  have nw3 := nw2.lv g3
  refine Ends.eq (b560_16 l3 (by omega)) ?_
  rcases r3 with ⟨v0, no⟩ | ⟨v1, lev, w107, w109, w108⟩
  · rw [v0]
    exact Ends.b1 (fun z => absurd rfl z) (fun _ => fail h3 _ _ l3 G3 nw3 (Or.inr (by rw [tn]; exact no)))
  rw [v1]
  have axy : axD (drT (F y % 96)) = ((bvA (F y) : Nat) : Int) ∧ bvA (F y) < 3 := by
    rcases axD_lt (K := F y) with z | z
    · omega
    · exact z
  obtain ⟨ax, eax⟩ : ∃ ax, ax = bvA (F y) := ⟨_, rfl⟩
  have hax : ax < 3 := by rw [eax]; exact axy.2
  have fA3 : fA ax < 3 := by have := @fA_2 ax; omega
  have sA3 : sA ax < 3 := by have := @sA_2 ax; omega
  have yes : ¬ noL F ((y : Nat) : Int) := fun w => by
    rcases w with w | w
    · omega
    · rw [tn] at w; omega
  have w107 : hv h3 (B + 149) 107 = (ax : Int) := by rw [w107, axy.1, eax]
  refine Ends.b1 (fun _ => ?_) (fun z => absurd z (by decide))
  refine Ends.cv l3 (by decide +kernel) (c_empty (s := 12) l3 (by omega) hn (by decide)) (fun h4 l4 _ _ _ ⟨g4, m4⟩ => ?_)
  have G4 : Agr (byM B n) h h4 := G3.tr g4 (fun c k z => Or.inl (wto_al (by decide) z))
  have nw4 := nw3.r12 g4
  have at4 : ∀ k, hv h4 (B + 149) k = hv h3 (B + 149) k := fun k => g4.at _ _ (by unfold wto; omega)
  refine Ends.eq (b560_32 l4 (by omega)) ?_
  obtain ⟨rr, err⟩ : ∃ rr : Nat, nb 4 = (rr : Int) := ⟨(nb 4).toNat, by omega⟩
  have fin : ∀ (q : AH) (u4 : AV), LX B n q → Agr (alW B n) h4 q → MB B n q 12 (fun g => false || boM n (F y) nb g) → Ends (ev PP (gsF gv) B d 560 34 [(2, rf (B + 149)), (2, rf f1), (0, (y : Int)), (0, ((gN n : Nat) : Int)), u4] [] q) Q := fun q u4 lq gq mq => by
    have GQ : Agr (byM B n) h q := G4.tr gq (fun c k z => Or.inl z)
    refine Ends.eq (b560_34 lq (by omega)) (Ends.b3 (fun _ => ?_) (fun z => absurd z (Int.lt_irrefl _)))
    refine Ends.ct lq (by decide +kernel) (by decide) (c_with865 (op := 1) (T := boM n (F y) nb) lq (by omega) hn (by_row b (by decide) GQ) (mq.congr (fun x _ => Bool.false_or _)) (by decide)) (fun v q3 l3 _ _ _ ⟨g3, r3⟩ => ?_)
    refine Ends.eq (b560_159 l3 (by omega)) (Ends.g (by rcases r3 with ⟨_, z, _⟩ | ⟨_, z, _⟩ <;> omega) (Ends.sm (K _ _ ⟨GQ.tr g3 (fun c k z => Or.inl z), (nw4.al gq).al g3, mm, F, (y : Int), c0, r, Or.inr ⟨yes, ?_⟩⟩)))
    show TkM B n 1 S (boM n (F ((y : Nat) : Int).toNat) nb) v q3; rw [tn]; exact r3
  refine mput (B := B) (n := n) (h := h4) (t := 12) (W := alW B n) (R0 := fun _ => false) (E := fun i q => ∀ u4 : AV, Ends (ev PP (gsF gv) B d 560 34 [(2, rf (B + 149)), (2, rf f1), (0, (y : Int)), (0, (i : Int)), u4] [] q) Q) (boM n (F y) nb) ?_ (fun q lq gq mq u4 => fin q u4 lq gq mq) h4 l4 Agr.rf m4 _
  intro i q hi lq gq mq go u4
  have GQ : Agr (byM B n) h q := G4.tr gq (fun c k z => Or.inl z)
  have tq := by_tb m GQ
  obtain ⟨x0, y0⟩ := coord_is tq hn hi hax
  obtain ⟨x1, y1⟩ := coord_is tq hn hi fA3
  obtain ⟨x2, y2⟩ := coord_is tq hn hi sA3
  have a1 := g8_lt hi (fA ax)
  have a2 := g8_lt hi (sA ax)
  have q1 := bb 1 (by decide)
  have q2 := bb 2 (by decide)
  have q3 := bb 3 (by decide)
  have atq : ∀ k, 107 ≤ k → k ≤ 109 → hv q (B + 149) k = hv h3 (B + 149) k := fun k h1 h2 => by rw [gq.at _ _ (by unfold alW; omega)]; exact at4 k
  have pq : ∀ k, 1 ≤ k → k < 5 → hv q (B + 198) k = nb k := fun k h1 h2 => by rw [GQ.at _ _ (fun z => by have := byM_in z; omega)]; exact pv k h1 h2
  have fv := far_v hn hK hi
  rw [← eax] at fv
  obtain ⟨-, fv1, fb1, fb2⟩ := fv
  refine Ends.eq (b560_34 lq (by omega)) (Ends.b3 (fun z => by omega) (fun _ => ?_))
  rw [atq 107 (by decide) (by decide), atq 108 (by decide) (by decide), atq 109 (by decide) (by decide), w107, w108, w109, y0, fv1, (f635_is hax).1, (f635_is hax).2, y1, y2, show Int.toNat 3 = 3 from rfl, show Int.toNat 1 = 1 from rfl, show Int.toNat 2 = 2 from rfl, show Int.toNat 4 = 4 from rfl, pq 1 (by decide) (by decide), pq 2 (by decide) (by decide), pq 3 (by decide) (by decide), pq 4 (by decide) (by decide), show bop32 104 8 (nb 1) = 8 * nb 1 from mul32 (by omega) (by omega), show bop32 104 8 (nb 2) = 8 * nb 2 from mul32 (by omega) (by omega), show bop32 104 8 (nb 3) = 8 * nb 3 from mul32 (by omega) (by omega), show bop32 100 ((g8 n i (fA ax) : Nat) : Int) (8 * nb 1) = ((g8 n i (fA ax) : Nat) : Int) - 8 * nb 1 from sub32 (by omega) (by omega), show bop32 100 ((g8 n i (sA ax) : Nat) : Int) (8 * nb 2) = ((g8 n i (sA ax) : Nat) : Int) - 8 * nb 2 from sub32 (by omega) (by omega), err, v695_is (by omega) (by omega) (by omega)]
  obtain ⟨fr, efr⟩ : ∃ fr, fr = -farM n (F y) i := ⟨_, rfl⟩
  rw [← efr]
  have pis : boM n (F y) nb i = (decide (0 < fr ∧ fr < 8 * nb 3) && und rr (((g8 n i (fA ax) : Nat) : Int) - 8 * nb 1) (((g8 n i (sA ax) : Nat) : Int) - 8 * nb 2) 0) := by
    unfold boM
    rw [efr, eax, err, tn]
  have nxt : ∀ (q' : AH) (x4 : Int), LX B n q' → Agr (alW B n) h4 q' → MB B n q' 12 (fun g => false || (decide (g < i + 1) && boM n (F y) nb g)) → Ends (ev PP (gsF gv) B d 560 148 [(2, rf (B + 149)), (2, rf f1), (0, (y : Int)), (0, (i : Int)), (0, x4)] [] q') Q := fun q' x4 l' g' m' => by
    refine Ends.eq (b560_148 l' (by omega)) ?_
    rw [w_succ (i := i) (by omega)]
    exact go q' l' g' m' _
  have skip : (boM n (F y) nb i = false) → Ends (ev PP (gsF gv) B d 560 148 [(2, rf (B + 149)), (2, rf f1), (0, (y : Int)), (0, (i : Int)), (0, fr)] [] q) Q := fun z => nxt q _ lq gq (mput_skip z mq)
  refine Ends.g x0 (Ends.b5 (fun z => skip (by rw [pis, decide_eq_false (fun w => by omega), Bool.false_and])) (fun z1 => Ends.b3 (fun z => skip (by rw [pis, decide_eq_false (fun w => by omega), Bool.false_and])) (fun z2 => Ends.g x1 (Ends.g x2 ?_))))
  rw [decide_eq_true (show 0 < fr ∧ fr < 8 * nb 3 from ⟨by omega, by omega⟩), Bool.true_and] at pis
  rw [← pis]
  refine Ends.b0 (fun z => ?_) (fun z => ?_)
  · refine skip ?_
    cases e : boM n (F y) nb i
    · rfl
    · rw [e] at z; exact absurd z (by decide)
  · refine Ends.cv lq (by decide +kernel) (c_putM (t := 12) lq (by omega) hn (by decide) mq hi) (fun q3 l3 _ _ _ ⟨_, g3, m3⟩ => ?_)
    refine nxt q3 _ l3 (gq.tr g3 (fun c k z => wto_al (by decide) z)) (mput_put ?_ m3)
    cases e : boM n (F y) nb i
    · rw [e] at z; exact absurd rfl z
    · rfl
end MPL
