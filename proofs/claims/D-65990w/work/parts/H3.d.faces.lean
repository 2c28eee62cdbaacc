/-! L3: the FACES of a solid, asked for (desk) -/
noncomputable section FCD
variable {gv : Nat → Int} {B n d a pc cap kc mm : Nat} {h t : AH} {S : Nat → Bool} {ka F mk : Nat → Nat} {is : Nat → Bool} {cl : Nat → Nat} {SS : Nat → Nat → Bool}
/-- the part's makers (desk): where each grain changed last -/
def PmD (B n : Nat) (h : AH) (S : Nat → Bool) (mk : Nat → Nat) : Prop := (hv h (B + 92) 12 = 0 ∧ ∀ g, g < gN n → S g = false) ∨ (hv h (B + 92) 12 ≠ 0 ∧ ∃ (Cb : Nat → Nat → Bool) (fa : Nat → Int), CgS B n h Cb ∧ (∀ p, p < 25 → hv h (B + 96) p = fa p) ∧ (∀ K, K < 4 * gN n → plF n Cb K < 25) ∧ ∀ K, K < 4 * gN n → bdr n S K = true → fa (plF n Cb K) = ((mk K : Nat) : Int))
/-- of which solid the kept faces are -/
def FoD (B n : Nat) (h : AH) (is : Nat → Bool) (SS : Nat → Nat → Bool) (mk ka : Nat → Nat) (kc : Nat) : Prop := hv h (B + 0) 20 = -2 ∨ (hv h (B + 0) 20 = -1 ∧ ∃ mm F, FdS B n h (SS 10) mm F ka kc ∧ MkS B h (mmk mk F) (mdr F) (min mm 4096)) ∨ ∃ i : Nat, i < 10 ∧ hv h (B + 0) 20 = (i : Int) ∧ (is i = true → hv h (B + 0) 21 = hv h (B + 29) i → ∃ mm F, FdS B n h (SS i) mm F ka kc)
theorem rkF_congr {mk dr mk' dr' : Nat → Int} {m i : Nat} (e : ∀ i, i < m → mk' i = mk i ∧ dr' i = dr i) (hi : i < m) : rkF mk' dr' i = rkF mk dr i := by
  unfold rkF
  exact cntN_congr i (fun j hj => by rw [(e j (by omega)).1, (e j (by omega)).2, (e i hi).1, (e i hi).2])
theorem MkS.congr {mk dr mk' dr' : Nat → Int} {m : Nat} (s : MkS B h mk dr m) (e : ∀ i, i < m → mk' i = mk i ∧ dr' i = dr i) : MkS B h mk' dr' m := fun i hi => by
  rw [(e i hi).1, rkF_congr e hi]; exact s i hi
theorem FdS.fst {i : Nat} (f : FdS B n h S mm F ka kc) (hi : i < mm) : F i < 4 * gN n ∧ bdr n S (F i) = true := by
  obtain ⟨f1, f2, f3⟩ := (f.1.1 i hi).1
  exact ⟨f1, f2⟩
/-- what asking for faces writes of old cells -/
def sfW (B : Nat) (h : AH) : Nat → Nat → Prop := fun c k => ffW B h c k ∨ (c = B + 0 ∧ (k = 20 ∨ k = 21))
/-- what stands when the faces of S are there -/
def SfP (B n : Nat) (h : AH) (S : Nat → Bool) (cap kc : Nat) (h' : AH) (mm : Nat) (F : Nat → Nat) (pc' cap' : Nat) (ka' : Nat → Nat) (kc' : Nat) : Prop := (FcN B n h' pc' cap' ka' kc' ∧ (hnx h ≤ pc' ∨ hv h (B + 82) 3 = rf pc') ∧ ∀ j, j < 6 → hnx h ≤ ka' j ∨ hv h (B + 82) (7 + j) = rf (ka' j)) ∧ FdS B n h' S mm F ka' kc' ∧ fcz B n h' cap' kc' = fcz B n h cap kc ∧ cel h h' ∧ ExG (sfW B h) h h'
theorem neE {h : AH} (R : Reg B n h) (hk : (hk h a).1 = 3 → a < B + 246) : ∀ f, f < 4 → hv h (B + 83) f ≠ rf a := fun f hf z => by
  rcases R.1 (33 + f) (by omega) with y | ⟨e, y1, y2, y3, y4⟩
  · rw [rgV_e hf, z] at y; have := rf_pos a; omega
  · rw [rgV_e hf, z] at y1
    have : a = e := by unfold rf at y1; omega
    have := hk (by rw [this, y4])
    omega
theorem SfP.self (l : LX B n h) (f : FcN B n h pc cap ka kc) (s : FdS B n h S mm F ka kc) : SfP B n h S cap kc h mm F pc cap ka kc := by
  refine ⟨⟨f, Or.inr f.2.2.2.2.1.1, fun j hj => Or.inr (f.2.2.2.2.2.1.1 j hj).1⟩, s, rfl, cel.rf, ExG.rf⟩
theorem c_needFaces288 (l : LX B n h) (hd : 36 ≤ d) (hn4 : 4 ≤ n) (hn : n ≤ 52) (f : FcN B n h pc cap ka kc) (s : SG n h (B + 117) S) (P : PmD B n h S mk) :
    Vd (cll PP (ev PP (gsF gv) B) d 288 [(2, rf (B + 92))] h) (fun h' => ∃ mm F pc' cap' ka' kc', SfP B n h S cap kc h' mm F pc' cap' ka' kc' ∧ MkS B h' (mmk mk F) (mdr F) (min mm 4096) ∧ ExG (ffW B h) h h') := by
  have hb := l.2.2
  have ne := neE (a := B + 117) f.2.2.2.1 (fun _ => by omega)
  refine Vd.inq (D := 35) hd (Nat.le_of_ble_eq_true rfl) rfl (fun d hd Q K => ?_)
  refine Ends.eq (b288_0 l (by omega)) ?_
  rcases P with ⟨p1, p2⟩ | ⟨p1, Cb, fa, p2, p3, p4, p5⟩
  · rw [p1]
    refine Ends.b0 (fun _ => ?_) (fun z => absurd rfl z)
    refine Ends.cv l (by decide +kernel) (c_findN l (by omega) hn4 hn f s (by omega) (by omega) ne) (fun h2 l2 _ _ _ ⟨mm, F, pc', cap', ka', kc', t1, t2, t3, t4, t5⟩ => ?_)
    refine Ends.eq (b288_19 l2 (by omega)) (Ends.eq (b288_26 l2 (by omega)) (Ends.sm (K _ ⟨mm, F, pc', cap', ka', kc', ⟨t1, t2, t3, t4, t5.sub (fun c k _ z => Or.inl (Or.inl z))⟩, fun i hi => ?_, t5.sub (fun c k _ z => Or.inl z)⟩)))
    obtain ⟨f1, f2⟩ := t2.fst (i := i) (by omega)
    unfold bdr at f2
    rw [p2 _ (K4_lt f1), Bool.false_and] at f2
    exact absurd f2 Bool.false_ne_true
  · refine Ends.b0 (fun z => absurd z p1) (fun _ => ?_)
    refine Ends.cv l (by decide +kernel) (c_findFaces272 l (by omega) hn4 hn f s p2 p3 p4) (fun h2 l2 _ _ _ ⟨mm, F, pc', cap', ka', kc', t1, t2, tm, t3, t4, t5⟩ => ?_)
    refine Ends.eq (b288_26 l2 (by omega)) (Ends.sm (K _ ⟨mm, F, pc', cap', ka', kc', ⟨t1, t2, t3, t4, t5.sub (fun c k _ z => Or.inl z)⟩, tm.congr (fun i hi => ?_), t5⟩))
    obtain ⟨f1, f2⟩ := t2.fst (i := i) (by omega)
    exact ⟨(p5 _ f1 f2).symm, rfl⟩
theorem SfP.set {pc' cap' kc' : Nat} {ka' : Nat → Nat} {h' : AH} {v : Int} {j : Nat} (s : SfP B n h S cap kc h' mm F pc' cap' ka' kc') (hb : B + 246 ≤ hnx h) (hj : j = 20 ∨ j = 21) : SfP B n h S cap kc (hset h' (B + 0) j v) mm F pc' cap' ka' kc' := by
  obtain ⟨⟨s1, s2, s3⟩, s4, s5, s6, s7⟩ := s
  have hb' : B + 246 ≤ hnx h' := by have := s7.2.2.1; omega
  have g : Agr (fun c k => c = B + 0 ∧ (k = 20 ∨ k = 21)) h' (hset h' (B + 0) j v) := Agr.rf.set ⟨rfl, hj⟩
  have R := s1.2.2.2.1
  have A := s1.2.2.2.2
  have n27 : ∀ i, i < 39 → ¬ (B + rgC i = B + 0 ∧ (rgK i = 20 ∨ rgK i = 21)) := fun i hi z => by have : 27 ≤ rgC i := (rgC_lt ⟨i, hi⟩).2; omega
  obtain ⟨-, L⟩ := R.exg hb' g.ext.exg n27
  refine ⟨⟨s1.exg hb' g.ext.exg (fun c k a b z => by omega) (fun k z => by omega) n27 (fun k a b z => by omega), s2, s3⟩, s4.exg A hb' g.ext.exg (fun k hk z => by omega) (fun j k hj z => ?_), ?_, s6.tr (cel.agr g), s7.tr g.ext.exg (fun c k _ z => Or.inr z)⟩
  · have := (A.2.1.1 j hj).2.2.1; omega
  · rw [← s5]; unfold fcz; rw [L, g.us]
theorem c_partFaces68 (l : LX B n h) (hd : 38 ≤ d) (hn4 : 4 ≤ n) (hn : n ≤ 52) (f : FcN B n h pc cap ka kc) (s : SG n h (B + 117) (SS 10)) (P : PmD B n h (SS 10) mk) (o : FoD B n h is SS mk ka kc) :
    Vd (cll PP (ev PP (gsF gv) B) d 68 [(2, rf (B + 0))] h) (fun h' => ∃ mm F pc' cap' ka' kc', SfP B n h (SS 10) cap kc h' mm F pc' cap' ka' kc' ∧ MkS B h' (mmk mk F) (mdr F) (min mm 4096) ∧ hv h' (B + 0) 20 = -1) := by
  have hb := l.2.2
  refine Vd.inq (D := 37) hd (Nat.le_of_ble_eq_true rfl) rfl (fun d hd Q K => ?_)
  refine Ends.eq (b68_0 l (by omega)) (Ends.b1 (fun z => ?_) (fun z => ?_))
  · refine Ends.cv l (by decide +kernel) (c_needFaces288 l (by omega) hn4 hn f s P) (fun h2 l2 _ _ _ ⟨mm, F, pc', cap', ka', kc', t1, t2, _⟩ => ?_)
    refine Ends.eq (b68_16 l2 (by omega)) (Ends.sm (K _ ⟨mm, F, pc', cap', ka', kc', t1.set hb (Or.inl rfl), fun i hi => ?_, hv_set_at ..⟩))
    rw [hv_set_ne (by omega), hv_set_ne (by omega)]; exact t2 i hi
  · rcases o with y | ⟨_, mm, F, y2, y3⟩ | ⟨i, hi, y, _⟩
    · omega
    · exact Ends.sm (K _ ⟨mm, F, pc, cap, ka, kc, SfP.self l f y2, y3, z⟩)
    · omega
/-- a call of nothing that may throw -/
def Opv (o : Option Rs) (R : AH → Prop) (E : Nat → AH → Prop) : Prop := Vx o R (fun x h' => ∃ c q, E c q ∧ x = rf (hnx q) ∧ h' = hnew q (1, c) 6)
theorem Opv.inq {gs : Nat → AV} {j : Nat} {av : List AV} {R : AH → Prop} {E : Nat → AH → Prop} {L' : List AV} {D : Nat} (hd : D + 1 ≤ d) (hl : (entL av).length ≤ pNl PP j) (hL : ent (pNl PP j) av = L') (k : ∀ d, D ≤ d → ∀ Q : Rs → Prop, (∀ h', R h' → Q ((0, (9, 0)), h')) → (∀ c q, E c q → Q ((1, (2, rf (hnx q))), hnew q (1, c) 6)) → Ends (ev PP gs B d j 0 L' [] h) Q) : Opv (cll PP (ev PP gs B) d j av h) R E :=
  Vx.into hd hl hL (fun d hd => k d hd _ (fun h' r => Or.inl ⟨h', rfl, r⟩) (fun c q e => Or.inr ⟨_, _, rfl, c, q, e, rfl, rfl⟩))
theorem Ends.cov {j j' pc nx : Nat} {L rest av : List AV} {Q : Rs → Prop} {R : AH → Prop} {E : Nat → AH → Prop} (l : LX B n h) (hm : mkT j' &&& fxM = 0) (v : Opv (cll PP (ev PP (gsF gv) B) d j' av h) R E) (k : ∀ h', LX B n h' → R h' → Ends (ev PP (gsF gv) B d j nx L rest h') Q) (ke : ∀ c q, E c q → Ends (thr PP j pc L (rf (hnx q)) (hnew q (1, c) 6) (ev PP (gsF gv) B d j)) Q) :
    Ends (aft PP j pc nx L rest (ev PP (gsF gv) B d j) (cll PP (ev PP (gsF gv) B) d j' av h)) Q :=
  Ends.cvx l hm v (fun h1 l1 _ _ r => k h1 l1 r) (fun x h1 l1 _ _ ⟨c, q, e, e1, e2⟩ => by subst e1; subst e2; exact ke c q e)
/-- bodies' cells are none of Faces' -/
def BcF (B : Nat) (h : AH) (is : Nat → Bool) (cl : Nat → Nat) : Prop := ∀ i, i < 10 → is i = true → B + 246 ≤ cl i ∧ cl i < hnx h ∧ ∀ f, f < 4 → hv h (B + 83) f ≠ rf (cl i)
theorem BdC.bcF (bd : BdC B n h is cl SS) (R : Reg B n h) : BcF B h is cl := fun i hi hs => by
  have b1 := (bd.1 i hi).2 hs
  have rv : rgV B h i = rf (cl i) := by
    unfold rgV rgC rgK
    rw [if_pos hi, if_pos hi]; exact b1.1
  rcases R.1 i (by omega) with y | ⟨e, y1, y2, y3, y4⟩
  · rw [rv] at y; have := rf_pos (cl i); omega
  · have : cl i = e := by rw [rv] at y1; unfold rf at y1; omega
    refine ⟨by omega, by omega, fun f hf z => ?_⟩
    have w := R.2 i (33 + f) (by omega) (by omega) (by omega) (by rw [rv, rgV_e hf, z])
    rw [rv] at w; have := rf_pos (cl i); omega
theorem FoD.none (e : hv h (B + 0) 20 = -2) : FoD B n h is SS mk ka kc := Or.inl e
theorem c_solidFaces90 {o : Int} (l : LX B n h) (hd : 40 ≤ d) (hn4 : 4 ≤ n) (hn : n ≤ 52) (f : FcN B n h pc cap ka kc) (bd : BdC B n h is cl SS) (P : PmD B n h (SS 10) mk) (q : FoD B n h is SS mk ka kc) :
    Opv (cll PP (ev PP (gsF gv) B) d 90 [(2, rf (B + 0)), (0, o)] h) (fun h' => thS is o = true ∧ ∃ mm F pc' cap' ka' kc', SfP B n h (SS (rwS o)) cap kc h' mm F pc' cap' ka' kc' ∧ FoD B n h' is SS mk ka' kc' ∧ (o = -1 → MkS B h' (mmk mk F) (mdr F) (min mm 4096))) (fun c q => c = 31 ∧ q = h ∧ thS is o = false) := by
  have hb := l.2.2
  have R := f.2.2.2.1
  refine Opv.inq (D := 39) hd (Nat.le_of_ble_eq_true rfl) rfl (fun d hd Q K KE => ?_)
  refine Ends.eq (b90_0 l (by omega)) ?_
  refine Ends.sol l (by omega) bd (fun ho => ?_) (fun ho => Ends.thn rfl (KE _ _ ⟨rfl, rfl, ho⟩))
  refine Ends.eq (b90_5 l (by omega)) (Ends.b1 (fun z => ?_) (fun z => ?_))
  · rcases thS_c ho with w | ⟨i, hi, w, hs⟩
    · exact absurd w z
    subst w
    have er : rwS (i : Int) = i := by unfold rwS; rw [if_neg (by omega)]; rfl
    have ec : clS B cl (i : Int) = cl i := by unfold clS; rw [if_neg (by omega)]; rfl
    obtain ⟨c1, c2, c3⟩ := bd.bcF R i hi hs
    obtain ⟨s1, -, -⟩ := bd.sol l ho
    rw [er, ec] at s1
    rw [er] at K
    have go : Ends (ev PP (gsF gv) B d 90 38 [(2, rf (B + 0)), (0, (i : Int)), (2, rf (clS B cl (i : Int)))] [] h) Q := by
      rw [ec]
      refine Ends.eq (b90_38 l (by omega)) ?_
      refine Ends.cv l (by decide +kernel) (c_findN l (by omega) hn4 hn f s1 c2 (by omega) c3) (fun h2 l2 _ _ _ ⟨mm, F, pc', cap', ka', kc', t1, t2, t3, t4, t5⟩ => ?_)
      have T : SfP B n h (SS i) cap kc h2 mm F pc' cap' ka' kc' := ⟨t1, t2, t3, t4, t5.sub (fun c k _ z => Or.inl (Or.inl z))⟩
      refine Ends.eq (b90_47 l2 (by omega)) (Ends.g ⟨by omega, by omega⟩ ?_)
      rw [tn]
      have T2 := (T.set (v := (i : Int)) hb (Or.inl rfl)).set (v := hv h2 (B + 29) i) hb (Or.inr rfl)
      refine Ends.sm (K _ ⟨ho, mm, F, pc', cap', ka', kc', T2, Or.inr (Or.inr ⟨i, hi, ?_, fun _ _ => ⟨mm, F, T2.2.1⟩⟩), fun w => by omega⟩)
      rw [hv_set_ne (by omega), hv_set_at]
    refine Ends.b1 (fun _ => go) (fun y => Ends.g ⟨by omega, by omega⟩ (Ends.b1 (fun _ => go) (fun x => ?_)))
    rw [tn] at x
    have q0 := q
    rcases q with w | ⟨w, -⟩ | ⟨i', hi', w, w2⟩
    · omega
    · omega
    · have : i' = i := by omega
      subst this
      obtain ⟨mm, F, w3⟩ := w2 hs x
      exact Ends.sm (K _ ⟨ho, mm, F, pc, cap, ka, kc, SfP.self l f w3, q0, fun w => by omega⟩)
  · subst z
    have er : rwS (-1) = 10 := rfl
    rw [er] at K
    obtain ⟨s1, -, -⟩ := bd.sol l ho
    have ec : clS B cl (-1) = B + 117 := by unfold clS; rw [if_pos rfl]
    rw [er, ec] at s1
    refine Ends.cv l (by decide +kernel) (c_partFaces68 l (by omega) hn4 hn f s1 P q) (fun h2 l2 _ _ _ ⟨mm, F, pc', cap', ka', kc', t1, t2, t3⟩ => ?_)
    exact Ends.eq (b90_15 l2 (by omega)) (Ends.sm (K _ ⟨ho, mm, F, pc', cap', ka', kc', t1, Or.inr (Or.inl ⟨t3, mm, F, t1.2.1, t2⟩), fun _ => t2⟩))
theorem c_faces30 {o : Int} (l : LX B n h) (hd : 42 ≤ d) (hn4 : 4 ≤ n) (hn : n ≤ 52) (f : FcN B n h pc cap ka kc) (bd : BdC B n h is cl SS) (P : PmD B n h (SS 10) mk) (q : FoD B n h is SS mk ka kc) :
    Opx 0 (cll PP (ev PP (gsF gv) B) d 30 [(2, rf (B + 0)), (0, o)] h) (fun x h' => thS is o = true ∧ ∃ mm F pc' cap' ka' kc', SfP B n h (SS (rwS o)) cap kc h' mm F pc' cap' ka' kc' ∧ FoD B n h' is SS mk ka' kc' ∧ x = (mm : Int)) (fun c q => c = 31 ∧ q = h ∧ thS is o = false) := by
  refine Opx.inq (D := 41) hd (Nat.le_of_ble_eq_true rfl) rfl (fun d hd Q K KE => ?_)
  refine Ends.eq (b30_0 l (by omega)) ?_
  refine Ends.cov l (by decide +kernel) (c_solidFaces90 l (by omega) hn4 hn f bd P q) (fun h2 l2 ⟨ho, mm, F, pc', cap', ka', kc', t1, t2, t3⟩ => ?_) (fun c q e => ?_)
  · refine Ends.eq (b30_5 l2 (by omega)) (Ends.sm (K _ _ ⟨ho, mm, F, pc', cap', ka', kc', t1, t2, t1.2.1.2.1⟩))
  · obtain ⟨e1, e2, e3⟩ := e
    subst e1 e2
    exact Ends.thn rfl (KE _ _ ⟨rfl, rfl, e3⟩)
/-- what is asked of a face -/
def faQ (n : Nat) (E : Nat → Bool) (K : Nat) (w : Int) : Int := if w ≤ 4 then kpV n (FRb n E K) K w.toNat else if w ≤ 7 then ((g8 n (K / 4) (w.toNat - 5) : Nat) : Int) else ((K % 4 : Nat) : Int)
theorem c_face29 {o k w : Int} (l : LX B n h) (hd : 42 ≤ d) (hn4 : 4 ≤ n) (hn : n ≤ 52) (f : FcN B n h pc cap ka kc) (bd : BdC B n h is cl SS) (P : PmD B n h (SS 10) mk) (q : FoD B n h is SS mk ka kc) :
    Opx 0 (cll PP (ev PP (gsF gv) B) d 29 [(2, rf (B + 0)), (0, o), (0, k), (0, w)] h) (fun x h' => thS is o = true ∧ ∃ mm F pc' cap' ka' kc', SfP B n h (SS (rwS o)) cap kc h' mm F pc' cap' ka' kc' ∧ FoD B n h' is SS mk ka' kc' ∧ (0 ≤ k ∧ k < ((min mm 4096 : Nat) : Int)) ∧ (0 ≤ w ∧ w ≤ 8) ∧ x = faQ n (bdr n (SS (rwS o))) (F k.toNat) w)
      (fun c t => (c = 31 ∧ t = h ∧ thS is o = false) ∨ (thS is o = true ∧ ∃ mm F pc' cap' ka' kc', SfP B n h (SS (rwS o)) cap kc t mm F pc' cap' ka' kc' ∧ FoD B n t is SS mk ka' kc' ∧ ((c = 31 ∧ ¬ (0 ≤ k ∧ k < ((min mm 4096 : Nat) : Int))) ∨ (c = 27 ∧ (0 ≤ k ∧ k < ((min mm 4096 : Nat) : Int)) ∧ ¬ (0 ≤ w ∧ w ≤ 8))))) := by
  refine Opx.inq (D := 41) hd (Nat.le_of_ble_eq_true rfl) rfl (fun d hd Q K KE => ?_)
  refine Ends.eq (b29_0 l (by omega)) ?_
  refine Ends.cov l (by decide +kernel) (c_solidFaces90 l (by omega) hn4 hn f bd P q) (fun h2 l2 ⟨ho, mm, F, pc', cap', ka', kc', t1, t2, t3⟩ => ?_) (fun c q e => ?_)
  rotate_left
  · obtain ⟨e1, e2, e3⟩ := e
    subst e1 e2
    exact Ends.thn rfl (KE _ _ (Or.inl ⟨rfl, rfl, e3⟩))
  have m4 : min mm 4096 ≤ 4096 := Nat.min_le_right _ _
  obtain ⟨d1, d2, d3, d4, d5⟩ := t1.2.1
  obtain ⟨tm, -, -, R2, A2⟩ := t1.1.1
  refine Ends.eq (b29_5 l2 (by omega)) ?_
  rw [d3, sub32 (x := ((min mm 4096 : Nat) : Int)) (by omega) (by omega)]
  refine Ends.there (p := decide (0 ≤ k ∧ k ≤ ((min mm 4096 : Nat) : Int) - 1)) l2 (by omega) (by rw [v42_in]; simp only [decide_eq_true_eq]) (fun hkk => ?_) (fun hkk => Ends.thn rfl (KE _ _ (Or.inr ⟨ho, mm, F, pc', cap', ka', kc', t1, t2, Or.inl ⟨rfl, fun z => of_decide_eq_false hkk (by omega)⟩⟩)))
  have hkk : 0 ≤ k ∧ k < ((min mm 4096 : Nat) : Int) := by have := of_decide_eq_true hkk; omega
  refine Ends.eq (b29_22 l2 (by omega)) ?_
  refine Ends.need (p := decide (0 ≤ w ∧ w ≤ 8)) l2 (by omega) (by rw [v42_in]; simp only [decide_eq_true_eq]) (fun hw => ?_) (fun hw => Ends.thn rfl (KE _ _ (Or.inr ⟨ho, mm, F, pc', cap', ka', kc', t1, t2, Or.inr ⟨rfl, hkk, of_decide_eq_false hw⟩⟩)))
  have hw := of_decide_eq_true hw
  obtain ⟨i, rfl⟩ : ∃ i : Nat, k = (i : Int) := ⟨k.toNat, by omega⟩
  obtain ⟨y, rfl⟩ : ∃ y : Nat, w = (y : Int) := ⟨w.toNat, by omega⟩
  have hi : i < min mm 4096 := by omega
  have KK := fun x e => K x h2 ⟨ho, mm, F, pc', cap', ka', kc', t1, t2, hkk, hw, e⟩
  clear K KE
  rw [tn] at KK
  obtain ⟨f1, f2⟩ := t1.2.1.fst (i := i) (by omega)
  obtain ⟨hn0, g1, g2, g3, g4⟩ := g_lt (K4_lt f1)
  have cd := fun _ : Unit => cd_dec hn f1
  have cell : ∀ j, j < 6 → hv h2 (B + 82) (7 + j) = rf (ka' j) ∧ hk h2 (ka' j) = (2, kc') ∧ hv h2 (ka' j) i = kpV n (FRb n (bdr n (SS (rwS o))) (F i)) (F i) j := fun j hj => ⟨(A2.2.1.1 j hj).1, (A2.2.1.1 j hj).2.1, d5 i hi j hj⟩
  have gd : ∀ j, j < 6 → (0 < rf (ka' j) ∧ (2, kc').1 = 0 + 2 ∧ (0 : Int) ≤ (i : Int) ∧ (i : Int) < (((2, kc') : Nat × Nat).2 : Int)) := fun j _ => ⟨rf_pos _, rfl, by omega, by show (i : Int) < (kc' : Int); omega⟩
  obtain ⟨k1, k2, k3⟩ := cell 5 (by decide)
  have k3 : hv h2 (ka' 5) i = ((cdN n (F i) : Nat) : Int) := by rw [k3]; unfold kpV; rw [if_neg (by decide), if_neg (by decide), if_neg (by decide), if_neg (by decide), if_neg (by decide)]
  obtain ⟨m1, m2, m3, m4', m5, m6, m7, m8⟩ := tm.1 (gSo (F i / 4)) g4
  refine Ends.eq (b29_32 l2 (by omega)) ?_
  rw [show hv h2 (B + 82) 12 = rf (ka' 5) from k1, ad_rf, k2, tn, k3, (cd ()).2.2.2.1]
  refine Ends.g (gd 5 (by decide)) (Ends.g (by unfold q171; rw [show bop32 104 (n : Int) (n : Int) = ((n * n : Nat) : Int) from mulNN (by have := Nat.mul_le_mul hn hn; omega)]; have := Nat.mul_pos hn0 hn0; omega) ?_)
  have low : ∀ j pcx, j < 5 → y = j → hv h2 (ka' j) i = kpV n (FRb n (bdr n (SS (rwS o))) (F i)) (F i) j → ev PP (gsF gv) B d 29 pcx [(2, rf (B + 0)), (0, o), (0, (i : Int)), (0, (y : Int)), (0, ((cdN n (F i) : Nat) : Int)), (0, ((gSo (F i / 4) : Nat) : Int))] [] h2 = gdC (0 < rf (ka' j) ∧ ((2, kc') : Nat × Nat).1 = 0 + 2 ∧ (0 : Int) ≤ (i : Int) ∧ (i : Int) < (((2, kc') : Nat × Nat).2 : Int)) (some ((0, (0, hv h2 (ka' j) i)), h2)) → Ends (ev PP (gsF gv) B d 29 pcx [(2, rf (B + 0)), (0, o), (0, (i : Int)), (0, (y : Int)), (0, ((cdN n (F i) : Nat) : Int)), (0, ((gSo (F i / 4) : Nat) : Int))] [] h2) Q := fun j pcx hj ey ev' e => by
    refine Ends.eq e (Ends.g (gd j (by omega)) (Ends.sm (KK _ ?_)))
    unfold faQ
    rw [if_pos (by omega), ev', tn, ey]
  have high : ∀ a, a < 3 → bop32 96 (bop32 104 (8 : Int) ((gCu n (F i / 4) a : Nat) : Int)) ((rT (gSo (F i / 4)) a : Nat) : Int) = ((g8 n (F i / 4) a : Nat) : Int) := fun a ha => by
    have gc := (gCu_8 (K4_lt f1) ha).2
    have rt : rT (gSo (F i / 4)) a < 8 := (rT_lt ⟨_, g4⟩ ⟨a, ha⟩).2
    rw [show bop32 104 (8 : Int) ((gCu n (F i / 4) a : Nat) : Int) = ((8 * gCu n (F i / 4) a : Nat) : Int) from mulNN (x := 8) (by omega), addNN (by omega)]
    rcases (by omega : a = 0 ∨ a = 1 ∨ a = 2) with e | e | e <;> subst e <;> rfl
  have i3 : ∀ a : Nat, a < 3 → (a = 0 ∨ bop32 96 (bop32 104 (3 : Int) ((gSo (F i / 4) : Nat) : Int)) (a : Int) = ((3 * gSo (F i / 4) + a : Nat) : Int)) := fun a ha => Or.inr (by rw [show bop32 104 (3 : Int) ((gSo (F i / 4) : Nat) : Int) = ((3 * gSo (F i / 4) : Nat) : Int) from mulNN (x := 3) (by omega), addNN (by omega)])
  have fin : ∀ a, a < 3 → y = 5 + a → Ends (some ((0, (0, ((g8 n (F i / 4) a : Nat) : Int))), h2)) Q := fun a ha ey => Ends.sm (KK _ (by unfold faQ; rw [if_neg (by omega), if_pos (by omega), tn, ey, show 5 + a - 5 = a by omega]))
  rcases (by omega : y = 0 ∨ y = 1 ∨ y = 2 ∨ y = 3 ∨ y = 4 ∨ y = 5 ∨ y = 6 ∨ y = 7 ∨ y = 8) with z | z | z | z | z | z | z | z | z
  · obtain ⟨x1, x2, x3⟩ := cell 0 (by decide)
    refine low 0 _ (by decide) z x3 ?_
    rw [z, show sw29_55 ((0 : Nat) : Int) = 100 from rfl, b29_100 l2 (by omega), show hv h2 (B + 82) 7 = rf (ka' 0) from x1, ad_rf, x2, tn]
  · obtain ⟨x1, x2, x3⟩ := cell 1 (by decide)
    refine low 1 _ (by decide) z x3 ?_
    rw [z, show sw29_55 ((1 : Nat) : Int) = 110 from rfl, b29_110 l2 (by omega), show hv h2 (B + 82) 8 = rf (ka' 1) from x1, ad_rf, x2, tn]
  · obtain ⟨x1, x2, x3⟩ := cell 2 (by decide)
    refine low 2 _ (by decide) z x3 ?_
    rw [z, show sw29_55 ((2 : Nat) : Int) = 120 from rfl, b29_120 l2 (by omega), show hv h2 (B + 82) 9 = rf (ka' 2) from x1, ad_rf, x2, tn]
  · obtain ⟨x1, x2, x3⟩ := cell 3 (by decide)
    refine low 3 _ (by decide) z x3 ?_
    rw [z, show sw29_55 ((3 : Nat) : Int) = 130 from rfl, b29_130 l2 (by omega), show hv h2 (B + 82) 10 = rf (ka' 3) from x1, ad_rf, x2, tn]
  · obtain ⟨x1, x2, x3⟩ := cell 4 (by decide)
    refine low 4 _ (by decide) z x3 ?_
    rw [z, show sw29_55 ((4 : Nat) : Int) = 140 from rfl, b29_140 l2 (by omega), show hv h2 (B + 82) 11 = rf (ka' 4) from x1, ad_rf, x2, tn]
  · rw [z, show sw29_55 ((5 : Nat) : Int) = 150 from rfl]
    refine Ends.eq (b29_150 l2 (by omega)) ?_
    rw [show bop32 104 (3 : Int) ((gSo (F i / 4) : Nat) : Int) = ((3 * gSo (F i / 4) : Nat) : Int) from mulNN (x := 3) (by omega), tn, show hv h2 (B + 37) (3 * gSo (F i / 4)) = ((rT (gSo (F i / 4)) 0 : Nat) : Int) from m1 0 (by decide), (cd ()).2.2.1, show ((gX n (F i / 4) : Nat) : Int) = ((gCu n (F i / 4) 0 : Nat) : Int) from rfl, high 0 (by decide)]
    exact Ends.g ⟨by omega, by omega⟩ (fin 0 (by decide) z)
  · rw [z, show sw29_55 ((6 : Nat) : Int) = 176 from rfl]
    refine Ends.eq (b29_176 l2 (by omega)) ?_
    rw [show bop32 96 (bop32 104 (3 : Int) ((gSo (F i / 4) : Nat) : Int)) (1 : Int) = ((3 * gSo (F i / 4) + 1 : Nat) : Int) from ((i3 1 (by decide)).resolve_left (by decide)), tn, m1 1 (by decide), (cd ()).2.2.2.2.1, show ((gY n (F i / 4) : Nat) : Int) = ((gCu n (F i / 4) 1 : Nat) : Int) from rfl, high 1 (by decide)]
    exact Ends.g (by unfold q173; omega) (Ends.g ⟨by omega, by omega⟩ (fin 1 (by decide) z))
  · rw [z, show sw29_55 ((7 : Nat) : Int) = 204 from rfl]
    refine Ends.eq (b29_204 l2 (by omega)) ?_
    rw [show bop32 96 (bop32 104 (3 : Int) ((gSo (F i / 4) : Nat) : Int)) (2 : Int) = ((3 * gSo (F i / 4) + 2 : Nat) : Int) from ((i3 2 (by decide)).resolve_left (by decide)), tn, m1 2 (by decide), (cd ()).2.2.2.2.2, show ((gZ n (F i / 4) : Nat) : Int) = ((gCu n (F i / 4) 2 : Nat) : Int) from rfl, high 2 (by decide)]
    exact Ends.g (by unfold q174; omega) (Ends.g ⟨by omega, by omega⟩ (fin 2 (by decide) z))
  · rw [z, show sw29_55 ((8 : Nat) : Int) = 232 from rfl]
    refine Ends.eq (b29_232 l2 (by omega)) ?_
    rw [(cd ()).1]
    exact Ends.sm (KK _ (by unfold faQ; rw [if_neg (by omega), if_neg (by omega)]))
theorem c_name62 {k i : Int} (l : LX B n h) (hd : 42 ≤ d) (hi31 : i < 2147483648) (hn4 : 4 ≤ n) (hn : n ≤ 52) (f : FcN B n h pc cap ka kc) (bd : BdC B n h is cl SS) (P : PmD B n h (SS 10) mk) (hmk : ∀ K, mk K < 10000) (q : FoD B n h is SS mk ka kc) :
    Opx 0 (cll PP (ev PP (gsF gv) B) d 62 [(2, rf (B + 0)), (0, k), (0, i)] h) (fun x h' => ∃ mm F pc' cap' ka' kc', SfP B n h (SS 10) cap kc h' mm F pc' cap' ka' kc' ∧ FoD B n h' is SS mk ka' kc' ∧ (0 ≤ k ∧ k < ((min mm 4096 : Nat) : Int)) ∧ 0 ≤ i ∧ x = nmS (mk (F k.toNat)) (drT (F k.toNat % 96)) (rkF (mmk mk F) (mdr F) k.toNat) i.toNat)
      (fun c t => ∃ mm F pc' cap' ka' kc', SfP B n h (SS 10) cap kc t mm F pc' cap' ka' kc' ∧ FoD B n t is SS mk ka' kc' ∧ ((c = 31 ∧ ¬ (0 ≤ k ∧ k < ((min mm 4096 : Nat) : Int))) ∨ (c = 27 ∧ (0 ≤ k ∧ k < ((min mm 4096 : Nat) : Int)) ∧ ¬ 0 ≤ i))) := by
  refine Opx.inq (D := 41) hd (Nat.le_of_ble_eq_true rfl) rfl (fun d hd Q K KE => ?_)
  obtain ⟨s1, -, -⟩ := bd.sol (o := -1) l (by unfold thS; rfl)
  have s1 : SG n h (B + 117) (SS 10) := s1
  refine Ends.eq (b62_0 l (by omega)) ?_
  refine Ends.cv l (by decide +kernel) (c_partFaces68 l (by omega) hn4 hn f s1 P q) (fun h2 l2 _ _ _ ⟨mm, F, pc', cap', ka', kc', t1, t2, t3⟩ => ?_)
  have fo : FoD B n h2 is SS mk ka' kc' := Or.inr (Or.inl ⟨t3, mm, F, t1.2.1, t2⟩)
  have m4 : min mm 4096 ≤ 4096 := Nat.min_le_right _ _
  obtain ⟨d1, d2, d3, d4, d5⟩ := t1.2.1
  obtain ⟨tm, -, -, R2, A2⟩ := t1.1.1
  refine Ends.eq (b62_4 l2 (by omega)) ?_
  rw [d3, sub32 (x := ((min mm 4096 : Nat) : Int)) (by omega) (by omega)]
  refine Ends.there (p := decide (0 ≤ k ∧ k ≤ ((min mm 4096 : Nat) : Int) - 1)) l2 (by omega) (by rw [v42_in]; simp only [decide_eq_true_eq]) (fun hkk => ?_) (fun hkk => Ends.thn rfl (KE _ _ ⟨mm, F, pc', cap', ka', kc', t1, fo, Or.inl ⟨rfl, fun z => of_decide_eq_false hkk (by omega)⟩⟩))
  have hkk : 0 ≤ k ∧ k < ((min mm 4096 : Nat) : Int) := by have := of_decide_eq_true hkk; omega
  refine Ends.eq (b62_21 l2 (by omega)) ?_
  refine Ends.need (p := decide (0 ≤ i)) l2 (by omega) (by
    rw [ct2]; simp only [decide_eq_true_eq]
    by_cases z : i < 0
    · rw [if_pos z, if_neg (by omega)]
    · rw [if_neg z, if_pos (by omega)]) (fun hi => ?_) (fun hi => Ends.thn rfl (KE _ _ ⟨mm, F, pc', cap', ka', kc', t1, fo, Or.inr ⟨rfl, hkk, of_decide_eq_false hi⟩⟩))
  have hi := of_decide_eq_true hi
  have KK := fun x e => K x h2 ⟨mm, F, pc', cap', ka', kc', t1, fo, hkk, hi, e⟩
  clear K KE
  obtain ⟨j, rfl⟩ : ∃ j : Nat, k = (j : Int) := ⟨k.toNat, by omega⟩
  obtain ⟨y, rfl⟩ : ∃ y : Nat, i = (y : Int) := ⟨i.toNat, by omega⟩
  rw [tn, tn] at KK
  have hj : j < min mm 4096 := by omega
  obtain ⟨f1, f2⟩ := t1.2.1.fst (i := j) (by omega)
  obtain ⟨x1, x2⟩ := t2 j hj
  obtain ⟨a, ea⟩ : ∃ a, a = mk (F j) := ⟨_, rfl⟩
  obtain ⟨b, eb⟩ : ∃ b, b = drT (F j % 96) := ⟨_, rfl⟩
  obtain ⟨c, ec⟩ : ∃ c, c = rkF (mmk mk F) (mdr F) j := ⟨_, rfl⟩
  have ha : a < 10000 := by rw [ea]; exact hmk _
  have hb' : b < 27 := by rw [eb]; exact (fcC_le (k := F j % 96) (i := 0) K96_lt (by decide)).2
  have hc : c < 10000 := by rw [ec]; have := cntN_le (fun m => decide (mmk mk F m = mmk mk F j) && decide (mdr F m = mdr F j)) j; unfold rkF; omega
  have x1 : hv h2 (B + 112) j = (a : Int) := by rw [x1, ea]; rfl
  rw [← ea, ← eb, ← ec] at KK
  rw [← ec] at x2
  obtain ⟨p1, p2⟩ := dgN_le a
  obtain ⟨p3, p4⟩ := dgN_le b
  obtain ⟨p5, p6⟩ := dgN_le c
  have z1 : hv h2 (B + 82) 7 = rf (ka' 0) := (A2.2.1.1 0 (by decide)).1
  have z2 : hk h2 (ka' 0) = (2, kc') := (A2.2.1.1 0 (by decide)).2.1
  have z3 : hv h2 (ka' 0) j = (b : Int) := by rw [d5 j hj 0 (by decide), eb]; unfold kpV; rw [if_pos rfl]
  have e284 : v284 B h2 (j : Int) = (a : Int) := by unfold v284; rw [tn, x1]
  have e297 : v297 B h2 (j : Int) = (c : Int) := by unfold v297; rw [tn, x2]
  have q284' : q284 B h2 (j : Int) := ⟨by omega, by omega⟩
  have q297' : q297 B h2 (j : Int) := ⟨by omega, by omega⟩
  clear x1 x2
  refine Ends.eq (b62_33 l2 (by omega)) ?_
  rw [e284]
  refine Ends.g q284' ?_
  refine Ends.ct l2 (by decide +kernel) (by decide) (c_digit16 l2 (by omega) ha) (fun x h3 l3 _ _ _ ⟨ex, e3⟩ => ?_)
  subst e3 ex
  refine Ends.eq (b62_45 l3 (by omega)) ?_
  rw [e284, v17_is, z1, ad_rf, z2, tn, z3]
  by_cases w1 : y < dgN a
  · have e : dgI a (y : Int) = dgD a y := by unfold dgI; rw [if_pos ⟨by omega, by omega⟩, tn]
    rw [e]
    refine Ends.b2 (fun z => ?_) (fun _ => Ends.sm (KK _ ?_))
    · have : 0 ≤ dgD a y := by unfold dgD; omega
      omega
    · unfold nmS; rw [if_pos w1]
  have e : dgI a (y : Int) = -1 := by unfold dgI; rw [if_neg (by omega)]
  rw [e]
  have s1' : bop32 100 (y : Int) ((dgN a : Nat) : Int) = ((y - dgN a : Nat) : Int) := by rw [sub32 (by omega) (by omega)]; omega
  rw [s1']
  refine Ends.b2 (fun _ => Ends.g q284' ?_) (fun z => absurd z (by decide))
  refine Ends.b1 (fun w2 => ?_) (fun w2 => Ends.sm (KK _ (by unfold nmS; rw [if_neg w1, if_pos (by omega)])))
  refine Ends.g ⟨rf_pos _, rfl, by omega, by show (j : Int) < (kc' : Int); omega⟩ ?_
  rw [show bop32 100 ((y - dgN a : Nat) : Int) (1 : Int) = ((y - dgN a - 1 : Nat) : Int) from by rw [sub32 (by omega) (by omega)]; omega]
  refine Ends.ct l3 (by decide +kernel) (by decide) (c_digit16 l3 (by omega) (by omega)) (fun x h4 l4 _ _ _ ⟨ex, e4⟩ => ?_)
  subst e4 ex
  refine Ends.eq (b62_91 l4 (by omega)) ?_
  rw [z1, ad_rf, z2, tn, z3, v17_is, e297]
  by_cases w3 : y - dgN a - 1 < dgN b
  · have e : dgI b ((y - dgN a - 1 : Nat) : Int) = dgD b (y - dgN a - 1) := by unfold dgI; rw [if_pos ⟨by omega, by omega⟩, tn]
    rw [e]
    refine Ends.b2 (fun z => ?_) (fun _ => Ends.sm (KK _ ?_))
    · have : 0 ≤ dgD b (y - dgN a - 1) := by unfold dgD; omega
      omega
    · unfold nmS; rw [if_neg w1, if_neg (by omega), if_pos (by omega)]
  have e : dgI b ((y - dgN a - 1 : Nat) : Int) = -1 := by unfold dgI; rw [if_neg (by omega)]
  rw [e, show bop32 96 (1 : Int) ((dgN b : Nat) : Int) = ((1 + dgN b : Nat) : Int) from addNN (x := 1) (by omega), show bop32 100 ((y - dgN a : Nat) : Int) ((1 + dgN b : Nat) : Int) = ((y - dgN a - (1 + dgN b) : Nat) : Int) from by rw [sub32 (by omega) (by omega)]; omega]
  refine Ends.b2 (fun _ => Ends.g ⟨rf_pos _, rfl, by omega, by show (j : Int) < (kc' : Int); omega⟩ ?_) (fun z => absurd z (by decide))
  refine Ends.b1 (fun w4 => Ends.g q297' ?_) (fun w4 => ?_)
  · rw [show bop32 100 ((y - dgN a - (1 + dgN b) : Nat) : Int) (1 : Int) = ((y - dgN a - dgN b - 2 : Nat) : Int) from by rw [sub32 (by omega) (by omega)]; omega]
    refine Ends.ct l4 (by decide +kernel) (by decide) (c_digit16 l4 (by omega) hc) (fun x h5 l5 _ _ _ ⟨ex, e5⟩ => ?_)
    subst e5 ex
    refine Ends.eq (b62_142 l5 (by omega)) (Ends.sm (KK _ ?_))
    unfold nmS
    rw [if_neg w1, if_neg (by omega), if_neg (by omega), if_neg (by omega)]
    unfold dgI
    rw [tn]
    by_cases w5 : y < dgN a + dgN b + dgN c + 2
    · rw [if_pos ⟨by omega, by omega⟩, if_pos w5]
    · rw [if_neg (by omega), if_neg w5]
  · refine Ends.eq (b62_142 l4 (by omega)) (Ends.sm (KK _ ?_))
    unfold nmS
    rw [if_neg w1, if_neg (by omega), if_neg (by omega), if_pos (by omega)]
end FCD
