/-! L3: changes by names of faces (desk) -/
noncomputable section BND
variable {gv : Nat → Int} {B n d f pc cap kc cap0 kc0 pc0 mm kd tl mo xe : Nat} {h h0 t : AH} {S : Nat → Bool} {ka ka0 F mk : Nat → Nat} {c N0 N1 nb : Nat → Int}
theorem axD_lt {K : Nat} : axD (drT (K % 96)) = -1 ∨ axD (drT (K % 96)) = ((bvA K : Nat) : Int) ∧ bvA K < 3 := by
  have d27 := (fcC_le (k := K % 96) (i := 0) K96_lt (by decide)).2
  have x := (ax_all ⟨drT (K % 96), d27⟩).1
  have x : axD (drT (K % 96)) = if drT (K % 96) = 4 ∨ drT (K % 96) = 22 then 0 else if drT (K % 96) = 10 ∨ drT (K % 96) = 16 then 1 else if drT (K % 96) = 12 ∨ drT (K % 96) = 14 then 2 else -1 := x
  unfold bvA
  rw [x]
  by_cases a : drT (K % 96) = 4 ∨ drT (K % 96) = 22
  · rw [if_pos a]; right; decide
  · rw [if_neg a]
    by_cases b : drT (K % 96) = 10 ∨ drT (K % 96) = 16
    · rw [if_pos b]; right; decide
    · rw [if_neg b]
      by_cases c : drT (K % 96) = 12 ∨ drT (K % 96) = 14
      · rw [if_pos c]; right; decide
      · rw [if_neg c]; left; rfl
/-- what stands while a change by names is worked out -/
def BnS (B n : Nat) (S : Nat → Bool) (mk : Nat → Nat) (mm : Nat) (F : Nat → Nat) (tl mo xe cap0 kc0 : Nat) (h0 : AH) (kc : Nat) (ka : Nat → Nat) (q : AH) : Prop := ∃ pc cap, FcN B n q pc cap ka kc ∧ FdS B n q S mm F ka kc ∧ MkS B q (mmk mk F) (mdr F) (min mm 4096) ∧ PtD B n q tl mo xe ∧ fcz B n q cap kc = fcz B n h0 cap0 kc0 ∧ cel h0 q ∧ FaX B n (bnW B tl) h0 q
theorem PtD.tlr (P : PtD B n h tl mo xe) : ∃ i, i < 39 ∧ (i < 33 ∨ 36 < i) ∧ rgV B h i = rf tl := P.2.2.2.1.2.2.1.rg
theorem BnS.agr {W : Nat → Nat → Prop} {q q' : AH} (b : BnS B n S mk mm F tl mo xe cap0 kc0 h0 kc ka q) (fc0 : FcN B n h0 pc0 cap0 ka0 kc0) (hb0 : B + 246 ≤ hnx h0) (g : Agr W q q') (hW : ∀ c k, W c k → bnW B tl c k) : BnS B n S mk mm F tl mo xe cap0 kc0 h0 kc ka q' := by
  obtain ⟨pc', cap', f, fd, ms, P, z, ce, x⟩ := b
  have ht : B + 246 ≤ tl := P.2.2.2.1.1
  have nx := x.1.2.2.1
  have hbq : B + 246 ≤ hnx q := by omega
  have lo : ∀ c k, W c k → c = B + 117 ∨ c = tl ∨ c = B + 105 ∨ c = B + 109 ∨ c = B + 114 ∨ (c = B + 92 ∧ (k = 27 ∨ k = 28 ∨ 45 ≤ k ∧ k ≤ 48)) := fun c k z => hW c k z
  have rg : ∀ i, i < 39 → ¬ W (B + rgC i) (rgK i) := fun i hi z => by
    have a := lo _ _ z
    have := rgi hi; have b := rgC_lt ⟨i, hi⟩
    have : rgC i < 149 := b.1
    omega
  have kaT : ∀ j k, j < 6 → ¬ W (ka j) k := fun j k hj z => by
    have a := lo _ _ z
    have kk := f.2.2.2.2.2.1.1 j hj
    have k3 := kk.2.2.1
    obtain ⟨i, i1, i2, i3⟩ := P.tlr
    by_cases y : ka j = tl
    · exact FdZ.no (a := tl) (k := 0) f i1 i2 i3 (Or.inr (Or.inr (Or.inr (Or.inr (Or.inr (Or.inl ⟨j, hj, by rw [← y]; exact kk.1⟩))))))
    · omega
  have f' : FcN B n q' pc' cap' ka kc := f.exg hbq g.ext.exg (fun c k a b z => by have := lo _ _ z; omega) (fun k z => by have := lo _ _ z; omega) rg (fun k a b z => by have := lo _ _ z; omega)
  have X : FaX B n (bnW B tl) q q' := (FaX.agr g (fun k z => by have := lo _ _ z; omega)).sub hW
  refine ⟨pc', cap', f', fd.exg f.2.2.2.2 hbq g.ext.exg (fun k hk z => by have := lo _ _ z; omega) kaT, fun i hi => ?_, P.fax X f hbq, ?_, ce.tr (cel.agr g), x.tr X fc0 hb0 (bnW_rg ht)⟩
  · rw [g.at _ _ (fun z => by have := lo _ _ z; omega), g.at _ _ (fun z => by have := lo _ _ z; omega)]; exact ms i hi
  · obtain ⟨-, L⟩ := f.2.2.2.1.exg hbq g.ext.exg rg
    rw [← z]; unfold fcz; rw [L, g.us]
def lk0W (B : Nat) : Nat → Nat → Prop := fun c k => c = B + 114 ∨ (c = B + 92 ∧ 45 ≤ k ∧ k ≤ 48)
/-- looking keeps all that -/
theorem c_lookB {i ax al : Nat} {pl : Int} {Q0 : Nat → Nat → Nat → Bool} (l : LX B n h) (hd : 32 ≤ d) (hn4 : 4 ≤ n) (hn : n ≤ 52) (b : BnS B n S mk mm F tl mo xe cap0 kc0 h0 kc ka h) (fc0 : FcN B n h0 pc0 cap0 ka0 kc0) (hb0 : B + 246 ≤ hnx h0) (s : SG n h (B + 117) S) (hi : i < min mm 4096) (eax : axD (drT (F i % 96)) = (ax : Int)) (hax : ax < 3) (hal : al < 3) (qq : Qua n h (B + 114) Q0) :
    Vd (cll PP (ev PP (gsF gv) B) d 280 [(2, rf (B + 92)), (0, (i : Int)), (0, (al : Int)), (0, pl)] h) (fun h' => BnS B n S mk mm F tl mo xe cap0 kc0 h0 kc ka h' ∧ LkI B n ax al pl Q0 (FRb n (bdr n S) (F i)) h' ∧ FaX B n (lk0W B) h h') := by
  obtain ⟨pc', cap', f, fd, ms, P, z, ce, x⟩ := b
  have ht : B + 246 ≤ tl := P.2.2.2.1.1
  have hbq := l.2.2
  obtain ⟨h', e, pc1, cap1, f', o, fd', z', ce', g, I⟩ := c_look280 (gv := gv) (d := d) (pl := pl) l hd hn4 hn f s fd hi eax hax hal qq
  have X : FaX B n (lk0W B) h h' := FaX.look f f' o g (fun c k w => w)
  have lo : ∀ c k, lokW B h c k → (c = B + 36 ∧ k = 17) ∨ (B + 47 ≤ c ∧ c ≤ B + 50) ∨ (B + 82 ≤ c ∧ c ≤ B + 92) ∨ c = B + 114 ∨ B + 246 ≤ c := fun c k w => by
    rcases w with w | w
    · have := fdW_in f.2.2.2.1 f.2.2.2.2 w; omega
    · omega
  have X2 : FaX B n (bnW B tl) h h' := X.sub (fun c k w => by unfold lk0W at w; unfold bnW; omega)
  refine ⟨h', e, ⟨pc1, cap1, f', fd', fun i hi => ?_, P.fax X2 f hbq, z'.trans z, ce.tr ce', x.tr X2 fc0 hb0 (bnW_rg ht)⟩, I, X⟩
  rw [g.at _ (by omega) (fun w => by have := lo _ _ w; omega), g.at _ (by omega) (fun w => by have := lo _ _ w; omega)]; exact ms i hi
/-- the tool solid and the part stay while one looks -/
theorem BnS.sol {q : AH} {T : Nat → Bool} (b : BnS B n S mk mm F tl mo xe cap0 kc0 h0 kc ka h) (hbq : B + 246 ≤ hnx h) (X : FaX B n (lk0W B) h q) : (∀ T, SG n h tl T → SG n q tl T) ∧ ∀ T, SG n h (B + 117) T → SG n q (B + 117) T := by
  obtain ⟨pc', cap', f, fd, ms, P, z, ce, x⟩ := b
  have ht : B + 246 ≤ tl := P.2.2.2.1.1
  obtain ⟨i, i1, i2, i3⟩ := P.tlr
  refine ⟨fun T s => X.sg f i1 i2 i3 s (fun k w => by unfold lk0W at w; omega), fun T s => X.1.sg s (by omega) (fun k w => ?_)⟩
  rcases w with w | w
  · unfold lk0W at w; omega
  · have := FdZ_lo f w; omega
/-- what a bevel comes to -/
def BvR (B n : Nat) (S : Nat → Bool) (mk : Nat → Nat) (mm : Nat) (F : Nat → Nat) (kd i : Nat) (N1 : Nat → Int) (hh v : Int) (q : AH) : Prop := ∃ b2, FnR (mmk mk F) (mdr F) (min mm 4096) (N1 0) (N1 1) (N1 2) b2 ∧ (((b2 < 0 ∨ axD (drT (F b2.toNat % 96)) < 0 ∨ axD (drT (F b2.toNat % 96)) = axD (drT (F i % 96))) ∧ v = 0 ∧ hv q (B + 92) 27 = 3 ∧ hv q (B + 92) 28 = 1 ∧ SG n q (B + 117) S) ∨ (¬ (b2 < 0 ∨ axD (drT (F b2.toNat % 96)) < 0 ∨ axD (drT (F b2.toNat % 96)) = axD (drT (F i % 96))) ∧ TkL B n (if kd = 20 then 1 else 0) S (bvG n S (if kd = 20 then -1 else 1) (F i) (F b2.toNat) hh) v q))
set_option maxHeartbeats 2000000 in
theorem c_bevel251 {i : Nat} {hh : Int} (l : LX B n h) (hd : 40 ≤ d) (hn4 : 4 ≤ n) (hn : n ≤ 52) (b : BnS B n S mk mm F tl mo xe cap0 kc0 h0 kc ka h) (fc0 : FcN B n h0 pc0 cap0 ka0 kc0) (hb0 : B + 246 ≤ hnx h0) (s : SG n h (B + 117) S) (st : SG n h tl (fun _ => false)) (qq : Qua n h (B + 114) (fun _ _ _ => false)) (hc : ∀ z, z < 37368 → hv h (B + 2) z = c z) (hf : f < 24) (T1 : NmT c (fdA f 1) N1) (hkd : kd = 20 ∨ kd = 21) (e2 : hv h (B + 97) 2 = hh) (bh : -200 ≤ hh ∧ hh ≤ 200) (hi : i < min mm 4096) (lev : 0 ≤ axD (drT (F i % 96))) :
    Vt 0 (cll PP (ev PP (gsF gv) B) d 251 [(2, rf (B + 92)), (0, (f : Int)), (0, (kd : Int)), (0, (i : Int))] h) (fun v h' => BnS B n S mk mm F tl mo xe cap0 kc0 h0 kc ka h' ∧ BvR B n S mk mm F kd i N1 hh v h') := by
  have hbl := l.2.2
  refine Vt.inq (D := 39) hd (Nat.le_of_ble_eq_true rfl) rfl (fun d hd Q K => ?_)
  refine Ends.eq (b251_0 l (by omega)) ?_
  obtain ⟨pc1, cap1, f1, fd1, ms1, P1, z1, ce1, x1⟩ := id b
  have ht : B + 246 ≤ tl := P1.2.2.2.1.1
  refine Ends.ct l (by decide +kernel) (by decide) (c_named287 (k := 1) l (by omega) f1 fd1 ms1 hc hf (by decide) T1) (fun b2 h2 l2 _ _ _ ⟨r, g2⟩ => ?_)
  have b' := b.agr fc0 hb0 g2 (fun c k z => by unfold bnW; omega)
  have s2 : SG n h2 (B + 117) S := s.agr g2 (fun k z => by omega)
  have st2 : SG n h2 tl (fun _ => false) := st.agr g2 (fun k z => by omega)
  have qq2 : Qua n h2 (B + 114) (fun _ _ _ => false) := qq.agr g2 (fun k z => by omega)
  have e22 : hv h2 (B + 97) 2 = hh := by rw [g2.at _ _ (by omega)]; exact e2
  clear g2 z1 ce1 x1 f1 fd1 ms1 P1 b s st qq e2 hc
  obtain ⟨pc2, cap2, f2, fd2, ms2, P2, z2, ce2, x2⟩ := id b'
  have A2 := f2.2.2.2.2
  obtain ⟨c1, c2, c3, c4, c5⟩ := id fd2
  obtain ⟨k0, k0', k0b, k0c⟩ := A2.2.1.1 0 (by decide)
  obtain ⟨k1, k1', k1b, k1c⟩ := A2.2.1.1 1 (by decide)
  have k0 : hv h2 (B + 82) 7 = rf (ka 0) := k0
  have k1 : hv h2 (B + 82) 8 = rf (ka 1) := k1
  have drr : ∀ k, k < min mm 4096 → hv h2 (ka 0) k = mdr F k := fun k hk => by rw [c5 k hk 0 (by decide)]; unfold kpV mdr; rw [if_pos rfl]
  have ofr : ∀ k, k < min mm 4096 → hv h2 (ka 1) k = ofF n (F k) := fun k hk => by rw [c5 k hk 1 (by decide)]; unfold kpV; rw [if_neg (by decide), if_pos rfl]
  have gd0 : ∀ k, k < min mm 4096 → (0 < rf (ka 0) ∧ ((2, kc) : Nat × Nat).1 = 0 + 2 ∧ (0 : Int) ≤ (k : Int) ∧ (k : Int) < (((2, kc) : Nat × Nat).2 : Int)) := fun k hk => ⟨rf_pos _, rfl, by omega, by show (k : Int) < (kc : Int); omega⟩
  have gd1 : ∀ k, k < min mm 4096 → (0 < rf (ka 1) ∧ ((2, kc) : Nat × Nat).1 = 0 + 2 ∧ (0 : Int) ≤ (k : Int) ∧ (k : Int) < (((2, kc) : Nat × Nat).2 : Int)) := fun k hk => ⟨rf_pos _, rfl, by omega, by show (k : Int) < (kc : Int); omega⟩
  have fst : ∀ k, k < min mm 4096 → F k < 4 * gN n := fun k hk => (fd2.fst (i := k) (Nat.lt_of_lt_of_le hk (Nat.min_le_left _ _))).1
  have axi : axD (drT (F i % 96)) = ((bvA (F i) : Nat) : Int) ∧ bvA (F i) < 3 := by
    rcases axD_lt (K := F i) with z | z
    · omega
    · exact z
  -- no second face
  have fail : ∀ (x5 x6 : Int) (u7 u8 u9 u10 u11 u12 u13 u14 u15 u16 u17 u18 u19 u20 u21 u22 : AV), (b2 < 0 ∨ axD (drT (F b2.toNat % 96)) < 0 ∨ axD (drT (F b2.toNat % 96)) = axD (drT (F i % 96))) → Ends (ev PP (gsF gv) B d 251 58 [(2, rf (B + 92)), (0, (f : Int)), (0, (kd : Int)), (0, (i : Int)), (0, b2), (0, x5), (0, x6), u7, u8, u9, u10, u11, u12, u13, u14, u15, u16, u17, u18, u19, u20, u21, u22] [] h2) Q := fun x5 x6 u7 u8 u9 u10 u11 u12 u13 u14 u15 u16 u17 u18 u19 u20 u21 u22 no => by
    refine Ends.eq (b251_58 l2 (by omega)) ?_
    refine Ends.ct l2 (by decide +kernel) (by decide) (c_failed266 (x := 3) (y := 1) l2 (by omega)) (fun v h3 l3 _ _ _ ⟨_, g3, w27, w28⟩ => ?_)
    exact Ends.eq (b251_64 l3 (by omega)) (Ends.sm (K _ _ ⟨b'.agr fc0 hb0 g3 (fun c k z => by unfold bnW; omega), b2, r, Or.inl ⟨no, rfl, w27, w28, s2.agr g3 (fun k z => by omega)⟩⟩))
  refine Ends.eq (b251_6 l2 (by omega)) ?_
  rw [k0, k1, ad_rf, ad_rf, k0', k1', tn, drr i hi, ofr i hi, show v250 (mdr F i) = ((bvA (F i) : Nat) : Int) from axi.1, ct3, ct3]
  refine Ends.g (gd0 i hi) ?_
  by_cases hb2 : b2 < 0
  · rw [if_pos hb2, if_pos hb2]
    exact Ends.g trivial (Ends.b2 (fun _ => fail _ _ _ _ _ _ _ _ _ _ _ _ _ _ _ _ _ _ (Or.inl hb2)) (fun z => absurd z (by decide)))
  rw [if_neg hb2, if_neg hb2]
  obtain ⟨y, ey, hy⟩ : ∃ y : Nat, b2 = (y : Int) ∧ y < min mm 4096 := by
    rcases r.lt with w | ⟨x, w, hx⟩
    · omega
    · exact ⟨x, w, hx⟩
  subst ey
  rw [tn] at fail
  rw [tn, drr y hy, ofr y hy]
  refine Ends.g (gd0 y hy) (Ends.b2 (fun z => fail _ _ _ _ _ _ _ _ _ _ _ _ _ _ _ _ _ _ (Or.inr (Or.inl z))) (fun lv2 => ?_))
  have axy : axD (drT (F y % 96)) = ((bvA (F y) : Nat) : Int) ∧ bvA (F y) < 3 := by
    rcases axD_lt (K := F y) with z | z
    · have : ¬ axD (drT (F y % 96)) < 0 := fun w => by
        have w' : v250 (mdr F y) < 0 := w
        omega
      omega
    · exact z
  rw [show v250 (mdr F y) = ((bvA (F y) : Nat) : Int) from axy.1]
  refine Ends.b1 (fun ne => ?_) (fun z => fail _ _ _ _ _ _ _ _ _ _ _ _ _ _ _ _ _ _ (Or.inr (Or.inr (by rw [axy.1, axi.1, z]))))
  have ne : bvA (F i) ≠ bvA (F y) := by omega
  have alN : 3 - bvA (F i) - bvA (F y) < 3 := by omega
  obtain ⟨al, eal⟩ : ∃ al, al = 3 - bvA (F i) - bvA (F y) := ⟨_, rfl⟩
  have bal : bop32 100 (bop32 100 (3 : Int) ((bvA (F i) : Nat) : Int)) ((bvA (F y) : Nat) : Int) = (al : Int) := by
    rw [sub32 (x := 3) (by omega) (by omega), sub32 (by omega) (by omega)]; omega
  have hpi := ofF_sg hn (fst i hi)
  have hpy := ofF_sg hn (fst y hy)
  have bi := plK_b hn (fst i hi)
  have by' := plK_b hn (fst y hy)
  have yes : ¬ (((y : Nat) : Int) < 0 ∨ axD (drT (F y % 96)) < 0 ∨ axD (drT (F y % 96)) = axD (drT (F i % 96))) := fun w => by omega
  refine Ends.g (gd0 y hy) (Ends.g (gd1 i hi) (Ends.g (gd1 y hy) ?_))
  rw [bal, show bop32 104 (ofF n (F i)) (cond (tst 5 (mdr F i) 13) (-1 : Int) 1) = plK n (F i) from hpi.1, show bop32 104 (ofF n (F y)) (cond (tst 5 (mdr F y) 13) (-1 : Int) 1) = plK n (F y) from hpy.1, show cond (tst 5 (mdr F i) 13) (-1 : Int) 1 = sgF (F i) from hpi.2, show cond (tst 5 (mdr F y) 13) (-1 : Int) 1 = sgF (F y) from hpy.2]
  clear hpi hpy bal
  refine Ends.cv l2 (by decide +kernel) (c_lookB (pl := plK n (F y)) l2 (by omega) hn4 hn b' fc0 hb0 s2 hi axi.1 axi.2 (by omega : al < 3) qq2) (fun h3 l3 _ _ _ ⟨b3, I3, X3⟩ => ?_)
  obtain ⟨T3, U3⟩ := b'.sol (T := S) l2.2.2 X3
  have e23 : hv h3 (B + 97) 2 = hh := by rw [X3.at f2 l2.2.2 (by omega) (by unfold lk0W; omega) (by omega) (by omega) (by omega)]; exact e22
  refine Ends.eq (b251_157 l3 (by omega)) ?_
  obtain ⟨M1, eM1⟩ : ∃ M1, M1 = hv h3 (B + 92) 48 := ⟨_, rfl⟩
  have m1 := I3.2.2.2
  rw [← eM1] at m1 ⊢
  refine Ends.cv l3 (by decide +kernel) (c_lookB (pl := plK n (F i)) l3 (by omega) hn4 hn b3 fc0 hb0 (U3 _ s2) hy axy.1 axy.2 (by omega : al < 3) I3.2.1) (fun h4 l4 _ _ _ ⟨b4, I4, X4⟩ => ?_)
  obtain ⟨T4, U4⟩ := b3.sol (T := S) l3.2.2 X4
  obtain ⟨pc3, cap3, f3, -⟩ := id b3
  have e24 : hv h4 (B + 97) 2 = hh := by rw [X4.at f3 l3.2.2 (by omega) (by unfold lk0W; omega) (by omega) (by omega) (by omega)]; exact e23
  refine Ends.eq (b251_173 l4 (by omega)) ?_
  obtain ⟨M2, eM2⟩ : ∃ M2, M2 = hv h4 (B + 92) 48 := ⟨_, rfl⟩
  have m2 := I4.2.2.2
  rw [← eM2] at m2 ⊢
  refine Ends.cv l4 (by decide +kernel) (c_clearQ257 l4 (by omega) hn) (fun h5 l5 _ _ _ ⟨g5, q5⟩ => ?_)
  have b5 := b4.agr fc0 hb0 g5 (fun c k z => by unfold bnW; omega)
  obtain ⟨pc5, cap5, f5, fd5, ms5, P5, z5, ce5, x5⟩ := id b5
  refine Ends.eq (b251_186 (by decide) l5 (by omega)) ?_
  rw [ct1, ct3, show (if ((bvA (F i) : Nat) : Int) < ((bvA (F y) : Nat) : Int) then (1 : Int) else 0) = if bvA (F i) < bvA (F y) then 1 else 0 from by
    by_cases w : bvA (F i) < bvA (F y)
    · rw [if_pos w, if_pos (Int.ofNat_lt.mpr w)]
    · rw [if_neg w, if_neg (fun v => w (Int.ofNat_lt.mp v))]]
  refine e_bevel (mE := fun x => emB n al (plK n (F y)) (FRb n (bdr n S) (F i)) x && emB n al (plK n (F i)) (FRb n (bdr n S) (F y)) x) l5 (by omega) (by omega) hn f5.1 P5 ((U4 _ (U3 _ s2)).agr g5 (fun k z => by omega)) ((T4 _ (T3 _ st2)).agr g5 (fun k z => by omega)) q5 (by omega) ?_ sgF_pm sgF_pm (by omega) (by omega) (by rw [g5.at _ _ (by omega)]; exact e24) bh (fun x hx => ?_) hkd (fun v h6 l6 g6 r6 => K _ _ ⟨b5.agr fc0 hb0 g6 (fun c k z => by unfold bnW; omega), (y : Int), r, Or.inr ⟨by rw [tn]; exact yes, ?_⟩⟩)
  · rcases hkd with z | z
    · rw [if_pos (by omega)]; exact Or.inr rfl
    · rw [if_neg (by omega)]; exact Or.inl rfl
  · rw [tb_and, m1 x hx, m2 x hx]
    cases decide (x < n)
    · rfl
    · rfl
  · rw [tn]
    have ew : (if (kd : Int) = 20 then (-1 : Int) else 1) = if kd = 20 then -1 else 1 := by
      rcases hkd with z | z
      · rw [if_pos (by omega), if_pos z]
      · rw [if_neg (by omega), if_neg (by omega)]
    rw [ew, eal] at r6
    exact r6
/-- the tools of pulls and bores -/
def puE (n K : Nat) (x : Int) : Int := if 13 < drT (K % 96) then plK n K + x else plK n K - x
def puG (n : Nat) (S : Nat → Bool) (K : Nat) (x : Int) (g : Nat) : Bool := prG n (lkB n (bvA K) (FRb n (bdr n S) K)) (bvA K) (v892 (plK n K) (puE n K x)) (v891 (plK n K) (puE n K x)) g
def boG (n K : Nat) (nb : Nat → Int) (g : Nat) : Bool := decide (0 < nb 3) && prG n (dsQ (nb 4).toNat (nb 1) (nb 2)) (bvA K) (v892 (plK n K) (puE n K (-nb 3))) (v891 (plK n K) (puE n K (-nb 3))) g
/-- what a change by names comes to -/
def BnD (B n : Nat) (S : Nat → Bool) (mk : Nat → Nat) (mm : Nat) (F : Nat → Nat) (kd : Nat) (nb N1 : Nat → Int) (a v : Int) (q : AH) : Prop :=
  ((a < 0 ∨ (kd ≠ 23 ∧ axD (drT (F a.toNat % 96)) < 0)) ∧ v = 0 ∧ hv q (B + 92) 27 = 3 ∧ hv q (B + 92) 28 = 0 ∧ SG n q (B + 117) S) ∨
  (¬ (a < 0 ∨ (kd ≠ 23 ∧ axD (drT (F a.toNat % 96)) < 0)) ∧ ((kd = 23 ∧ v = 1 ∧ SG n q (B + 117) S) ∨ (kd = 24 ∧ TkL B n (if 0 < nb 1 then 0 else 1) S (puG n S (F a.toNat) (nb 1)) v q) ∨ (kd = 25 ∧ TkL B n 1 S (boG n (F a.toNat) nb) v q) ∨ ((kd = 20 ∨ kd = 21) ∧ BvR B n S mk mm F kd a.toNat N1 (nb 2) v q)))
theorem ofF_at {K : Nat} (hn : n ≤ 52) (hK : K < 4 * gN n) : cond (tst 5 ((drT (K % 96) : Nat) : Int) 13) (0 : Int) 1 = (if 13 < drT (K % 96) then 1 else 0) ∧ cond (tst 0 (if 13 < drT (K % 96) then (1 : Int) else 0) 0) (uop 0 (ofF n K)) (ofF n K) = plK n K := by
  have ob := ofF_b hn hK
  rw [ct5, ct0]
  unfold plK
  by_cases z : 13 < drT (K % 96)
  · rw [if_pos (show (13 : Int) < ((drT (K % 96) : Nat) : Int) by omega), if_pos z, if_neg (by decide), if_pos z]
    exact ⟨rfl, rfl⟩
  · rw [if_neg (show ¬ (13 : Int) < ((drT (K % 96) : Nat) : Int) by omega), if_neg z, if_pos rfl, if_neg z]
    exact ⟨rfl, neg32 (by omega) (by omega)⟩
theorem pu_is {K : Nat} {x : Int} (hn : n ≤ 52) (hK : K < 4 * gN n) (bx : -200 ≤ x ∧ x ≤ 200) : cond (tst 0 (if 13 < drT (K % 96) then (1 : Int) else 0) 0) (bop32 100 (plK n K) x) (bop32 96 (plK n K) x) = puE n K x ∧ cond (tst 0 (if 13 < drT (K % 96) then (1 : Int) else 0) 0) (bop32 96 (plK n K) x) (bop32 100 (plK n K) x) = puE n K (-x) := by
  have ob := plK_b hn hK
  rw [ct0, ct0]
  unfold puE
  by_cases z : 13 < drT (K % 96)
  · rw [if_pos z, if_neg (by decide), if_pos z, if_neg (by decide), if_pos z]
    exact ⟨add32 (by omega) (by omega), by rw [sub32 (by omega) (by omega)]; omega⟩
  · rw [if_neg z, if_pos rfl, if_neg z, if_pos rfl, if_neg z]
    exact ⟨sub32 (by omega) (by omega), by rw [add32 (by omega) (by omega)]; omega⟩
theorem mm_b {x y : Int} (hx : -1000 ≤ x ∧ x ≤ 1000) (hy : -1000 ≤ y ∧ y ≤ 1000) : (-1000 ≤ v892 x y ∧ v892 x y ≤ 1000) ∧ -1000 ≤ v891 x y ∧ v891 x y ≤ 1000 := by
  rw [v892_if, max_J]
  refine ⟨?_, ?_⟩
  · by_cases z : y < x
    · rw [if_pos z]; exact hy
    · rw [if_neg z]; exact hx
  · by_cases z : x < y
    · rw [if_pos z]; exact hy
    · rw [if_neg z]; exact hx
set_option maxHeartbeats 2000000 in
theorem c_byName253 {Cb : Nat → Nat → Bool} {fa : Nat → Int} (l : LX B n h) (hd : 44 ≤ d) (hn4 : 4 ≤ n) (hn : n ≤ 52) (fc : FcN B n h pc cap ka kc) (sp : SG n h (B + 117) S) (P : PtD B n h tl mo xe) (C : CgS B n h Cb) (hfa : ∀ p, p < 25 → hv h (B + 96) p = fa p) (hC : ∀ K, K < 4 * gN n → plF n Cb K < 25) (hmk : ∀ K, K < 4 * gN n → bdr n S K = true → fa (plF n Cb K) = ((mk K : Nat) : Int)) (hc : ∀ z, z < 37368 → hv h (B + 2) z = c z) (hf : f < 24) (T0 : NmT c (fdA f 0) N0) (T1 : kd = 20 ∨ kd = 21 → NmT c (fdA f 1) N1) (hkd : kd = 20 ∨ kd = 21 ∨ kd = 23 ∨ kd = 24 ∨ kd = 25) (e1 : kd = 24 ∨ kd = 25 → hv h (B + 97) 1 = nb 1) (e2 : kd ≠ 23 → kd ≠ 24 → hv h (B + 97) 2 = nb 2) (e34 : kd = 25 → hv h (B + 97) 3 = nb 3 ∧ hv h (B + 97) 4 = nb 4) (bb : ∀ k, k < 5 → -200 ≤ nb k ∧ nb k ≤ 200) (b4 : kd = 25 → 1 ≤ nb 4 ∧ nb 4 ≤ 64) :
    Vt 0 (cll PP (ev PP (gsF gv) B) d 253 [(2, rf (B + 92)), (0, (f : Int)), (0, (kd : Int))] h) (fun v h' => ∃ mm F kc' ka' a, BnS B n S mk mm F tl mo xe cap kc h kc' ka' h' ∧ FnR (mmk mk F) (mdr F) (min mm 4096) (N0 0) (N0 1) (N0 2) a ∧ BnD B n S mk mm F kd nb N1 a v h') := by
  have hbl := l.2.2
  have hn0 : 0 < n := by omega
  have ht : B + 246 ≤ tl := P.2.2.2.1.1
  have R := fc.2.2.2.1
  refine Vt.inq (D := 43) hd (Nat.le_of_ble_eq_true rfl) rfl (fun d hd Q K => ?_)
  refine Ends.eq (b253_0 l (by omega)) ?_
  refine Ends.cv l (by decide +kernel) (c_findFaces272 l (by omega) hn4 hn fc sp C hfa hC) (fun h1 l1 _ _ _ ⟨mm, F, pc1, cap1, ka1, kc1, ⟨f1, o1, o2⟩, fd1, ms1, z1, ce1, X1⟩ => ?_)
  have x1 : FaX B n (bnW B tl) h h1 := FaX.find fc f1 o1 o2 X1
  have lo1 : ∀ c k, ffW B h c k → (c = B + 36 ∧ k = 17) ∨ (B + 47 ≤ c ∧ c ≤ B + 50) ∨ (B + 82 ≤ c ∧ c ≤ B + 90) ∨ c = B + 112 ∨ c = B + 113 ∨ B + 246 ≤ c := fun c k w => by
    rcases w with w | w
    · have := fdW_in R fc.2.2.2.2 w; omega
    · omega
  have at1 : ∀ c k, c < B + 246 → ¬ (B + 36 ≤ c ∧ c ≤ B + 50) → ¬ (B + 82 ≤ c ∧ c ≤ B + 90) → ¬ (c = B + 112 ∨ c = B + 113) → hv h1 c k = hv h c k := fun c k h1 h2 h3 h4 => X1.at _ (by omega) (fun w => by have := lo1 _ _ w; omega)
  have b1 : BnS B n S mk mm F tl mo xe cap kc h kc1 ka1 h1 := ⟨pc1, cap1, f1, fd1, ms1.congr (fun i hi => by
    obtain ⟨y1, y2⟩ := fd1.fst (i := i) (Nat.lt_of_lt_of_le hi (Nat.min_le_left _ _))
    exact ⟨(hmk _ y1 y2).symm, rfl⟩), P.fax x1 fc hbl, z1, ce1, x1⟩
  have s1 : SG n h1 (B + 117) S := X1.sg sp (by omega) (fun k w => by have := lo1 _ _ w; omega)
  have hb1 := l1.2.2
  obtain ⟨-, -, -, -, ms1', P1, -⟩ := id b1
  refine Ends.eq (b253_4 l1 (by omega)) ?_
  obtain ⟨pcx, capx, fx, fdx, msx, Px, -⟩ := id b1
  refine Ends.ct l1 (by decide +kernel) (by decide) (c_named287 (k := 0) l1 (by omega) fx fdx msx (fun z hz => by rw [at1 _ _ (by omega) (by omega) (by omega) (by omega)]; exact hc z hz) hf (by decide) T0) (fun a h2 l2 _ _ _ ⟨r, g2⟩ => ?_)
  have b2 := b1.agr fc hbl g2 (fun c k z => by unfold bnW; omega)
  have s2 : SG n h2 (B + 117) S := s1.agr g2 (fun k z => by omega)
  have at2 : ∀ c k, c < B + 246 → ¬ (B + 36 ≤ c ∧ c ≤ B + 50) → ¬ (B + 82 ≤ c ∧ c ≤ B + 90) → ¬ (c = B + 112 ∨ c = B + 113) → c ≠ B + 105 → c ≠ B + 109 → hv h2 c k = hv h c k := fun c k y1 y2 y3 y4 y5 y6 => by rw [g2.at _ _ (by omega)]; exact at1 c k y1 y2 y3 y4
  clear g2 at1 X1 lo1 x1 s1 ms1 ms1' P1 fx fdx msx Px z1 ce1
  obtain ⟨pc2, cap2, f2, fd2, ms2, P2, z2, ce2, x2⟩ := id b2
  have A2 := f2.2.2.2.2
  obtain ⟨c1, c2, c3, c4, c5⟩ := id fd2
  obtain ⟨k0, k0', k0b, k0c⟩ := A2.2.1.1 0 (by decide)
  obtain ⟨k1, k1', k1b, k1c⟩ := A2.2.1.1 1 (by decide)
  have k0 : hv h2 (B + 82) 7 = rf (ka1 0) := k0
  have k1 : hv h2 (B + 82) 8 = rf (ka1 1) := k1
  have gd0 : ∀ k, k < min mm 4096 → (0 < rf (ka1 0) ∧ ((2, kc1) : Nat × Nat).1 = 0 + 2 ∧ (0 : Int) ≤ (k : Int) ∧ (k : Int) < (((2, kc1) : Nat × Nat).2 : Int)) := fun k hk => ⟨rf_pos _, rfl, by omega, by show (k : Int) < (kc1 : Int); omega⟩
  have gd1 : ∀ k, k < min mm 4096 → (0 < rf (ka1 1) ∧ ((2, kc1) : Nat × Nat).1 = 0 + 2 ∧ (0 : Int) ≤ (k : Int) ∧ (k : Int) < (((2, kc1) : Nat × Nat).2 : Int)) := fun k hk => ⟨rf_pos _, rfl, by omega, by show (k : Int) < (kc1 : Int); omega⟩
  -- no such face
  have fail : ∀ (u4 u5 u6 u7 u8 u9 : AV), (a < 0 ∨ (kd ≠ 23 ∧ axD (drT (F a.toNat % 96)) < 0)) → Ends (ev PP (gsF gv) B d 253 36 [(2, rf (B + 92)), (0, (f : Int)), (0, (kd : Int)), (0, a), u4, u5, u6, u7, u8, u9] [] h2) Q := fun u4 u5 u6 u7 u8 u9 no => by
    refine Ends.eq (b253_36 l2 (by omega)) ?_
    refine Ends.ct l2 (by decide +kernel) (by decide) (c_failed266 (x := 3) (y := 0) l2 (by omega)) (fun v h3 l3 _ _ _ ⟨_, g3, w27, w28⟩ => ?_)
    exact Ends.eq (b253_42 l3 (by omega)) (Ends.sm (K _ _ ⟨mm, F, kc1, ka1, a, b2.agr fc hbl g3 (fun c k z => by unfold bnW; omega), r, Or.inl ⟨no, rfl, w27, w28, s2.agr g3 (fun k z => by omega)⟩⟩))
  refine Ends.eq (b253_10 l2 (by omega)) (Ends.b2 (fun z => fail _ _ _ _ _ _ (Or.inl z)) (fun a0 => ?_))
  obtain ⟨y, ey, hy⟩ : ∃ y : Nat, a = (y : Int) ∧ y < min mm 4096 := by
    rcases r.lt with w | ⟨x, w, hx⟩
    · omega
    · exact ⟨x, w, hx⟩
  subst ey
  rw [tn] at fail
  have drr : hv h2 (ka1 0) y = mdr F y := by rw [c5 y hy 0 (by decide)]; unfold kpV mdr; rw [if_pos rfl]
  have ofr : hv h2 (ka1 1) y = ofF n (F y) := by rw [c5 y hy 1 (by decide)]; unfold kpV; rw [if_neg (by decide), if_pos rfl]
  have hK := (fd2.fst (i := y) (Nat.lt_of_lt_of_le hy (Nat.min_le_left _ _))).1
  refine Ends.b0 (fun k23 => ?_) (fun k23 => ?_)
  · refine Ends.eq (b253_45 l2 (by omega)) (Ends.b1 (fun z => absurd k23 z) (fun _ => Ends.sm (K _ _ ⟨mm, F, kc1, ka1, (y : Int), b2, r, Or.inr ⟨fun w => ?_, Or.inl ⟨by omega, rfl, s2⟩⟩⟩)))
    rcases w with w | w
    · omega
    · exact w.1 (by omega)
  have n23 : kd ≠ 23 := by omega
  rw [k0, ad_rf, k0', tn, drr]
  refine Ends.g (gd0 y hy) (Ends.b3 (fun lev => ?_) (fun z => fail _ _ _ _ _ _ (Or.inr ⟨n23, z⟩)))
  have lev' : 0 ≤ axD (drT (F y % 96)) := lev
  have axy : axD (drT (F y % 96)) = ((bvA (F y) : Nat) : Int) ∧ bvA (F y) < 3 := by
    rcases axD_lt (K := F y) with z | z
    · omega
    · exact z
  have yes : ¬ (((y : Nat) : Int) < 0 ∨ (kd ≠ 23 ∧ axD (drT (F ((y : Nat) : Int).toNat % 96)) < 0)) := fun w => by
    rw [tn] at w
    omega
  obtain ⟨w1, w2⟩ := ofF_at hn hK
  have pb := plK_b hn hK
  have pE : ∀ x, -200 ≤ x → x ≤ 200 → -1000 ≤ puE n (F y) x ∧ puE n (F y) x ≤ 1000 := fun x h1 h2 => by
    unfold puE
    by_cases z : 13 < drT (F y % 96)
    · rw [if_pos z]; omega
    · rw [if_neg z]; omega
  refine Ends.eq (b253_45 l2 (by omega)) (Ends.b1 (fun _ => ?_) (fun z => absurd z k23))
  rw [k0, k1, ad_rf, ad_rf, k0', k1', tn, drr, ofr, show cond (tst 5 (mdr F y) 13) (0 : Int) 1 = (if 13 < drT (F y % 96) then 1 else 0) from w1, w2, show v250 (mdr F y) = ((bvA (F y) : Nat) : Int) from axy.1, P2.1]
  refine Ends.g (gd1 y hy) (Ends.g (gd0 y hy) ?_)
  have kt : hk h2 tl = (3, 24 * n * n) := P2.2.2.2.1.2.2.2
  refine Ends.cv l2 (by decide +kernel) (c_clear (a := tl) l2 (by omega) hn kt (by omega)) (fun h3 l3 _ _ _ ⟨fr3, st3'⟩ => ?_)
  have g3 := fr3.fr.agr
  have st3 : SG n h3 tl (fun _ => false) := SG.of hn0 st3' (fun _ _ _ _ _ _ _ _ => rfl)
  refine Ends.eq (b253_125 l3 (by omega)) ?_
  refine Ends.cv l3 (by decide +kernel) (c_clearQ257 l3 (by omega) hn) (fun h4 l4 _ _ _ ⟨g4, q4⟩ => ?_)
  have g34 : Agr (fun c _ => c = B + 114 ∨ c = tl) h2 h4 := (g3.sub (fun c k z => Or.inr z)).tr g4 (fun c k z => Or.inl z)
  have b4' := b2.agr fc hbl g34 (fun c k z => by unfold bnW; omega)
  have s4 : SG n h4 (B + 117) S := s2.agr g34 (fun k z => by omega)
  have st4 : SG n h4 tl (fun _ => false) := st3.agr g4 (fun k z => by omega)
  have at4 : ∀ c k, c < B + 246 → ¬ (B + 36 ≤ c ∧ c ≤ B + 50) → ¬ (B + 82 ≤ c ∧ c ≤ B + 90) → ¬ (c = B + 112 ∨ c = B + 113) → c ≠ B + 105 → c ≠ B + 109 → c ≠ B + 114 → hv h4 c k = hv h c k := fun c k y1 y2 y3 y4 y5 y6 y7 => by rw [g34.at _ _ (by omega)]; exact at2 c k y1 y2 y3 y4 y5 y6
  have v97 : ∀ k, hv h4 (B + 97) k = hv h (B + 97) k := fun k => at4 _ _ (by omega) (by omega) (by omega) (by omega) (by omega) (by omega) (by omega)
  clear g3 g4 g34 fr3 st3 st3' s2 at2 b2 f2 fd2 ms2 P2 z2 ce2 x2 k0 k1 k0' k1' gd0 gd1 c5 A2 drr ofr fail kt
  have hb4 := l4.2.2
  refine Ends.eq (b253_129 l4 (by omega)) (Ends.b1 (fun n24 => Ends.b1 (fun n25 => ?_) (fun k25 => ?_)) (fun k24 => ?_))
  · -- bevels
    have k2 : kd = 20 ∨ kd = 21 := by omega
    refine Ends.ct l4 (by decide +kernel) (by decide) (c_bevel251 (hh := nb 2) l4 (by omega) hn4 hn b4' fc hbl s4 st4 q4 (fun z hz => by rw [at4 _ _ (by omega) (by omega) (by omega) (by omega) (by omega) (by omega) (by omega)]; exact hc z hz) hf (T1 k2) k2 (by rw [v97]; exact e2 n23 (by omega)) (bb 2 (by decide)) hy lev') (fun v h5 l5 _ _ _ ⟨b5, r5⟩ => ?_)
    have v01 : v = 0 ∨ v = 1 := by
      obtain ⟨b2, -, ⟨-, z, -⟩ | ⟨-, ⟨-, z, -⟩ | ⟨-, z, -⟩⟩⟩ := r5
      · exact Or.inl z
      · exact Or.inl z
      · exact Or.inr z
    refine Ends.eq (b253_332 l5 (by omega)) (Ends.g v01 (Ends.sm (K _ _ ⟨mm, F, kc1, ka1, (y : Int), b5, r, Or.inr ⟨yes, Or.inr (Or.inr (Or.inr ⟨k2, by rw [tn]; exact r5⟩))⟩⟩)))
  · -- bores
    have kd25 : kd = 25 := by omega
    obtain ⟨e3, e4⟩ := e34 kd25
    obtain ⟨rr, err⟩ : ∃ rr : Nat, nb 4 = (rr : Int) := ⟨(nb 4).toNat, by have := b4 kd25; omega⟩
    have b3 := bb 3 (by decide)
    have bq4 := b4 kd25
    rw [v97, v97, v97, show Int.toNat (1 : Int) = 1 from rfl, show Int.toNat (2 : Int) = 2 from rfl, show Int.toNat (4 : Int) = 4 from rfl, e1 (Or.inr kd25), e2 n23 (by omega), e4, err]
    refine Ends.cv l4 (by decide +kernel) (c_disc397 (r := rr) l4 (by omega) hn (by omega) (bb 1 (by decide)) (bb 2 (by decide)) q4 (by omega)) (fun h5 l5 _ _ _ ⟨g5, q5⟩ => ?_)
    have b5 := b4'.agr fc hbl g5 (fun c k z => by unfold bnW; omega)
    have s5 : SG n h5 (B + 117) S := s4.agr g5 (fun k z => by omega)
    have st5 : SG n h5 tl (fun _ => false) := st4.agr g5 (fun k z => by omega)
    have q5' : Qua n h5 (B + 114) (dsQ rr (nb 1) (nb 2)) := q5.congr (fun q y x _ _ _ => Bool.false_or _)
    have fin : ∀ (h6 : AH) (T : Nat → Bool) (x8 : Int), LX B n h6 → BnS B n S mk mm F tl mo xe cap kc h kc1 ka1 h6 → SG n h6 (B + 117) S → SG n h6 tl T → (∀ g, g < gN n → T g = boG n (F y) nb g) → ∀ u9 : AV, Ends (ev PP (gsF gv) B d 253 319 [(2, rf (B + 92)), (0, (f : Int)), (0, (kd : Int)), (0, (y : Int)), (0, ofF n (F y)), (0, if 13 < drT (F y % 96) then 1 else 0), (0, plK n (F y)), (0, ((bvA (F y) : Nat) : Int)), (0, x8), u9] [] h6) Q := fun h6 T x8 l6 b6 s6 t6 eT u9 => by
      obtain ⟨pc6, cap6, f6, fd6, ms6, P6, -⟩ := id b6
      refine Ends.eq (b253_319 l6 (by omega)) ?_
      refine Ends.ct l6 (by decide +kernel) (by decide) (c_takeTool314 (op := 1) l6 (by omega) hn0 hn P6 s6 (t6.congr hn0 eT)) (fun v h7 l7 _ _ _ ⟨g7, r7⟩ => ?_)
      refine Ends.eq (b253_324 l7 (by omega)) (Ends.g (by rcases r7 with ⟨_, z, _⟩ | ⟨_, z, _⟩ <;> omega) (Ends.sm (K _ _ ⟨mm, F, kc1, ka1, (y : Int), b6.agr fc hbl g7 (fun c k z => by unfold bnW; omega), r, Or.inr ⟨yes, Or.inr (Or.inr (Or.inl ⟨kd25, by rw [tn]; exact r7⟩))⟩⟩)))
    have v97' : ∀ k, hv h5 (B + 97) k = hv h (B + 97) k := fun k => by rw [g5.at _ _ (by omega)]; exact v97 k
    have v12 : hv h5 (B + 92) 12 = rf tl := by obtain ⟨pc6, cap6, f6, fd6, ms6, P6, -⟩ := id b5; exact P6.1
    refine Ends.eq (b253_251 l5 (by omega)) ?_
    rw [v97', show Int.toNat (3 : Int) = 3 from rfl, e3, (pu_is hn hK b3).2, v12]
    refine Ends.b5 (fun z => fin h5 (fun _ => false) _ l5 b5 s5 st5 (fun g hg => ?_) _) (fun z => ?_)
    · unfold boG
      rw [decide_eq_false (by omega), Bool.false_and]
    · obtain ⟨pc6, cap6, f6, fd6, ms6, P6, -⟩ := id b5
      have mb := mm_b (x := plK n (F y)) (y := puE n (F y) (-nb 3)) (by omega) (pE _ (by omega) (by omega))
      refine Ends.cv l5 (by decide +kernel) (c_unitePrism (ax := bvA (F y)) (a := tl) (b := B + 114) l5 (by omega) hn0 hn f6.1 st5 q5' (by omega) (by omega) (Or.inr ht) axy.2 (fr := v892 (plK n (F y)) (puE n (F y) (-nb 3))) (to := v891 (plK n (F y)) (puE n (F y) (-nb 3))) (by omega) (by omega)) (fun h6 l6 _ _ _ ⟨fr6, s6⟩ => ?_)
      refine fin h6 _ _ l6 (b5.agr fc hbl fr6.agr (fun c k z => by unfold bnW; omega)) (s5.agr fr6.agr (fun k z => by omega)) s6 (fun g hg => ?_) _
      unfold boG
      rw [decide_eq_true (show 0 < nb 3 by omega), Bool.true_and, err, tn]
      exact Bool.false_or _
  · -- pulls
    have kd24 : kd = 24 := by omega
    have b1' := bb 1 (by decide)
    refine Ends.cv l4 (by decide +kernel) (c_lookB (i := y) (al := 0) (pl := 0) l4 (by omega) hn4 hn b4' fc hbl s4 hy axy.1 axy.2 (by decide) q4) (fun h5 l5 _ _ _ ⟨b5, I5, X5⟩ => ?_)
    obtain ⟨T5, U5⟩ := b4'.sol (T := S) hb4 X5
    obtain ⟨pc4, cap4, f4, -⟩ := id b4'
    have v97' : hv h5 (B + 97) 1 = nb 1 := by
      rw [X5.at f4 hb4 (by omega) (by unfold lk0W; omega) (by omega) (by omega) (by omega), v97]
      exact e1 (Or.inl kd24)
    obtain ⟨pc6, cap6, f6, fd6, ms6, P6, -⟩ := id b5
    have q5' : Qua n h5 (B + 114) (lkB n (bvA (F y)) (FRb n (bdr n S) (F y))) := I5.2.1.congr (fun q y x _ _ _ => Bool.false_or _)
    have mb := mm_b (x := plK n (F y)) (y := puE n (F y) (nb 1)) (by omega) (pE _ (by omega) (by omega))
    refine Ends.eq (b253_142 l5 (by omega)) ?_
    rw [show Int.toNat (1 : Int) = 1 from rfl, v97', (pu_is hn hK b1').1, P6.1]
    refine Ends.cv l5 (by decide +kernel) (c_unitePrism (ax := bvA (F y)) (a := tl) (b := B + 114) l5 (by omega) hn0 hn f6.1 (T5 _ st4) q5' (by omega) (by omega) (Or.inr ht) axy.2 (fr := v892 (plK n (F y)) (puE n (F y) (nb 1))) (to := v891 (plK n (F y)) (puE n (F y) (nb 1))) (by omega) (by omega)) (fun h6 l6 _ _ _ ⟨fr6, s6⟩ => ?_)
    have b6 := b5.agr fc hbl fr6.agr (fun c k z => by unfold bnW; omega)
    obtain ⟨pc7, cap7, f7, fd7, ms7, P7, -⟩ := id b6
    refine Ends.eq (b253_201 l6 (by omega)) ?_
    rw [show cond (tst 5 (nb 1) 0) (1 : Int) 0 = (((if 0 < nb 1 then 0 else 1) : Nat) : Int) from by
      rw [ct5]
      by_cases z : 0 < nb 1
      · rw [if_pos z, if_pos z]; rfl
      · rw [if_neg z, if_neg z]; rfl]
    refine Ends.ct l6 (by decide +kernel) (by decide) (c_takeTool314 (op := if 0 < nb 1 then 0 else 1) l6 (by omega) hn0 hn P7 ((U5 _ s4).agr fr6.agr (fun k z => by omega)) (s6.congr hn0 (fun g hg => show (false || puG n S (F y) (nb 1) g) = puG n S (F y) (nb 1) g from Bool.false_or _))) (fun v h7 l7 _ _ _ ⟨g7, r7⟩ => ?_)
    refine Ends.eq (b253_215 l7 (by omega)) (Ends.g (by rcases r7 with ⟨_, z, _⟩ | ⟨_, z, _⟩ <;> omega) (Ends.sm (K _ _ ⟨mm, F, kc1, ka1, (y : Int), b6.agr fc hbl g7 (fun c k z => by unfold bnW; omega), r, Or.inr ⟨yes, Or.inr (Or.inl ⟨kd24, ?_⟩)⟩⟩)))
    rw [tn, show (if 0 < nb 1 then (0 : Int) else 1) = (((if 0 < nb 1 then 0 else 1) : Nat) : Int) from by
      by_cases z : 0 < nb 1
      · rw [if_pos z, if_pos z]; rfl
      · rw [if_neg z, if_neg z]; rfl]
    exact r7
end BND
