/-! L3: chains of dimensions (desk) -/
noncomputable section DCH
variable {gv : Nat → Int} {B n d D m a pc cap kc : Nat} {h t : AH} {mk ka : Nat → Nat} {is : Nat → Bool} {SS : Nat → Nat → Bool} {S0 : Nat → Bool} {VV : Nat → Nat → Int} {T : Nat → Bool} {G st u : Nat → Int}
/-- places that faces know nothing of -/
def lowW (B : Nat) (c k : Nat) : Prop := (c = B + 0 ∧ k ≠ 20 ∧ k ≠ 21) ∨ (B + 30 ≤ c ∧ c ≤ B + 35)
theorem rgi3 {i : Nat} (hi : i < 39) : 27 = rgC i ∨ 53 = rgC i ∨ 93 = rgC i ∨ 94 = rgC i ∨ 83 = rgC i ∨ 81 = rgC i := by
  have := rgi hi; omega
theorem FcA {W : Nat → Nat → Prop} (f : FcN B n h pc cap ka kc) (q : FoD B n h is SS mk ka kc) (hb : B + 246 ≤ hnx h) (g : Agr W h t) (hW : ∀ c k, W c k → lowW B c k) : FcN B n t pc cap ka kc ∧ FoD B n t is SS mk ka kc ∧ fcz B n t cap kc = fcz B n h cap kc ∧ ∀ c k, sfW B t c k → sfW B h c k := by
  have A := f.2.2.2.2
  have R := f.2.2.2.1
  have no : ∀ c k, B + 36 ≤ c ∨ B + 27 ≤ c ∧ c ≤ B + 29 → ¬ W c k := fun c k hc z => by
    have := hW c k z; unfold lowW at this; omega
  have k0 : ∀ k, k = 20 ∨ k = 21 → ¬ W (B + 0) k := fun k hk z => by have := hW _ k z; unfold lowW at this; omega
  have rg : ∀ i, i < 39 → ¬ W (B + rgC i) (rgK i) := fun i hi => no _ _ (by have := rgi hi; omega)
  have ka6 : ∀ j k, j < 6 → ¬ W (ka j) k := fun j k hj => no _ _ (by have := (A.2.1.1 j hj).2.2.1; omega)
  refine ⟨f.exg hb g.ext.exg (fun c k x y => no _ _ (by omega)) (fun k => no _ _ (by omega)) rg (fun k _ _ => no _ _ (by omega)), ?_, ?_, fun c k z => ?_⟩
  · rcases q with y | ⟨y, mm, F, y1, y2⟩ | ⟨i, hi, y, y1⟩
    · exact Or.inl (by rw [g.at _ _ (k0 20 (Or.inl rfl))]; exact y)
    · exact Or.inr (Or.inl ⟨by rw [g.at _ _ (k0 20 (Or.inl rfl))]; exact y, mm, F, y1.exg A hb g.ext.exg (fun k _ => no _ _ (by omega)) ka6, fun i hi => by rw [g.at _ _ (no _ _ (by omega)), g.at _ _ (no _ _ (by omega))]; exact y2 i hi⟩)
    · refine Or.inr (Or.inr ⟨i, hi, by rw [g.at _ _ (k0 20 (Or.inl rfl))]; exact y, fun z1 z2 => ?_⟩)
      rw [g.at _ _ (k0 21 (Or.inr rfl)), g.at _ _ (no _ _ (by omega))] at z2
      obtain ⟨mm, F, w⟩ := y1 z1 z2
      exact ⟨mm, F, w.exg A hb g.ext.exg (fun k _ => no _ _ (by omega)) ka6⟩
  · obtain ⟨-, L2⟩ := R.exg hb g.ext.exg rg
    unfold fcz; rw [L2, g.us]
  · rcases z with z | z
    · rcases z with z | z
      · refine Or.inl (Or.inl ?_)
        rcases z with z | z | z | ⟨f, hf, z⟩ | z | ⟨j, hj, z⟩
        · exact Or.inl z
        · exact Or.inr (Or.inl z)
        · exact Or.inr (Or.inr (Or.inl z))
        · exact Or.inr (Or.inr (Or.inr (Or.inl ⟨f, hf, by rw [← g.at _ _ (no _ _ (by omega))]; exact z⟩)))
        · exact Or.inr (Or.inr (Or.inr (Or.inr (Or.inl (by rw [← g.at _ _ (no _ _ (by omega))]; exact z)))))
        · exact Or.inr (Or.inr (Or.inr (Or.inr (Or.inr ⟨j, hj, by rw [← g.at _ _ (no _ _ (by omega))]; exact z⟩))))
      · exact Or.inl (Or.inr z)
    · exact Or.inr z
theorem rgV_c {b : Nat} (hb5 : b < 5) : rgV B h (16 + b) = hv h (B + 93) b := by
  unfold rgV rgC rgK
  rw [if_neg (by omega), if_neg (by omega), if_pos (by omega), if_neg (by omega), if_neg (by omega), if_pos (by omega), show 16 + b - 16 = b by omega]
theorem cg_cell {b c : Nat} (R : Reg B n h) (hb5 : b < 5) (e : hv h (B + 93) b = rf c) : B + 246 ≤ c ∧ c < hnx h ∧ hk h c = (3, 24 * n * n) := by
  rcases R.1 (16 + b) (by omega) with y | ⟨e', y1, y2, y3, y4⟩
  · rw [rgV_c hb5, e] at y; have := rf_pos c; omega
  · rw [rgV_c hb5, e] at y1
    have : c = e' := by unfold rf at y1; omega
    rw [this]; exact ⟨y2, y3, y4⟩
theorem PmD.agr {W : Nat → Nat → Prop} (P : PmD B n h S0 mk) (R : Reg B n h) (hb : B + 246 ≤ hnx h) (g : Agr W h t) (hW : ∀ c k, W c k → lowW B c k) : PmD B n t S0 mk := by
  have no : ∀ c k, B + 36 ≤ c ∨ B + 27 ≤ c ∧ c ≤ B + 29 → ¬ W c k := fun c k hc z => by
    have := hW c k z; unfold lowW at this; omega
  rcases P with ⟨p1, p2⟩ | ⟨p1, Cb, fa, p2, p3, p4, p5⟩
  · exact Or.inl ⟨by rw [g.at _ _ (no _ _ (by omega))]; exact p1, p2⟩
  · exact Or.inr ⟨by rw [g.at _ _ (no _ _ (by omega))]; exact p1, Cb, fa, p2.exg R hb g.ext.exg (fun b _ => no _ _ (by omega)) (fun b c hb5 e k => no _ _ (by have := (cg_cell R hb5 e).1; omega)), fun p hp => by rw [g.at _ _ (no _ _ (by omega))]; exact p3 p hp, p4, p5⟩
/-- finding faces leaves the makers' marks -/
theorem PmD.sf (P : PmD B n h S0 mk) (f : FcN B n h pc cap ka kc) (hb : B + 246 ≤ hnx h) (g : ExG (sfW B h) h t) : PmD B n t S0 mk := by
  have R := f.2.2.2.1
  have A := f.2.2.2.2
  have lo : ∀ {c k : Nat}, sfW B h c k → _ := fun z => sfW_lo R A z
  rcases P with ⟨p1, p2⟩ | ⟨p1, Cb, fa, p2, p3, p4, p5⟩
  · exact Or.inl ⟨by rw [g.at _ (by omega) (fun z => by have := lo z; omega)]; exact p1, p2⟩
  · refine Or.inr ⟨by rw [g.at _ (by omega) (fun z => by have := lo z; omega)]; exact p1, Cb, fa, p2.exg R hb g (fun b hb5 z => by have := lo z; omega) (fun b c hb5 e k z => ?_), fun p hp => by rw [g.at _ (by omega) (fun z => by have := lo z; omega)]; exact p3 p hp, p4, p5⟩
    obtain ⟨c1, c2, c3⟩ := cg_cell R hb5 e
    rcases z with z | z
    · rcases z with z | z
      · rcases z with z | z | z | ⟨f, hf, z⟩ | z | ⟨j, hj, z⟩
        · omega
        · unfold nbW at z; omega
        · omega
        · have w := R.2 (16 + b) (33 + f) (by omega) (by omega) (by omega) (by rw [rgV_c hb5, rgV_e hf, e, z])
          rw [rgV_c hb5, e] at w
          have := rf_pos c; omega
        · have e1 := A.1.1
          rw [z] at e1
          have : c = pc := by unfold rf at e1; omega
          have k2 := A.1.2.2.1
          rw [← this, c3] at k2
          exact absurd (congrArg Prod.fst k2) (by show ¬ (3 : Nat) = 2; decide)
        · have e1 := (A.2.1.1 j hj).1
          rw [z] at e1
          have : c = ka j := by unfold rf at e1; omega
          have k2 := (A.2.1.1 j hj).2.1
          rw [← this, c3] at k2
          exact absurd (congrArg Prod.fst k2) (by show ¬ (3 : Nat) = 2; decide)
      · omega
    · omega
/-- what a chain writes of old cells (desk) -/
def cdnW (B : Nat) (h : AH) : Nat → Nat → Prop := fun c k => sfW B h c k ∨ (B + 32 ≤ c ∧ c ≤ B + 35) ∨ (c = B + 0 ∧ k = 15)
/-- the text's part of it -/
def ctW (B : Nat) : Nat → Nat → Prop := fun c k => c = B + 32 ∨ c = B + 33 ∨ (c = B + 0 ∧ k = 15)
/-- what stands behind it -/
def ChK (B n : Nat) (h : AH) (is : Nat → Bool) (SS : Nat → Nat → Bool) (mk : Nat → Nat) (cap kc : Nat) (q : AH) : Prop := ∃ pc' cap' ka' kc', (FcN B n q pc' cap' ka' kc' ∧ (hnx h ≤ pc' ∨ hv h (B + 82) 3 = rf pc') ∧ ∀ j, j < 6 → hnx h ≤ ka' j ∨ hv h (B + 82) (7 + j) = rf (ka' j)) ∧ FoD B n q is SS mk ka' kc' ∧ fcz B n q cap' kc' = fcz B n h cap kc ∧ cel h q ∧ ExG (cdnW B h) h q
theorem ChK.agr {W : Nat → Nat → Prop} {q : AH} (c : ChK B n h is SS mk cap kc q) (hb : B + 246 ≤ hnx q) (g : Agr W q t) (hW : ∀ c k, W c k → B + 32 ≤ c ∧ c ≤ B + 35) : ChK B n h is SS mk cap kc t := by
  obtain ⟨pc', cap', ka', kc', ⟨c1, c2, c3⟩, c4, c5, c6, c7⟩ := c
  obtain ⟨x1, x2, x3, -⟩ := FcA c1 c4 hb g (fun c k z => Or.inr (by have := hW c k z; omega))
  exact ⟨pc', cap', ka', kc', ⟨x1, c2, c3⟩, x2, by rw [x3]; exact c5, c6.tr (cel.agr g), c7.tr g.ext.exg (fun c k _ z => Or.inr (Or.inl (hW c k z)))⟩
/-- from the text's part on -/
theorem ChK.of {q : AH} (f : FcN B n h pc cap ka kc) (o : FoD B n h is SS mk ka kc) (hb : B + 246 ≤ hnx h) (g : Agr (ctW B) h q) : ChK B n h is SS mk cap kc q := by
  obtain ⟨x1, x2, x3, -⟩ := FcA f o hb g (fun c k z => by unfold ctW at z; unfold lowW; omega)
  exact ⟨pc, cap, ka, kc, ⟨x1, Or.inr f.2.2.2.2.1.1, fun j hj => Or.inr (f.2.2.2.2.2.1.1 j hj).1⟩, x2, x3, cel.agr g, g.ext.exg.sub (fun c k _ z => Or.inr (by unfold ctW at z; omega))⟩
/-- the desk's least number: lost ends count too -/
def LeJ (D : Nat) (V : Nat → Nat → Int) (st A G : Nat → Int) (j : Nat) (x : Int) : Prop := (x = 1000 ∧ ∀ e, e < j → isE V e A → ∀ v, ¬ rc D V (thD st) G v e) ∨ ∃ e v : Nat, e < j ∧ isE V e A ∧ x = (v : Int) ∧ v < 2 * D ∧ rcX D V (thD st) G v e
theorem LeJ.no {A : Nat → Int} {j : Nat} {x : Int} (I : LeJ D VV st A G j x) (z : ¬ isE VV j A) : LeJ D VV st A G (j + 1) x := by
  rcases I with ⟨i1, i2⟩ | ⟨e, v, i1, i2, i3, i4, i5⟩
  · refine Or.inl ⟨i1, fun e he ie => ?_⟩
    rcases (by omega : e < j ∨ e = j) with w | w
    · exact i2 e w ie
    · subst w; exact absurd ie z
  · exact Or.inr ⟨e, v, by omega, i2, i3, i4, i5⟩
theorem LeJ.yes {A : Nat → Int} {j : Nat} {x y : Int} (hD : D ≤ 16) (I : LeJ D VV st A G j x) (ie : isE VV j A) (lv : LvT D VV (thD st) G j y) : LeJ D VV st A G (j + 1) (if y < x then y else x) := by
  rcases lv with ⟨w, w1, w2, w3⟩ | ⟨w1, w2⟩
  · by_cases z : y < x
    · rw [if_pos z]; exact Or.inr ⟨j, w, by omega, ie, w1, w2, w3⟩
    · rw [if_neg z]
      rcases I with ⟨i1, i2⟩ | ⟨e, v, i1, i2, i3, i4, i5⟩
      · omega
      · exact Or.inr ⟨e, v, by omega, i2, i3, i4, i5⟩
  · by_cases z : y < x
    · rcases I with ⟨i1, i2⟩ | ⟨e, v, i1, i2, i3, i4, i5⟩
      · omega
      · omega
    · rw [if_neg z]
      rcases I with ⟨i1, i2⟩ | ⟨e, v, i1, i2, i3, i4, i5⟩
      · refine Or.inl ⟨i1, fun e he ie => ?_⟩
        rcases (by omega : e < j ∨ e = j) with w | w
        · exact i2 e w ie
        · subst w; exact w2
      · exact Or.inr ⟨e, v, by omega, i2, i3, i4, i5⟩
theorem cond_same {b : Bool} {p : Prop} (x : p) : cond b p p := by cases b <;> exact x
theorem stpE_d {k : Nat} {what x y : Int} (e1 : x = VV (k / 2) 6) (e2 : y = VV (k / 2) 7) : cond (tst 1 what 0) (cond (tst 1 what 1) (bop32 96 (sgE st k) (cond (tst 2 (sgE st k) 0) x y)) (bop32 100 (sgE st k) (cond (tst 2 (sgE st k) 0) y x))) (sgE st k) = stpE VV st what k := by
  unfold stpE
  rw [ct1, ct1, ct2, ct2, e1, e2]
  by_cases z : sgE st k < 0
  · rw [if_pos z, if_pos z, if_pos z, if_pos z]
  · rw [if_neg z, if_neg z, if_neg z, if_neg z]
set_option maxHeartbeats 4000000 in
theorem c_chain5 {what : Int} (l : LX B n h) (hd : 46 ≤ d) (hn4 : 4 ≤ n) (hn : n ≤ 52) (f : FcN B n h pc cap ka kc) (s : SG n h (B + 117) (SS 10)) (P : PmD B n h (SS 10) mk) (o : FoD B n h is SS mk ka kc) (dm : DmD B h D VV) (S : StR n (SS 10) mk D VV st) (F : FnB gv B h) (yo : YO B (B + 32) h) (h15 : hv h (B + 0) 15 = (m : Int)) (hm : m ≤ 8192) (hb : ∀ i, i < m → (-128 ≤ hv h (B + 26) i ∧ hv h (B + 26) i < 128) ∧ hv h (B + 26) i % 256 = u i) :
    Opx 0 (cll PP (ev PP (gsF gv) B) d 5 [(2, rf (B + 0)), (0, what)] h) (fun x h' => (0 ≤ what ∧ what ≤ 2) ∧ chO u m ∧ ChZ D VV st (chA u m) (chG u m) what x ∧ hv h' (B + 0) 15 = 0 ∧ ChK B n h is SS mk cap kc h') (fun c q => (c = 27 ∧ ¬ (0 ≤ what ∧ what ≤ 2) ∧ q = hset h (B + 0) 15 0) ∨ (c = 31 ∧ (0 ≤ what ∧ what ≤ 2) ∧ ¬ chO u m ∧ hv q (B + 0) 15 = 0 ∧ Ext (ctW B) 1 7 h q) ∨ (c = 31 ∧ (0 ≤ what ∧ what ≤ 2) ∧ chO u m ∧ ChN D VV st (chA u m) (chG u m) ∧ hv q (B + 0) 15 = 0 ∧ ChK B n h is SS mk cap kc q)) := by
  have hb0 := l.2.2
  have d16 := dm.2.1
  have ka26 : hk h (B + 26) = (4, 8192) := lk_26 l
  obtain ⟨A, eA⟩ : ∃ A : Nat → Int, A = chA u m := ⟨_, rfl⟩
  obtain ⟨Gl, eG⟩ : ∃ Gl : Nat → Int, Gl = chG u m := ⟨_, rfl⟩
  refine Opx.inq (D := 45) hd (Nat.le_of_ble_eq_true rfl) rfl (fun d hd Q K KE => ?_)
  refine Ends.eq (b5_0 l (by omega)) ?_
  refine Ends.ct l (by decide +kernel) (by decide) (c_read76 l (by omega)) (fun x h1 l1 _ _ _ ⟨ex, e1⟩ => ?_)
  have g1 : Agr (ctW B) h h1 := by rw [e1]; exact Agr.rf.set (Or.inr (Or.inr ⟨rfl, rfl⟩))
  have v15 : hv h1 (B + 0) 15 = 0 := by rw [e1]; exact hv_set_at ..
  refine Ends.eq (b5_4 l1 (by omega)) ?_
  rw [ex, h15]
  refine Ends.need (p := decide (0 ≤ what ∧ what ≤ 2)) l1 (by omega) (by rw [v42_in]; simp only [decide_eq_true_eq]) (fun hw => ?_) (fun hw => Ends.thn rfl (KE _ _ (Or.inl ⟨rfl, of_decide_eq_false hw, e1⟩)))
  have hw := of_decide_eq_true hw
  clear e1
  have F1 : FnB gv B h1 := F.agr g1 (fun c k hc z => by unfold ctW at z; omega)
  have yo1 : YO B (B + 32) h1 := ⟨by rw [g1.hk]; exact yo.1, yo.2⟩
  have hb1 : ∀ i, i < m → (-128 ≤ hv h1 (B + 26) i ∧ hv h1 (B + 26) i < 128) ∧ hv h1 (B + 26) i % 256 = u i := fun i hi => by rw [g1.at _ _ (by unfold ctW; omega)]; exact hb i hi
  refine Ends.eq (b5_14 l1 (by omega)) ?_
  refine Ends.cv l1 (by decide +kernel) (c_open (a := B + 26) (N := 8192) l1 (by omega) yo1 F1.1.1 (by rw [g1.hk]; exact ka26) hm hm (fun i hi => (hb1 i hi).2)) (fun h2 l2 _ _ _ ⟨g2, S2, R2⟩ => ?_)
  have G2 : Agr (ctW B) h h2 := g1.tr g2 (fun c k z => Or.inl z)
  have z0 : hv h2 (B + 0) 15 = 0 := by rw [g2.at _ _ (by unfold oW; omega)]; exact v15
  clear g1 g2 v15 F1 yo1 hb1
  have st' : ∀ {q : AH}, Agr (ctW B) h q → StrA gv q (gv 47) oneL ∧ ∀ i, i < m → (-128 ≤ hv q (B + 26) i ∧ hv q (B + 26) i < 128) ∧ hv q (B + 26) i % 256 = u i := fun g =>
    ⟨(F.agr g (fun c k hc z => by unfold ctW at z; omega)).1.1, fun i hi => by rw [g.at _ _ (by unfold ctW; omega)]; exact hb i hi⟩
  -- a caught fault of the text
  have bad : ∀ (q : AH) (e : Nat) (x : Int) (h' : AH) (u4 u5 u6 u7 u8 u9 u10 u11 : AV), Agr (ctW B) h q → LX B n h' → hv q (B + 0) 15 = 0 → ¬ chO u m → WrX q (e : Int) x h' → Ends (ev PP (gsF gv) B d 5 66 [(2, rf (B + 0)), (0, what), (0, (m : Int)), (0, 1), u4, u5, u6, u7, u8, u9, u10, u11] [(2, x)] h') Q := fun q e x h' u4 u5 u6 u7 u8 u9 u10 u11 g l' z15 no w => by
    obtain ⟨e1, e2⟩ := w
    have nq := g.nx
    have X : Ext (ctW B) 1 7 h h' := by
      rw [e2]
      have X0 : Ext (ctW B) 0 0 h q := g.ext
      have X1 := X0.tr (Ext.new (W := ctW B) (h := q) (kd := (1, 19)) (sz := 7)) (fun _ _ _ z => z)
      rw [Nat.zero_add, Nat.zero_add] at X1
      exact X1.set (fun z => by omega)
    have old : hv h' (B + 0) 15 = 0 := by
      rw [e2]; unfold wrg
      rw [hv_set_ne (by omega), hv_new, if_neg (by omega)]; exact z15
    exact Ends.eq (b5_66 l' (by omega)) (Ends.eq (b5_70 l' (by omega)) (Ends.there (p := false) l' (by omega) (by rw [if_neg Bool.false_ne_true]) (fun z => absurd z Bool.false_ne_true) (fun _ => Ends.thn rfl (KE _ _ (Or.inr (Or.inl ⟨rfl, hw, no, old, X⟩))))))
  have keepS : ∀ {q q' : AH}, SgP B q (B + 32) (B + 26) m u → Agr (fun c k => sgW (B + 32) c k ∨ c = B + 33) q q' → SgP B q' (B + 32) (B + 26) m u := fun S g => by
    obtain ⟨s1, s2, s3, s4, s5, s6⟩ := S
    exact ⟨⟨by rw [g.hk]; exact s1.1, s1.2⟩, by rw [g.at _ _ (by unfold sgW; omega)]; exact s2, by rw [g.hk]; exact s3, by rw [g.at _ _ (by unfold sgW; omega)]; exact s4, fun i hi => by rw [g.at _ _ (by unfold sgW; omega)]; exact s5 i hi, s6⟩
  have toW : ∀ {q q' : AH}, Agr (ctW B) h q → Agr (fun c k => sgW (B + 32) c k ∨ c = B + 33) q q' → Agr (ctW B) h q' := fun g g' => g.tr g' (fun c k z => by unfold ctW; unfold sgW at z; omega)
  have z15 : ∀ {q q' : AH}, hv q (B + 0) 15 = 0 → Agr (fun c k => sgW (B + 32) c k ∨ c = B + 33) q q' → hv q' (B + 0) 15 = 0 := fun e g => by rw [g.at _ _ (by unfold sgW; omega)]; exact e
  have sg1 : ∀ {q q' : AH}, Agr (sgW (B + 32)) q q' → Agr (fun c k => sgW (B + 32) c k ∨ c = B + 33) q q' := fun g => g.sub (fun c k z => Or.inl z)
  have hx : ∀ {q : AH}, LX B n q → B + 32 < hnx q := fun l => by have := l.2.2; omega
  -- the way, behind the numbers
  have way : ∀ (v : Nat) (q : AH) (N : Nat → Int) (sm x6 x3 : Int) (u7 u8 u9 u10 u11 : AV) (q0 : AH), LX B n q → Agr (fun c k => c = B + 33 ∧ k < 3) q0 q → DmD B q0 D VV → (∀ e, e < 2 * D → LvT D VV (thD st) Gl e (hv q0 (B + 34) e)) → (∀ i, i < D → hv q0 (B + 35) i = st i) → (∀ k, k < 3 → hv q (B + 33) k = N k) → (∃ e, e < 2 * D ∧ isE VV e N ∧ rcX D VV (thD st) Gl v e) → (∀ r q', LX B n q' → Agr (fun c k => c = B + 33 ∧ k < 3) q0 q' → ChR D VV (thD st) Gl st what v N sm r → Q ((0, (0, r)), q')) → Ends (ev PP (gsF gv) B d 5 234 [(2, rf (B + 0)), (0, what), (0, (m : Int)), (0, x3), (0, sm), (0, (v : Int)), (0, x6), u7, u8, u9, u10, u11] [] q) Q := by
    intro v
    induction v with
    | zero =>
      intro q N sm x6 x3 u7 u8 u9 u10 u11 q0 lq g dq lv sv nm ex kn
      exact Ends.eq (b5_234 lq (by omega)) (Ends.b5 (fun _ => Ends.sm (kn sm q lq g rfl)) (fun z => absurd z (by decide)))
    | succ v ih =>
      intro q N sm x6 x3 u7 u8 u9 u10 u11 q0 lq g dq lv sv nm ⟨e, he, ie, re⟩ kn
      have vl := re.lt he
      obtain ⟨k, fs⟩ := FsE.ex ie re
      obtain ⟨hk2, ⟨tk, ik, rk⟩, mn⟩ := id fs
      have dmq : ∀ {q' : AH}, Agr (fun c k => c = B + 33 ∧ k < 3) q0 q' → DmD B q' D VV := fun g => ⟨by rw [g.at _ _ (by omega)]; exact dq.1, dq.2.1, fun i k hi hk => by rw [g.at _ _ (by omega)]; exact dq.2.2 i k hi hk⟩
      have dmv := dmq g
      have lvq : ∀ e, e < 2 * D → LvT D VV (thD st) Gl e (hv q (B + 34) e) := fun e he => by rw [g.at _ _ (by omega)]; exact lv e he
      have svq : ∀ i, i < D → hv q (B + 35) i = st i := fun i hi => by rw [g.at _ _ (by omega)]; exact sv i hi
      refine Ends.eq (b5_234 lq (by omega)) (Ends.b5 (fun z => by omega) (fun _ => ?_))
      have k33 : hk q (B + 33) = (2, 6) := lk_33 lq
      have div2 : ∀ e : Nat, e < 64 → bop32 108 (e : Int) 2 = ((e / 2 : Nat) : Int) := fun e he => divNN (y := 2) (by omega) (by decide)
      have mod2 : ∀ e : Nat, bop32 112 (e : Int) 2 = ((e % 2 : Nat) : Int) := fun e => modNN (y := 2) (by decide) (by decide)
      obtain ⟨tw1, -, tw2⟩ := twE_2 k
      have m1 : ∀ _ : Unit, bop32 100 (1 : Int) ((k % 2 : Nat) : Int) = ((twE k % 2 : Nat) : Int) := fun _ => by
        rw [tw2]
        rcases Nat.mod_two_eq_zero_or_one k with z | z
        · rw [z]; rfl
        · rw [z]; rfl
      have found : ∀ (r j : Nat) (q1 : AH) (x8 x9 x10 : Int), j + r = 3 → LX B n q1 → Agr (fun c k => c = B + 33 ∧ k < 3) q0 q1 → (∀ i, i < j → hv q1 (B + 33) i = wyN VV (twE k) i) → Ends (ev PP (gsF gv) B d 5 417 [(2, rf (B + 0)), (0, what), (0, (m : Int)), (0, x3), (0, bop32 96 sm (stpE VV st what k)), (0, ((v + 1 : Nat) : Int)), (0, (k : Int)), (0, ((k / 2 : Nat) : Int)), (0, x8), (0, x9), (0, x10), (0, (j : Int))] [] q1) Q := by
        intro r
        induction r with
        | zero =>
          intro j q1 x8 x9 x10 e l1 g1 I
          obtain rfl : j = 3 := by omega
          refine Ends.eq (b5_417 l1 (by omega)) (Ends.b3 (fun _ => ?_) (fun z => absurd z (by decide)))
          rw [show w32 (((v + 1 : Nat) : Int) + (-1)) = (v : Int) from by rw [w32_id ⟨by omega, by omega⟩]; omega]
          exact ih q1 (fun j => wyN VV (twE k) j) _ _ x3 _ _ _ _ _ q0 l1 g1 dq lv sv I ⟨twE k, twE_lt hk2, fun j _ => rfl, rk⟩ (fun r q' l' g' cr => kn r q' l' g' ⟨k, fs, cr⟩)
        | succ r ihr =>
          intro j q1 x8 x9 x10 e l1 g1 I
          have ix : ∀ _ : Unit, bop32 96 (bop32 96 (bop32 104 (8 : Int) ((k / 2 : Nat) : Int)) (bop32 104 (3 : Int) ((twE k % 2 : Nat) : Int))) (j : Int) = ((8 * (k / 2) + (3 * (twE k % 2) + j) : Nat) : Int) := fun _ => by
            rw [show bop32 104 (8 : Int) ((k / 2 : Nat) : Int) = ((8 * (k / 2) : Nat) : Int) from mulNN (x := 8) (by omega), show bop32 104 (3 : Int) ((twE k % 2 : Nat) : Int) = ((3 * (twE k % 2) : Nat) : Int) from mulNN (x := 3) (by omega), addNN (by omega), addNN (by omega), Nat.add_assoc]
          refine Ends.eq (b5_417 l1 (by omega)) (Ends.b3 (fun z => by omega) (fun _ => ?_))
          rw [mod2 k, m1 (), ix (), tn, tn, an0, w_succ (i := j) (by omega), (dmq g1).2.2 (k / 2) (3 * (twE k % 2) + j) (by omega) (by omega)]
          clear ix
          refine Ends.g ⟨by omega, by omega⟩ (Ends.g ⟨by omega, by omega⟩ (ihr (j + 1) _ _ _ _ (by omega) (LX.setS l1 rfl) (g1.set ⟨rfl, by omega⟩) (fun i hi => ?_)))
          by_cases z : i = j
          · rw [z, hv_set_at]; unfold wyN; rw [tw1]
          · rw [hv_set_ne (fun y => z y.2)]; exact I i (by omega)
      have seek : ∀ (r j : Nat) (u7 u8 u9 u10 u11 : AV), j + r = k → Ends (ev PP (gsF gv) B d 5 242 [(2, rf (B + 0)), (0, what), (0, (m : Int)), (0, x3), (0, sm), (0, ((v + 1 : Nat) : Int)), (0, (j : Int)), u7, u8, u9, u10, u11] [] q) Q := by
        -- one end
        have one : ∀ (j : Nat) (u7 u8 u9 u10 u11 : AV), j ≤ k → (∀ u7 u8 u9 u10 u11 : AV, ¬ okG D VV (thD st) Gl N v j → Ends (ev PP (gsF gv) B d 5 293 [(2, rf (B + 0)), (0, what), (0, (m : Int)), (0, x3), (0, sm), (0, ((v + 1 : Nat) : Int)), (0, (j : Int)), u7, u8, u9, u10, u11] [] q) Q) → Ends (ev PP (gsF gv) B d 5 242 [(2, rf (B + 0)), (0, what), (0, (m : Int)), (0, x3), (0, sm), (0, ((v + 1 : Nat) : Int)), (0, (j : Int)), u7, u8, u9, u10, u11] [] q) Q := by
          intro j u7 u8 u9 u10 u11 hjk no
          have hj : j < 2 * D := by omega
          have tl := twE_lt (D := D) hj
          refine Ends.eq (b5_242 lq (by omega)) ?_
          rw [div2 j (by omega), mod2 j, tn, svq (j / 2) (by omega)]
          refine Ends.g ⟨by omega, by omega⟩ (Ends.b0 (fun z => no _ _ _ _ _ (fun y => thD_t.mp y.1 z)) (fun z => ?_))
          have tj : thD st (j / 2) = true := thD_t.mpr z
          refine Ends.ct lq (by decide +kernel) (by decide) (c_isName46 (e := j) (at' := 0) (a := B + 33) (N := 6) (G := N) lq (by omega) dmv hj k33 (by decide) (by decide) (fun k hk => by rw [Nat.zero_add]; exact nm k hk)) (fun y q2 _ _ _ _ ⟨e2, ey⟩ => ?_)
          rw [e2]
          refine Ends.eq (b5_274 lq (by omega)) ?_
          rw [ey]
          by_cases ie : isE VV j N
          rotate_left
          · rw [if_neg ie]
            exact Ends.b0 (fun _ => no _ _ _ _ _ (fun y => ie y.2.1)) (fun z => absurd rfl z)
          rw [if_pos ie, show bop32 130 (j : Int) 1 = ((twE j : Nat) : Int) from xor_tw ⟨j, by omega⟩, div2 j (by omega), mod2 j, tn, tn, svq (j / 2) (by omega), sgE_is, show bop32 104 (8 : Int) ((j / 2 : Nat) : Int) = ((8 * (j / 2) : Nat) : Int) from mulNN (x := 8) (by omega), show bop32 96 ((8 * (j / 2) : Nat) : Int) (6 : Int) = ((8 * (j / 2) + 6 : Nat) : Int) from addNN (y := 6) (by omega), show bop32 96 ((8 * (j / 2) : Nat) : Int) (7 : Int) = ((8 * (j / 2) + 7 : Nat) : Int) from addNN (y := 7) (by omega), tn, tn, stpE_d (st := st) (k := j) (what := what) (dmv.2.2 (j / 2) 6 (by omega) (by decide)) (dmv.2.2 (j / 2) 7 (by omega) (by decide)), show bop32 100 ((v + 1 : Nat) : Int) (1 : Int) = (v : Int) from by rw [sub32 (by omega) (by omega)]; omega]
          refine Ends.b0 (fun z => absurd z (by decide)) (fun _ => Ends.g ⟨by omega, by omega⟩ (Ends.b0 (fun lv2 => ?_) (fun lv2 => no _ _ _ _ _ (fun y => lv2 ?_))))
          · have lvj := lvq (twE j) tl
            have ok : okG D VV (thD st) Gl N v j := by
              refine ⟨tj, ie, ?_⟩
              rcases lvj with ⟨w, w1, w2, w3⟩ | ⟨w1, w2⟩
              · have : w = v := by omega
                rw [← this]; exact w3
              · omega
            have ekj : j = k := by
              rcases Nat.lt_or_ge j k with z | z
              · exact absurd ok (mn j z)
              · omega
            refine Ends.g (cond_same ⟨by omega, by omega⟩) (Ends.g ⟨by omega, by omega⟩ (Ends.g ⟨by omega, by omega⟩ ?_))
            rw [ekj]
            exact found 3 0 q _ _ _ rfl lq g (fun i hi => absurd hi (Nat.not_lt_zero i))
          · rcases lvq (twE j) tl with ⟨w, w1, w2, w3⟩ | ⟨w1, w2⟩
            · rw [w1, w3.uniq y.2.2]
            · exact absurd y.2.2.1 (w2 v)
        intro r
        induction r with
        | zero =>
          intro j u7 u8 u9 u10 u11 e
          obtain rfl : j = k := by omega
          exact one j _ _ _ _ _ (Nat.le_refl _) (fun _ _ _ _ _ no => absurd ⟨tk, ik, rk⟩ no)
        | succ r ihr =>
          intro j u7 u8 u9 u10 u11 e
          refine one j _ _ _ _ _ (by omega) (fun u7 u8 u9 u10 u11 _ => ?_)
          refine Ends.eq (b5_293 lq (by omega)) ?_
          rw [w_succ (i := j) (by omega)]
          exact ihr (j + 1) _ _ _ _ _ (by omega)
      exact seek k 0 _ _ _ _ _ (Nat.zero_add _)
  -- behind the distances
  have rest : ∀ (q : AH) (x3 : Int) (u5 u6 u7 u8 u9 u10 u11 : AV), LX B n q → ChK B n h is SS mk cap kc q → DmD B q D VV → hv q (B + 0) 15 = 0 → (∀ k, k < 3 → hv q (B + 33) k = A k) → (∀ k, k < 3 → hv q (B + 33) (3 + k) = Gl k) → (∀ i, i < D → hv q (B + 35) i = st i) → chO u m → (¬ ∀ k, k < 3 → A k = Gl k) → Ends (ev PP (gsF gv) B d 5 124 [(2, rf (B + 0)), (0, what), (0, (m : Int)), (0, x3), (0, (D : Int)), u5, u6, u7, u8, u9, u10, u11] [] q) Q := by
    intro q x3 u5 u6 u7 u8 u9 u10 u11 lq ck dq w15 na ng sv co ne
    have hbq := lq.2.2
    refine Ends.eq (b5_124 lq (by omega)) ?_
    rw [dq.1]
    refine Ends.b3 (fun _ => ?_) (fun z => absurd z (Int.lt_irrefl _))
    refine Ends.cv lq (by decide +kernel) (c_findWays34 (T := thD st) (G := Gl) lq (by omega) dq (fun i hi => by rw [sv i hi]; exact thD_f.symm) ng) (fun q1 l1 _ _ _ ⟨g1, lv⟩ => ?_)
    have dq1 : DmD B q1 D VV := ⟨by rw [g1.at _ _ (by omega)]; exact dq.1, dq.2.1, fun i k hi hk => by rw [g1.at _ _ (by omega)]; exact dq.2.2 i k hi hk⟩
    have ck1 : ChK B n h is SS mk cap kc q1 := ck.agr hbq g1 (fun c k z => by omega)
    have na1 : ∀ k, k < 3 → hv q1 (B + 33) k = A k := fun k hk => by rw [g1.at _ _ (by omega)]; exact na k hk
    have sv1 : ∀ i, i < D → hv q1 (B + 35) i = st i := fun i hi => by rw [g1.at _ _ (by omega)]; exact sv i hi
    have w151 : hv q1 (B + 0) 15 = 0 := by rw [g1.at _ _ (by omega)]; exact w15
    have two : bop32 104 (2 : Int) (hv q1 (B + 0) 25) = ((2 * D : Nat) : Int) := by rw [dq1.1]; exact mulNN (x := 2) (by omega)
    have k33 : hk q1 (B + 33) = (2, 6) := lk_33 l1
    have hb1 := l1.2.2
    clear ck dq na sv w15 g1 ng
    refine Ends.eq (b5_156 l1 (by omega)) ?_
    have least : ∀ (r e : Nat) (x5 : Int) (u7 u8 u9 u10 u11 : AV), e + r = 2 * D → LeJ D VV st A Gl e x5 → Ends (ev PP (gsF gv) B d 5 167 [(2, rf (B + 0)), (0, what), (0, (m : Int)), (0, x3), (0, 0), (0, x5), (0, (e : Int)), u7, u8, u9, u10, u11] [] q1) Q := by
      intro r
      induction r with
      | zero =>
        intro e x5 u7 u8 u9 u10 u11 ee I
        obtain rfl : e = 2 * D := by omega
        refine Ends.eq (b5_167 l1 (by omega)) ?_
        rw [two, ct3]
        refine Ends.b3 (fun _ => ?_) (fun z => absurd z (Int.lt_irrefl _))
        refine Ends.there (p := decide (x5 < 1000)) l1 (by omega) (by simp only [decide_eq_true_eq]) (fun hp => ?_) (fun hp => Ends.thn rfl (KE _ _ (Or.inr (Or.inr ⟨rfl, hw, co, ?_, w151, ck1⟩))))
        · have hp := of_decide_eq_true hp
          rcases I with ⟨i1, i2⟩ | ⟨e, v, i1, i2, i3, i4, i5⟩
          · omega
          · rw [i3]
            refine way v q1 A 0 _ x3 _ _ _ _ _ q1 l1 Agr.rf dq1 lv sv1 na1 ⟨e, i1, i2, i5⟩ (fun r q' l' g' cr => K _ _ ⟨hw, co, ?_, by rw [g'.at _ _ (by omega)]; exact w151, ck1.agr hb1 g' (fun c k z => by omega)⟩)
            rw [← eA, ← eG]
            exact Or.inr ⟨ne, e, v, i1, i2, i5, cr⟩
        · have hp := of_decide_eq_false hp
          rw [← eA, ← eG]
          rcases I with ⟨i1, i2⟩ | ⟨e, v, i1, i2, i3, i4, i5⟩
          · exact ⟨ne, i2⟩
          · omega
      | succ r ihr =>
        intro e x5 u7 u8 u9 u10 u11 ee I
        have he : e < 2 * D := by omega
        refine Ends.eq (b5_167 l1 (by omega)) ?_
        rw [two, show bop32 108 (e : Int) 2 = ((e / 2 : Nat) : Int) from divNN (y := 2) (by omega) (by decide), show bop32 112 (e : Int) 2 = ((e % 2 : Nat) : Int) from modNN (y := 2) (by decide) (by decide)]
        refine Ends.b3 (fun z => by omega) (fun _ => ?_)
        refine Ends.ct l1 (by decide +kernel) (by decide) (c_isName46 (e := e) (at' := 0) (a := B + 33) (N := 6) (G := A) l1 (by omega) dq1 he k33 (by decide) (by decide) (fun k hk => by rw [Nat.zero_add]; exact na1 k hk)) (fun y q2 _ _ _ _ ⟨e2, ey⟩ => ?_)
        rw [e2]
        refine Ends.eq (b5_195 l1 (by omega)) ?_
        rw [ey, tn, v892_if, w_succ (i := e) (by omega)]
        refine Ends.g (cT ⟨by omega, by omega⟩) (ihr (e + 1) _ _ _ _ _ _ (by omega) ?_)
        rw [ct0]
        by_cases ie : isE VV e A
        · rw [if_pos ie, if_neg (by decide)]
          exact I.yes d16 ie (lv e he)
        · rw [if_neg ie, if_pos rfl]
          exact I.no ie
    exact least (2 * D) 0 1000 _ _ _ _ _ (Nat.zero_add _) (Or.inl ⟨rfl, fun e he => absurd he (by omega)⟩)
  -- both names told
  have go : ∀ (q0 : AH) (x3 : Int) (u5 u6 u7 u8 u9 u10 u11 : AV), LX B n q0 → Agr (ctW B) h q0 → hv q0 (B + 0) 15 = 0 → (∀ k, k < 3 → hv q0 (B + 33) k = A k) → (∀ k, k < 3 → hv q0 (B + 33) (3 + k) = Gl k) → chO u m → (¬ ∀ k, k < 3 → A k = Gl k) → Ends (ev PP (gsF gv) B d 5 124 [(2, rf (B + 0)), (0, what), (0, (m : Int)), (0, x3), (0, ((0 : Nat) : Int)), u5, u6, u7, u8, u9, u10, u11] [] q0) Q := by
    intro q0 x3 u5 u6 u7 u8 u9 u10 u11 l0 g0 w15 na ng co ne
    have hbq := l0.2.2
    have loW : ∀ c k, ctW B c k → lowW B c k := fun c k z => by unfold ctW at z; unfold lowW; omega
    obtain ⟨f0, o0, z0', sub0⟩ := FcA f o hb0 g0 loW
    have P0 := P.agr f.2.2.2.1 hb0 g0 loW
    have s0 : SG n q0 (B + 117) (SS 10) := s.agr g0 (fun k z => by unfold ctW at z; omega)
    have d0 : DmD B q0 D VV := ⟨by rw [g0.at _ _ (by unfold ctW; omega)]; exact dm.1, d16, fun i k hi hk => by rw [g0.at _ _ (by unfold ctW; omega)]; exact dm.2.2 i k hi hk⟩
    by_cases hD : D = 0
    · have ee : ((0 : Nat) : Int) = (D : Int) := by rw [hD]
      rw [ee]
      exact rest q0 x3 _ _ _ _ _ _ _ l0 (ChK.of f o hb0 g0) d0 w15 na ng (fun i hi => by omega) co ne
    have hD0 : 0 < D := by omega
    refine Ends.eq (b5_124 l0 (by omega)) ?_
    rw [d0.1]
    refine Ends.b3 (fun z => by omega) (fun _ => ?_)
    refine Ends.ct l0 (by decide +kernel) (by decide) (c_distance20 (i := 0) l0 (by omega) hn4 hn f0 s0 P0 o0 d0 hD0) (fun r h5 l5 _ _ _ ⟨mm, F', pc', cap', ka', kc', t1, t2, t3, t4, t5, _⟩ => ?_)
    have er : r = st 0 := t4.uniq (S mm F' t1.2.1.1 0 hD0)
    obtain ⟨⟨x1, x2, x3'⟩, y1, y2, y3, y4⟩ := id t1
    have lo : ∀ {c k : Nat}, sfW B q0 c k → _ := fun w => sfW_lo f0.2.2.2.1 f0.2.2.2.2 w
    have hb5 := l5.2.2
    have d5 : DmD B h5 D VV := ⟨by rw [y4.at _ (by omega) (fun w => by have := lo w; omega)]; exact d0.1, d16, fun i k hi hk => by rw [y4.at _ (by omega) (fun w => by have := lo w; omega)]; exact d0.2.2 i k hi hk⟩
    have na5 : ∀ k, k < 3 → hv h5 (B + 33) k = A k := fun k hk => by rw [y4.at _ (by omega) (fun w => by have := lo w; omega)]; exact na k hk
    have ng5 : ∀ k, k < 3 → hv h5 (B + 33) (3 + k) = Gl k := fun k hk => by rw [y4.at _ (by omega) (fun w => by have := lo w; omega)]; exact ng k hk
    have w5 : hv h5 (B + 0) 15 = 0 := by rw [y4.at _ (by omega) (fun w => by have := lo w; omega)]; exact w15
    have P5 := P0.sf f0 hbq y4
    have s5 : SG n h5 (B + 117) (SS 10) := s0.ext (y4.ext (c := hnx h5 - hnx q0) (s := hus h5 - hus q0) (by omega) (by have := y4.2.2.2; omega)) (by omega) (fun k z => by have := lo z; omega)
    have o5 : FoD B n h5 is SS mk ka' kc' := Or.inr (Or.inl ⟨t3, mm, F', y1, t2⟩)
    have ck5 : ChK B n h is SS mk cap kc h5 := by
      refine ⟨pc', cap', ka', kc', ⟨x1, ?_, fun j hj => ?_⟩, o5, y2.trans z0', (cel.agr g0).tr y3, (g0.ext.exg.sub (fun c k _ z => Or.inr (by unfold ctW at z; omega))).tr y4 (fun c k _ z => Or.inl (sub0 c k z))⟩
      · rcases x2 with z | z
        · left; rw [← g0.nx]; exact z
        · right; rw [← g0.at _ _ (by unfold ctW; omega)]; exact z
      · rcases x3' j hj with z | z
        · left; rw [← g0.nx]; exact z
        · right; rw [← g0.at _ _ (by unfold ctW; omega)]; exact z
    clear t1 t2 t4 t5 y4 y3 y2
    have k35 : ∀ {q : AH}, LX B n q → hk q (B + 35) = (0 + 2, 16) := fun lq => lk_35 lq
    have loop : ∀ (r i : Nat) (q : AH), i + r = D → LX B n q → Agr (fun c k => c = B + 35 ∧ k < 16) h5 q → (∀ j, j < i → hv q (B + 35) j = st j) → Ends (ev PP (gsF gv) B d 5 124 [(2, rf (B + 0)), (0, what), (0, (m : Int)), (0, x3), (0, (i : Int)), u5, u6, u7, u8, u9, u10, u11] [] q) Q := by
      intro r
      induction r with
      | zero =>
        intro i q e lq g I
        obtain rfl : i = D := by omega
        exact rest q x3 _ _ _ _ _ _ _ lq (ck5.agr hb5 g (fun c k z => by omega)) ⟨by rw [g.at _ _ (by omega)]; exact d5.1, d16, fun i k hi hk => by rw [g.at _ _ (by omega)]; exact d5.2.2 i k hi hk⟩ (by rw [g.at _ _ (by omega)]; exact w5) (fun k hk => by rw [g.at _ _ (by omega)]; exact na5 k hk) (fun k hk => by rw [g.at _ _ (by omega)]; exact ng5 k hk) I co ne
      | succ r ihr =>
        intro i q e lq g I
        have hi : i < D := by omega
        have loW5 : ∀ c k, c = B + 35 ∧ k < 16 → lowW B c k := fun c k z => by unfold lowW; omega
        obtain ⟨f6, o6, -, -⟩ := FcA x1 o5 hb5 g loW5
        have P6 := P5.agr x1.2.2.2.1 hb5 g loW5
        have s6 : SG n q (B + 117) (SS 10) := s5.agr g (fun k z => by omega)
        have d6 : DmD B q D VV := ⟨by rw [g.at _ _ (by omega)]; exact d5.1, d16, fun i k hi hk => by rw [g.at _ _ (by omega)]; exact d5.2.2 i k hi hk⟩
        have t6 : hv q (B + 0) 20 = -1 := by rw [g.at _ _ (by omega)]; exact t3
        refine Ends.eq (b5_124 lq (by omega)) ?_
        rw [d6.1]
        refine Ends.b3 (fun z => by omega) (fun _ => ?_)
        refine Ends.ct lq (by decide +kernel) (by decide) (c_distance20 (i := i) lq (by omega) hn4 hn f6 s6 P6 o6 d6 hi) (fun r h7 l7 _ _ _ ⟨mm, F', pc', cap', ka', kc', t1, t2, t3, t4, t5, te⟩ => ?_)
        have er : r = st i := t4.uniq (S mm F' t1.2.1.1 i hi)
        rw [te t6, er]
        refine Ends.eq (b5_145 lq (by omega)) ?_
        rw [ad_rf, k35 lq, tn, an0, w_succ (i := i) (by omega)]
        refine Ends.g ⟨rf_pos _, rfl, by omega, by show (i : Int) < ((16 : Nat) : Int); omega, by omega⟩ (ihr (i + 1) _ (by omega) (LX.setS lq rfl) (g.set ⟨rfl, by omega⟩) (fun j hj => ?_))
        by_cases z : j = i
        · rw [z, hv_set_at]
        · rw [hv_set_ne (fun y => z y.2)]; exact I j (by omega)
    refine Ends.eq (b5_145 l5 (by omega)) ?_
    rw [ad_rf, k35 l5, tn, an0, w_succ (i := 0) (by omega), er]
    refine Ends.g ⟨rf_pos _, rfl, by omega, by show ((0 : Nat) : Int) < ((16 : Nat) : Int); omega, by omega⟩ (loop (D - 1) 1 _ (by omega) (LX.setS l5 rfl) (Agr.rf.set ⟨rfl, by decide⟩) (fun j hj => ?_))
    have : j = 0 := by omega
    rw [this, hv_set_at]
  -- reading
  refine Ends.eq (b5_28 l2 (by omega)) ?_
  refine Ends.cvx l2 (by decide +kernel) (c_nameSign63 (p := 0) (at' := 0) l2 (by omega) S2 (st' G2).1 hm (st' G2).2 R2 (Nat.zero_le _) (by decide)) (fun h3 l3 _ _ ⟨o1, g3, R3, n3⟩ => ?_) (fun x h' l' _ _ ⟨no, w⟩ => Ends.tc w.c rfl (bad h2 _ x h' _ _ _ _ _ _ _ _ G2 l' z0 (fun y => no y.1) w))
  have g3' : Agr (fun c k => sgW (B + 32) c k ∨ c = B + 33) h2 h3 := g3.sub (fun c k z => by rcases z with z | z; exact Or.inl z; exact Or.inr z.1)
  have G3 := toW G2 g3'
  have S3 := keepS S2 g3'
  have z3 := z15 z0 g3'
  have p1 : dp1 u m ≤ m := nm_le (Nat.zero_le _) o1
  have R3 : SgT h3 (B + 32) u m (dp1 u m) := R3
  have t1 := tk_le (u := u) p1
  refine Ends.eq (b5_33 l3 (by omega)) ?_
  refine Ends.cvx l3 (by decide +kernel) (c_need l3 (by omega) S3 (hx l3) (st' G3).1 R3 t1.2.1) (fun h4 l4 _ _ ⟨s1, g4, R4⟩ => ?_) (fun x h' l' _ _ ⟨no, w⟩ => Ends.tc w.c rfl (bad h3 _ x h' _ _ _ _ _ _ _ _ G3 l' z3 (fun y => no (isSc_iff.mp y.2.1)) w))
  have s1 : isSc u m (dp1 u m) := isSc_iff.mpr s1
  have G4 := toW G3 (sg1 g4)
  have S4 := keepS S3 (sg1 g4)
  have z4 := z15 z3 (sg1 g4)
  have p2 : dp2 u m ≤ m := t1.2.1
  have R4 : SgT h4 (B + 32) u m (dp2 u m) := R4
  refine Ends.eq (b5_42 l4 (by omega)) ?_
  refine Ends.cvx l4 (by decide +kernel) (c_nameSign63 (p := dp2 u m) (at' := 3) l4 (by omega) S4 (st' G4).1 hm (st' G4).2 R4 p2 (by decide)) (fun h5 l5 _ _ ⟨o2, g5, R5, n5⟩ => ?_) (fun x h' l' _ _ ⟨no, w⟩ => Ends.tc w.c rfl (bad h4 _ x h' _ _ _ _ _ _ _ _ G4 l' z4 (fun y => no y.2.2.1) w))
  have g5' : Agr (fun c k => sgW (B + 32) c k ∨ c = B + 33) h4 h5 := g5.sub (fun c k z => by rcases z with z | z; exact Or.inl z; exact Or.inr z.1)
  have G5 := toW G4 g5'
  have z5 := z15 z4 g5'
  have R5 : SgT h5 (B + 32) u m (dp3 u m) := R5
  have nA : ∀ k, k < 3 → hv h5 (B + 33) k = A k := fun k hk => by
    rw [g5.at _ _ (by unfold sgW; omega), g4.at _ _ (by unfold sgW; omega)]
    have := n3 k hk
    rw [Nat.zero_add] at this
    rw [this, eA]; rfl
  have nG : ∀ k, k < 3 → hv h5 (B + 33) (3 + k) = Gl k := fun k hk => by rw [n5 k hk, eG]; rfl
  refine Ends.eq (b5_47 l5 (by omega)) (Ends.eq (b5_70 l5 (by omega)) ?_)
  rw [R5.1, ct1]
  by_cases k0 : tkK u m (dp3 u m) = 0
  rotate_left
  · rw [if_neg (by omega)]
    exact Ends.there (p := false) l5 (by omega) (by rw [if_neg Bool.false_ne_true]) (fun z => absurd z Bool.false_ne_true) (fun _ => Ends.thn rfl (KE _ _ (Or.inr (Or.inl ⟨rfl, hw, fun y => k0 y.2.2.2, z5, G5.ext.sub (fun _ _ _ z => z) (by decide) (by decide)⟩))))
  rw [if_pos (by omega)]
  have co : chO u m := ⟨o1, s1, o2, k0⟩
  refine Ends.there (p := true) l5 (by omega) rfl (fun _ => ?_) (fun z => absurd z.symm Bool.false_ne_true)
  have gg : (¬ ∀ k, k < 3 → A k = Gl k) → ∀ u4 : AV, Ends (ev PP (gsF gv) B d 5 121 [(2, rf (B + 0)), (0, what), (0, (m : Int)), (0, 1), u4, (9, 0), (9, 0), (9, 0), (9, 0), (9, 0), (9, 0), (9, 0)] [] h5) Q := fun ne u4 => Ends.eq (b5_121 l5 (by omega)) (go h5 1 _ _ _ _ _ _ _ l5 G5 z5 nA nG co ne)
  refine Ends.eq (b5_74 l5 (by omega)) ?_
  rw [show Int.toNat (0 : Int) = 0 from rfl, show Int.toNat (1 : Int) = 1 from rfl, show Int.toNat (2 : Int) = 2 from rfl, show Int.toNat (3 : Int) = 3 + 0 from rfl, show Int.toNat (4 : Int) = 3 + 1 from rfl, show Int.toNat (5 : Int) = 3 + 2 from rfl, nA 0 (by decide), nA 1 (by decide), nA 2 (by decide), nG 0 (by decide), nG 1 (by decide), nG 2 (by decide)]
  refine Ends.b1 (fun z => gg (fun y => z (y 0 (by decide))) _) (fun y0 => Ends.b1 (fun z => gg (fun y => z (y 1 (by decide))) _) (fun y1 => Ends.b1 (fun z => gg (fun y => z (y 2 (by decide))) _) (fun y2 => Ends.sm (K _ _ ⟨hw, co, Or.inl ⟨fun k hk => ?_, rfl⟩, z5, ChK.of f o hb0 G5⟩))))
  rw [← eA, ← eG]
  rcases (by omega : k = 0 ∨ k = 1 ∨ k = 2) with z | z | z
  · rw [z]; exact y0
  · rw [z]; exact y1
  · rw [z]; exact y2
end DCH
