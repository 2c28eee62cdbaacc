/-! L3: chains of dimensions (model) -/
noncomputable section MCH
variable {gv : Nat → Int} {B n d D m : Nat} {h t : AH} {mk : Nat → Nat} {is : Nat → Bool} {SS : Nat → Nat → Bool} {VV : Nat → Nat → Int} {T : Nat → Bool} {G st u : Nat → Int}
/-- a chain's text is good; its two names -/
def chO (u : Nat → Int) (m : Nat) : Prop := nmO u m (tkF u m 0) 3 ∧ isSc u m (dp1 u m) ∧ nmO u m (tkF u m (dp2 u m)) 3 ∧ tkK u m (dp3 u m) = 0
def chA (u : Nat → Int) (m k : Nat) : Int := nbV u m (nst u m (tkF u m 0) k)
def chG (u : Nat → Int) (m k : Nat) : Int := nbV u m (nst u m (tkF u m (dp2 u m)) k)
/-- what it writes -/
def chnW (B : Nat) : Nat → Nat → Prop := fun c k => mstW B c k ∨ rnW B c k ∨ (c = B + 149 ∧ (k = 0 ∨ 2 ≤ k ∧ k ≤ 10)) ∨ ((c = B + 229 ∨ c = B + 230) ∧ k < 3)
theorem chnW_in {c k : Nat} (z : chnW B c k) : c = B + 188 ∨ c = B + 189 ∨ c = B + 190 ∨ c = B + 192 ∨ c = B + 228 ∨ c = B + 229 ∨ c = B + 230 ∨ c = B + 238 ∨ c = B + 239 ∨ (c = B + 149 ∧ (k = 0 ∨ 2 ≤ k ∧ k ≤ 10 ∨ 74 ≤ k ∧ k ≤ 76 ∨ k = 85 ∨ k = 86 ∨ k = 88 ∨ k = 89 ∨ 153 ≤ k ∧ k ≤ 155)) := by
  unfold chnW at z
  rcases z with z | z | z | z
  · have := mstW_in z; omega
  · unfold rnW mgW at z; omega
  · omega
  · omega
theorem chU {q : AH} (g : Agr (chnW B) h q) (tb : TbM B h) (bd : BdM B n h is SS) (M : MkM B n h mk) (dm : DmM B h D VV) : TbM B q ∧ BdM B n q is SS ∧ MkM B n q mk ∧ DmM B q D VV :=
  ⟨tb.agr g (fun c k a b _ z => by have := chnW_in z; omega), bd.agr g (fun k z => by have := chnW_in z; omega) (fun s k _ _ z => by have := chnW_in z; omega), M.agr g (fun k z => by have := chnW_in z; omega), by rw [g.at _ _ (fun z => by have := chnW_in z; omega)]; exact dm.1, dm.2.1, fun i k hi hk => by rw [g.at _ _ (fun z => by have := chnW_in z; omega)]; exact dm.2.2 i k hi hk⟩
theorem ChN.of {A : Nat → Int} (ne : ¬ ∀ k, k < 3 → A k = G k) (x : ∀ e, e < 2 * D → thD st (e / 2) = true → isE VV e A → ∀ v, ¬ rc D VV (thD st) G v e) : ChN D VV st A G := by
  refine ⟨ne, fun e he ie v r => ?_⟩
  obtain ⟨w, _, hw⟩ := r.ex
  rcases (show w = 0 ∨ ∃ w', w = w' + 1 from by cases w; exact Or.inl rfl; exact Or.inr ⟨_, rfl⟩) with w0 | ⟨w', w0⟩
  · subst w0
    have r0 : isE VV e G := hw.1
    exact ne (fun k hk => (ie k hk).symm.trans (r0 k hk))
  · subst w0
    obtain ⟨f, f1, f2, f3, f4⟩ := hw.step
    exact x f f1 f3 (fun k hk => (f2 k hk).symm.trans (ie k hk)) (w' + 1) (hw.sm f2).1
/-- the least number at the ends of a name -/
def LeI (D : Nat) (V : Nat → Nat → Int) (st A G : Nat → Int) (j : Nat) (x : Int) : Prop := (x = 1000 ∧ ∀ e, e < j → thD st (e / 2) = true → isE V e A → ∀ v, ¬ rc D V (thD st) G v e) ∨ ∃ e v : Nat, e < j ∧ isE V e A ∧ x = (v : Int) ∧ v < 2 * D ∧ rcX D V (thD st) G v e
theorem LeI.no {A : Nat → Int} {j : Nat} {x : Int} (I : LeI D VV st A G j x) (z : ¬ (thD st (j / 2) = true ∧ isE VV j A)) : LeI D VV st A G (j + 1) x := by
  rcases I with ⟨i1, i2⟩ | ⟨e, v, i1, i2, i3, i4, i5⟩
  · refine Or.inl ⟨i1, fun e he te ie => ?_⟩
    rcases (by omega : e < j ∨ e = j) with w | w
    · exact i2 e w te ie
    · subst w; exact absurd ⟨te, ie⟩ z
  · exact Or.inr ⟨e, v, by omega, i2, i3, i4, i5⟩
theorem LeI.yes {A : Nat → Int} {j : Nat} {x y : Int} (hD : D ≤ 16) (I : LeI D VV st A G j x) (ie : isE VV j A) (lv : LvT D VV (thD st) G j y) : LeI D VV st A G (j + 1) (if y < x then y else x) := by
  rcases lv with ⟨w, w1, w2, w3⟩ | ⟨w1, w2⟩
  · by_cases z : y < x
    · rw [if_pos z]; exact Or.inr ⟨j, w, by omega, ie, w1, w2, w3⟩
    · rw [if_neg z]
      rcases I with ⟨i1, i2⟩ | ⟨e, v, i1, i2, i3, i4, i5⟩
      · omega
      · exact Or.inr ⟨e, v, by omega, i2, i3, i4, i5⟩
  · by_cases z : y < x
    · rcases I with ⟨i1, i2⟩ | ⟨e, v, i1, i2, i3, i4, i5⟩
      · omega
      · omega
    · rw [if_neg z]
      rcases I with ⟨i1, i2⟩ | ⟨e, v, i1, i2, i3, i4, i5⟩
      · refine Or.inl ⟨i1, fun e he te ie => ?_⟩
        rcases (by omega : e < j ∨ e = j) with w | w
        · exact i2 e w te ie
        · subst w; exact w2
      · exact Or.inr ⟨e, v, by omega, i2, i3, i4, i5⟩
/-- where one stands -/
def HrI (B D : Nat) (q : AH) (V : Nat → Nat → Int) (N : Nat → Int) (x : Int) : Prop := (x = -1 ∧ ∀ k, k < 3 → hv q (B + 230) k = N k) ∨ ∃ j : Nat, j < 2 * D ∧ x = v610 ((j / 2 : Nat) : Int) ((j % 2 : Nat) : Int) ∧ ∀ k, k < 3 → wyN V j k = N k
theorem HrI.vis {q : AH} {N : Nat → Int} {x6 : Int} {i s : Nat} (I : HrI B D q VV N x6) (dm : DmM B q D VV) (k230 : hk q (B + 230) = (0 + 2, 3)) (hi : i < D) (hs : s < 2) :
    (cond (tst 3 x6 0) (q807 B q (v610 (i : Int) (s : Int)) x6) (q692 B q (v610 (i : Int) (s : Int)) (rf (B + 230)))) ∧ cond (tst 3 x6 0) (v807 B q (v610 (i : Int) (s : Int)) x6) (v692 B q (v610 (i : Int) (s : Int)) (rf (B + 230))) = if isE VV (2 * i + s) N then 1 else 0 := by
  have d16 := dm.2.1
  rcases I with ⟨x1, a⟩ | ⟨j, hj, x1, a⟩
  · obtain ⟨q6, v6⟩ := v692_ms dm hi hs k230 a
    rw [ct3, ct3, if_pos (by omega), if_pos (by omega)]
    exact ⟨q6, v6⟩
  · have nn : ¬ x6 < 0 := by rw [x1, v610_is (by omega)]; omega
    obtain ⟨q8, v8⟩ := v807_ms (i := j / 2) (s := j % 2) (m := i) (t := s) dm (by omega) (by omega) hi hs
    rw [ct3, ct3, if_neg nn, if_neg nn, x1]
    refine ⟨q8, v8.trans ?_⟩
    rw [show 2 * (j / 2) + j % 2 = j by omega]
    by_cases z : sE VV (2 * i + s) j
    · rw [if_pos z, if_pos (show isE VV (2 * i + s) N from fun k hk => (z k hk).trans (a k hk))]
    · rw [if_neg z, if_neg (show ¬ isE VV (2 * i + s) N from fun y => z (fun k hk => (y k hk).trans (a k hk).symm))]
theorem HrI.agr {W : Nat → Nat → Prop} {q q' : AH} {N : Nat → Int} {x : Int} (I : HrI B D q VV N x) (g : Agr W q q') (hW : ∀ k, ¬ W (B + 230) k) : HrI B D q' VV N x := by
  rcases I with ⟨x1, a⟩ | y
  · exact Or.inl ⟨x1, fun k hk => by rw [g.at _ _ (hW k)]; exact a k hk⟩
  · exact Or.inr y
theorem ix67 {i : Nat} {S : Int} (hi : i < 16) : bop32 96 (bop32 104 (8 : Int) (i : Int)) (cond (tst 3 S 0) (6 : Int) 7) = ((8 * i + (if S < 0 then 7 else 6) : Nat) : Int) ∧ bop32 96 (bop32 104 (8 : Int) (i : Int)) (cond (tst 3 S 0) (7 : Int) 6) = ((8 * i + (if S < 0 then 6 else 7) : Nat) : Int) := by
  rw [show bop32 104 (8 : Int) (i : Int) = ((8 * i : Nat) : Int) from mulNN (x := 8) (by omega), ct3, ct3]
  by_cases z : S < 0
  · rw [if_pos z, if_pos z, if_pos z, if_pos z]; exact ⟨addNN (y := 7) (by omega), addNN (y := 6) (by omega)⟩
  · rw [if_neg z, if_neg z, if_neg z, if_neg z]; exact ⟨addNN (y := 6) (by omega), addNN (y := 7) (by omega)⟩
theorem sgE_is {k : Nat} : cond (tst 1 ((k % 2 : Nat) : Int) 0) (uop 0 (st (k / 2))) (st (k / 2)) = sgE st k := by
  rw [ct1]
  unfold sgE
  by_cases z : k % 2 = 0
  · rw [if_pos z, if_pos (by omega)]
  · rw [if_neg z, if_neg (by omega)]
theorem stpE_is {k : Nat} {what x y : Int} (e1 : x = VV (k / 2) (if sgE st k < 0 then 7 else 6)) (e2 : y = VV (k / 2) (if sgE st k < 0 then 6 else 7)) : cond (tst 1 what 0) (cond (tst 1 what 1) (bop32 96 (sgE st k) y) (bop32 100 (sgE st k) x)) (sgE st k) = stpE VV st what k := by
  unfold stpE
  rw [ct1, ct1, e1, e2]
set_option maxHeartbeats 4000000 in
theorem c_chain568 {what : Int} (l : LX B n h) (hd : 42 ≤ d) (hn0 : 0 < n) (hn : n ≤ 52) (tb : TbM B h) (bd : BdM B n h is SS) (f : FoM B n h SS) (M : MkM B n h mk) (dm : DmM B h D VV) (dg : DmG D VV) (S : StR n (SS 10) mk D VV st) (TX : MTX gv B h) (h2 : hv h (B + 149) 2 = (m : Int)) (hm : m ≤ 8192) (hu : ∀ i, i < m → hv h (B + 150) i = u i) (ur : ∀ i, i < m → 0 ≤ u i ∧ u i < 256) :
    Vt 0 (cll PP (ev PP (gsF gv) B) d 568 [(2, rf (B + 149)), (0, what)] h) (fun x h' => FoM B n h' SS ∧ Agr (chnW B) h h' ∧ hv h' (B + 149) 2 = 0 ∧ ((¬ (0 ≤ what ∧ what ≤ 2) ∧ x = 0 ∧ hv h' (B + 149) 0 = 1) ∨ ((0 ≤ what ∧ what ≤ 2) ∧ (¬ chO u m ∨ ChN D VV st (chA u m) (chG u m)) ∧ x = 0 ∧ hv h' (B + 149) 0 = 2) ∨ ((0 ≤ what ∧ what ≤ 2) ∧ chO u m ∧ ChZ D VV st (chA u m) (chG u m) what x ∧ hv h' (B + 149) 0 = 0))) := by
  have hb := l.2.2
  have d16 := dm.2.1
  refine Vt.inq (D := 41) hd (Nat.le_of_ble_eq_true rfl) rfl (fun d hd Q K => ?_)
  refine Ends.eq (b568_0 l (by omega)) ?_
  rw [show cond (tst 2 what 0) (1 : Int) (cond (tst 5 what 2) 0 1) = if 0 ≤ what ∧ what ≤ 2 then 0 else 1 from by
    rw [ct2, ct5]
    by_cases z : what < 0
    · rw [if_pos z, if_neg (by omega)]
    · rw [if_neg z]
      by_cases y : 2 < what
      · rw [if_pos y, if_neg (by omega)]
      · rw [if_neg y, if_pos (by omega)]]
  refine Ends.cv l (by decide +kernel) (c_beginM (u := u) (m := m) l (by omega) h2 hm hu ur) (fun h1 l1 _ _ _ ⟨g1, S1, R1, z1⟩ => ?_)
  have f1 : FoM B n h1 SS := f.agr g1 (fun k => by omega) (by omega) (by omega) (fun k => by omega)
  have G1 : Agr (chnW B) h h1 := g1.sub (fun c k z => Or.inr (Or.inr (Or.inl ⟨z.1, Or.inr z.2⟩)))
  refine Ends.eq (b568_19 l1 (by omega)) ?_
  by_cases hw : 0 ≤ what ∧ what ≤ 2
  rotate_left
  · rw [if_neg hw]
    refine Ends.mbad l1 (by omega) (c := 1) (by decide) rfl ?_
    have l2 : LX B n (hset h1 (B + 149) 0 ((1 : Nat) : Int)) := LX.setF 149 0 l1 (by decide +kernel)
    refine Ends.eq (b568_32 l2 (by omega)) (Ends.b0 (fun z => absurd z (by decide)) (fun _ => Ends.sm (K _ _ ⟨?_, G1.set (Or.inr (Or.inr (Or.inl ⟨rfl, Or.inl rfl⟩))), by rw [hv_set_ne (by omega)]; exact z1, Or.inl ⟨hw, rfl, hv_set_at ..⟩⟩)))
    exact f1.agr (Agr.rf.set (W := fun c k => c = B + 149 ∧ k = 0) ⟨rfl, rfl⟩) (fun k => by omega) (by omega) (by omega) (fun k => by omega)
  rw [if_pos hw]
  refine Ends.mok l1 (by omega) rfl ?_
  have l2 : LX B n (hset h1 (B + 149) 0 0) := LX.setF 149 0 l1 (by decide +kernel)
  have g2 : Agr (fun c k => c = B + 149 ∧ k = 0) h1 (hset h1 (B + 149) 0 0) := Agr.rf.set ⟨rfl, rfl⟩
  have v0 : hv (hset h1 (B + 149) 0 0) (B + 149) 0 = 0 := hv_set_at ..
  generalize hset h1 (B + 149) 0 0 = h2 at *
  have G2 : Agr (chnW B) h h2 := G1.tr g2 (fun c k z => Or.inr (Or.inr (Or.inl ⟨z.1, Or.inl z.2⟩)))
  have f2 : FoM B n h2 SS := f1.agr g2 (fun k => by omega) (by omega) (by omega) (fun k => by omega)
  have S2 : MgP B h2 m u := S1.agr g2 (by omega) (fun i _ => by omega)
  have e5 : hv h2 (B + 149) 5 = ((tkF u m 0 : Nat) : Int) := by rw [g2.at _ _ (by omega)]; exact R1.2.1
  have z2 : hv h2 (B + 149) 2 = 0 := by rw [g2.at _ _ (by omega)]; exact z1
  clear g1 g2 S1 R1 z1 f1 G1 v0
  -- failing in the end
  have bad : ∀ (q : AH) (x2 x3 : Int) (u4 u5 u6 u7 u8 u9 u10 u11 u12 : AV), LX B n q → FoM B n q SS → Agr (chnW B) h q → hv q (B + 149) 2 = 0 → (¬ chO u m ∨ ChN D VV st (chA u m) (chG u m)) → Q ((0, (0, 0)), hset q (B + 149) 0 ((2 : Nat) : Int)) := fun q x2 x3 u4 u5 u6 u7 u8 u9 u10 u11 u12 lq fq g w no => by
    refine K _ _ ⟨?_, g.set (Or.inr (Or.inr (Or.inl ⟨rfl, Or.inl rfl⟩))), by rw [hv_set_ne (by omega)]; exact w, Or.inr (Or.inl ⟨hw, no, rfl, hv_set_at ..⟩)⟩
    exact fq.agr (Agr.rf.set (W := fun c k => c = B + 149 ∧ k = 0) ⟨rfl, rfl⟩) (fun k => by omega) (by omega) (by omega) (fun k => by omega)
  obtain ⟨A, eA⟩ : ∃ A : Nat → Int, A = chA u m := ⟨_, rfl⟩
  obtain ⟨Gl, eG⟩ : ∃ Gl : Nat → Int, Gl = chG u m := ⟨_, rfl⟩
  -- the way, behind the numbers
  have way : ∀ (v : Nat) (q : AH) (N : Nat → Int) (s x2 x3 x6 : Int) (u7 u8 u9 u10 u11 u12 : AV), LX B n q → FoM B n q SS → Agr (chnW B) h q → hv q (B + 149) 0 = 0 → hv q (B + 149) 2 = 0 → (∀ e, e < 2 * D → thD st (e / 2) = true → LvT D VV (thD st) Gl e (hv q (B + 228) e)) → HrI B D q VV N x6 → (∃ e, e < 2 * D ∧ isE VV e N ∧ rcX D VV (thD st) Gl v e) → (∀ r q', FoM B n q' SS → Agr (chnW B) h q' → hv q' (B + 149) 0 = 0 → hv q' (B + 149) 2 = 0 → ChR D VV (thD st) Gl st what v N s r → Q ((0, (0, r)), q')) → Ends (ev PP (gsF gv) B d 568 351 [(2, rf (B + 149)), (0, what), (0, x2), (0, x3), (0, s), (0, (v : Int)), (0, x6), u7, u8, u9, u10, u11, u12] [] q) Q := by
    intro v
    induction v with
    | zero =>
      intro q N s x2 x3 x6 u7 u8 u9 u10 u11 u12 lq fq g w0 w2 lv hr ex kn
      exact Ends.eq (b568_351 lq (by omega)) (Ends.b5 (fun _ => Ends.sm (kn s q fq g w0 w2 rfl)) (fun z => absurd z (by decide)))
    | succ v ih =>
      intro q N s x2 x3 x6 u7 u8 u9 u10 u11 u12 lq fq g w0 w2 lv hr ⟨e, he, ie, re⟩ kn
      have vl := re.lt he
      obtain ⟨k, fs⟩ := FsE.ex ie re
      obtain ⟨hk2, ⟨tk, ik, rk⟩, mn⟩ := id fs
      refine Ends.eq (b568_351 lq (by omega)) (Ends.b5 (fun z => by omega) (fun _ => ?_))
      -- what stands while one looks
      have look : ∀ {pc nx i : Nat} {L rest : List AV} {q1 : AH}, LX B n q1 → FoM B n q1 SS → Agr (itW B) q q1 → i < D → (∀ q2, LX B n q2 → FoM B n q2 SS → Agr (itW B) q q2 → (thD st i = true → hv q2 (B + 149) 155 = st i) → Ends (ev PP (gsF gv) B d 568 nx L ((0, if thD st i = true then 1 else 0) :: rest) q2) Q) → Ends (aft PP 568 pc nx L rest (ev PP (gsF gv) B d 568) (cll PP (ev PP (gsF gv) B) d 719 [(2, rf (B + 149)), (0, (i : Int))] q1)) Q := fun l1 fq1 gi hi kk => by
        have g1 : Agr (chnW B) h _ := g.tr gi (fun c k z => Or.inl (Or.inl z))
        obtain ⟨tb2, bd2, M2, dm2⟩ := chU g1 tb bd M dm
        exact e_there719 l1 (by omega) hn0 hn tb2 bd2 fq1 M2 dm2 dg S hi (fun q' l' g' f' t' => kk q' l' f' (gi.tr g' (fun _ _ z => z)) (fun y => (t' y).1))
      have toG : ∀ {q1 : AH}, Agr (itW B) q q1 → Agr (chnW B) h q1 := fun gi => g.tr gi (fun c k z => Or.inl (Or.inl z))
      have cnt : ∀ {q1 : AH}, Agr (itW B) q q1 → hv q1 (B + 149) 152 = (D : Int) := fun gi => (chU (toG gi) tb bd M dm).2.2.2.1
      have lvq : ∀ {q1 : AH}, Agr (itW B) q q1 → ∀ e, e < 2 * D → thD st (e / 2) = true → LvT D VV (thD st) Gl e (hv q1 (B + 228) e) := fun gi e he te => by rw [ms_at gi e]; exact lv e he te
      -- the end is found
      have found : ∀ (q1 : AH) (x8 : Int) (u9 u10 u11 u12 : AV), LX B n q1 → FoM B n q1 SS → Agr (itW B) q q1 → Ends (ev PP (gsF gv) B d 568 487 [(2, rf (B + 149)), (0, what), (0, x2), (0, x3), (0, s), (0, ((v + 1 : Nat) : Int)), (0, x6), (0, (k : Int)), (0, x8), u9, u10, u11, u12] [] q1) Q := fun q1 x8 u9 u10 u11 u12 l1 fq1 g1 => by
        have hk32 : k / 2 < D := by omega
        refine Ends.eq (b568_487 l1 (by omega)) ?_
        rw [show bop32 108 (k : Int) 2 = ((k / 2 : Nat) : Int) from divNN (y := 2) (by omega) (by decide)]
        refine look l1 fq1 g1 hk32 (fun q2 l2 fq2 g2 t2 => ?_)
        have e155 := t2 tk
        obtain ⟨-, -, -, dm2⟩ := chU (toG g2) tb bd M dm
        have cells : ∀ j, j < 8 → hv q2 (B + 227) (8 * (k / 2) + j) = VV (k / 2) j := fun j hj => dm2.2.2 _ _ hk32 hj
        obtain ⟨y1, y2⟩ := ix67 (i := k / 2) (S := sgE st k) (by omega)
        obtain ⟨tw1, -, tw2⟩ := twE_2 k
        have m2 : bop32 112 (k : Int) 2 = ((k % 2 : Nat) : Int) := modNN (y := 2) (by decide) (by decide)
        have m1 : bop32 100 (1 : Int) ((k % 2 : Nat) : Int) = ((twE k % 2 : Nat) : Int) := by
          rw [tw2]
          rcases Nat.mod_two_eq_zero_or_one k with z | z
          · rw [z]; rfl
          · rw [z]; rfl
        have lt8 : ∀ p : Prop, ∀ [Decidable p], (if p then 7 else 6 : Nat) < 8 ∧ (if p then 6 else 7 : Nat) < 8 := fun p _ => by
          by_cases z : p
          · rw [if_pos z, if_pos z]; exact ⟨by decide, by decide⟩
          · rw [if_neg z, if_neg z]; exact ⟨by decide, by decide⟩
        obtain ⟨b1, b2⟩ := lt8 (sgE st k < 0)
        refine Ends.eq (b568_499 l2 (by omega)) ?_
        rw [e155, m2, sgE_is, y1, y2, tn, tn, m1, show ((k / 2 : Nat) : Int) = ((twE k / 2 : Nat) : Int) from by rw [tw1], stpE_is (st := st) (k := k) (cells _ b1) (cells _ b2)]
        refine Ends.g ⟨by omega, by omega⟩ (Ends.g ⟨by omega, by omega⟩ ?_)
        rw [show w32 (((v + 1 : Nat) : Int) + (-1)) = (v : Int) from by rw [w32_id ⟨by omega, by omega⟩]; omega]
        refine ih q2 (fun j => wyN VV (twE k) j) _ x2 x3 _ _ _ _ _ _ _ l2 fq2 (toG g2) ?_ ?_ (lvq g2) (Or.inr ⟨twE k, twE_lt hk2, rfl, fun j _ => rfl⟩) ⟨twE k, twE_lt hk2, fun j _ => rfl, rk⟩ (fun r q' f' g' z0 z2' cr => kn r q' f' g' z0 z2' ⟨k, fs, cr⟩)
        · rw [g2.at _ _ (fun z => by have := itW_in z; omega)]; exact w0
        · rw [g2.at _ _ (fun z => by have := itW_in z; omega)]; exact w2
      have done : ∀ (q1 : AH) (x8 : Int) (u9 u10 u11 u12 : AV), LX B n q1 → FoM B n q1 SS → Agr (itW B) q q1 → Ends (ev PP (gsF gv) B d 568 362 [(2, rf (B + 149)), (0, what), (0, x2), (0, x3), (0, s), (0, ((v + 1 : Nat) : Int)), (0, x6), (0, (k : Int)), (0, x8), u9, u10, u11, u12] [] q1) Q := fun q1 x8 u9 u10 u11 u12 l1 fq1 g1 =>
        Ends.eq (b568_362 l1 (by omega)) (Ends.b3 (fun _ => found q1 x8 _ _ _ _ l1 fq1 g1) (fun _ => Ends.b3 (fun _ => found q1 x8 _ _ _ _ l1 fq1 g1) (fun z => by omega)))
      -- looking for it
      have seek : ∀ (r i : Nat) (q1 : AH) (u9 u10 u11 u12 : AV), i + r = D → 2 * i ≤ k → LX B n q1 → FoM B n q1 SS → Agr (itW B) q q1 → Ends (ev PP (gsF gv) B d 568 362 [(2, rf (B + 149)), (0, what), (0, x2), (0, x3), (0, s), (0, ((v + 1 : Nat) : Int)), (0, x6), (0, -1), (0, (i : Int)), u9, u10, u11, u12] [] q1) Q := by
        intro r
        induction r with
        | zero => intro i q1 u9 u10 u11 u12 e ik2; omega
        | succ r ihr =>
          intro i q1 u9 u10 u11 u12 e ik2 l1 fq1 g1
          have hi : i < D := by omega
          refine Ends.eq (b568_362 l1 (by omega)) ?_
          rw [cnt g1]
          refine Ends.b3 (fun z => by omega) (fun _ => Ends.b3 (fun z => absurd z (by decide)) (fun _ => look l1 fq1 g1 hi (fun q2 l2 fq2 g2 _ => ?_)))
          have next : ∀ (u9 u10 : AV), 2 * (i + 1) ≤ k → Ends (ev PP (gsF gv) B d 568 481 [(2, rf (B + 149)), (0, what), (0, x2), (0, x3), (0, s), (0, ((v + 1 : Nat) : Int)), (0, x6), (0, -1), (0, (i : Int)), u9, u10, u11, u12] [] q2) Q := fun u9 u10 z => by
            refine Ends.eq (b568_481 l2 (by omega)) ?_
            rw [w_succ (i := i) (by omega)]
            exact ihr (i + 1) q2 _ _ _ _ (by omega) z l2 fq2 g2
          refine Ends.eq (b568_382 l2 (by omega)) ?_
          by_cases ti : thD st i = true
          rotate_left
          · rw [if_neg ti]
            refine Ends.b1 (fun z => absurd rfl z) (fun _ => next _ _ ?_)
            have : k / 2 ≠ i := fun z => ti (by rw [← z]; exact tk)
            omega
          rw [if_pos ti]
          refine Ends.b1 (fun _ => ?_) (fun z => absurd z (by decide))
          have k230 : hk q2 (B + 230) = (0 + 2, 3) := lk_230 l2
          obtain ⟨-, -, -, dm2⟩ := chU (toG g2) tb bd M dm
          have hr2 : HrI B D q2 VV N x6 := hr.agr g2 (fun k z => by have := itW_in z; omega)
          have sides : ∀ (r s' : Nat) (u10 : AV), s' + r = 2 → 2 * i + s' ≤ k → Ends (ev PP (gsF gv) B d 568 391 [(2, rf (B + 149)), (0, what), (0, x2), (0, x3), (0, s), (0, ((v + 1 : Nat) : Int)), (0, x6), (0, -1), (0, (i : Int)), (0, (s' : Int)), u10, u11, u12] [] q2) Q := by
            intro r
            induction r with
            | zero =>
              intro s' u10 e le
              obtain rfl : s' = 2 := by omega
              exact Ends.eq (b568_391 l2 (by omega)) (Ends.b3 (fun _ => next _ _ (by omega)) (fun z => absurd z (by decide)))
            | succ r ihs =>
              intro s' u10 e le
              have hs : s' < 2 := by omega
              obtain ⟨j, ej⟩ : ∃ j, j = 2 * i + s' := ⟨_, rfl⟩
              have hj : j < 2 * D := by omega
              have tl := twE_lt (D := D) hj
              obtain ⟨hq, hv'⟩ := hr2.vis dm2 k230 hi hs
              refine Ends.eq (b568_391 l2 (by omega)) ?_
              rw [hv', e2T (by omega) hs, e2N (by omega) (by omega), ← ej, tn, w_succ (i := s') (by omega), show bop32 100 ((v + 1 : Nat) : Int) (1 : Int) = (v : Int) from by rw [sub32 (by omega) (by omega)]; omega]
              refine Ends.b3 (fun z => by omega) (fun _ => Ends.b3 (fun z => absurd z (by decide)) (fun _ => Ends.g hq (Ends.g (cT ⟨by omega, by omega⟩) ?_)))
              have tj : thD st (j / 2) = true := by rw [show j / 2 = i by omega]; exact ti
              have lvj := lvq g2 (twE j) tl (by rw [(twE_2 j).1]; exact tj)
              rw [ct0, ct1]
              have no : ¬ okG D VV (thD st) Gl N v j → ∀ u10, Ends (ev PP (gsF gv) B d 568 391 [(2, rf (B + 149)), (0, what), (0, x2), (0, x3), (0, s), (0, ((v + 1 : Nat) : Int)), (0, x6), (0, -1), (0, (i : Int)), (0, ((s' + 1 : Nat) : Int)), u10, u11, u12] [] q2) Q := fun z u10 => by
                refine ihs (s' + 1) u10 (by omega) ?_
                have : k ≠ j := fun y => z (y ▸ ⟨tk, ik, rk⟩)
                omega
              by_cases ie : isE VV j N
              rotate_left
              · rw [if_neg ie, if_pos rfl]
                exact no (fun y => ie y.2.1) _
              rw [if_pos ie, if_neg (by decide)]
              by_cases lv2 : hv q2 (B + 228) (twE j) = (v : Int)
              rotate_left
              · rw [if_neg lv2]
                refine no (fun y => lv2 ?_) _
                rcases lvj with ⟨w, w1, w2, w3⟩ | ⟨w1, w2⟩
                · rw [w1, w3.uniq y.2.2]
                · exact absurd y.2.2.1 (w2 v)
              rw [if_pos lv2]
              have ok : okG D VV (thD st) Gl N v j := by
                refine ⟨tj, ie, ?_⟩
                rcases lvj with ⟨w, w1, w2, w3⟩ | ⟨w1, w2⟩
                · have : w = v := by omega
                  rw [← this]; exact w3
                · omega
              have ekj : j = k := by
                rcases Nat.lt_or_ge j k with z | z
                · exact absurd ok (mn j z)
                · omega
              rw [ekj]
              -- the rest of this dimension's sides
              refine Ends.eq (b568_391 l2 (by omega)) (Ends.b3 (fun _ => ?_) (fun _ => Ends.b3 (fun _ => ?_) (fun z => by omega)))
              · exact Ends.eq (b568_481 l2 (by omega)) (done q2 _ _ _ _ _ l2 fq2 g2)
              · exact Ends.eq (b568_481 l2 (by omega)) (done q2 _ _ _ _ _ l2 fq2 g2)
          exact sides 2 0 _ rfl (by omega)
      exact seek D 0 q _ _ _ _ (Nat.zero_add _) (Nat.zero_le _) lq fq Agr.rf
  -- with both names told and different
  have go : ∀ (q : AH) (x2 x3 x4 : Int) (u5 u6 u7 u8 u9 u10 u11 u12 : AV), LX B n q → FoM B n q SS → Agr (chnW B) h q → hv q (B + 149) 0 = 0 → hv q (B + 149) 2 = 0 → chO u m → (∀ k, k < 3 → hv q (B + 230) k = A k) → (∀ k, k < 3 → hv q (B + 229) k = Gl k) → (¬ ∀ k, k < 3 → A k = Gl k) → Ends (ev PP (gsF gv) B d 568 223 [(2, rf (B + 149)), (0, what), (0, x2), (0, x3), (0, x4), u5, u6, u7, u8, u9, u10, u11, u12] [] q) Q := by
    intro q x2 x3 x4 u5 u6 u7 u8 u9 u10 u11 u12 lq fq g w0 w2 co a230 a229 ne
    obtain ⟨tb1, bd1, M1, dm1⟩ := chU g tb bd M dm
    refine Ends.eq (b568_223 lq (by omega)) ?_
    refine Ends.cv lq (by decide +kernel) (c_measureSteps746 lq (by omega) hn0 hn tb1 bd1 fq M1 dm1 dg S a229) (fun q1 l1 _ _ _ ⟨f1, g1, lv⟩ => ?_)
    have G1 : Agr (chnW B) h q1 := g.tr g1 (fun c k z => Or.inl z)
    have w01 : hv q1 (B + 149) 0 = 0 := by rw [g1.at _ _ (fun z => by have := mstW_in z; omega)]; exact w0
    have w21 : hv q1 (B + 149) 2 = 0 := by rw [g1.at _ _ (fun z => by have := mstW_in z; omega)]; exact w2
    have a1 : ∀ k, k < 3 → hv q1 (B + 230) k = A k := fun k hk => by rw [g1.at _ _ (fun z => by have := mstW_in z; omega)]; exact a230 k hk
    clear g1 a230 a229 w0 w2
    refine Ends.eq (b568_227 l1 (by omega)) ?_
    have st1 : ∀ {q2 : AH}, Agr (itW B) q1 q2 → Agr (chnW B) h q2 ∧ hv q2 (B + 149) 0 = 0 ∧ hv q2 (B + 149) 2 = 0 ∧ (∀ k, k < 3 → hv q2 (B + 230) k = A k) ∧ ∀ e, hv q2 (B + 228) e = hv q1 (B + 228) e := fun gi => ⟨G1.tr gi (fun c k z => Or.inl (Or.inl z)), by rw [gi.at _ _ (fun z => by have := itW_in z; omega)]; exact w01, by rw [gi.at _ _ (fun z => by have := itW_in z; omega)]; exact w21, fun k hk => by rw [gi.at _ _ (fun z => by have := itW_in z; omega)]; exact a1 k hk, ms_at gi⟩
    have least : ∀ (r i : Nat) (q2 : AH) (x5 : Int) (u7 u8 u9 u10 u11 u12 : AV), i + r = D → LX B n q2 → FoM B n q2 SS → Agr (itW B) q1 q2 → LeI D VV st A Gl (2 * i) x5 → Ends (ev PP (gsF gv) B d 568 238 [(2, rf (B + 149)), (0, what), (0, x2), (0, x3), (0, 0), (0, x5), (0, (i : Int)), u7, u8, u9, u10, u11, u12] [] q2) Q := by
      intro r
      induction r with
      | zero =>
        intro i q2 x5 u7 u8 u9 u10 u11 u12 e l2 f2 g2 I
        obtain rfl : i = D := by omega
        obtain ⟨G2', z0, z2', a2, e228⟩ := st1 g2
        obtain ⟨-, -, -, dm2⟩ := chU G2' tb bd M dm
        refine Ends.eq (b568_238 l2 (by omega)) ?_
        rw [dm2.1, ct2]
        refine Ends.b3 (fun _ => ?_) (fun z => absurd z (Int.lt_irrefl _))
        rcases I with ⟨i1, i2⟩ | ⟨e, v, i1, i2, i3, i4, i5⟩
        · rw [i1, if_neg (by decide)]
          refine Ends.mbad l2 (by omega) (c := 2) (by decide) rfl ?_
          have l3 : LX B n (hset q2 (B + 149) 0 ((2 : Nat) : Int)) := LX.setF 149 0 l2 (by decide +kernel)
          refine Ends.eq (b568_343 l3 (by omega)) (Ends.b0 (fun z => absurd z (by decide)) (fun _ => Ends.sm (bad q2 0 0 (0, 0) (0, 0) (0, 0) (0, 0) (0, 0) (0, 0) (0, 0) (0, 0) (0, 0) l2 f2 G2' z2' (Or.inr (by rw [← eA, ← eG]; exact ChN.of ne i2)))))
        · rw [i3, if_pos (by omega)]
          refine Ends.mok l2 (by omega) rfl ?_
          have l3 : LX B n (hset q2 (B + 149) 0 0) := LX.setF 149 0 l2 (by decide +kernel)
          have g3 : Agr (fun c k => c = B + 149 ∧ k = 0) q2 (hset q2 (B + 149) 0 0) := Agr.rf.set ⟨rfl, rfl⟩
          have v3 : hv (hset q2 (B + 149) 0 0) (B + 149) 0 = 0 := hv_set_at ..
          generalize hset q2 (B + 149) 0 0 = h3 at *
          have f3 : FoM B n h3 SS := f2.agr g3 (fun k => by omega) (by omega) (by omega) (fun k => by omega)
          refine Ends.eq (b568_343 l3 (by omega)) (Ends.b0 (fun _ => ?_) (fun z => absurd rfl z))
          refine way v h3 A 0 x2 x3 (-1) _ _ _ _ _ _ l3 f3 (G2'.tr g3 (fun c k z => Or.inr (Or.inr (Or.inl ⟨z.1, Or.inl z.2⟩)))) v3 (by rw [g3.at _ _ (by omega)]; exact z2') (fun e he te => by rw [g3.at _ _ (by omega), e228 e]; exact lv e he te) (Or.inl ⟨rfl, fun k hk => by rw [g3.at _ _ (by omega)]; exact a2 k hk⟩) ⟨e, i1, i2, i5⟩ (fun r q' f' g' y0 y2 cr => K _ _ ⟨f', g', y2, Or.inr (Or.inr ⟨hw, co, ?_, y0⟩)⟩)
          rw [← eA, ← eG]
          exact Or.inr ⟨ne, e, v, i1, i2, i5, cr⟩
      | succ r ih =>
        intro i q2 x5 u7 u8 u9 u10 u11 u12 e l2 f2 g2 I
        have hi : i < D := by omega
        obtain ⟨G2', -, -, -, -⟩ := st1 g2
        obtain ⟨-, -, -, dm2⟩ := chU G2' tb bd M dm
        refine Ends.eq (b568_238 l2 (by omega)) ?_
        rw [dm2.1]
        refine Ends.b3 (fun z => by omega) (fun _ => ?_)
        have sides : ∀ (r s : Nat) (q2 : AH) (x5 : Int), s + r = 2 → LX B n q2 → FoM B n q2 SS → Agr (itW B) q1 q2 → LeI D VV st A Gl (2 * i + s) x5 → Ends (ev PP (gsF gv) B d 568 250 [(2, rf (B + 149)), (0, what), (0, x2), (0, x3), (0, 0), (0, x5), (0, (i : Int)), (0, (s : Int)), u8, u9, u10, u11, u12] [] q2) Q := by
          intro r
          induction r with
          | zero =>
            intro s q2 x5 e l2 f2 g2 I
            obtain rfl : s = 2 := by omega
            refine Ends.eq (b568_250 l2 (by omega)) (Ends.b3 (fun _ => ?_) (fun z => absurd z (by decide)))
            rw [w_succ (i := i) (by omega)]
            exact ih (i + 1) q2 x5 _ _ _ _ _ _ (by omega) l2 f2 g2 I
          | succ r ihs =>
            intro s q2 x5 e l2 f2 g2 I
            have hs : s < 2 := by omega
            obtain ⟨G2', -, -, -, -⟩ := st1 g2
            obtain ⟨tb2, bd2, M2, dm2⟩ := chU G2' tb bd M dm
            refine Ends.eq (b568_250 l2 (by omega)) (Ends.b3 (fun z => by omega) (fun _ => e_there719 l2 (by omega) hn0 hn tb2 bd2 f2 M2 dm2 dg S hi (fun q3 l3 g3 f3 _ => ?_)))
            have g13 : Agr (itW B) q1 q3 := g2.tr g3 (fun _ _ z => z)
            obtain ⟨G3, -, -, a3, e228⟩ := st1 g13
            obtain ⟨-, -, -, dm3⟩ := chU G3 tb bd M dm
            have k230 : hk q3 (B + 230) = (0 + 2, 3) := lk_230 l3
            obtain ⟨q6, v6⟩ := v692_ms dm3 hi hs k230 a3
            obtain ⟨j, ej⟩ : ∃ j, j = 2 * i + s := ⟨_, rfl⟩
            refine Ends.eq (b568_262 l3 (by omega)) ?_
            rw [v6, e2N (by omega) (by omega), ← ej, tn, w_succ (i := s) (by omega)]
            refine Ends.g (cT ⟨q6, cT ⟨by omega, by omega⟩⟩) (ihs (s + 1) q3 _ (by omega) l3 f3 g13 ?_)
            rw [ct0, ct0, ct3]
            rw [show 2 * i + (s + 1) = j + 1 by omega]
            rw [← ej] at I
            by_cases ti : thD st i = true
            rotate_left
            · rw [if_neg ti, if_pos rfl]
              exact I.no (fun y => ti (by rw [show i = j / 2 by omega]; exact y.1))
            rw [if_pos ti, if_neg (by decide)]
            by_cases ie : isE VV j A
            rotate_left
            · rw [if_neg ie, if_pos rfl]
              exact I.no (fun y => ie y.2)
            rw [if_pos ie, if_neg (by decide), e228 j]
            exact I.yes d16 ie (lv j (by omega) (by rw [show j / 2 = i by omega]; exact ti))
        exact sides 2 0 q2 x5 rfl l2 f2 g2 I
    exact least D 0 q1 1000 _ _ _ _ _ _ (Nat.zero_add _) l1 f1 Agr.rf (Or.inl ⟨rfl, fun e he => absurd he (by omega)⟩)
  -- behind the reading
  have tail : ∀ (q : AH) (x2 x3 x4 : Int) (u5 u6 u7 u8 u9 u10 u11 u12 : AV), LX B n q → FoM B n q SS → Agr (chnW B) h q → hv q (B + 149) 2 = 0 → ((x3 = 0 ∧ ¬ chO u m) ∨ (x3 = 1 ∧ chO u m ∧ (∀ k, k < 3 → hv q (B + 230) k = A k) ∧ ∀ k, k < 3 → hv q (B + 192) k = Gl k)) → Ends (ev PP (gsF gv) B d 568 129 [(2, rf (B + 149)), (0, what), (0, x2), (0, x3), (0, x4), u5, u6, u7, u8, u9, u10, u11, u12] [] q) Q := by
    intro q x2 x3 x4 u5 u6 u7 u8 u9 u10 u11 u12 lq fq g w2 R
    refine Ends.eq (b568_129 lq (by omega)) ?_
    have cp : ∀ (r j : Nat) (q' : AH), j + r = 3 → LX B n q' → Agr (fun c i => c = B + 229 ∧ i < 3) q q' → (∀ i, i < j → hv q' (B + 229) i = hv q (B + 192) i) → Ends (ev PP (gsF gv) B d 568 132 [(2, rf (B + 149)), (0, what), (0, x2), (0, x3), (0, (j : Int)), u5, u6, u7, u8, u9, u10, u11, u12] [] q') Q := by
      intro r
      induction r with
      | zero =>
        intro j q' e l' g' I
        obtain rfl : j = 3 := by omega
        have f' : FoM B n q' SS := fq.agr g' (fun k => by omega) (by omega) (by omega) (fun k => by omega)
        have G' : Agr (chnW B) h q' := g.tr g' (fun c k z => Or.inr (Or.inr (Or.inr ⟨Or.inl z.1, z.2⟩)))
        have w2' : hv q' (B + 149) 2 = 0 := by rw [g'.at _ _ (by omega)]; exact w2
        refine Ends.eq (b568_132 l' (by omega)) (Ends.b3 (fun _ => ?_) (fun z => absurd z (by decide)))
        rw [ct0]
        rcases R with ⟨x30, no⟩ | ⟨x31, co, rA, rG⟩
        · rw [if_pos x30]
          refine Ends.mbad l' (by omega) (c := 2) (by decide) rfl ?_
          have l3 : LX B n (hset q' (B + 149) 0 ((2 : Nat) : Int)) := LX.setF 149 0 l' (by decide +kernel)
          exact Ends.eq (b568_171 l3 (by omega)) (Ends.b0 (fun z => absurd z (by decide)) (fun _ => Ends.sm (bad q' 0 0 (0, 0) (0, 0) (0, 0) (0, 0) (0, 0) (0, 0) (0, 0) (0, 0) (0, 0) l' f' G' w2' (Or.inl no))))
        · rw [if_neg (by omega)]
          refine Ends.mok l' (by omega) rfl ?_
          have l3 : LX B n (hset q' (B + 149) 0 0) := LX.setF 149 0 l' (by decide +kernel)
          have g3 : Agr (fun c k => c = B + 149 ∧ k = 0) q' (hset q' (B + 149) 0 0) := Agr.rf.set ⟨rfl, rfl⟩
          have v3 : hv (hset q' (B + 149) 0 0) (B + 149) 0 = 0 := hv_set_at ..
          generalize hset q' (B + 149) 0 0 = h3 at *
          have f3 : FoM B n h3 SS := f'.agr g3 (fun k => by omega) (by omega) (by omega) (fun k => by omega)
          have G3 : Agr (chnW B) h h3 := G'.tr g3 (fun c k z => Or.inr (Or.inr (Or.inl ⟨z.1, Or.inl z.2⟩)))
          have w23 : hv h3 (B + 149) 2 = 0 := by rw [g3.at _ _ (by omega)]; exact w2'
          have a3 : ∀ k, k < 3 → hv h3 (B + 230) k = A k := fun k hk => by rw [g3.at _ _ (by omega), g'.at _ _ (by omega)]; exact rA k hk
          have b3 : ∀ k, k < 3 → hv h3 (B + 229) k = Gl k := fun k hk => by rw [g3.at _ _ (by omega), I k hk]; exact rG k hk
          have gg : (¬ ∀ k, k < 3 → A k = Gl k) → Ends (ev PP (gsF gv) B d 568 223 [(2, rf (B + 149)), (0, what), (0, x2), (0, x3), (0, ((3 : Nat) : Int)), u5, u6, u7, u8, u9, u10, u11, u12] [] h3) Q := fun ne => go h3 x2 x3 _ _ _ _ _ _ _ _ _ l3 f3 G3 v3 w23 co a3 b3 ne
          refine Ends.eq (b568_171 l3 (by omega)) (Ends.b0 (fun _ => ?_) (fun z => absurd rfl z))
          rw [show Int.toNat (0 : Int) = 0 from rfl, show Int.toNat (1 : Int) = 1 from rfl, show Int.toNat (2 : Int) = 2 from rfl, a3 0 (by decide), a3 1 (by decide), a3 2 (by decide), b3 0 (by decide), b3 1 (by decide), b3 2 (by decide)]
          refine Ends.b1 (fun z => gg (fun y => z (y 0 (by decide)))) (fun y0 => Ends.b1 (fun z => gg (fun y => z (y 1 (by decide)))) (fun y1 => Ends.b1 (fun z => gg (fun y => z (y 2 (by decide)))) (fun y2 => Ends.sm (K _ _ ⟨f3, G3, w23, Or.inr (Or.inr ⟨hw, co, ?_, v3⟩)⟩))))
          rw [← eA, ← eG]
          refine Or.inl ⟨fun k hk => ?_, rfl⟩
          rcases (by omega : k = 0 ∨ k = 1 ∨ k = 2) with z | z | z
          · rw [z]; exact y0
          · rw [z]; exact y1
          · rw [z]; exact y2
      | succ r ihr =>
        intro j q' e l' g' I
        refine Ends.eq (b568_132 l' (by omega)) (Ends.b3 (fun z => by omega) (fun _ => ?_))
        rw [tn, an0, w_succ (i := j) (by omega), g'.at (B + 192) j (by omega)]
        refine Ends.g ⟨by omega, by omega⟩ (ihr (j + 1) _ (by omega) (LX.setS l' rfl) (g'.set ⟨rfl, by omega⟩) (fun i hi => ?_))
        by_cases z : i = j
        · rw [z, hv_set_at]
        · rw [hv_set_ne (fun y => z y.2)]; exact I i (by omega)
    exact cp 3 0 q rfl lq Agr.rf (fun i hi => absurd hi (Nat.not_lt_zero i))
  -- reading
  refine Ends.eq (b568_32 l2 (by omega)) (Ends.b0 (fun _ => ?_) (fun z => absurd rfl z))
  have fl0 := tkF_le (u := u) (Nat.zero_le m)
  refine Ends.ct l2 (by decide +kernel) (by decide) (c_readName794 (p := tkF u m 0) (K := 3) l2 (by omega) S2 e5 fl0 (by decide)) (fun x h3 l3 _ _ _ ⟨g3, r3⟩ => ?_)
  have G3 : Agr (chnW B) h h3 := G2.tr g3 (fun c k z => Or.inr (Or.inl z))
  have f3 : FoM B n h3 SS := f2.agr g3 (fun k => by unfold rnW mgW; omega) (by unfold rnW mgW; omega) (by unfold rnW mgW; omega) (fun k => by unfold rnW mgW; omega)
  have z3 : hv h3 (B + 149) 2 = 0 := by rw [g3.at _ _ (by unfold rnW mgW; omega)]; exact z2
  have S3 : MgP B h3 m u := S2.agr g3 (by unfold rnW mgW; omega) (fun i _ => by unfold rnW mgW; omega)
  refine Ends.eq (b568_42 l3 (by omega)) ?_
  have cp : ∀ (r j : Nat) (x3 : Int) (q' : AH), j + r = 3 → LX B n q' → Agr (fun c i => c = B + 230 ∧ i < 3) h3 q' → (∀ i, i < j → hv q' (B + 230) i = hv h3 (B + 192) i) → (∀ q', LX B n q' → Agr (fun c i => c = B + 230 ∧ i < 3) h3 q' → (∀ i, i < 3 → hv q' (B + 230) i = hv h3 (B + 192) i) → Ends (ev PP (gsF gv) B d 568 54 [(2, rf (B + 149)), (0, what), (0, 0), (0, x3), (0, ((3 : Nat) : Int)), (9, 0), (9, 0), (9, 0), (9, 0), (9, 0), (9, 0), (9, 0), (9, 0)] [] q') Q) → Ends (ev PP (gsF gv) B d 568 54 [(2, rf (B + 149)), (0, what), (0, 0), (0, x3), (0, (j : Int)), (9, 0), (9, 0), (9, 0), (9, 0), (9, 0), (9, 0), (9, 0), (9, 0)] [] q') Q := by
    intro r
    induction r with
    | zero =>
      intro j x3 q' e l' g' I kn
      obtain rfl : j = 3 := by omega
      exact kn q' l' g' I
    | succ r ihr =>
      intro j x3 q' e l' g' I kn
      refine Ends.eq (b568_54 l' (by omega)) (Ends.b3 (fun z => by omega) (fun _ => ?_))
      rw [tn, an0, w_succ (i := j) (by omega), g'.at (B + 192) j (by omega)]
      refine Ends.g ⟨by omega, by omega⟩ (ihr (j + 1) x3 _ (by omega) (LX.setS l' rfl) (g'.set ⟨rfl, by omega⟩) (fun i hi => ?_) kn)
      by_cases z : i = j
      · rw [z, hv_set_at]
      · rw [hv_set_ne (fun y => z y.2)]; exact I i (by omega)
  refine cp 3 0 _ h3 rfl l3 Agr.rf (fun i hi => absurd hi (Nat.not_lt_zero i)) (fun h4 l4 g4 I4 => ?_)
  have G4 : Agr (chnW B) h h4 := G3.tr g4 (fun c k z => Or.inr (Or.inr (Or.inr ⟨Or.inr z.1, z.2⟩)))
  have f4 : FoM B n h4 SS := f3.agr g4 (fun k => by omega) (by omega) (by omega) (fun k => by omega)
  have z4 : hv h4 (B + 149) 2 = 0 := by rw [g4.at _ _ (by omega)]; exact z3
  have S4 : MgP B h4 m u := S3.agr g4 (by omega) (fun i _ => by omega)
  refine Ends.eq (b568_54 l4 (by omega)) (Ends.b3 (fun _ => ?_) (fun z => absurd z (by decide)))
  rw [ct3]
  rcases r3 with ⟨o1, ex, R3, nm⟩ | ⟨o1, ex⟩
  rotate_left
  · rw [if_neg (show ¬ x < 0 by omega)]
    refine Ends.b0 (fun _ => ?_) (fun z => absurd rfl z)
    refine Ends.eq (b568_98 l4 (by omega)) (Ends.eq (b568_99 l4 (by omega)) (Ends.b0 (fun _ => ?_) (fun z => absurd rfl z)))
    exact tail h4 _ _ _ _ _ _ _ _ _ _ _ l4 f4 G4 z4 (Or.inl ⟨rfl, fun y => o1 y.1⟩)
  rw [if_pos (show x < 0 by omega)]
  refine Ends.b0 (fun z => absurd z (by decide)) (fun _ => ?_)
  have R4 : MgT B h4 u m (nen u m (tkF u m 0) 3) := by
    obtain ⟨r1, r2, r3, r4, r5, r6⟩ := R3
    exact ⟨by rw [g4.at _ _ (by omega)]; exact r1, by rw [g4.at _ _ (by omega)]; exact r2, by rw [g4.at _ _ (by omega)]; exact r3, by rw [g4.at _ _ (by omega)]; exact r4, by rw [g4.at _ _ (by omega)]; exact r5, fun k => ⟨by rw [g4.at _ _ (by omega)]; exact (r6 k).1, by rw [g4.at _ _ (by omega)]; exact (r6 k).2⟩⟩
  have T4 : MTX gv B h4 := TX.agr G4 (fun c k hc z => by have := chnW_in z; omega)
  obtain ⟨n1, n2⟩ := nen_le o1 (by decide) fl0
  have A4 : ∀ k, k < 3 → hv h4 (B + 230) k = A k := fun k hk => by rw [I4 k hk, nm k hk, eA]; rfl
  refine Ends.ct l4 (by decide +kernel) (by decide) (c_is1 l4 (by omega) S4 T4 R4 n2 12 59 (by decide) (by decide) (by decide)) (fun v h5 l5 _ _ _ ⟨e5', r5⟩ => ?_)
  subst e5'
  refine Ends.eq (b568_91 l5 (by omega)) ?_
  rcases r5 with ⟨sc, ev'⟩ | ⟨sc, ev'⟩
  rotate_left
  · rw [ev']
    refine Ends.b0 (fun _ => ?_) (fun z => absurd rfl z)
    exact tail h5 _ _ _ _ _ _ _ _ _ _ _ l5 f4 G4 z4 (Or.inl ⟨rfl, fun y => sc y.2.1⟩)
  rw [ev']
  refine Ends.b0 (fun z => absurd z (by decide)) (fun _ => ?_)
  have tk := tk_le (u := u) n2
  refine Ends.cv l5 (by decide +kernel) (c_nextM l5 (by omega) S4 R4.1 tk.2.1) (fun h6 l6 _ _ _ ⟨g6, R6⟩ => ?_)
  have G6 : Agr (chnW B) h h6 := G4.tr g6 (fun c k z => Or.inr (Or.inl (Or.inl z)))
  have f6 : FoM B n h6 SS := f4.agr g6 (fun k => by unfold mgW; omega) (by unfold mgW; omega) (by unfold mgW; omega) (fun k => by unfold mgW; omega)
  have z6 : hv h6 (B + 149) 2 = 0 := by rw [g6.at _ _ (by unfold mgW; omega)]; exact z4
  have S6 : MgP B h6 m u := S4.agr g6 (by unfold mgW; omega) (fun i _ => by unfold mgW; omega)
  have A6 : ∀ k, k < 3 → hv h6 (B + 230) k = A k := fun k hk => by rw [g6.at _ _ (by unfold mgW; omega)]; exact A4 k hk
  have R6 : MgT B h6 u m (dp2 u m) := R6
  have p2 : dp2 u m ≤ m := tk.2.1
  have fl2 := tkF_le (u := u) p2
  refine Ends.eq (b568_108 l6 (by omega)) ?_
  refine Ends.ct l6 (by decide +kernel) (by decide) (c_readName794 (p := tkF u m (dp2 u m)) (K := 3) l6 (by omega) S6 R6.2.1 fl2 (by decide)) (fun x h7 l7 _ _ _ ⟨g7, r7⟩ => ?_)
  have G7 : Agr (chnW B) h h7 := G6.tr g7 (fun c k z => Or.inr (Or.inl z))
  have f7 : FoM B n h7 SS := f6.agr g7 (fun k => by unfold rnW mgW; omega) (by unfold rnW mgW; omega) (by unfold rnW mgW; omega) (fun k => by unfold rnW mgW; omega)
  have z7 : hv h7 (B + 149) 2 = 0 := by rw [g7.at _ _ (by unfold rnW mgW; omega)]; exact z6
  refine Ends.eq (b568_113 l7 (by omega)) ?_
  rw [ct3, ct1]
  rcases r7 with ⟨o2, ex2, R7, nm2⟩ | ⟨o2, ex2⟩
  rotate_left
  · rw [if_neg (show ¬ x < 0 by omega)]
    exact tail h7 _ _ _ _ _ _ _ _ _ _ _ l7 f7 G7 z7 (Or.inl ⟨rfl, fun y => o2 y.2.2.1⟩)
  rw [if_pos (show x < 0 by omega), R7.2.2.1]
  by_cases k0 : mkd u m (nen u m (tkF u m (dp2 u m)) 3) = 0
  rotate_left
  · rw [if_neg k0]
    exact tail h7 _ _ _ _ _ _ _ _ _ _ _ l7 f7 G7 z7 (Or.inl ⟨rfl, fun y => k0 (mkd_0.mpr y.2.2.2)⟩)
  rw [if_pos k0]
  refine tail h7 _ _ _ _ _ _ _ _ _ _ _ l7 f7 G7 z7 (Or.inr ⟨rfl, ⟨o1, sc, o2, mkd_0.mp k0⟩, fun k hk => ?_, fun k hk => ?_⟩)
  · rw [g7.at _ _ (by unfold rnW mgW; omega)]; exact A6 k hk
  · rw [nm2 k hk, eG]; rfl
end MCH
