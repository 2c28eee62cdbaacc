/-! L3: views (model): the whole of it -/
noncomputable section MV2
variable {gv : Nat → Int} {B n d : Nat} {h : AH} {S : Nat → Bool}
theorem sIs.congr {N hs k : Nat} {K K' : Nat → Int} {c : Int} (s : sIs N K hs c k) (hN : 0 < N) (e : ∀ i, i < N → K' i = K i) : sIs N K' hs c k := by
  obtain ⟨j, j1, j2, j3, j4⟩ := s
  have hk : k < N := by rw [j2]; exact Nat.mod_lt _ hN
  exact ⟨j, j1, j2, fun i hi => by rw [e _ (Nat.mod_lt _ hN)]; exact j3 i hi, by rw [e k hk]; exact j4⟩
theorem TbK.congr {hs : Int → Nat} {K K' : Nat → Int} {C : Int → Prop} (T : TbK n hs K C) (e : ∀ i, i < rmN n → K' i = K i) : TbK n hs K' C := by
  have rl := rm_lt n
  refine ⟨fun k hk => ?_, fun c hc => ?_⟩
  · rw [e k hk]; exact (T.1 k hk).imp id (fun z => ⟨z.1, z.2.congr (by omega) e⟩)
  · obtain ⟨a, k, k1, k2⟩ := T.2 c hc
    exact ⟨a, k, k1, by rw [e k k1]; exact k2⟩
theorem TbK.iff {hs : Int → Nat} {K : Nat → Int} {C C' : Int → Prop} (T : TbK n hs K C) (e : ∀ c, C c ↔ C' c) : TbK n hs K C' :=
  ⟨fun k hk => (T.1 k hk).imp id (fun z => ⟨(e _).mp z.1, z.2⟩), fun c hc => T.2 c ((e c).mpr hc)⟩
variable {P : Nat → Prop} {q : AH}
theorem VpI.kf (I : VpI B n h P) (e5 : ∀ i, i < rmN n → hv q (B + 245) i = hv h (B + 245) i) (e3 : ∀ k, P k → hv q (B + 243) k = hv h (B + 243) k) : ∀ i, i < rmN n → kfM B q i = kfM B h i := fun i hi => by
  unfold kfM
  rw [e5 i hi]
  by_cases z : hv h (B + 245) i < 0
  · rw [if_pos z, if_pos z]
  · rw [if_neg z, if_neg z, e3 _ (I.pos hi (by omega)).2]
theorem VpI.re (I : VpI B n h P) (e5 : ∀ i, i < rmN n → hv q (B + 245) i = hv h (B + 245) i) (e3 : ∀ k, P k → hv q (B + 243) k = hv h (B + 243) k) (e4 : ∀ k, P k → hv q (B + 244) k = hv h (B + 244) k) : VpI B n q P := by
  have kf := I.kf e5 e3
  refine ⟨fun i hi => ?_, (I.2.1.congr kf).iff (fun c => ?_), fun k hk => by rw [e3 k hk]; exact I.2.2 k hk⟩
  · obtain ⟨a1, L, a2, a3, a4⟩ := I.1 i hi
    refine ⟨by rw [e5 i hi]; exact a1, L, ?_, fun k hk => ?_, fun k hk e => ?_⟩
    · rw [e5 i hi]; exact a2.congr (fun k hk => e4 k (a3 k hk).1)
    · obtain ⟨b1, b2, b3⟩ := a3 k hk
      exact ⟨b1, b2, by rw [e3 k b1, kf i hi]; exact b3⟩
    · exact a4 k hk (by rw [← e3 k hk, ← kf i hi]; exact e)
  · exact ⟨fun ⟨k, h1, h2⟩ => ⟨k, h1, by rw [e3 k h1]; exact h2⟩, fun ⟨k, h1, h2⟩ => ⟨k, h1, by rw [← e3 k h1]; exact h2⟩⟩
/-- a piece comes to its chain -/
theorem VpI.put {ix k : Nat} (I : VpI B n h P) (hP : ¬ P ix) (hix : ix < 8 * n * n) (hf : 0 ≤ hv h (B + 243) ix) (hk : k < rmN n) (s : sIs (rmN n) (kfM B h) (hsM n (hv h (B + 243) ix)) (hv h (B + 243) ix) k) (e3 : ∀ j, hv q (B + 243) j = hv h (B + 243) j) (e4 : hv q (B + 244) ix = hv h (B + 245) k) (e4' : ∀ j, j ≠ ix → hv q (B + 244) j = hv h (B + 244) j) (e5 : hv q (B + 245) k = (ix : Int)) (e5' : ∀ j, j ≠ k → hv q (B + 245) j = hv h (B + 245) j) :
    VpI B n q (fun j => P j ∨ j = ix) ∧ cntN (fun j => decide (kfM B q j ≠ -1)) (rmN n) ≤ cntN (fun j => decide (kfM B h j ≠ -1)) (rmN n) + 1 := by
  obtain ⟨f, ef⟩ : ∃ f, f = hv h (B + 243) ix := ⟨_, rfl⟩
  rw [← ef] at hf s
  have kk : kfM B q k = f := by
    unfold kfM
    rw [e5, if_neg (by omega), tn, e3, ← ef]
  have kn : ∀ i, i ≠ k → kfM B q i = kfM B h i := fun i hi => by
    unfold kfM
    rw [e5' i hi]
    by_cases z : hv h (B + 245) i < 0
    · rw [if_pos z, if_pos z]
    · rw [if_neg z, if_neg z, e3]
  obtain ⟨T2, c2⟩ := I.2.1.put (K' := kfM B q) hk s (by omega) kk kn
  have hat : kfM B h k = -1 ∨ kfM B h k = f := by
    obtain ⟨j, -, -, -, z⟩ := s
    exact z
  have nb : ∀ i, i < rmN n → i ≠ k → kfM B h i ≠ f := fun i hi hn z => hn ((I.2.1.find hk s).2 i hi z (by omega))
  refine ⟨⟨fun i hi => ?_, T2.iff (fun c => ⟨?_, ?_⟩), fun j hj => ?_⟩, c2⟩
  · by_cases z : i = k
    · subst z
      obtain ⟨a1, L, a2, a3, a4⟩ := I.1 i hi
      rw [e5, kk]
      refine ⟨by omega, ix :: L, ⟨rfl, ?_⟩, fun j hj => ?_, fun j hj e => ?_⟩
      · rw [e4]
        refine a2.congr (fun j hj => e4' j (fun y => hP (by rw [← y]; exact (a3 j hj).1)))
      · rw [e3]
        rcases List.mem_cons.mp hj with y | y
        · rw [y]; exact ⟨Or.inr rfl, hix, ef.symm⟩
        · obtain ⟨b1, b2, b3⟩ := a3 j y
          have := I.2.2 j b1
          refine ⟨Or.inl b1, b2, ?_⟩
          rcases hat with w | w
          · omega
          · rw [b3, w]
      · rcases hj with hj | hj
        · rw [e3] at e
          refine List.mem_cons_of_mem _ (a4 j hj ?_)
          rw [e]
          exact ((I.2.1.find hk s).1 ⟨j, hj, e.symm⟩).symm
        · rw [hj]; exact List.mem_cons_self ..
    · obtain ⟨a1, L, a2, a3, a4⟩ := I.1 i hi
      rw [e5' i z, kn i z]
      refine ⟨a1, L, a2.congr (fun j hj => e4' j (fun y => hP (by rw [← y]; exact (a3 j hj).1))), fun j hj => ?_, fun j hj e => ?_⟩
      · obtain ⟨b1, b2, b3⟩ := a3 j hj
        exact ⟨Or.inl b1, b2, by rw [e3]; exact b3⟩
      · rw [e3] at e
        rcases hj with hj | hj
        · exact a4 j hj e
        · rw [hj, ← ef] at e
          exact absurd e.symm (nb i hi z)
  · rintro (⟨j, j1, j2⟩ | z)
    · exact ⟨j, Or.inl j1, by rw [e3]; exact j2⟩
    · exact ⟨ix, Or.inr rfl, by rw [e3, z, ef]⟩
  · rintro ⟨j, j1 | j1, j2⟩
    · exact Or.inl ⟨j, j1, by rw [← e3]; exact j2⟩
    · exact Or.inr (by rw [j2, e3, j1, ef])
  · rw [e3]
    rcases hj with hj | hj
    · exact I.2.2 j hj
    · rw [hj, ← ef]; exact hf
/-- a facet that is seen, in the view's mode -/
theorem c_visitSh {K k0 : Nat} {face : Int} (l : LX B n h) (hd : 20 ≤ d) (I : VpI B n h P) (hk0 : k0 < rmN n) (free : kfM B h k0 = -1) :
    Vd (cll PP (ev PP (gsF gv) B) d 864 [(2, rf (B + 149)), (0, 1), (0, (K : Int)), (0, face)] h) (fun h' => Agr (fun c _ => c = B + 242) h h' ∧ ∀ k, (P k ∧ hv h (B + 243) k = (K : Int) → hv h' (B + 242) k = face) ∧ (¬ (P k ∧ hv h (B + 243) k = (K : Int)) → hv h' (B + 242) k = hv h (B + 242) k)) := by
  refine Vd.inq (D := 19) hd (Nat.le_of_ble_eq_true rfl) rfl (fun d hd Q KK => ?_)
  refine Ends.eq (b864_0 l (by omega)) ?_
  rw [show sw864_1 (1 : Int) = 32 from rfl]
  refine Ends.eq (b864_32 l (by omega)) ?_
  refine Ends.cv l (by decide +kernel) (c_showFacet824 l (by omega) I hk0 free) (fun h2 l2 _ _ _ r => ?_)
  exact Ends.eq (b864_38 l2 (by omega)) (Ends.eq (b864_107 l2 (by omega)) (Ends.sm (KK _ r)))
/-- the view's tables (model), between calls -/
def VwM (B n : Nat) (q : AH) (S : Nat → Bool) (ax dn mm : Nat) (F : Nat → Nat) : Prop := VwS n S ax dn mm F (hv q (B + 242))
/-- what is shown while faces are gone over -/
def ShV (n : Nat) (S : Nat → Bool) (ax dn : Nat) (m : Nat) (F : Nat → Nat) (V : Nat → Bool) (vw : Nat → Int) : Prop := ∀ p u v, p < 8 → u < n → v < n → (ffP n S ax dn p u v < 5 * n → (∀ i, i < m → FRe n (bdr n S) (F i) (ffK n S ax dn p u v) → vw (ixV n p u v) = (i : Int)) ∧ (V (ffK n S ax dn p u v) = true → vw (ixV n p u v) = (m : Int))) ∧ (¬ ffP n S ax dn p u v < 5 * n → vw (ixV n p u v) = -1)
/-- all pieces are told -/
def VnA (B n : Nat) (S : Nat → Bool) (ax dn : Nat) (q : AH) : Prop := VpI B n q (fun k => ∃ p u v, p < 8 ∧ u < n ∧ v < n ∧ k = ixV n p u v ∧ ffP n S ax dn p u v < 5 * n) ∧ (∀ p u v, p < 8 → u < n → v < n → hv q (B + 243) (ixV n p u v) = ffF n S ax dn p u v) ∧ ∃ k0, k0 < rmN n ∧ kfM B q k0 = -1
theorem VnA.agr {ax dn : Nat} {W : Nat → Nat → Prop} (a : VnA B n S ax dn h) (g : Agr W h q) (hW : ∀ c k, B + 243 ≤ c → c ≤ B + 245 → ¬ W c k) : VnA B n S ax dn q := by
  obtain ⟨a1, a2, k0, k1, k2⟩ := a
  refine ⟨a1.re (fun i _ => g.at _ _ (hW _ _ (by omega) (by omega))) (fun k _ => g.at _ _ (hW _ _ (by omega) (by omega))) (fun k _ => g.at _ _ (hW _ _ (by omega) (by omega))), fun p u v hp hu hv' => by rw [g.at _ _ (hW _ _ (by omega) (by omega))]; exact a2 p u v hp hu hv', k0, k1, ?_⟩
  rw [a1.kf (fun i _ => g.at _ _ (hW _ _ (by omega) (by omega))) (fun k _ => g.at _ _ (hW _ _ (by omega) (by omega))) k0 k1]; exact k2
theorem goW_lt {c k : Nat} (z : fgoW B c k) : c ≤ B + 239 := by
  unfold fgoW fdfW at z; omega
/-- the faces are gone over, the pieces get their faces -/
theorem c_showAll {s ax dn : Nat} (l : LX B n h) (hd : 27 ≤ d) (hn0 : 0 < n) (hn : n ≤ 52) (m : TbM B h) (hs : s < 19) (bS : MB B n h s S) (b9 : BtM n h (B + 239) (fun _ => false)) (hax : ax < 3) (hdn : dn < 2) (A : VnA B n S ax dn h) (ini : ∀ p u v, p < 8 → u < n → v < n → hv h (B + 242) (ixV n p u v) = -1) :
    Vd (cll PP (ev PP (gsF gv) B) d 658 [(2, rf (B + 149)), (0, (s : Int)), (0, 1)] h) (fun h' => ∃ mm F, MFc B n h' s S mm F ∧ BtM n h' (B + 239) (fun _ => false) ∧ Agr (fun c k => fgoW B c k ∨ c = B + 242) h h' ∧ VwS n S ax dn mm F (hv h' (B + 242))) := by
  obtain ⟨WF, eWF⟩ : ∃ WF : Nat → (Nat → Nat) → AH → Prop, WF = fun m F q => VnA B n S ax dn q ∧ ShV n S ax dn m F (fun _ => false) (hv q (B + 242)) := ⟨_, rfl⟩
  obtain ⟨WI, eWI⟩ : ∃ WI : Nat → (Nat → Nat) → Nat → (Nat → Bool) → AH → Prop, WI = fun m F K V q => VnA B n S ax dn q ∧ (∀ i, i < m → ¬ FRe n (bdr n S) (F i) K) ∧ ShV n S ax dn m F V (hv q (B + 242)) := ⟨_, rfl⟩
  have ok : MOk2 gv B n (bdr n S) 1 (fun c _ => c = B + 242) WF WI (fgoW B) := by
    refine ⟨fun mm F K fst d hd V K1 q lq w hK1 hV r => ?_, fun mm F K q fst nw w => ?_, fun mm F K V q fst v1 w => ?_, fun mm F K V q q' w g => ?_, fun mm F q q' w g => ?_, fun c k z => ?_⟩
    · rw [eWI] at w
      obtain ⟨w1, w2, w3⟩ := w
      have w1' := w1
      obtain ⟨a1, a2, k0, hk0, fr⟩ := w1'
      obtain ⟨q', eq', gq, vq⟩ := c_visitSh (gv := gv) (d := d) (K := K1) (face := (mm : Int)) lq (by omega) a1 hk0 fr
      refine ⟨q', eq', gq, ?_⟩
      rw [eWI]
      refine ⟨w1.agr gq (fun c k _ _ z => by omega), w2, fun p u v hp hu hv' => ⟨fun z => ?_, fun z => ?_⟩⟩
      · obtain ⟨s1, s2⟩ := (w3 p u v hp hu hv').1 z
        obtain ⟨f1, f2⟩ := ff_bdr hax hdn hp hu hv' z
        have ek : hv q (B + 243) (ixV n p u v) = ((ffK n S ax dn p u v : Nat) : Int) := by rw [a2 p u v hp hu hv']; unfold ffF; rw [if_pos z]
        by_cases y : ffK n S ax dn p u v = K1
        · have e1 := (vq (ixV n p u v)).1 ⟨⟨p, u, v, hp, hu, hv', rfl, z⟩, by rw [ek, y]⟩
          refine ⟨fun i hi ri => absurd ?_ (w2 i hi), fun _ => e1⟩
          rw [y] at ri
          exact ri.tr (r.sym fst.1 fst.2.1)
        · have e1 := (vq (ixV n p u v)).2 (fun x => y (by have := x.2; rw [ek] at this; omega))
          rw [e1]
          refine ⟨s1, fun x => s2 ?_⟩
          have x : (V (ffK n S ax dn p u v) || decide (ffK n S ax dn p u v = K1)) = true := x
          rw [decide_eq_false y, Bool.or_false] at x
          exact x
      · have ek : hv q (B + 243) (ixV n p u v) = -1 := by rw [a2 p u v hp hu hv']; unfold ffF; rw [if_neg z]
        rw [(vq (ixV n p u v)).2 (fun x => by have := x.2; rw [ek] at this; omega)]
        exact (w3 p u v hp hu hv').2 z
    · rw [eWF] at w
      rw [eWI]
      exact ⟨w.1, nw, w.2⟩
    · rw [eWI] at w
      obtain ⟨w1, w2, w3⟩ := w
      rw [eWF]
      refine ⟨w1, fun p u v hp hu hv' => ⟨fun z => ?_, (w3 p u v hp hu hv').2⟩⟩
      obtain ⟨s1, s2⟩ := (w3 p u v hp hu hv').1 z
      obtain ⟨f1, f2⟩ := ff_bdr hax hdn hp hu hv' z
      refine ⟨fun i hi ri => ?_, fun x => absurd x Bool.false_ne_true⟩
      have ri : FRe n (bdr n S) (if i = mm then K else F i) (ffK n S ax dn p u v) := ri
      by_cases y : i = mm
      · rw [if_pos y] at ri
        rw [y]
        exact s2 ((v1 _ f1).mpr ri)
      · rw [if_neg y] at ri
        exact s1 i (by omega) ri
    · rw [eWI] at w ⊢
      obtain ⟨w1, w2, w3⟩ := w
      refine ⟨w1.agr g (fun c k z1 _ z => by have := goW_lt z; omega), w2, ?_⟩
      have e : hv q' (B + 242) = hv q (B + 242) := funext (fun k => g.at _ _ (fun z => by have := goW_lt z; omega))
      rw [e]; exact w3
    · rw [eWF] at w ⊢
      obtain ⟨w1, w3⟩ := w
      refine ⟨w1.agr g (fun c k z1 _ z => by have := goW_lt z; omega), ?_⟩
      have e : hv q' (B + 242) = hv q (B + 242) := funext (fun k => g.at _ _ (fun z => by have := goW_lt z; omega))
      rw [e]; exact w3
    · subst z
      refine ⟨fun z => ?_, fun z => by have := goW_lt z; omega⟩
      unfold flN fdfW at z
      omega
  have wf : WF 0 (fun _ => 0) h := by
    rw [eWF]
    exact ⟨A, fun p u v hp hu hv' => ⟨fun _ => ⟨fun i hi => absurd hi (Nat.not_lt_zero i), fun x => absurd x Bool.false_ne_true⟩, fun _ => ini p u v hp hu hv'⟩⟩
  obtain ⟨h', eh, mm, F, t1, t2, t3, t4, t5, t6, t7⟩ := c_goOverFaces658 (gv := gv) (d := d) l hd hn0 hn m hs bS b9 ok wf
  rw [eWF] at t7
  refine ⟨h', eh, mm, F, ⟨t1, t2, t3, t4⟩, t5, t6, fun p u v hp hu hv' => ⟨fun z => ?_, (t7.2 p u v hp hu hv').2⟩⟩
  obtain ⟨f1, f2⟩ := ff_bdr (S := S) hax hdn hp hu hv' z
  obtain ⟨i, i1, i2⟩ := t1.has f1 f2
  exact ⟨i, i1, i2, ((t7.2 p u v hp hu hv').1 z).1 i i1 i2⟩
theorem kfM_neg {i : Nat} (z : hv h (B + 245) i < 0) : kfM B h i = -1 := by unfold kfM; rw [if_pos z]
theorem kf_agr {W : Nat → Nat → Prop} (g : Agr W h q) (h3 : ∀ k, ¬ W (B + 243) k) (h5 : ∀ k, ¬ W (B + 245) k) : kfM B q = kfM B h := funext (fun i => by
  unfold kfM
  rw [g.at _ _ (h5 i)]
  by_cases z : hv h (B + 245) i < 0
  · rw [if_pos z, if_pos z]
  · rw [if_neg z, if_neg z, g.at _ _ (h3 _)])
set_option maxHeartbeats 4000000 in
/-- the pieces are told, then shown -/
theorem c_viewGood {o : Int} {ax dn s : Nat} {u9 u10 : AV} {Q : Rs → Prop} (l : LX B n h) (hd : 37 ≤ d) (hn0 : 0 < n) (hn : n ≤ 52) (m : TbM B h) (pt : PtM B h) (hs : s < 19) (es : v806 o = (s : Int)) (bS : MB B n h s S) (b9 : BtM n h (B + 239) (fun _ => false)) (hax : ax < 3) (hdn : dn < 2)
    (K : ∀ x h', (∃ mm F, MFc B n h' s S mm F ∧ BtM n h' (B + 239) (fun _ => false) ∧ Agr (mvW B) h h' ∧ VwS n S ax dn mm F (hv h' (B + 242)) ∧ x = ((cntN (vwM n S ax dn) (8 * n * n) : Nat) : Int)) → Q ((0, (0, x)), h')) (u5 u6 u7 u8 : AV) :
    Ends (ev PP (gsF gv) B d 863 38 [(2, rf (B + 149)), (0, o), (0, (ax : Int)), (0, (dn : Int)), (0, 0), u5, u6, u7, u8, u9, u10] [] h) Q := by
  have hb0 := l.2.2
  have rl := rm_lt n
  have rg := rm_ge hn
  have n8 : 8 * n * n ≤ 21632 := (n88 hn).2
  have e16 : 16 * n * n = 2 * (8 * n * n) := by rw [show 16 * n = 2 * (8 * n) by omega, Nat.mul_assoc]
  have npos : 0 < 8 * n * n := Nat.mul_pos (by omega) hn0
  have k242 : hk h (B + 242) = (0 + 2, 8 * n * n) := lk_242 l
  -- slots
  have fill : ∀ (r j : Nat) (q : AH), j + r = rmN n → LX B n q → Agr (fun c _ => c = B + 245) h q → (∀ i, i < j → hv q (B + 245) i = -1) → (∀ q, LX B n q → Agr (fun c _ => c = B + 245) h q → (∀ i, i < rmN n → hv q (B + 245) i = -1) → Ends (ev PP (gsF gv) B d 863 68 [(2, rf (B + 149)), (0, o), (0, (ax : Int)), (0, (dn : Int)), (0, 0), (0, 0), u6, u7, u8, u9, u10] [] q) Q) → Ends (ev PP (gsF gv) B d 863 38 [(2, rf (B + 149)), (0, o), (0, (ax : Int)), (0, (dn : Int)), (0, (j : Int)), u5, u6, u7, u8, u9, u10] [] q) Q := by
    intro r
    induction r with
    | zero =>
      intro j q e lq g I k
      obtain rfl : rmN n = j := by omega
      exact Ends.eq (b863_38 lq (by omega)) (Ends.b3 (fun _ => k q lq g I) (fun z => absurd z (Int.lt_irrefl _)))
    | succ r ih =>
      intro j q e lq g I k
      refine Ends.eq (b863_38 lq (by omega)) (Ends.b3 (fun z => absurd z (by omega)) (fun _ => Ends.g ⟨by omega, by omega⟩ ?_))
      rw [tn, an0, w_succ (by omega)]
      refine ih (j + 1) _ (by omega) (LX.setS lq rfl) (g.set rfl) (fun i hi => ?_) k
      by_cases z : i = j
      · rw [z, hv_set_at]
      · rw [hv_set_ne (by omega)]; exact I i (by omega)
  refine fill (rmN n) 0 h (Nat.zero_add _) l Agr.rf (fun i hi => absurd hi (Nat.not_lt_zero i)) (fun h1 l1 g1 I1 => ?_)
  clear fill
  have ini : VnI B n h1 S ax dn 0 h1 := ⟨l1, Agr.rf, fun p u v _ _ _ hL => absurd hL (Nat.not_lt_zero _), ⟨fun i hi => ⟨by rw [I1 i hi]; omega, [], (by show hv h1 (B + 245) i < 0; rw [I1 i hi]; decide), fun k hk => absurd hk List.not_mem_nil, fun k ⟨p, u, v, _, _, _, z, _⟩ => absurd z (Nat.not_lt_zero _)⟩, ⟨fun k hk => Or.inl (kfM_neg (by rw [I1 k hk]; decide)), fun c ⟨k, ⟨p, u, v, _, _, _, z, _⟩, _⟩ => absurd z (Nat.not_lt_zero _)⟩, fun k ⟨p, u, v, _, _, _, z, _⟩ => absurd z (Nat.not_lt_zero _)⟩, by rw [cntN_none _ (fun i hi => by rw [kfM_neg (by rw [I1 i hi]; decide)]; rfl)]; exact Nat.zero_le _⟩
  -- pieces
  have vv : ∀ (p u : Nat), p < 8 → u < n → (∀ (q : AH) (u8 u9 u10 : AV), VnI B n h1 S ax dn (rw3 n p u n) q → VlM B q ax dn p → Ends (ev PP (gsF gv) B d 863 86 [(2, rf (B + 149)), (0, o), (0, (ax : Int)), (0, (dn : Int)), (0, ((cntN (vwM n S ax dn) (rw3 n p u n) : Nat) : Int)), (0, (p : Int)), (0, ((u + 1 : Nat) : Int)), (0, (n : Int)), u8, u9, u10] [] q) Q) → ∀ (r v : Nat) (q : AH) (u8 u9 u10 : AV), v + r = n → VnI B n h1 S ax dn (rw3 n p u v) q → VlM B q ax dn p → Ends (ev PP (gsF gv) B d 863 98 [(2, rf (B + 149)), (0, o), (0, (ax : Int)), (0, (dn : Int)), (0, ((cntN (vwM n S ax dn) (rw3 n p u v) : Nat) : Int)), (0, (p : Int)), (0, (u : Int)), (0, (v : Int)), u8, u9, u10] [] q) Q := by
    intro p u hp hu kn r
    induction r with
    | zero =>
      intro v q u8 u9 u10 e i ln
      have e : v = n := by omega
      subst e
      refine Ends.eq (b863_98 i.1 (by omega)) (Ends.b3 (fun _ => ?_) (fun z => absurd z (Int.lt_irrefl _)))
      rw [w_succ (by omega)]
      exact kn q _ _ _ i ln
    | succ r ih =>
      intro v q u8 u9 u10 e i ln
      have hv' : v < n := by omega
      obtain ⟨lq, gq, I, V, ct⟩ := i
      have ixl := ixV_lt hp hu hv'
      have rl8 := rw3_l8 hp hu hv'
      have lb : vwM n S ax dn (rw3 n p u v) = decide (ffP n S ax dn p u v < 5 * n) := by
        unfold vwM; rw [dec_t hu hv', dec_z hu hv', dec_y hv']
      have cs := cntN_s (vwM n S ax dn) (rw3 n p u v)
      rw [lb] at cs
      have cle := cntN_le (vwM n S ax dn) (rw3 n p u v)
      have bq : MB B n q s S := (bS.agr g1 (fun k _ z => by omega)).agr gq (fun k _ z => by unfold mkLW at z; omega)
      have next : ∀ (q' : AH) (x8 x9 : Int) (u10 : AV), VnI B n h1 S ax dn (rw3 n p u v + 1) q' → VlM B q' ax dn p → Ends (ev PP (gsF gv) B d 863 200 [(2, rf (B + 149)), (0, o), (0, (ax : Int)), (0, (dn : Int)), (0, ((cntN (vwM n S ax dn) (rw3 n p u v + 1) : Nat) : Int)), (0, (p : Int)), (0, (u : Int)), (0, (v : Int)), (0, x8), (0, x9), u10] [] q') Q := fun q' x8 x9 u10 i' ln' => by
        refine Ends.eq (b863_200 i'.1 (by omega)) ?_
        rw [w_succ (by omega)]
        exact ih (v + 1) q' _ _ _ (by omega) i' ln'
      refine Ends.eq (b863_98 lq (by omega)) (Ends.b3 (fun z => absurd z (by omega)) (fun _ => ?_))
      rw [es, ixV_is hn hp hu hv']
      refine Ends.ct lq (by decide +kernel) (by decide) (c_firstFacet636 lq (by omega) hn hs bq ln hax hdn hp hu hv') (fun x h2 l2 _ _ _ ⟨e2, ex⟩ => ?_)
      subst e2 ex
      refine Ends.eq (b863_139 l2 (by omega)) (Ends.g ⟨by omega, by omega⟩ ?_)
      rw [tn, an0, an0]
      have l3 : LX B n (hset (hset h2 (B + 242) (ixV n p u v) (-1)) (B + 243) (ixV n p u v) (ffF n S ax dn p u v)) := LX.setS (LX.setS l2 rfl) rfl
      have g3 : Agr (fun c k => (c = B + 242 ∨ c = B + 243) ∧ k = ixV n p u v) h2 (hset (hset h2 (B + 242) (ixV n p u v) (-1)) (B + 243) (ixV n p u v) (ffF n S ax dn p u v)) := (Agr.rf.set ⟨Or.inl rfl, rfl⟩).set ⟨Or.inr rfl, rfl⟩
      have v3 : hv (hset (hset h2 (B + 242) (ixV n p u v) (-1)) (B + 243) (ixV n p u v) (ffF n S ax dn p u v)) (B + 243) (ixV n p u v) = ffF n S ax dn p u v := hv_set_at ..
      have v2 : hv (hset (hset h2 (B + 242) (ixV n p u v) (-1)) (B + 243) (ixV n p u v) (ffF n S ax dn p u v)) (B + 242) (ixV n p u v) = -1 := by rw [hv_set_ne (by omega), hv_set_at]
      generalize hset (hset h2 (B + 242) (ixV n p u v) (-1)) (B + 243) (ixV n p u v) (ffF n S ax dn p u v) = q3 at *
      have nP : ∀ k, (∃ p' u' v', p' < 8 ∧ u' < n ∧ v' < n ∧ rw3 n p' u' v' < rw3 n p u v ∧ k = ixV n p' u' v' ∧ ffP n S ax dn p' u' v' < 5 * n) → k ≠ ixV n p u v := fun k ⟨p', u', v', y1, y2, y3, y4, y5, _⟩ z => by
        obtain ⟨rfl, rfl, rfl⟩ := ixV_inj y1 y2 hp hu (y5.symm.trans z)
        exact absurd y4 (Nat.lt_irrefl _)
      have V3 := V.re (q := q3) (fun i _ => g3.at _ _ (by omega)) (fun k hk => g3.at _ _ (fun z => nP k hk z.2)) (fun k _ => g3.at _ _ (by omega))
      have kf3 := V.kf (q := q3) (fun i _ => g3.at _ _ (by omega)) (fun k hk => g3.at _ _ (fun z => nP k hk z.2))
      have ct3 : cntN (fun j => decide (kfM B q3 j ≠ -1)) (rmN n) ≤ cntN (vwM n S ax dn) (rw3 n p u v) := by
        rw [cntN_congr (g := fun j => decide (kfM B h2 j ≠ -1)) (rmN n) (fun i hi => by rw [kf3 i hi])]; exact ct
      have G3 : Agr (fun c k => mkLW B c k ∨ (B + 242 ≤ c ∧ c ≤ B + 245)) h1 q3 := gq.tr g3 (fun c k z => Or.inr (by omega))
      have ln3 : VlM B q3 ax dn p := ⟨by rw [g3.at _ _ (by omega)]; exact ln.1, fun k hk => ⟨by rw [g3.at _ _ (by omega)]; exact (ln.2 k hk).1, by rw [g3.at _ _ (by omega)]; exact (ln.2 k hk).2⟩⟩
      have I3 : ∀ p' u' v', p' < 8 → u' < n → v' < n → rw3 n p' u' v' < rw3 n p u v + 1 → hv q3 (B + 242) (ixV n p' u' v') = -1 ∧ hv q3 (B + 243) (ixV n p' u' v') = ffF n S ax dn p' u' v' := fun p' u' v' hp' hu' hv'' hL => by
        by_cases w : p' = p ∧ u' = u ∧ v' = v
        · obtain ⟨rfl, rfl, rfl⟩ := w; exact ⟨v2, v3⟩
        · have ne : ixV n p' u' v' ≠ ixV n p u v := fun z => w (ixV_inj hp' hu' hp hu z)
          rw [g3.at _ _ (fun z => ne z.2), g3.at _ _ (fun z => ne z.2)]
          refine I p' u' v' hp' hu' hv'' ?_
          rcases (by omega : rw3 n p' u' v' < rw3 n p u v ∨ rw3 n p' u' v' = rw3 n p u v) with y | y
          · exact y
          · exact absurd ((rw3_inj hu' hv'' hu hv').mp y) w
      by_cases z : ffP n S ax dn p u v < 5 * n
      · rw [decide_eq_true z, if_pos rfl] at cs
        have fF : ffF n S ax dn p u v = ((ffK n S ax dn p u v : Nat) : Int) := by unfold ffF; rw [if_pos z]
        refine Ends.b3 (fun _ => ?_) (fun y => by omega)
        obtain ⟨k0, hk0, e0⟩ := TbK.free (n := n) (K := kfM B q3) ct3 (by omega)
        refine Ends.ct l3 (by decide +kernel) (by decide) (c_slotOf835 (c := ffF n S ax dn p u v) l3 (by omega) (fun i hi => (V3.1 i hi).1) (by omega) (fun i hi y => (V3.pos hi y).1) hk0 e0) (fun x h4 l4 _ _ _ ⟨e4, k, ek, hk, sk⟩ => ?_)
        subst e4
        refine Ends.eq (b863_175 l4 (by omega)) ?_
        rw [ek, w_succ (by omega), tn, tn, an0, an0, ← cs]
        refine Ends.g ⟨by omega, by omega⟩ (Ends.g ⟨by omega, by omega⟩ ?_)
        have l5 : LX B n (hset (hset h4 (B + 244) (ixV n p u v) (hv h4 (B + 245) k)) (B + 245) k (ixV n p u v : Int)) := LX.setS (LX.setS l4 rfl) rfl
        have g5 : Agr (fun c j => (c = B + 244 ∧ j = ixV n p u v) ∨ (c = B + 245 ∧ j = k)) h4 (hset (hset h4 (B + 244) (ixV n p u v) (hv h4 (B + 245) k)) (B + 245) k (ixV n p u v : Int)) := (Agr.rf.set (Or.inl ⟨rfl, rfl⟩)).set (Or.inr ⟨rfl, rfl⟩)
        have v5 : hv (hset (hset h4 (B + 244) (ixV n p u v) (hv h4 (B + 245) k)) (B + 245) k (ixV n p u v : Int)) (B + 245) k = (ixV n p u v : Int) := hv_set_at ..
        have v4 : hv (hset (hset h4 (B + 244) (ixV n p u v) (hv h4 (B + 245) k)) (B + 245) k (ixV n p u v : Int)) (B + 244) (ixV n p u v) = hv h4 (B + 245) k := by rw [hv_set_ne (by omega), hv_set_at]
        generalize hset (hset h4 (B + 244) (ixV n p u v) (hv h4 (B + 245) k)) (B + 245) k (ixV n p u v : Int) = q5 at *
        obtain ⟨V5, c5⟩ := V3.put (q := q5) (ix := ixV n p u v) (k := k) (fun y => nP _ y rfl) ixl (by rw [v3]; omega) hk (by rw [v3]; exact sk) (fun j => g5.at _ _ (by omega)) v4 (fun j hj => g5.at _ _ (by omega)) v5 (fun j hj => g5.at _ _ (by omega))
        refine next q5 _ _ _ ⟨l5, G3.tr g5 (fun c j w => Or.inr (by omega)), fun p' u' v' h1' h2' h3' h4' => by rw [g5.at _ _ (by omega), g5.at _ _ (by omega)]; exact I3 p' u' v' h1' h2' h3' h4', ?_, by rw [cs]; exact Nat.le_trans c5 (Nat.succ_le_succ ct3)⟩ ⟨by rw [g5.at _ _ (by omega)]; exact ln3.1, fun k hk => ⟨by rw [g5.at _ _ (by omega)]; exact (ln3.2 k hk).1, by rw [g5.at _ _ (by omega)]; exact (ln3.2 k hk).2⟩⟩
        rw [show (fun j => (∃ p' u' v', p' < 8 ∧ u' < n ∧ v' < n ∧ rw3 n p' u' v' < rw3 n p u v ∧ j = ixV n p' u' v' ∧ ffP n S ax dn p' u' v' < 5 * n) ∨ j = ixV n p u v) = (fun j => ∃ p' u' v', p' < 8 ∧ u' < n ∧ v' < n ∧ rw3 n p' u' v' < rw3 n p u v + 1 ∧ j = ixV n p' u' v' ∧ ffP n S ax dn p' u' v' < 5 * n) from funext (fun j => propext ⟨?_, ?_⟩)] at V5
        · exact V5
        · rintro (⟨p', u', v', y1, y2, y3, y4, y5, y6⟩ | y)
          · exact ⟨p', u', v', y1, y2, y3, by omega, y5, y6⟩
          · exact ⟨p, u, v, hp, hu, hv', by omega, y, z⟩
        · rintro ⟨p', u', v', y1, y2, y3, y4, y5, y6⟩
          rcases (by omega : rw3 n p' u' v' < rw3 n p u v ∨ rw3 n p' u' v' = rw3 n p u v) with y | y
          · exact Or.inl ⟨p', u', v', y1, y2, y3, y, y5, y6⟩
          · obtain ⟨rfl, rfl, rfl⟩ := (rw3_inj y2 y3 hu hv').mp y
            exact Or.inr y5
      · rw [decide_eq_false z, if_neg (by decide)] at cs
        have fF : ffF n S ax dn p u v = -1 := by unfold ffF; rw [if_neg z]
        refine Ends.b3 (fun y => by omega) (fun _ => ?_)
        rw [show cntN (vwM n S ax dn) (rw3 n p u v) = cntN (vwM n S ax dn) (rw3 n p u v + 1) from cs.symm]
        refine next q3 _ _ _ ⟨l3, G3, I3, ?_, by rw [show cntN (vwM n S ax dn) (rw3 n p u v + 1) = cntN (vwM n S ax dn) (rw3 n p u v) from cs]; exact ct3⟩ ln3
        rw [show (fun j => ∃ p' u' v', p' < 8 ∧ u' < n ∧ v' < n ∧ rw3 n p' u' v' < rw3 n p u v + 1 ∧ j = ixV n p' u' v' ∧ ffP n S ax dn p' u' v' < 5 * n) = (fun j => ∃ p' u' v', p' < 8 ∧ u' < n ∧ v' < n ∧ rw3 n p' u' v' < rw3 n p u v ∧ j = ixV n p' u' v' ∧ ffP n S ax dn p' u' v' < 5 * n) from funext (fun j => propext ⟨?_, ?_⟩)]
        · exact V3
        · rintro ⟨p', u', v', y1, y2, y3, y4, y5, y6⟩
          rcases (by omega : rw3 n p' u' v' < rw3 n p u v ∨ rw3 n p' u' v' = rw3 n p u v) with y | y
          · exact ⟨p', u', v', y1, y2, y3, y, y5, y6⟩
          · obtain ⟨rfl, rfl, rfl⟩ := (rw3_inj y2 y3 hu hv').mp y
            exact absurd y6 z
        · rintro ⟨p', u', v', y1, y2, y3, y4, y5, y6⟩
          exact ⟨p', u', v', y1, y2, y3, by omega, y5, y6⟩
  have uu : ∀ (p : Nat), p < 8 → (∀ (q : AH) (u7 u8 u9 u10 : AV), VnI B n h1 S ax dn (rw3 n p n 0) q → Ends (ev PP (gsF gv) B d 863 68 [(2, rf (B + 149)), (0, o), (0, (ax : Int)), (0, (dn : Int)), (0, ((cntN (vwM n S ax dn) (rw3 n p n 0) : Nat) : Int)), (0, ((p + 1 : Nat) : Int)), (0, (n : Int)), u7, u8, u9, u10] [] q) Q) → ∀ (r u : Nat) (q : AH) (u7 u8 u9 u10 : AV), u + r = n → VnI B n h1 S ax dn (rw3 n p u 0) q → VlM B q ax dn p → Ends (ev PP (gsF gv) B d 863 86 [(2, rf (B + 149)), (0, o), (0, (ax : Int)), (0, (dn : Int)), (0, ((cntN (vwM n S ax dn) (rw3 n p u 0) : Nat) : Int)), (0, (p : Int)), (0, (u : Int)), u7, u8, u9, u10] [] q) Q := by
    intro p hp kn r
    induction r with
    | zero =>
      intro u q u7 u8 u9 u10 e i ln
      have e : u = n := by omega
      subst e
      refine Ends.eq (b863_86 i.1 (by omega)) (Ends.b3 (fun _ => ?_) (fun z => absurd z (Int.lt_irrefl _)))
      rw [w_succ (by omega)]
      exact kn q _ _ _ _ i
    | succ r ih =>
      intro u q u7 u8 u9 u10 e i ln
      refine Ends.eq (b863_86 i.1 (by omega)) (Ends.b3 (fun z => absurd z (by omega)) (fun _ => ?_))
      exact vv p u hp (by omega) (fun q u8 u9 u10 i ln => by
        rw [← rw3_z] at i ⊢
        exact ih (u + 1) q _ _ _ _ (by omega) i ln) n 0 q _ _ _ (Nat.zero_add _) i ln
  have tq : ∀ {q : AH} {L : Nat}, VnI B n h1 S ax dn L q → TbM B q ∧ PtM B q := fun i => by
    obtain ⟨i1, i2, -⟩ := i
    exact ⟨(m.agr g1 (fun c k _ _ _ z => by omega)).agr i2 (fun c k _ _ _ z => by unfold mkLW at z; omega), fun k hk => ⟨by rw [i2.at _ _ (by unfold mkLW; omega), g1.at _ _ (by omega)]; exact (pt k hk).1, by rw [i2.at _ _ (by unfold mkLW; omega), g1.at _ _ (by omega)]; exact (pt k hk).2⟩⟩
  have pp : ∀ (r p : Nat) (q : AH) (u6 u7 u8 u9 u10 : AV), p + r = 8 → VnI B n h1 S ax dn (rw3 n p 0 0) q → (∀ (q : AH) (u6 u7 u8 u9 u10 : AV), VnI B n h1 S ax dn (rw3 n 8 0 0) q → Ends (ev PP (gsF gv) B d 863 68 [(2, rf (B + 149)), (0, o), (0, (ax : Int)), (0, (dn : Int)), (0, ((cntN (vwM n S ax dn) (rw3 n 8 0 0) : Nat) : Int)), (0, ((8 : Nat) : Int)), u6, u7, u8, u9, u10] [] q) Q) → Ends (ev PP (gsF gv) B d 863 68 [(2, rf (B + 149)), (0, o), (0, (ax : Int)), (0, (dn : Int)), (0, ((cntN (vwM n S ax dn) (rw3 n p 0 0) : Nat) : Int)), (0, (p : Int)), u6, u7, u8, u9, u10] [] q) Q := by
    intro r
    induction r with
    | zero =>
      intro p q u6 u7 u8 u9 u10 e i kn
      obtain rfl : p = 8 := by omega
      exact kn q _ _ _ _ _ i
    | succ r ih =>
      intro p q u6 u7 u8 u9 u10 e i kn
      obtain ⟨mq, pq⟩ := tq i
      refine Ends.eq (b863_68 i.1 (by omega)) (Ends.b3 (fun z => absurd z (by omega)) (fun _ => ?_))
      refine Ends.cv i.1 (by decide +kernel) (c_makeLine741 i.1 (by omega) mq pq hax hdn (by omega)) (fun q2 l2 _ _ _ ⟨g2, ln⟩ => ?_)
      refine Ends.eq (b863_83 l2 (by omega)) ?_
      obtain ⟨lq, gq, I, V, ct⟩ := i
      have kf2 := kf_agr (B := B) g2 (fun k => by unfold mkLW; omega) (fun k => by unfold mkLW; omega)
      refine uu p (by omega) (fun q u7 u8 u9 u10 i => by
        rw [← rw3_t] at i ⊢
        exact ih (p + 1) q _ _ _ _ _ (by omega) i kn) n 0 q2 _ _ _ _ (Nat.zero_add _) ⟨l2, gq.tr g2 (fun c k z => Or.inl z), fun p u v h1 h2 h3 h4 => by rw [g2.at _ _ (by unfold mkLW; omega), g2.at _ _ (by unfold mkLW; omega)]; exact I p u v h1 h2 h3 h4, V.re (fun i _ => g2.at _ _ (by unfold mkLW; omega)) (fun k _ => g2.at _ _ (by unfold mkLW; omega)) (fun k _ => g2.at _ _ (by unfold mkLW; omega)), by rw [kf2]; exact ct⟩ ln
  have z0 : rw3 n 0 0 0 = 0 := by unfold rw3; simp
  have z8 : rw3 n 8 0 0 = 8 * n * n := by unfold rw3; simp
  have st := pp 8 0 h1 u6 u7 u8 u9 u10 rfl (by rw [z0]; exact ini)
  rw [z0] at st
  refine st (fun q u6 u7 u8 u9 u10 i => ?_)
  clear st uu vv pp
  rw [z8] at i
  rw [z8]
  obtain ⟨mq, pq⟩ := tq i
  obtain ⟨lq, gq, I, V, ct⟩ := i
  have cle := cntN_le (vwM n S ax dn) (8 * n * n)
  obtain ⟨k0, hk0, e0⟩ := TbK.free (n := n) (K := kfM B q) ct (by omega)
  have A : VnA B n S ax dn q := by
    refine ⟨?_, fun p u v hp hu hv' => (I p u v hp hu hv' (rw3_l8 hp hu hv')).2, k0, hk0, e0⟩
    rw [show (fun k => ∃ p u v, p < 8 ∧ u < n ∧ v < n ∧ k = ixV n p u v ∧ ffP n S ax dn p u v < 5 * n) = (fun k => ∃ p u v, p < 8 ∧ u < n ∧ v < n ∧ rw3 n p u v < 8 * n * n ∧ k = ixV n p u v ∧ ffP n S ax dn p u v < 5 * n) from funext (fun j => propext ⟨?_, ?_⟩)]
    · exact V
    · rintro ⟨p', u', v', y1, y2, y3, y5, y6⟩
      exact ⟨p', u', v', y1, y2, y3, rw3_l8 y1 y2 y3, y5, y6⟩
    · rintro ⟨p', u', v', y1, y2, y3, y4, y5, y6⟩
      exact ⟨p', u', v', y1, y2, y3, y5, y6⟩
  have bq : MB B n q s S := (bS.agr g1 (fun k _ z => by omega)).agr gq (fun k _ z => by unfold mkLW at z; omega)
  have b9q : BtM n q (B + 239) (fun _ => false) := (b9.agr g1 (fun k z => by omega)).agr gq (fun k z => by unfold mkLW at z; omega)
  refine Ends.eq (b863_68 lq (by omega)) (Ends.b3 (fun _ => ?_) (fun z => absurd z (by decide)))
  rw [es]
  refine Ends.cv lq (by decide +kernel) (c_showAll lq (by omega) hn0 hn mq hs bq b9q hax hdn A (fun p u v hp hu hv' => (I p u v hp hu hv' (rw3_l8 hp hu hv')).1)) (fun t lt _ _ _ ⟨mm, F, t1, t2, t3, t4⟩ => ?_)
  refine Ends.eq (b863_227 lt (by omega)) (Ends.sm (K _ _ ⟨mm, F, t1, t2, ?_, t4, rfl⟩))
  refine ((g1.sub (fun c k z => ?_)).tr gq (fun c k z => ?_)).tr t3 (fun c k z => ?_)
  · unfold mvW; omega
  · rcases z with z | z
    · exact Or.inr (Or.inl z)
    · exact Or.inr (Or.inr z)
  · rcases z with z | z
    · exact Or.inl z
    · exact Or.inr (Or.inr (by omega))
variable {is : Nat → Bool} {SS : Nat → Nat → Bool}
theorem c_view863 {o a : Int} {dn : Nat} (l : LX B n h) (hd : 40 ≤ d) (hn0 : 0 < n) (hn : n ≤ 52) (m : TbM B h) (pt : PtM B h) (bd : BdM B n h is SS) (b9 : BtM n h (B + 239) (fun _ => false)) (hdn : dn < 2) :
    Vt 0 (cll PP (ev PP (gsF gv) B) d 863 [(2, rf (B + 149)), (0, o), (0, a), (0, (dn : Int))] h) (fun x h' => (thS is o = false ∧ MdA B h 1 x h') ∨ (thS is o = true ∧ ¬ (0 ≤ a ∧ a ≤ 2) ∧ MdA B h 2 x h') ∨ (thS is o = true ∧ (0 ≤ a ∧ a ≤ 2) ∧ ∃ mm F, MFc B n h' (rwS o) (SS (rwS o)) mm F ∧ BtM n h' (B + 239) (fun _ => false) ∧ Agr (mvW B) (hset h (B + 149) 0 0) h' ∧ VwS n (SS (rwS o)) a.toNat dn mm F (hv h' (B + 242)) ∧ x = ((cntN (vwM n (SS (rwS o)) a.toNat dn) (8 * n * n) : Nat) : Int))) := by
  refine Vt.inq (D := 39) hd (Nat.le_of_ble_eq_true rfl) rfl (fun d hd P K => ?_)
  refine Ends.eq (b863_0 (n := n) (by (repeat' first | assumption | refine LX.setF _ _ ?_ (by decide +kernel) | refine LX.setS ?_ rfl | refine LX.setA ?_ (by first | assumption | omega))) (by first | assumption | omega)) ?_
  obtain ⟨v1, v2⟩ := v765_is (o := o) (fun i hi => (bd.1 i hi).1)
  refine Ends.g v1 ?_
  rw [v2, ct0, ct2, ct5]
  have bad : ∀ (c : Nat), c ≠ 0 → P ((0, (0, 0)), hset h (B + 149) 0 (c : Int)) → Ends (ev PP (gsF gv) B d 863 30 [(2, rf (B + 149)), (0, o), (0, a), (0, (dn : Int)), (9, 0), (9, 0), (9, 0), (9, 0), (9, 0), (9, 0), (9, 0)] [(0, 1)] (hset h (B + 149) 0 (c : Int))) P := fun c hc q => by
    have l2 : LX B n (hset h (B + 149) 0 (c : Int)) := LX.setF 149 0 l (by decide +kernel)
    refine Ends.eq (b863_30 (n := n) (by (repeat' first | assumption | refine LX.setF _ _ ?_ (by decide +kernel) | refine LX.setS ?_ rfl | refine LX.setA ?_ (by first | assumption | omega))) (by first | assumption | omega)) ?_
    exact Ends.b0 (fun z => absurd z (by decide)) (fun _ => Ends.sm q)
  cases ho : thS is o
  · rw [if_neg (show ¬ (if false = true then (0 : Int) else 1) = 0 by decide)]
    exact Ends.mbad l (by omega) (c := 1) (by decide) rfl (bad 1 (by decide) (K _ _ (Or.inl ⟨ho, rfl, rfl⟩)))
  rw [if_pos (show (if true = true then (0 : Int) else 1) = 0 by decide)]
  by_cases hp : 0 ≤ a ∧ a ≤ 2
  rotate_left
  · rw [show (if a < 0 then (2 : Int) else if 2 < a then 2 else 0) = ((2 : Nat) : Int) from by
      by_cases w1 : a < 0
      · rw [if_pos w1]; rfl
      rw [if_neg w1, if_pos (by omega)]; rfl]
    exact Ends.mbad l (by omega) (c := 2) (by decide) rfl (bad 2 (by decide) (K _ _ (Or.inr (Or.inl ⟨ho, hp, rfl, rfl⟩))))
  rw [if_neg (show ¬ a < 0 by omega), if_neg (show ¬ 2 < a by omega)]
  refine Ends.mok l (by omega) rfl ?_
  have l2 : LX B n (hset h (B + 149) 0 0) := LX.setF 149 0 l (by decide +kernel)
  have g2 : Agr (fun c k => c = B + 149 ∧ k = 0) h (hset h (B + 149) 0 0) := Agr.rf.set ⟨rfl, rfl⟩
  obtain ⟨s1, s2⟩ := (bd.fset 0 0).sol ho
  obtain ⟨ax, eax⟩ : ∃ ax : Nat, a = (ax : Int) := ⟨a.toNat, by omega⟩
  subst eax
  rw [tn] at K
  refine Ends.eq (b863_30 l2 (by omega)) (Ends.b0 (fun _ => ?_) (fun z => absurd rfl z))
  exact c_viewGood l2 (by omega) hn0 hn (m.agr g2 (fun c k _ _ _ w => by omega)) (fun k hk => ⟨by rw [g2.at _ _ (by omega)]; exact (pt k hk).1, by rw [g2.at _ _ (by omega)]; exact (pt k hk).2⟩) (by omega) (v806_is ho) s1 (b9.agr g2 (fun k w => by omega)) (by omega) hdn (fun x h' ⟨mm, F, y1, y2, y3, y4, y5⟩ => K _ _ (Or.inr (Or.inr ⟨ho, hp, mm, F, y1, y2, y3, y4, y5⟩))) _ _ _ _
end MV2
