/-! L3: chains of dimensions: plain law; the model's numbers at the ends -/
noncomputable section MST
variable {gv : Nat → Int} {B n d D : Nat} {h t : AH} {mk : Nat → Nat} {is : Nat → Bool} {SS : Nat → Nat → Bool} {VV : Nat → Nat → Int} {T : Nat → Bool} {G : Nat → Int} {st : Nat → Int}
theorem FnR.ex {mk dr : Nat → Int} {M : Nat} {a w i : Int} : ∃ v, FnR mk dr M a w i v := by
  by_cases z : ∃ k, k < M ∧ fnM mk dr a w k = true ∧ ((cntN (fnM mk dr a w) k : Nat) : Int) = i
  · obtain ⟨k, k1, k2, k3⟩ := z; exact ⟨_, Or.inl ⟨k, k1, k2, k3, rfl⟩⟩
  · exact ⟨_, Or.inr ⟨z, rfl⟩⟩
/-- the distances of all dimensions -/
def StR (n : Nat) (S : Nat → Bool) (mk : Nat → Nat) (D : Nat) (VV : Nat → Nat → Int) (st : Nat → Int) : Prop := ∀ mm F, FcL n (bdr n S) (4 * rw3 (8 * n) (8 * n) 0 0) mm F → ∀ i, i < D → DsR n mk F (min mm 4096) (VV i) (st i)
theorem StR.ex {S : Nat → Bool} : ∃ st, StR n S mk D VV st := by
  by_cases z : ∃ mm F, FcL n (bdr n S) (4 * rw3 (8 * n) (8 * n) 0 0) mm F
  · obtain ⟨mm, F, f⟩ := z
    have ex : ∀ i, ∃ r, DsR n mk F (min mm 4096) (VV i) r := fun i => by
      obtain ⟨a, ha⟩ := FnR.ex (mk := mmk mk F) (dr := mdr F) (M := min mm 4096) (a := VV i 0) (w := VV i 1) (i := VV i 2)
      obtain ⟨b, hb⟩ := FnR.ex (mk := mmk mk F) (dr := mdr F) (M := min mm 4096) (a := VV i 3) (w := VV i 4) (i := VV i 5)
      exact ⟨_, a, b, ha, hb, rfl⟩
    refine ⟨fun i => Classical.choose (ex i), fun mm' F' f' i hi => ?_⟩
    obtain ⟨em, eF⟩ := f.uniq f'
    subst em
    exact (Classical.choose_spec (ex i)).congr (fun k hk => (eF k (Nat.lt_of_lt_of_le hk (Nat.min_le_left _ _))).symm)
  · exact ⟨fun _ => 0, fun mm F f => absurd ⟨mm, F, f⟩ z⟩
/-- which dimensions are there -/
def thD (st : Nat → Int) (i : Nat) : Bool := decide (st i ≠ -1000000)
theorem thD_t {i : Nat} : thD st i = true ↔ st i ≠ -1000000 := by unfold thD; rw [decide_eq_true_eq]
theorem thD_f {i : Nat} : thD st i = false ↔ st i = -1000000 := by unfold thD; rw [decide_eq_false_iff_not]; omega
theorem lst_one {P : Nat → Prop} (x : ∃ k, P k) : ∃ k, P k ∧ ∀ j, j < k → ¬ P j := by
  obtain ⟨k, hk⟩ := x
  induction k using Nat.strongRecOn with
  | ind k ih =>
    by_cases z : ∃ j, j < k ∧ P j
    · obtain ⟨j, j1, j2⟩ := z; exact ih j j1 j2
    · exact ⟨k, hk, fun j hj y => z ⟨j, hj, y⟩⟩
/-- an end from which it goes on; the first one -/
def okG (D : Nat) (V : Nat → Nat → Int) (T : Nat → Bool) (G N : Nat → Int) (v k : Nat) : Prop := T (k / 2) = true ∧ isE V k N ∧ rcX D V T G v (twE k)
def FsE (D : Nat) (V : Nat → Nat → Int) (T : Nat → Bool) (G N : Nat → Int) (v k : Nat) : Prop := k < 2 * D ∧ okG D V T G N v k ∧ ∀ j, j < k → ¬ okG D V T G N v j
theorem FsE.uniq {N : Nat → Int} {v k k' : Nat} (x : FsE D VV T G N v k) (y : FsE D VV T G N v k') : k = k' := by
  rcases Nat.lt_trichotomy k k' with z | z | z
  · exact absurd x.2.1 (y.2.2 k z)
  · exact z
  · exact absurd y.2.1 (x.2.2 k' z)
theorem FsE.ex {N : Nat → Int} {v e : Nat} (ie : isE VV e N) (x : rcX D VV T G (v + 1) e) : ∃ k, FsE D VV T G N v k := by
  obtain ⟨f, f1, f2, f3, f4⟩ := x.step
  obtain ⟨k, k1, k2⟩ := lst_one (P := okG D VV T G N v) ⟨f, f3, fun k hk => (f2 k hk).symm.trans (ie k hk), f4⟩
  refine ⟨k, ?_, k1, k2⟩
  rcases Nat.lt_or_ge f k with z | z
  · exact absurd ⟨f3, fun k hk => (f2 k hk).symm.trans (ie k hk), f4⟩ (k2 f z)
  · omega
theorem rcX.sm {v e f : Nat} (x : rcX D VV T G v e) (s : sE VV e f) : rcX D VV T G v f := ⟨x.1.sm s, fun w hw y => x.2 w hw (y.sm s.sy)⟩
/-- what an end's dimension adds -/
def sgE (st : Nat → Int) (k : Nat) : Int := if k % 2 = 0 then st (k / 2) else uop 0 (st (k / 2))
def stpE (V : Nat → Nat → Int) (st : Nat → Int) (what : Int) (k : Nat) : Int := if what = 0 then sgE st k else if what = 1 then bop32 100 (sgE st k) (V (k / 2) (if sgE st k < 0 then 7 else 6)) else bop32 96 (sgE st k) (V (k / 2) (if sgE st k < 0 then 6 else 7))
/-- the sum along the way from a name -/
def ChR (D : Nat) (V : Nat → Nat → Int) (T : Nat → Bool) (G st : Nat → Int) (what : Int) : Nat → (Nat → Int) → Int → Int → Prop
  | 0, _, s, r => r = s
  | v + 1, N, s, r => ∃ k, FsE D V T G N v k ∧ ChR D V T G st what v (fun j => wyN V (twE k) j) (bop32 96 s (stpE V st what k)) r
theorem ChR.uniq {what : Int} : ∀ {v : Nat} {N : Nat → Int} {s r r' : Int}, ChR D VV T G st what v N s r → ChR D VV T G st what v N s r' → r = r'
  | 0, N, s, r, r', x, y => by
    have x : r = s := x
    have y : r' = s := y
    rw [x, y]
  | v + 1, N, s, r, r', ⟨k, k1, k2⟩, ⟨k', l1, l2⟩ => by
    have e := k1.uniq l1
    subst e
    exact ChR.uniq k2 l2
/-- what a chain from A to G answers; there is none -/
def ChZ (D : Nat) (V : Nat → Nat → Int) (st A G : Nat → Int) (what x : Int) : Prop := ((∀ k, k < 3 → A k = G k) ∧ x = 0) ∨ ((¬ ∀ k, k < 3 → A k = G k) ∧ ∃ e v, e < 2 * D ∧ isE V e A ∧ rcX D V (thD st) G v e ∧ ChR D V (thD st) G st what v A 0 x)
def ChN (D : Nat) (V : Nat → Nat → Int) (st A G : Nat → Int) : Prop := (¬ ∀ k, k < 3 → A k = G k) ∧ ∀ e, e < 2 * D → isE V e A → ∀ v, ¬ rc D V (thD st) G v e
theorem ChZ.uniq {A : Nat → Int} {what x y : Int} (a : ChZ D VV st A G what x) (b : ChZ D VV st A G what y) : x = y := by
  rcases a with ⟨a1, a2⟩ | ⟨a1, e, v, a2, a3, a4, a5⟩
  · rcases b with ⟨b1, b2⟩ | ⟨b1, _⟩
    · rw [a2, b2]
    · exact absurd a1 b1
  · rcases b with ⟨b1, b2⟩ | ⟨b1, e', v', b2, b3, b4, b5⟩
    · exact absurd b1 a1
    · have ev' : v = v' := (a4.sm (fun k hk => (a3 k hk).trans (b3 k hk).symm)).uniq b4
      subst ev'
      exact a5.uniq b5
theorem ChZ.no {A : Nat → Int} {what x : Int} (a : ChZ D VV st A G what x) (b : ChN D VV st A G) : False := by
  rcases a with ⟨a1, a2⟩ | ⟨a1, e, v, a2, a3, a4, a5⟩
  · exact b.1 a1
  · exact b.2 e a2 a3 v a4.1
/-- asking whether a dimension is there, by its distance -/
theorem e_there719 {j pc nx i : Nat} {L rest : List AV} {Q : Rs → Prop} (l : LX B n h) (hd : 37 ≤ d) (hn0 : 0 < n) (hn : n ≤ 52) (tb : TbM B h) (bd : BdM B n h is SS) (f : FoM B n h SS) (M : MkM B n h mk) (dm : DmM B h D VV) (dg : DmG D VV) (S : StR n (SS 10) mk D VV st) (hi : i < D) (k : ∀ h', LX B n h' → Agr (itW B) h h' → FoM B n h' SS → (thD st i = true → hv h' (B + 149) 155 = st i ∧ (-1000 ≤ st i ∧ st i ≤ 1000)) → Ends (ev PP (gsF gv) B d j nx L ((0, if thD st i = true then 1 else 0) :: rest) h') Q) :
    Ends (aft PP j pc nx L rest (ev PP (gsF gv) B d j) (cll PP (ev PP (gsF gv) B) d 719 [(2, rf (B + 149)), (0, (i : Int))] h)) Q := by
  refine Ends.ct l (by decide +kernel) (by decide) (c_isThere719 l hd hn0 hn tb bd f M dm dg hi) (fun v h' l' _ _ _ ⟨mm, F, r, y1, y2, y3, y4, y5⟩ => ?_)
  have er : r = st i := y4.uniq (S mm F y1.1 i hi)
  rcases y5 with ⟨v0, z⟩ | ⟨v1, z1, z2⟩
  · have tf : thD st i = false := thD_f.mpr (by omega)
    have kk := k h' l' y3 y2 (fun y => by rw [tf] at y; exact absurd y Bool.false_ne_true)
    rw [tf, if_neg Bool.false_ne_true] at kk
    rw [v0]; exact kk
  · have tt : thD st i = true := thD_t.mpr (by omega)
    have kk := k h' l' y3 y2 (fun _ => ⟨by rw [z2, er], by omega⟩)
    rw [tt, if_pos rfl] at kk
    rw [v1]; exact kk
/-- what measuring the ends writes -/
def mstW (B : Nat) : Nat → Nat → Prop := fun c k => itW B c k ∨ (c = B + 228 ∧ k < 34)
theorem mstW_in {c k : Nat} (z : mstW B c k) : c = B + 188 ∨ c = B + 189 ∨ c = B + 190 ∨ c = B + 228 ∨ c = B + 238 ∨ c = B + 239 ∨ (c = B + 149 ∧ (74 ≤ k ∧ k ≤ 76 ∨ k = 85 ∨ k = 86 ∨ k = 88 ∨ k = 89 ∨ 153 ≤ k ∧ k ≤ 155)) := by
  unfold mstW at z
  rcases z with z | z
  · have := itW_in z; omega
  · omega
theorem msU {q : AH} (g : Agr (mstW B) h q) (tb : TbM B h) (bd : BdM B n h is SS) (M : MkM B n h mk) (dm : DmM B h D VV) : TbM B q ∧ BdM B n q is SS ∧ MkM B n q mk ∧ DmM B q D VV :=
  ⟨tb.agr g (fun c k a b _ z => by have := mstW_in z; omega), bd.agr g (fun k z => by have := mstW_in z; omega) (fun s k _ _ z => by have := mstW_in z; omega), M.agr g (fun k z => by have := mstW_in z; omega), by rw [g.at _ _ (fun z => by have := mstW_in z; omega)]; exact dm.1, dm.2.1, fun i k hi hk => by rw [g.at _ _ (fun z => by have := mstW_in z; omega)]; exact dm.2.2 i k hi hk⟩
theorem ms_at {q : AH} (g : Agr (itW B) h q) (e : Nat) : hv q (B + 228) e = hv h (B + 228) e := g.at _ _ (fun z => by have := itW_in z; omega)
theorem e2N {i s : Nat} (hi : i < 16) (hs : s < 3) : bop32 96 (bop32 104 (2 : Int) (i : Int)) (s : Int) = ((2 * i + s : Nat) : Int) := by
  rw [show bop32 104 (2 : Int) (i : Int) = ((2 * i : Nat) : Int) from mulNN (x := 2) (by omega), addNN (by omega)]
theorem e2T {i s : Nat} (hi : i < 16) (hs : s < 2) : bop32 100 (bop32 96 (bop32 104 (2 : Int) (i : Int)) (1 : Int)) (s : Int) = ((twE (2 * i + s) : Nat) : Int) := by
  rw [show bop32 96 (bop32 104 (2 : Int) (i : Int)) (1 : Int) = ((2 * i + 1 : Nat) : Int) from e2N (s := 1) hi (by decide), subNN (by omega) (by omega)]
  unfold twE
  by_cases z : s = 0
  · subst z; rw [if_pos (by omega)]; omega
  · have e1 : s = 1 := by omega
    subst e1
    rw [if_neg (by omega)]
theorem v692_ms {a i s : Nat} (dm : DmM B h D VV) (hi : i < D) (hs : s < 2) (ka : hk h a = (0 + 2, 3)) (I : ∀ k, k < 3 → hv h a k = G k) : q692 B h (v610 (i : Int) (s : Int)) (rf a) ∧ v692 B h (v610 (i : Int) (s : Int)) (rf a) = if isE VV (2 * i + s) G then 1 else 0 := by
  have x := v692_is (e := 2 * i + s) dm (by omega) ka I
  rw [show (2 * i + s) / 2 = i by omega, show (2 * i + s) % 2 = s by omega] at x
  exact x
theorem v807_ms {i s m t : Nat} (dm : DmM B h D VV) (hi : i < D) (hs : s < 2) (hm : m < D) (ht : t < 2) : q807 B h (v610 (m : Int) (t : Int)) (v610 (i : Int) (s : Int)) ∧ v807 B h (v610 (m : Int) (t : Int)) (v610 (i : Int) (s : Int)) = if sE VV (2 * m + t) (2 * i + s) then 1 else 0 := by
  have x := v807_is (e := 2 * m + t) (k := 2 * i + s) dm (by omega) (by omega)
  rw [show (2 * m + t) / 2 = m by omega, show (2 * m + t) % 2 = t by omega, show (2 * i + s) / 2 = i by omega, show (2 * i + s) % 2 = s by omega] at x
  exact x
/-- all ends at the goal are told so -/
def GlS (D : Nat) (V : Nat → Nat → Int) (st G f : Nat → Int) : Prop := ∀ e, e < 2 * D → thD st (e / 2) = true → isE V e G → f e ≤ 0
/-- within a pass -/
def PsM (B n D : Nat) (h : AH) (SS : Nat → Nat → Bool) (V : Nat → Nat → Int) (st G F0 : Nat → Int) (q : AH) (y : Int) : Prop := Agr (mstW B) h q ∧ FoM B n q SS ∧ FwS D V (thD st) G (hv q (B + 228)) ∧ GlS D V st G (hv q (B + 228)) ∧ ((y = 0 ∧ ∀ e, hv q (B + 228) e = F0 e) ∨ (y = 1 ∧ smF (hv q (B + 228)) (2 * D) + 1 ≤ smF F0 (2 * D)))
def stI (V : Nat → Nat → Int) (st G : Nat → Int) (e : Nat) : Int := if thD st (e / 2) = true then (if isE V e G then 0 else 1000) else 1000
theorem stI_is {i s : Nat} (hs : s < 2) {y2 v : Int} (ey : y2 = if thD st i = true then 1 else 0) (ev' : v = if isE VV (2 * i + s) G then 1 else 0) : cond (tst 0 y2 0) (1000 : Int) (cond (tst 0 v 0) 1000 0) = stI VV st G (2 * i + s) := by
  unfold stI
  rw [ct0, ct0, ey, ev', show (2 * i + s) / 2 = i by omega]
  by_cases t : thD st i = true
  · rw [if_pos t, if_pos t, if_neg (by decide)]
    by_cases z : isE VV (2 * i + s) G
    · rw [if_pos z, if_pos z, if_neg (by decide)]
    · rw [if_neg z, if_neg z, if_pos rfl]
  · rw [if_neg t, if_neg t, if_pos rfl]
theorem stI_fw {f : Nat → Int} (I : ∀ e, e < 2 * D → f e = stI VV st G e) : FwS D VV (thD st) G f ∧ GlS D VV st G f := by
  refine ⟨fun e he => ?_, fun e he te ie => ?_⟩
  · rw [I e he]
    unfold stI
    by_cases t : thD st (e / 2) = true
    · rw [if_pos t]
      by_cases z : isE VV e G
      · rw [if_pos z]; exact ⟨by omega, fun _ => z⟩
      · rw [if_neg z]; exact ⟨by omega, fun w => absurd w (by decide)⟩
    · rw [if_neg t]; exact ⟨by omega, fun w => absurd w (by decide)⟩
  · rw [I e he]
    unfold stI
    rw [if_pos te, if_pos ie]; exact Int.le_refl _
set_option maxHeartbeats 2000000 in
theorem c_measureSteps746 (l : LX B n h) (hd : 39 ≤ d) (hn0 : 0 < n) (hn : n ≤ 52) (tb : TbM B h) (bd : BdM B n h is SS) (f : FoM B n h SS) (M : MkM B n h mk) (dm : DmM B h D VV) (dg : DmG D VV) (S : StR n (SS 10) mk D VV st) (gl : ∀ k, k < 3 → hv h (B + 229) k = G k) :
    Vd (cll PP (ev PP (gsF gv) B) d 746 [(2, rf (B + 149))] h) (fun h' => FoM B n h' SS ∧ Agr (mstW B) h h' ∧ ∀ e, e < 2 * D → thD st (e / 2) = true → LvT D VV (thD st) G e (hv h' (B + 228) e)) := by
  have hb := l.2.2
  have d16 := dm.2.1
  refine Vd.inq (D := 38) hd (Nat.le_of_ble_eq_true rfl) rfl (fun d hd Q K => ?_)
  have there : ∀ {pc nx i : Nat} {L rest : List AV} {q : AH}, LX B n q → Agr (mstW B) h q → FoM B n q SS → i < D → (∀ q', LX B n q' → Agr (mstW B) h q' → FoM B n q' SS → hv q' (B + 228) = hv q (B + 228) → Ends (ev PP (gsF gv) B d 746 nx L ((0, if thD st i = true then 1 else 0) :: rest) q') Q) → Ends (aft PP 746 pc nx L rest (ev PP (gsF gv) B d 746) (cll PP (ev PP (gsF gv) B) d 719 [(2, rf (B + 149)), (0, (i : Int))] q)) Q := fun lq g fq hi k => by
    obtain ⟨tb2, bd2, M2, dm2⟩ := msU g tb bd M dm
    exact e_there719 lq (by omega) hn0 hn tb2 bd2 fq M2 dm2 dg S hi (fun q' l' g' f' _ => k q' l' (g.tr g' (fun c k z => Or.inl z)) f' (funext (ms_at g')))
  have cnt : ∀ {q : AH}, Agr (mstW B) h q → hv q (B + 149) 152 = (D : Int) := fun g => (msU g tb bd M dm).2.2.2.1
  have glq : ∀ {q : AH}, Agr (mstW B) h q → ∀ k, k < 3 → hv q (B + 229) k = G k := fun g k hk => by rw [g.at _ _ (fun z => by have := mstW_in z; omega)]; exact gl k hk
  -- a number is told at an end
  have put : ∀ {q : AH} {e : Nat} {v : Int}, LX B n q → Agr (mstW B) h q → FoM B n q SS → e < 34 → LX B n (hset q (B + 228) e v) ∧ Agr (mstW B) h (hset q (B + 228) e v) ∧ FoM B n (hset q (B + 228) e v) SS := fun lq g fq he => by
    refine ⟨LX.setS lq rfl, g.set (Or.inr ⟨rfl, he⟩), ?_⟩
    exact fq.agr (Agr.rf.set (W := fun c k => c = B + 228) rfl) (fun k => by omega) (by omega) (by omega) (fun k => by omega)
  -- the passes
  have passes : ∀ (N : Nat) (q : AH) (u2 u3 u4 u5 u6 : AV), smF (hv q (B + 228)) (2 * D) ≤ N → LX B n q → Agr (mstW B) h q → FoM B n q SS → FwS D VV (thD st) G (hv q (B + 228)) → GlS D VV st G (hv q (B + 228)) → Ends (ev PP (gsF gv) B d 746 72 [(2, rf (B + 149)), (0, 1), u2, u3, u4, u5, u6] [] q) Q := by
    intro N
    induction N using Nat.strongRecOn with
    | ind N ihN =>
    intro q u2 u3 u4 u5 u6 hN lq g fq s gs'
    refine Ends.eq (b746_72 lq (by omega)) (Ends.b0 (fun z => absurd z (by decide)) (fun _ => ?_))
    obtain ⟨F0, eF0⟩ : ∃ F0 : Nat → Int, F0 = hv q (B + 228) := ⟨_, rfl⟩
    obtain ⟨P, eP⟩ : ∃ P : AH → Int → Prop, P = PsM B n D h SS VV st G F0 := ⟨_, rfl⟩
    have Pg : ∀ {q1 : AH} {y : Int}, P q1 y → Agr (mstW B) h q1 ∧ FoM B n q1 SS ∧ FwS D VV (thD st) G (hv q1 (B + 228)) ∧ GlS D VV st G (hv q1 (B + 228)) := fun p => by rw [eP] at p; exact ⟨p.1, p.2.1, p.2.2.1, p.2.2.2.1⟩
    have Pit : ∀ {q1 q2 : AH} {y : Int}, P q1 y → Agr (mstW B) h q2 → FoM B n q2 SS → hv q2 (B + 228) = hv q1 (B + 228) → P q2 y := fun p g2 f2 e => by
      rw [eP] at p ⊢
      obtain ⟨p1, p2, p3, p4, p5⟩ := p
      exact ⟨g2, f2, by rw [e]; exact p3, by rw [e]; exact p4, by rw [e]; exact p5⟩
    -- the end of a pass
    have fin : ∀ (q1 : AH) (y : Int) (v2 v3 v4 v5 v6 : AV), LX B n q1 → P q1 y → (y = 0 → ∀ k', k' < 2 * D → thD st (k' / 2) = true → ∀ e, e < 2 * D → thD st (e / 2) = true → sE VV e k' → F0 e ≤ F0 (twE k') + 1) → Ends (ev PP (gsF gv) B d 746 72 [(2, rf (B + 149)), (0, y), v2, v3, v4, v5, v6] [] q1) Q := fun q1 y v2 v3 v4 v5 v6 l1 p dn => by
      rw [eP] at p
      obtain ⟨p1, p2, p3, p4, p5⟩ := p
      rcases p5 with ⟨y0, p5⟩ | ⟨y1, p5⟩
      · have fx : FxS D VV (thD st) G (hv q1 (B + 228)) := ⟨fun e he te ie => p4 e he te ie, fun k e hk he tk te se => by rw [p5 e, p5 (twE k)]; exact dn y0 k hk tk e he te se⟩
        rw [y0]
        exact Ends.eq (b746_72 l1 (by omega)) (Ends.b0 (fun _ => Ends.sm (K _ ⟨p2, p1, fun e he te => fx.lv d16 p3 he te⟩)) (fun z => absurd rfl z))
      · rw [y1]
        rw [eF0] at p5
        exact ihN (smF (hv q1 (B + 228)) (2 * D)) (by omega) q1 _ _ _ _ _ (Nat.le_refl _) l1 p1 p2 p3 p4
    have ns : ∀ (r i : Nat) (q1 : AH) (y : Int) (v3 v4 v5 v6 : AV), i + r = D → LX B n q1 → P q1 y → (y = 0 → ∀ k', k' < 2 * i → thD st (k' / 2) = true → ∀ e, e < 2 * D → thD st (e / 2) = true → sE VV e k' → F0 e ≤ F0 (twE k') + 1) → Ends (ev PP (gsF gv) B d 746 80 [(2, rf (B + 149)), (0, y), (0, (i : Int)), v3, v4, v5, v6] [] q1) Q := by
      intro r
      induction r with
      | zero =>
        intro i q1 y v3 v4 v5 v6 e l1 p dn
        obtain rfl : i = D := by omega
        refine Ends.eq (b746_80 l1 (by omega)) ?_
        rw [cnt (Pg p).1]
        exact Ends.b3 (fun _ => fin q1 y _ _ _ _ _ l1 p dn) (fun z => absurd z (Int.lt_irrefl _))
      | succ r ih =>
        intro i q1 y v3 v4 v5 v6 e l1 p dn
        have hi : i < D := by omega
        refine Ends.eq (b746_80 l1 (by omega)) ?_
        rw [cnt (Pg p).1]
        refine Ends.b3 (fun z => by omega) (fun _ => there l1 (Pg p).1 (Pg p).2.1 hi (fun q2 l2 g2 f2 e2 => ?_))
        have p2 := Pit p g2 f2 e2
        have next : ∀ (q3 : AH) (y3 : Int) (v3 v4 v5 v6 : AV), LX B n q3 → P q3 y3 → (y3 = 0 → ∀ k', k' < 2 * (i + 1) → thD st (k' / 2) = true → ∀ e, e < 2 * D → thD st (e / 2) = true → sE VV e k' → F0 e ≤ F0 (twE k') + 1) → Ends (ev PP (gsF gv) B d 746 222 [(2, rf (B + 149)), (0, y3), (0, (i : Int)), v3, v4, v5, v6] [] q3) Q := fun q3 y3 v3 v4 v5 v6 l3 p3 dn3 => by
          refine Ends.eq (b746_222 l3 (by omega)) ?_
          rw [w_succ (i := i) (by omega)]
          exact ih (i + 1) q3 y3 _ _ _ _ (by omega) l3 p3 dn3
        refine Ends.eq (b746_93 l2 (by omega)) ?_
        by_cases ti : thD st i = true
        rotate_left
        · rw [if_neg ti]
          refine Ends.b1 (fun z => absurd rfl z) (fun _ => next q2 y _ _ _ _ l2 p2 (fun y0 k' hk' tk => ?_))
          rcases (by omega : k' < 2 * i ∨ k' / 2 = i) with z | z
          · exact dn y0 k' z tk
          · rw [z] at tk; exact absurd tk ti
        rw [if_pos ti]
        refine Ends.b1 (fun _ => ?_) (fun z => absurd z (by decide))
        have ss : ∀ (r s : Nat) (q1 : AH) (y : Int) (v4 v5 v6 : AV), s + r = 2 → LX B n q1 → P q1 y → (y = 0 → ∀ k', k' < 2 * i + s → thD st (k' / 2) = true → ∀ e, e < 2 * D → thD st (e / 2) = true → sE VV e k' → F0 e ≤ F0 (twE k') + 1) → Ends (ev PP (gsF gv) B d 746 101 [(2, rf (B + 149)), (0, y), (0, (i : Int)), (0, (s : Int)), v4, v5, v6] [] q1) Q := by
          intro r
          induction r with
          | zero =>
            intro s q1 y v4 v5 v6 e l1 p dn
            obtain rfl : s = 2 := by omega
            exact Ends.eq (b746_101 l1 (by omega)) (Ends.b3 (fun _ => next q1 y _ _ _ _ l1 p dn) (fun z => absurd z (by decide)))
          | succ r ihs =>
            intro s q1 y v4 v5 v6 e l1 p dn
            have hs : s < 2 := by omega
            obtain ⟨k, ek⟩ : ∃ k, k = 2 * i + s := ⟨_, rfl⟩
            have hk2 : k < 2 * D := by omega
            have tk : thD st (k / 2) = true := by rw [show k / 2 = i by omega]; exact ti
            have tl := twE_lt (D := D) hk2
            obtain ⟨-, -, s1, -⟩ := Pg p
            obtain ⟨⟨t1, t2⟩, t3⟩ := s1 (twE k) tl
            refine Ends.eq (b746_101 l1 (by omega)) ?_
            rw [e2T (by omega) hs, ← ek, tn, show bop32 96 (hv q1 (B + 228) (twE k)) 1 = hv q1 (B + 228) (twE k) + 1 from add32 (by omega) (by omega)]
            refine Ends.b3 (fun z => by omega) (fun _ => Ends.g ⟨by omega, by omega⟩ ?_)
            obtain ⟨X, eX⟩ : ∃ X, X = hv q1 (B + 228) (twE k) + 1 := ⟨_, rfl⟩
            rw [← eX]
            have hX0 : 0 ≤ X := by omega
            have hXr : ∀ e, e < 2 * D → sE VV e k → X < 1000 → rc D VV (thD st) G X.toNat e := fun e he se w => by
              have r := t3 (by omega)
              rw [show X.toNat = (hv q1 (B + 228) (twE k)).toNat + 1 by omega]
              exact Or.inr ⟨k, hk2, se, tk, r⟩
            have hXF : y = 0 → X = F0 (twE k) + 1 := fun y0 => by
              rw [eP] at p
              rcases p.2.2.2.2 with ⟨_, p5⟩ | ⟨y1, _⟩
              · rw [eX, p5]
              · omega
            clear t1 t2 t3 s1 eX
            have ms : ∀ (r m : Nat) (q1 : AH) (y : Int) (v6 : AV), m + r = D → LX B n q1 → P q1 y → (y = 0 → X = F0 (twE k) + 1) → (y = 0 → ∀ k', k' < 2 * i + s → thD st (k' / 2) = true → ∀ e, e < 2 * D → thD st (e / 2) = true → sE VV e k' → F0 e ≤ F0 (twE k') + 1) → (y = 0 → ∀ e, e < 2 * m → thD st (e / 2) = true → sE VV e k → F0 e ≤ X) → Ends (ev PP (gsF gv) B d 746 125 [(2, rf (B + 149)), (0, y), (0, (i : Int)), (0, (s : Int)), (0, X), (0, (m : Int)), v6] [] q1) Q := by
              intro r
              induction r with
              | zero =>
                intro m q1 y v6 e l1 p xF dn dq
                obtain rfl : D = m := by omega
                refine Ends.eq (b746_125 l1 (by omega)) ?_
                rw [cnt (Pg p).1, w_succ (i := s) (by omega)]
                refine Ends.b3 (fun _ => ihs (s + 1) q1 y _ _ _ (by omega) l1 p (fun y0 k' hk' tk' e he te se => ?_)) (fun z => absurd z (Int.lt_irrefl _))
                rcases (by omega : k' < 2 * i + s ∨ k' = k) with z | z
                · exact dn y0 k' z tk' e he te se
                · subst z
                  have := dq y0 e he te se
                  have := xF y0
                  omega
              | succ r ihm =>
                intro m q1 y v6 e l1 p xF dn dq
                have hm : m < D := by omega
                refine Ends.eq (b746_125 l1 (by omega)) ?_
                rw [cnt (Pg p).1]
                refine Ends.b3 (fun z => by omega) (fun _ => ?_)
                have ts : ∀ (r t : Nat) (q1 : AH) (y : Int), t + r = 2 → LX B n q1 → P q1 y → (y = 0 → X = F0 (twE k) + 1) → (y = 0 → ∀ k', k' < 2 * i + s → thD st (k' / 2) = true → ∀ e, e < 2 * D → thD st (e / 2) = true → sE VV e k' → F0 e ≤ F0 (twE k') + 1) → (y = 0 → ∀ e, e < 2 * m + t → thD st (e / 2) = true → sE VV e k → F0 e ≤ X) → Ends (ev PP (gsF gv) B d 746 137 [(2, rf (B + 149)), (0, y), (0, (i : Int)), (0, (s : Int)), (0, X), (0, (m : Int)), (0, (t : Int))] [] q1) Q := by
                  intro r
                  induction r with
                  | zero =>
                    intro t q1 y e l1 p xF dn dq
                    obtain rfl : t = 2 := by omega
                    refine Ends.eq (b746_137 l1 (by omega)) (Ends.b3 (fun _ => ?_) (fun z => absurd z (by decide)))
                    rw [w_succ (i := m) (by omega)]
                    exact ihm (m + 1) q1 y _ (by omega) l1 p xF dn (fun y0 e he => dq y0 e (by omega))
                  | succ r iht =>
                    intro t q1 y e l1 p xF dn dq
                    have ht : t < 2 := by omega
                    obtain ⟨e1, ee1⟩ : ∃ e1, e1 = 2 * m + t := ⟨_, rfl⟩
                    have he1 : e1 < 2 * D := by omega
                    refine Ends.eq (b746_137 l1 (by omega)) (Ends.b3 (fun z => by omega) (fun _ => there l1 (Pg p).1 (Pg p).2.1 hm (fun q2 l2 g2 f2 e2 => ?_)))
                    have p2 := Pit p g2 f2 e2
                    have next : ∀ (q3 : AH) (y3 : Int), LX B n q3 → P q3 y3 → (y3 = 0 → y = 0) → (y3 = 0 → thD st m = true → sE VV e1 k → F0 e1 ≤ X) → Ends (ev PP (gsF gv) B d 746 204 [(2, rf (B + 149)), (0, y3), (0, (i : Int)), (0, (s : Int)), (0, X), (0, (m : Int)), (0, (t : Int))] [] q3) Q := fun q3 y3 l3 p3 ny le => by
                      refine Ends.eq (b746_204 l3 (by omega)) ?_
                      rw [w_succ (i := t) (by omega)]
                      refine iht (t + 1) q3 y3 (by omega) l3 p3 (fun z => xF (ny z)) (fun z => dn (ny z)) (fun z e he te se => ?_)
                      rcases (by omega : e < 2 * m + t ∨ e = e1) with w | w
                      · exact dq (ny z) e w te se
                      · rw [w] at te se ⊢
                        exact le z (by rw [show m = e1 / 2 by omega]; exact te) se
                    refine Ends.eq (b746_149 l2 (by omega)) ?_
                    by_cases tm : thD st m = true
                    rotate_left
                    · rw [if_neg tm]
                      exact Ends.b0 (fun _ => next q2 y l2 p2 id (fun _ z => absurd z tm)) (fun z => absurd rfl z)
                    rw [if_pos tm]
                    obtain ⟨-, -, -, dm2⟩ := msU g2 tb bd M dm
                    obtain ⟨q8, v8⟩ := v807_ms dm2 hi hs hm ht
                    refine Ends.b0 (fun z => absurd z (by decide)) (fun _ => Ends.g q8 ?_)
                    rw [v8, ← ek, ← ee1, e2N (by omega) (by omega), ← ee1, tn, an0]
                    by_cases se : sE VV e1 k
                    rotate_left
                    · rw [if_neg se]
                      exact Ends.b0 (fun _ => next q2 y l2 p2 id (fun _ _ z => absurd z se)) (fun z => absurd rfl z)
                    rw [if_pos se]
                    refine Ends.b0 (fun z => absurd z (by decide)) (fun _ => Ends.g ⟨by omega, by omega⟩ (Ends.b3 (fun z => next q2 y l2 p2 id (fun y0 _ _ => ?_)) (fun z => ?_)))
                    · rw [eP] at p2
                      rcases p2.2.2.2.2 with ⟨_, w⟩ | ⟨w, _⟩
                      · rw [← w]; exact z
                      · omega
                    · obtain ⟨g2', f2', s2, gl2⟩ := Pg p2
                      obtain ⟨l3, g3, f3⟩ := put (e := e1) (v := X) l2 g2' f2' (by omega)
                      have at1 : hv (hset q2 (B + 228) e1 X) (B + 228) e1 = X := hv_set_at ..
                      have ne1 : ∀ i, i ≠ e1 → hv (hset q2 (B + 228) e1 X) (B + 228) i = hv q2 (B + 228) i := fun i hi => hv_set_ne (fun w => hi w.2)
                      obtain ⟨x1, x2⟩ := s2.up (f' := hv (hset q2 (B + 228) e1 X) (B + 228)) (e := e1) (x := X) hX0 (fun w => hXr e1 he1 se w) (fun i => by
                        by_cases w : i = e1
                        · rw [if_pos w, w, at1, if_pos z]
                        · rw [if_neg w, ne1 i w])
                      have sm := smF_set (f := hv q2 (B + 228)) (f' := hv (hset q2 (B + 228) e1 X) (B + 228)) (m := e1) (by rw [at1]; exact hX0) (by rw [at1]; exact z) ne1 (2 * D)
                      rw [if_pos he1] at sm
                      have p3 : P (hset q2 (B + 228) e1 X) 1 := by
                        rw [eP] at p2 ⊢
                        refine ⟨g3, f3, x1, fun e he te ie => Int.le_trans (x2 e) (gl2 e he te ie), Or.inr ⟨rfl, ?_⟩⟩
                        rcases p2.2.2.2.2 with ⟨_, w⟩ | ⟨_, w⟩
                        · rw [show F0 = hv q2 (B + 228) from (funext w).symm]; exact sm
                        · omega
                      exact next _ 1 l3 p3 (fun w => absurd w (by decide)) (fun w => absurd w (by decide))
                exact ts 2 0 q1 y rfl l1 p xF dn dq
            exact ms D 0 q1 y _ (Nat.zero_add _) l1 p hXF dn (fun _ e he => absurd he (by omega))
        exact ss 2 0 q2 y _ _ _ rfl l2 p2 dn
    exact ns D 0 q 0 _ _ _ _ (Nat.zero_add _) lq (by rw [eP]; exact ⟨g, fq, s, gs', Or.inl ⟨rfl, fun e => by rw [eF0]⟩⟩) (fun _ k' hk' => absurd hk' (by omega))
  -- which ends have the goal's name
  have first : ∀ (r i : Nat) (q : AH) (u2 u3 u4 u5 u6 : AV), i + r = D → LX B n q → Agr (mstW B) h q → FoM B n q SS → (∀ e, e < 2 * i → hv q (B + 228) e = stI VV st G e) → Ends (ev PP (gsF gv) B d 746 2 [(2, rf (B + 149)), (0, (i : Int)), u2, u3, u4, u5, u6] [] q) Q := by
    intro r
    induction r with
    | zero =>
      intro i q u2 u3 u4 u5 u6 e lq g fq I
      obtain rfl : i = D := by omega
      refine Ends.eq (b746_2 lq (by omega)) ?_
      rw [cnt g]
      obtain ⟨w1, w2⟩ := stI_fw I
      exact Ends.b3 (fun _ => passes _ q _ _ _ _ _ (Nat.le_refl _) lq g fq w1 w2) (fun z => absurd z (Int.lt_irrefl _))
    | succ r ih =>
      intro i q u2 u3 u4 u5 u6 e lq g fq I
      have hi : i < D := by omega
      refine Ends.eq (b746_2 lq (by omega)) ?_
      rw [cnt g]
      refine Ends.b3 (fun z => by omega) (fun _ => ?_)
      have inner : ∀ (r s : Nat) (q : AH), s + r = 2 → LX B n q → Agr (mstW B) h q → FoM B n q SS → (∀ e, e < 2 * i + s → hv q (B + 228) e = stI VV st G e) → Ends (ev PP (gsF gv) B d 746 12 [(2, rf (B + 149)), (0, (i : Int)), (0, (s : Int)), u3, u4, u5, u6] [] q) Q := by
        intro r
        induction r with
        | zero =>
          intro s q e lq g fq I
          obtain rfl : s = 2 := by omega
          refine Ends.eq (b746_12 lq (by omega)) (Ends.b3 (fun _ => ?_) (fun z => absurd z (by decide)))
          rw [w_succ (i := i) (by omega)]
          exact ih (i + 1) q _ _ _ _ _ (by omega) lq g fq (fun e he => I e (by omega))
        | succ r ihs =>
          intro s q e lq g fq I
          have hs : s < 2 := by omega
          refine Ends.eq (b746_12 lq (by omega)) ?_
          rw [e2N (by omega) (by omega)]
          refine Ends.b3 (fun z => by omega) (fun _ => there lq g fq hi (fun q2 l2 g2 f2 e2 => ?_))
          have k229 : hk q2 (B + 229) = (0 + 2, 3) := lk_229 l2
          have k228 : hk q2 (B + 228) = (0 + 2, 34) := lk_228 l2
          obtain ⟨-, -, -, dm2⟩ := msU g2 tb bd M dm
          obtain ⟨q6, v6⟩ := v692_ms dm2 hi hs k229 (glq g2)
          refine Ends.eq (b746_31 l2 (by omega)) (Ends.g (cT q6) ?_)
          rw [ad_rf, k228, tn, an0, stI_is hs rfl v6, w_succ (i := s) (by omega)]
          obtain ⟨l3, g3, f3⟩ := put (e := 2 * i + s) (v := stI VV st G (2 * i + s)) l2 g2 f2 (by omega)
          refine Ends.g ⟨rf_pos _, rfl, by omega, by show ((2 * i + s : Nat) : Int) < ((34 : Nat) : Int); omega, by omega⟩ (ihs (s + 1) _ (by omega) l3 g3 f3 (fun e he => ?_))
          by_cases z : e = 2 * i + s
          · rw [z, hv_set_at]
          · rw [hv_set_ne (fun w => z w.2), e2]; exact I e (by omega)
      exact inner 2 0 q rfl lq g fq (fun e he => I e (by omega))
  exact Ends.eq (b746_0 l (by omega)) (first D 0 h _ _ _ _ _ (Nat.zero_add _) l Agr.rf f (fun e he => absurd he (by omega)))
end MST
