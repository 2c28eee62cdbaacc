/-! L3: a face's facets looked at once more (desk): quarters, edges of cubes -/
noncomputable section LKD
variable {gv : Nat → Int} {B n d m f k pc cap kc mm ax al : Nat} {h t : AH} {S V : Nat → Bool} {ka F mk : Nat → Nat} {pl : Int} {Q0 : Nat → Nat → Nat → Bool}
theorem c3_gC {g : Nat} (hk : k < 3) : c3 ((gX n g : Nat) : Int) ((gY n g : Nat) : Int) ((gZ n g : Nat) : Int) k = ((gC n g k : Nat) : Int) := by
  unfold c3
  rcases (by omega : k = 0 ∨ k = 1 ∨ k = 2) with rfl | rfl | rfl <;> rfl
/-- the quarters that facets of V are seen in along an axis -/
def lkP (n ax : Nat) (V : Nat → Bool) (q v u : Nat) : Prop := ∃ K, K < 4 * gN n ∧ V K = true ∧ quT ax (gSo (K / 4)) = q ∧ gC n (K / 4) (sA ax) = v ∧ gC n (K / 4) (fA ax) = u
def lkB (n ax : Nat) (V : Nat → Bool) (q v u : Nat) : Bool := @decide (lkP n ax V q v u) (Classical.propDecidable _)
theorem lkB_iff {q v u : Nat} : lkB n ax V q v u = true ↔ lkP n ax V q v u := by unfold lkB; exact @decide_eq_true_iff _ (Classical.propDecidable _)
theorem lkB_put {K q v u : Nat} (hK : K < 4 * gN n) : lkB n ax (fun k => V k || decide (k = K)) q v u = (lkB n ax V q v u || decide (q = quT ax (gSo (K / 4)) ∧ v = gC n (K / 4) (sA ax) ∧ u = gC n (K / 4) (fA ax))) := by
  rw [Bool.eq_iff_iff, Bool.or_eq_true, lkB_iff, lkB_iff, decide_eq_true_iff]
  constructor
  · rintro ⟨K', h1, h2, h3, h4, h5⟩
    have h2 : (V K' || decide (K' = K)) = true := h2
    rw [Bool.or_eq_true, decide_eq_true_iff] at h2
    rcases h2 with h2 | h2
    · exact Or.inl ⟨K', h1, h2, h3, h4, h5⟩
    · subst h2; exact Or.inr ⟨h3.symm, h4.symm, h5.symm⟩
  · rintro (⟨K', h1, h2, h3, h4, h5⟩ | ⟨h3, h4, h5⟩)
    · exact ⟨K', h1, by show (V K' || decide (K' = K)) = true; rw [h2]; rfl, h3, h4, h5⟩
    · exact ⟨K, hK, by show (V K || decide (K = K)) = true; rw [decide_eq_true rfl, Bool.or_true], h3.symm, h4.symm, h5.symm⟩
theorem lkB_none {q v u : Nat} : lkB n ax (fun _ => false) q v u = false := by
  rw [Bool.eq_false_iff]
  intro z
  obtain ⟨K, -, h2, -⟩ := lkB_iff.mp z
  exact absurd h2 Bool.false_ne_true
theorem lkB_congr {V' : Nat → Bool} {q v u : Nat} (e : ∀ k, k < 4 * gN n → (V k = true ↔ V' k = true)) : lkB n ax V q v u = lkB n ax V' q v u := by
  rw [Bool.eq_iff_iff, lkB_iff, lkB_iff]
  exact ⟨fun ⟨K, h1, h2, h3⟩ => ⟨K, h1, (e K h1).mp h2, h3⟩, fun ⟨K, h1, h2, h3⟩ => ⟨K, h1, (e K h1).mpr h2, h3⟩⟩
/-- a facet's grain has an edge of a cube along an axis, at a place -/
def edK (n al : Nat) (pl : Int) (K : Nat) : Bool := decide (aA (gSo (K / 4)) = al) && decide (((gC n (K / 4) (aB (gSo (K / 4))) : Nat) : Int) + (if hiB (gSo (K / 4)) = true then 1 else 0) = pl)
theorem edK_iff {K : Nat} : edK n al pl K = true ↔ aA (gSo (K / 4)) = al ∧ ((gC n (K / 4) (aB (gSo (K / 4))) : Nat) : Int) + (if hiB (gSo (K / 4)) = true then 1 else 0) = pl := by
  unfold edK; rw [Bool.and_eq_true, decide_eq_true_iff, decide_eq_true_iff]
/-- where facets of V have such edges -/
def emP (n al : Nat) (pl : Int) (V : Nat → Bool) (x : Nat) : Prop := ∃ K, K < 4 * gN n ∧ V K = true ∧ edK n al pl K = true ∧ gC n (K / 4) al = x
def emB (n al : Nat) (pl : Int) (V : Nat → Bool) (x : Nat) : Bool := @decide (emP n al pl V x) (Classical.propDecidable _)
theorem emB_iff {x : Nat} : emB n al pl V x = true ↔ emP n al pl V x := by unfold emB; exact @decide_eq_true_iff _ (Classical.propDecidable _)
theorem emB_put {K x : Nat} (hK : K < 4 * gN n) : emB n al pl (fun k => V k || decide (k = K)) x = (emB n al pl V x || (edK n al pl K && decide (x = gC n (K / 4) al))) := by
  rw [Bool.eq_iff_iff, Bool.or_eq_true, emB_iff, emB_iff, Bool.and_eq_true, decide_eq_true_iff]
  constructor
  · rintro ⟨K', h1, h2, h3, h4⟩
    have h2 : (V K' || decide (K' = K)) = true := h2
    rw [Bool.or_eq_true, decide_eq_true_iff] at h2
    rcases h2 with h2 | h2
    · exact Or.inl ⟨K', h1, h2, h3, h4⟩
    · subst h2; exact Or.inr ⟨h3, h4.symm⟩
  · rintro (⟨K', h1, h2, h3, h4⟩ | ⟨h3, h4⟩)
    · exact ⟨K', h1, by show (V K' || decide (K' = K)) = true; rw [h2]; rfl, h3, h4⟩
    · exact ⟨K, hK, by show (V K || decide (K = K)) = true; rw [decide_eq_true rfl, Bool.or_true], h3, h4.symm⟩
theorem emB_none {x : Nat} : emB n al pl (fun _ => false) x = false := by
  rw [Bool.eq_false_iff]
  intro z
  obtain ⟨K, -, h2, -⟩ := emB_iff.mp z
  exact absurd h2 Bool.false_ne_true
theorem emB_congr {V' : Nat → Bool} {x : Nat} (e : ∀ k, k < 4 * gN n → (V k = true ↔ V' k = true)) : emB n al pl V x = emB n al pl V' x := by
  rw [Bool.eq_iff_iff, emB_iff, emB_iff]
  exact ⟨fun ⟨K, h1, h2, h3⟩ => ⟨K, h1, (e K h1).mp h2, h3⟩, fun ⟨K, h1, h2, h3⟩ => ⟨K, h1, (e K h1).mpr h2, h3⟩⟩
/-- what a looking facet keeps to -/
def LkI (B n ax al : Nat) (pl : Int) (Q0 : Nat → Nat → Nat → Bool) (V : Nat → Bool) (q : AH) : Prop := (hv q (B + 92) 45 = (ax : Int) ∧ hv q (B + 92) 46 = pl ∧ hv q (B + 92) 47 = (al : Int)) ∧ Qua n q (B + 114) (fun p v u => Q0 p v u || lkB n ax V p v u) ∧ cn 1 (hv q (B + 92) 48) ∧ ∀ x, x < 64 → tb (hv q (B + 92) 48) x = (decide (x < n) && emB n al pl V x)
/-- what looking writes -/
def lkW (B : Nat) : Nat → Nat → Prop := fun c k => c = B + 114 ∨ (c = B + 92 ∧ k = 48)
theorem c_facet265 {K : Nat} {face : Int} (l : LX B n h) (hd : 10 ≤ d) (hn : n ≤ 52) (m : TbC B h) (hax : ax < 3) (hal : al < 3) (I : LkI B n ax al pl Q0 V h) (hK : K < 4 * gN n) :
    Vd (cll PP (ev PP (gsF gv) B) d 265 [(2, rf (B + 92)), (0, ((gSo (K / 4) : Nat) : Int)), (0, ((K % 4 : Nat) : Int)), (0, ((gX n (K / 4) : Nat) : Int)), (0, ((gY n (K / 4) : Nat) : Int)), (0, ((gZ n (K / 4) : Nat) : Int)), (0, face)] h) (fun h' => Agr (lkW B) h h' ∧ LkI B n ax al pl Q0 (fun k => V k || decide (k = K)) h') := by
  have hg := K4_lt hK
  obtain ⟨hn0, g1, g2, g3, g4⟩ := g_lt hg
  obtain ⟨⟨i1, i2, i3⟩, iq, ic, ib⟩ := I
  obtain ⟨m1, m2, m3, m4, m5, m6, m7, m8⟩ := m.1 _ g4
  obtain ⟨a1, a2, a3⟩ := ax_lt ⟨gSo (K / 4), g4⟩
  have a1 : aA (gSo (K / 4)) < 3 := a1
  have a2 : aB (gSo (K / 4)) < 3 := a2
  have q4 : quT ax (gSo (K / 4)) < 4 := qz_ax ⟨ax, hax⟩ ⟨gSo (K / 4), g4⟩
  have fA3 : fA ax < 3 := by have := @fA_2 ax; omega
  have sA3 : sA ax < 3 := by have := @sA_2 ax; omega
  have vv : gC n (K / 4) (sA ax) < n := gC_lt hg
  have uu : gC n (K / 4) (fA ax) < n := gC_lt hg
  have ww : gC n (K / 4) al < n := gC_lt hg
  have ix1 : bop32 96 (bop32 104 (24 : Int) (ax : Int)) ((gSo (K / 4) : Nat) : Int) = ((24 * ax + gSo (K / 4) : Nat) : Int) := by rw [show bop32 104 (24 : Int) (ax : Int) = ((24 * ax : Nat) : Int) from mulNN (x := 24) (by omega), addNN (by omega)]
  have qn : quT ax (gSo (K / 4)) * n + gC n (K / 4) (sA ax) < 4 * n := by
    have := Nat.mul_le_mul_right n (show quT ax (gSo (K / 4)) + 1 ≤ 4 by omega)
    rw [Nat.add_mul, Nat.one_mul] at this
    omega
  have ix2 : bop32 96 (bop32 104 ((quT ax (gSo (K / 4)) : Nat) : Int) (n : Int)) ((gC n (K / 4) (sA ax) : Nat) : Int) = ((quT ax (gSo (K / 4)) * n + gC n (K / 4) (sA ax) : Nat) : Int) := by
    rw [show bop32 104 ((quT ax (gSo (K / 4)) : Nat) : Int) (n : Int) = ((quT ax (gSo (K / 4)) * n : Nat) : Int) from mulNN (by omega), addNN (by omega)]
  have at' : bop32 96 ((gC n (K / 4) (aB (gSo (K / 4))) : Nat) : Int) (if hiB (gSo (K / 4)) = true then 1 else 0) = ((gC n (K / 4) (aB (gSo (K / 4))) : Nat) : Int) + (if hiB (gSo (K / 4)) = true then 1 else 0) := by
    have : gC n (K / 4) (aB (gSo (K / 4))) < n := gC_lt hg
    by_cases z : hiB (gSo (K / 4)) = true
    · rw [if_pos z, add32 (by omega) (by omega)]
    · rw [if_neg z, add32 (by omega) (by omega)]
  refine Vd.inq (D := 9) hd (Nat.le_of_ble_eq_true rfl) rfl (fun d hd Q KK => ?_)
  refine Ends.eq (b265_0 l (by omega)) ?_
  rw [i1, i2, i3, ix1, tn, tn, m8 ax hax, m2, m3, m5, cnot, c3A (x := ((gX n (K / 4) : Nat) : Int)) (y := ((gY n (K / 4) : Nat) : Int)) (z := ((gZ n (K / 4) : Nat) : Int)), c3S (x := ((gX n (K / 4) : Nat) : Int)) (y := ((gY n (K / 4) : Nat) : Int)) (z := ((gZ n (K / 4) : Nat) : Int)), c3W, c3W, c3_gC fA3, c3_gC sA3, c3_gC a2, c3_gC hal, ix2, at', tn, an1]
  clear ix1 ix2
  have l1 : LX B n (hset h (B + 114) (quT ax (gSo (K / 4)) * n + gC n (K / 4) (sA ax)) (bop64 129 (hv h (B + 114) (quT ax (gSo (K / 4)) * n + gC n (K / 4) (sA ax))) (sop64 121 1 ((gC n (K / 4) (fA ax) : Nat) : Int)))) := LX.setS l rfl
  have q1 := Qua.put iq hn q4 vv uu
  have gg : Agr (lkW B) h (hset h (B + 114) (quT ax (gSo (K / 4)) * n + gC n (K / 4) (sA ax)) (bop64 129 (hv h (B + 114) (quT ax (gSo (K / 4)) * n + gC n (K / 4) (sA ax))) (sop64 121 1 ((gC n (K / 4) (fA ax) : Nat) : Int)))) := Agr.rf.set (Or.inl rfl)
  have o : ∀ k, hv (hset h (B + 114) (quT ax (gSo (K / 4)) * n + gC n (K / 4) (sA ax)) (bop64 129 (hv h (B + 114) (quT ax (gSo (K / 4)) * n + gC n (K / 4) (sA ax))) (sop64 121 1 ((gC n (K / 4) (fA ax) : Nat) : Int)))) (B + 92) k = hv h (B + 92) k := fun k => hv_set_ne (by omega)
  generalize hset h (B + 114) (quT ax (gSo (K / 4)) * n + gC n (K / 4) (sA ax)) (bop64 129 (hv h (B + 114) (quT ax (gSo (K / 4)) * n + gC n (K / 4) (sA ax))) (sop64 121 1 ((gC n (K / 4) (fA ax) : Nat) : Int))) = h1 at *
  have q2 : Qua n h1 (B + 114) (fun p v u => Q0 p v u || lkB n ax (fun k => V k || decide (k = K)) p v u) := q1.congr (fun p v u _ _ _ => by rw [lkB_put hK, Bool.or_assoc])
  have off : edK n al pl K = false → LkI B n ax al pl Q0 (fun k => V k || decide (k = K)) h1 := fun z => ⟨⟨by rw [o]; exact i1, by rw [o]; exact i2, by rw [o]; exact i3⟩, q2, by rw [o]; exact ic, fun x hx => by rw [o, ib x hx, emB_put hK, z, Bool.false_and, Bool.or_false]⟩
  refine Ends.g ⟨by omega, by omega⟩ (Ends.g ⟨by omega, by omega⟩ (Ends.g ⟨by omega, by omega⟩ (Ends.b0 (fun z => ?_) (fun z => Ends.sm (KK _ ⟨gg, off ?_⟩)))))
  rotate_left
  · rw [Bool.eq_false_iff]
    exact fun y => z (by rw [(edK_iff.mp y).1])
  refine Ends.b1 (fun y => Ends.eq (b265_185 l1 (by omega)) (Ends.sm (KK _ ⟨gg, off ?_⟩))) (fun y => ?_)
  · rw [Bool.eq_false_iff]
    exact fun w => y (edK_iff.mp w).2
  have on : edK n al pl K = true := edK_iff.mpr ⟨by omega, y⟩
  have l2 : LX B n (hset h1 (B + 92) 48 (bop64 129 (hv h (B + 92) 48) (sop64 121 1 ((gC n (K / 4) al : Nat) : Int)))) := LX.setF 92 48 l1 (by decide +kernel)
  refine Ends.eq (b265_185 l2 (by omega)) (Ends.sm (KK _ ⟨gg.set (Or.inr ⟨rfl, rfl⟩), ⟨?_, ?_, ?_⟩, ?_, ?_, fun x hx => ?_⟩))
  · rw [hv_set_ne (by omega), o]; exact i1
  · rw [hv_set_ne (by omega), o]; exact i2
  · rw [hv_set_ne (by omega), o]; exact i3
  · exact q2.agr (Agr.rf.set (W := fun c _ => c = B + 92) rfl) (fun k => by omega)
  · rw [hv_set_at]; exact cn_bop64
  · rw [hv_set_at, tb_or, ib x hx, one_bit (by omega) hx, emB_put hK, on, Bool.true_and]
    by_cases w : x = gC n (K / 4) al
    · rw [decide_eq_true w, Bool.or_true, Bool.or_true, Bool.and_true, decide_eq_true (show x < n by omega)]
    · rw [decide_eq_false w, Bool.or_false, Bool.or_false]
/-- what looking once more at a face writes of old cells -/
def lokW (B : Nat) (h : AH) : Nat → Nat → Prop := fun c k => FdW B h c k ∨ c = B + 114 ∨ (c = B + 92 ∧ 45 ≤ k ∧ k ≤ 48)
theorem c_look280 {i : Nat} (l : LX B n h) (hd : 32 ≤ d) (hn4 : 4 ≤ n) (hn : n ≤ 52) (fc : FcN B n h pc cap ka kc) (s : SG n h (B + 117) S) (fd : FdS B n h S mm F ka kc) (hi : i < min mm 4096) (eax : axD (drT (F i % 96)) = (ax : Int)) (hax : ax < 3) (hal : al < 3) (qq : Qua n h (B + 114) Q0) :
    Vd (cll PP (ev PP (gsF gv) B) d 280 [(2, rf (B + 92)), (0, (i : Int)), (0, (al : Int)), (0, pl)] h) (fun h' => ∃ pc' cap', FcN B n h' pc' cap' ka kc ∧ (hnx h ≤ pc' ∨ hv h (B + 82) 3 = rf pc') ∧ FdS B n h' S mm F ka kc ∧ fcz B n h' cap' kc = fcz B n h cap kc ∧ cel h h' ∧ ExG (lokW B h) h h' ∧ LkI B n ax al pl Q0 (FRb n (bdr n S) (F i)) h') := by
  have hb := l.2.2
  have R := fc.2.2.2.1
  have A := fc.2.2.2.2
  obtain ⟨f1, f2, f3, f4, f5⟩ := id fd
  obtain ⟨a1, a2, a3, a4⟩ := A.2.1.1 0 (by decide)
  have drr : hv h (ka 0) i = mdr F i := by rw [f5 i hi 0 (by decide)]; unfold kpV mdr; rw [if_pos rfl]
  have a1 : hv h (B + 82) 7 = rf (ka 0) := a1
  refine Vd.inq (D := 31) hd (Nat.le_of_ble_eq_true rfl) rfl (fun d hd Q K => ?_)
  refine Ends.eq (b280_0 l (by omega)) ?_
  rw [a1, ad_rf, a2, tn, drr, show v250 (mdr F i) = (ax : Int) from eax]
  refine Ends.g ⟨rf_pos _, rfl, by omega, by show (i : Int) < (kc : Int); omega⟩ ?_
  have l1 : LX B n (hset (hset (hset (hset h (B + 92) 45 (ax : Int)) (B + 92) 47 (al : Int)) (B + 92) 46 pl) (B + 92) 48 0) := LX.setF 92 48 (LX.setF 92 46 (LX.setF 92 47 (LX.setF 92 45 l (by decide +kernel)) (by decide +kernel)) (by decide +kernel)) (by decide +kernel)
  have g1 : Agr (fun c k => c = B + 92 ∧ 45 ≤ k ∧ k ≤ 48) h (hset (hset (hset (hset h (B + 92) 45 (ax : Int)) (B + 92) 47 (al : Int)) (B + 92) 46 pl) (B + 92) 48 0) := (((Agr.rf.set ⟨rfl, by decide, by decide⟩).set ⟨rfl, by decide, by decide⟩).set ⟨rfl, by decide, by decide⟩).set ⟨rfl, by decide, by decide⟩
  have w45 : hv (hset (hset (hset (hset h (B + 92) 45 (ax : Int)) (B + 92) 47 (al : Int)) (B + 92) 46 pl) (B + 92) 48 0) (B + 92) 45 = (ax : Int) := by rw [hv_set_ne (by omega), hv_set_ne (by omega), hv_set_ne (by omega), hv_set_at]
  have w46 : hv (hset (hset (hset (hset h (B + 92) 45 (ax : Int)) (B + 92) 47 (al : Int)) (B + 92) 46 pl) (B + 92) 48 0) (B + 92) 46 = pl := by rw [hv_set_ne (by omega), hv_set_at]
  have w47 : hv (hset (hset (hset (hset h (B + 92) 45 (ax : Int)) (B + 92) 47 (al : Int)) (B + 92) 46 pl) (B + 92) 48 0) (B + 92) 47 = (al : Int) := by rw [hv_set_ne (by omega), hv_set_ne (by omega), hv_set_at]
  have w48 : hv (hset (hset (hset (hset h (B + 92) 45 (ax : Int)) (B + 92) 47 (al : Int)) (B + 92) 46 pl) (B + 92) 48 0) (B + 92) 48 = 0 := hv_set_at ..
  generalize hset (hset (hset (hset h (B + 92) 45 (ax : Int)) (B + 92) 47 (al : Int)) (B + 92) 46 pl) (B + 92) 48 0 = h1 at *
  have rg : ∀ i, i < 39 → ¬ (B + rgC i = B + 92 ∧ 45 ≤ rgK i ∧ rgK i ≤ 48) := fun i hi z => by have := rgi hi; omega
  have fc1 : FcN B n h1 pc cap ka kc := fc.exg hb g1.ext.exg (fun c k x y z => by omega) (fun k z => by omega) rg (fun k x y z => by omega)
  have ka92 : ∀ j k, j < 6 → ¬ (ka j = B + 92 ∧ 45 ≤ k ∧ k ≤ 48) := fun j k hj z => by have := (A.2.1.1 j hj).2.2.1; omega
  have fd1 : FdS B n h1 S mm F ka kc := fd.exg A hb g1.ext.exg (fun k hk z => by omega) (fun j k hj => ka92 j k hj)
  have s1 : SG n h1 (B + 117) S := s.agr g1 (fun k z => by omega)
  have q1 : Qua n h1 (B + 114) Q0 := qq.agr g1 (fun k z => by omega)
  obtain ⟨m1, u1, so1, R1, A1⟩ := id fc1
  obtain ⟨-, -, -, -, f51⟩ := id fd1
  have fin : ∀ c k, FdW B h1 c k → (c = B + 36 ∧ k = 17) ∨ (B + 47 ≤ c ∧ c ≤ B + 50) ∨ (B + 82 ≤ c ∧ c ≤ B + 90) ∨ B + 246 ≤ c := fun c k z => fdW_in R1 A1 z
  have hb1 := l1.2.2
  obtain ⟨fst, -⟩ := f1.1 i (Nat.lt_of_lt_of_le hi (Nat.min_le_left _ _))
  have neF : ∀ f, f < 4 → hv h1 (B + 83) f ≠ rf (B + 117) := fun f hf z => by
    rcases R1.1 (33 + f) (by omega) with y | ⟨e, y1, y2, y3, y4⟩
    · rw [rgV_e hf, z] at y; have := rf_pos (B + 117); omega
    · rw [rgV_e hf, z] at y1; unfold rf at y1; omega
  have cls : ∀ q, LX B n q → hk q (ad (rf (B + 92))) = (1, 9) := fun q lq => by rw [ad_rf]; exact lk_92 lq
  have wt : Wat gv B n (bdr n S) (F i) (rf (B + 92)) (i : Int) (lkW B) (fun V q => TbC B q ∧ LkI B n ax al pl Q0 V q) := by
    refine Or.inr ⟨9, 265, rf_pos _, by decide, by decide, rfl, by decide +kernel, cls, fun d hd V K q lq ⟨tq, I⟩ hK hV _ => ?_⟩
    obtain ⟨q', e, gq, I'⟩ := c_facet265 (gv := gv) (d := d) (face := (i : Int)) lq (by omega) hn tq hax hal I hK
    exact ⟨q', e, gq, tq.ext lq.2.2 gq.ext (fun c k x y z => by unfold lkW at z; omega), I'⟩
  have w0 : TbC B h1 ∧ LkI B n ax al pl Q0 (fun _ => false) h1 := ⟨m1, ⟨w45, w46, w47⟩, q1.congr (fun p v u _ _ _ => by rw [lkB_none, Bool.or_false]), by rw [w48]; exact ⟨by decide, by decide⟩, fun x hx => by rw [w48, tb_0, emB_none, Bool.and_false]⟩
  refine Ends.cv l1 (by decide +kernel) (c_look165 (K := F i) (w := rf (B + 92)) (Ww := lkW B) (WJ := fun V q => TbC B q ∧ LkI B n ax al pl Q0 V q) l1 (by omega) hn4 hn m1 u1 R1 s1 (by omega) (by omega) neF A1 hi f4 f51 rfl fst wt w0 (fun V q q' ⟨tq, ⟨j1, j2, j3⟩, j4, j5, j6⟩ y1 y2 => ?_) (fun c k z => ?_)) (fun h2 l2 _ _ _ ⟨V, pc', cap', v1, A2, o2, r82, ct2, e17, bs2, R2, rm2, ce2, X2, tb2, ⟨L1, L2, L3, L4⟩⟩ => ?_)
  · have o92 : ∀ k, hv q' (B + 92) k = hv q (B + 92) k := fun k => y1 _ _ (by omega) (fun z => by have := fin _ _ z; omega)
    have o114 : ∀ k, hv q' (B + 114) k = hv q (B + 114) k := fun k => y1 _ _ (by omega) (fun z => by have := fin _ _ z; omega)
    have tq' : TbC B q' := by
      have e : ∀ c k, B + 37 ≤ c → c ≤ B + 46 → hv q' c k = hv q c k := fun c k h1 h2 => y1 c k (by omega) (fun z => by have := fin _ _ z; omega)
      refine ⟨fun t ht => ?_, fun x y z hx hy hz => ?_⟩
      · obtain ⟨n1, n2, n3, n4, n5, n6, n7, n8⟩ := tq.1 t ht
        refine ⟨fun a ha => ?_, ?_, ?_, ?_, ?_, ?_, fun f hf => ⟨?_, ?_⟩, fun a ha => ?_⟩
        · rw [e _ _ (by omega) (by omega)]; exact n1 a ha
        · rw [e _ _ (by omega) (by omega)]; exact n2
        · rw [e _ _ (by omega) (by omega)]; exact n3
        · rw [e _ _ (by omega) (by omega)]; exact n4
        · rw [e _ _ (by omega) (by omega)]; exact n5
        · rw [e _ _ (by omega) (by omega)]; exact n6
        · rw [e _ _ (by omega) (by omega)]; exact (n7 f hf).1
        · rw [e _ _ (by omega) (by omega)]; exact (n7 f hf).2
        · rw [e _ _ (by omega) (by omega)]; exact n8 a ha
      · rw [e _ _ (by omega) (by omega)]; exact tq.2 x y z hx hy hz
    refine ⟨tq', ⟨by rw [o92]; exact j1, by rw [o92]; exact j2, by rw [o92]; exact j3⟩, ⟨by rw [y2 _ (by omega)]; exact j4.1, fun p v hp hv0 => by rw [o114]; exact j4.2 p v hp hv0⟩, by rw [o92]; exact j5, fun x hx => by rw [o92]; exact j6 x hx⟩
  · unfold lkW at z
    refine ⟨by omega, fun y => ?_, by omega, fun i hi y => ?_, by omega⟩
    · have := fin _ _ y; omega
    · have := rgi hi; omega
  · have X12 : ExG (lokW B h) h h2 := by
      refine (g1.ext.exg.sub (fun c k _ z => Or.inr (Or.inr z))).tr X2 (fun c k _ z => ?_)
      rcases z with z | z
      · refine Or.inl ?_
        rcases z with z | z | z | ⟨f, hf, z⟩ | z | ⟨j, hj, z⟩
        · exact Or.inl z
        · exact Or.inr (Or.inl z)
        · exact Or.inr (Or.inr (Or.inl z))
        · exact Or.inr (Or.inr (Or.inr (Or.inl ⟨f, hf, by rw [← g1.at _ _ (by omega)]; exact z⟩)))
        · exact Or.inr (Or.inr (Or.inr (Or.inr (Or.inl (by rw [← g1.at _ _ (by omega)]; exact z)))))
        · exact Or.inr (Or.inr (Or.inr (Or.inr (Or.inr ⟨j, hj, by rw [← g1.at _ _ (by omega)]; exact z⟩))))
      · unfold lkW at z
        rcases z with z | z
        · exact Or.inr (Or.inl z)
        · exact Or.inr (Or.inr ⟨z.1, by omega, by omega⟩)
    have so2 : SoC B h2 := fun a b m z1 z2 z3 => by
      rw [X2.at _ (by omega) (fun z => ?_)]
      · exact so1 a b m z1 z2 z3
      · rcases z with z | z
        · have := fin _ _ z; omega
        · unfold lkW at z; omega
    have e1 : fcz B n h1 cap kc = fcz B n h cap kc := by
      obtain ⟨-, L⟩ := R.exg hb g1.ext.exg rg
      unfold fcz; rw [L, g1.us]
    refine Ends.eq (b280_44 l2 (by omega)) (Ends.sm (K _ ⟨pc', cap', ⟨tb2, Or.inr ⟨e17, bs2⟩, so2, R2, A2⟩, ?_, ⟨f1, by rw [r82 5 (Or.inl rfl)]; exact fd1.2.1, by rw [r82 6 (Or.inr rfl)]; exact fd1.2.2.1, f4, ct2⟩, ?_, (cel.agr g1).tr ce2, X12, ⟨L1, L2.congr (fun p v u _ _ _ => by rw [lkB_congr (fun k hk => (v1 k hk).trans FRb_iff.symm)]), L3, fun x hx => by rw [L4 x hx, emB_congr (fun k hk => (v1 k hk).trans FRb_iff.symm)]⟩⟩))
    · rcases o2 with z | z
      · left; rw [← g1.nx]; exact z
      · right; rw [← g1.at _ _ (by omega)]; exact z
    · rw [← e1]; unfold fcz; omega
end LKD
