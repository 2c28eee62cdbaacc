/-! L3: tools of sketches: places of grains and of quarters -/
noncomputable section RGQ
variable {gv : Nat → Int} {B n d a ax f1 q s t D g : Nat} {h : AH} {S lv : Nat → Bool} {U0 V0 U1 V1 DU DV SZ CU CV nb : Nat → Int} {CR : Nat → Nat} {k : Nat} {x y x' y' fr to o r : Int} {A C : Int}
/-- on the same sides of both diagonals of their square -/
def sdQ (x y x' y' : Int) : Prop := ((0 < x ∧ x < 8) ∧ (0 < y ∧ y < 8) ∧ (0 < x' ∧ x' < 8) ∧ 0 < y' ∧ y' < 8) ∧ ((x + y < 8 ∧ x' + y' < 8) ∨ (8 < x + y ∧ 8 < x' + y')) ∧ ((x < y ∧ x' < y') ∨ (y < x ∧ y' < x'))
theorem sd_is (hax : ax < 3) (ht : t < 24) : sdQ ((rT t (fA ax) : Nat) : Int) ((rT t (sA ax) : Nat) : Int) (sU (quT ax t)) (sV (quT ax t)) := by
  have hf : fA ax < 3 := by unfold fA; split <;> omega
  have hs : sA ax < 3 := by unfold sA; split <;> omega
  have r0 : 1 ≤ rT t (fA ax) ∧ rT t (fA ax) < 8 := rT_lt ⟨t, ht⟩ ⟨fA ax, hf⟩
  have r1 : 1 ≤ rT t (sA ax) ∧ rT t (sA ax) < 8 := rT_lt ⟨t, ht⟩ ⟨sA ax, hs⟩
  have s0 := sU_b (q := quT ax t)
  have s1 := sV_b (q := quT ax t)
  obtain ⟨q1, q2⟩ := qx_side ⟨ax, hax⟩ ⟨t, ht⟩
  simp only at q1 q2
  exact ⟨⟨⟨by omega, by omega⟩, ⟨by omega, by omega⟩, ⟨by omega, by omega⟩, by omega, by omega⟩, q1, q2⟩
theorem cx_q (Q : sdQ x y x' y') (D : D8 (DU k) (DV k)) : cxP U0 V0 V1 DU DV 8 (8 * A + x) (8 * C + y) k ↔ cxP U0 V0 V1 DU DV 8 (8 * A + x') (8 * C + y') k := by
  obtain ⟨h1, h2, -⟩ := D
  obtain ⟨⟨a1, a2, a3, a4⟩, b1, b2⟩ := Q
  unfold cxP
  rcases h1 with h1 | h1 | h1 <;> rcases h2 with h2 | h2 | h2 <;> rw [h1, h2] <;> omega
theorem lc_q (Q : sdQ x y x' y') (hD : ∀ k, lv k = true → D8 (DU k) (DV k)) : lcB lv U0 V0 V1 DU DV (8 * A + x) (8 * C + y) = lcB lv U0 V0 V1 DU DV (8 * A + x') (8 * C + y') := funext (fun k => by
  unfold lcB
  cases lk : lv k
  · rfl
  · rw [Bool.true_and, Bool.true_and]
    refine Bool.eq_iff_iff.mpr ?_
    rw [cxB_t, cxB_t]
    exact cx_q Q (hD k lk))
theorem rg_q (hax : ax < 3) (ht : t < 24) (hD : ∀ k, lv k = true → D8 (DU k) (DV k)) : rgB lv U0 V0 V1 DU DV D CU CV CR (8 * A + ((rT t (fA ax) : Nat) : Int)) (8 * C + ((rT t (sA ax) : Nat) : Int)) = rgB lv U0 V0 V1 DU DV D CU CV CR (8 * A + sU (quT ax t)) (8 * C + sV (quT ax t)) := by
  unfold rgB
  rw [lc_q (sd_is hax ht) hD]
  have e : dcB CU CV CR (8 * A + ((rT t (fA ax) : Nat) : Int)) (8 * C + ((rT t (sA ax) : Nat) : Int)) = dcB CU CV CR (8 * A + sU (quT ax t)) (8 * C + sV (quT ax t)) := funext (fun i => by
    unfold dcB
    rw [show 8 * A + ((rT t (fA ax) : Nat) : Int) - 8 * CU i = 8 * (A - CU i) + ((rT t (fA ax) : Nat) : Int) by omega, show 8 * C + ((rT t (sA ax) : Nat) : Int) - 8 * CV i = 8 * (C - CV i) + ((rT t (sA ax) : Nat) : Int) by omega, show 8 * A + sU (quT ax t) - 8 * CU i = 8 * (A - CU i) + sU (quT ax t) by omega, show 8 * C + sV (quT ax t) - 8 * CV i = 8 * (C - CV i) + sV (quT ax t) by omega]
    exact und_q hax ht)
  rw [e]
theorem nr_q (Q : sdQ x y x' y') : nrB lv U0 V0 U1 V1 (8 * A + x) (8 * C + y) (8 * r) = nrB lv U0 V0 U1 V1 (8 * A + x') (8 * C + y') (8 * r) := by
  obtain ⟨⟨a1, a2, a3, a4⟩, b1, b2⟩ := Q
  have key : ∀ k, nrZ (U0 k) (V0 k) (U1 k) (V1 k) (8 * A + x) (8 * C + y) (8 * r) ↔ nrZ (U0 k) (V0 k) (U1 k) (V1 k) (8 * A + x') (8 * C + y') (8 * r) := fun k => by
    unfold nrZ
    omega
  by_cases z : nrP lv U0 V0 U1 V1 (8 * A + x) (8 * C + y) (8 * r)
  · rw [nrB_t z]
    obtain ⟨k, h1, h2⟩ := z
    exact (nrB_t ⟨k, h1, (key k).mp h2⟩).symm
  · rw [nrB_f z]
    exact (nrB_f (fun ⟨k, h1, h2⟩ => z ⟨k, h1, (key k).mpr h2⟩)).symm
/-- prisms on regions, walls: by middles of grains -/
theorem pr_rg (hg : g < gN n) (hax : ax < 3) (hD : ∀ k, lv k = true → D8 (DU k) (DV k)) : prG n (rgQ lv U0 V0 V1 DU DV D CU CV CR) ax fr to g = (decide (8 * fr < ((g8 n g ax : Nat) : Int) ∧ ((g8 n g ax : Nat) : Int) < 8 * to) && rgB lv U0 V0 V1 DU DV D CU CV CR ((g8 n g (fA ax) : Nat) : Int) ((g8 n g (sA ax) : Nat) : Int)) := by
  obtain ⟨_, _, _, _, ht⟩ := g_lt hg
  have rb := rT_b hg hax
  have hf : fA ax < 3 := by have := fA_2 (ax := ax); omega
  have hsA : sA ax < 3 := by have := sA_2 (ax := ax); omega
  rw [prG_ax hax, g8_C hax, g8_C hf, g8_C hsA]
  congr 1
  · rw [decide_eq_decide]
    omega
  · unfold rgQ
    rw [show ((8 * gC n g (fA ax) + rT (gSo g) (fA ax) : Nat) : Int) = 8 * ((gC n g (fA ax) : Nat) : Int) + ((rT (gSo g) (fA ax) : Nat) : Int) by omega, show ((8 * gC n g (sA ax) + rT (gSo g) (sA ax) : Nat) : Int) = 8 * ((gC n g (sA ax) : Nat) : Int) + ((rT (gSo g) (sA ax) : Nat) : Int) by omega, rg_q hax ht hD]
theorem pr_nr (hg : g < gN n) (hax : ax < 3) : prG n (nrQ lv U0 V0 U1 V1 r) ax fr to g = (decide (8 * fr < ((g8 n g ax : Nat) : Int) ∧ ((g8 n g ax : Nat) : Int) < 8 * to) && nrB lv U0 V0 U1 V1 ((g8 n g (fA ax) : Nat) : Int) ((g8 n g (sA ax) : Nat) : Int) (8 * r)) := by
  obtain ⟨_, _, _, _, ht⟩ := g_lt hg
  have rb := rT_b hg hax
  have hf : fA ax < 3 := by have := fA_2 (ax := ax); omega
  have hsA : sA ax < 3 := by have := sA_2 (ax := ax); omega
  rw [prG_ax hax, g8_C hax, g8_C hf, g8_C hsA]
  congr 1
  · rw [decide_eq_decide]
    omega
  · unfold nrQ
    rw [show ((8 * gC n g (fA ax) + rT (gSo g) (fA ax) : Nat) : Int) = 8 * ((gC n g (fA ax) : Nat) : Int) + ((rT (gSo g) (fA ax) : Nat) : Int) by omega, show ((8 * gC n g (sA ax) + rT (gSo g) (sA ax) : Nat) : Int) = 8 * ((gC n g (sA ax) : Nat) : Int) + ((rT (gSo g) (sA ax) : Nat) : Int) by omega, nr_q (sd_is hax ht)]
/-- the beginning of isIn, of features on a sketch -/
theorem in_sk {kd : Int} {Q : Rs → Prop} {u3 u4 u5 u6 u7 u8 : AV} (l : LX B n h) (hd : 9 ≤ d) (hn : n ≤ 52) (m : TbM B h) (hg : g < gN n) (hq : hv h (B + 149) 19 = rf q) (Dq : YD B q h) (F1 : YF B f1 h) (hk : hv h f1 1 = kd) (ho : hv h f1 3 = (s : Int)) (hs : s < 6) (e0 : hv h (q + (8 + 14 * s)) 0 = (ax : Int)) (e1 : hv h (q + (8 + 14 * s)) 1 = o) (hax : ax < 3) (hkd : kd = 1 ∨ kd = 2 ∨ kd = 3 ∨ kd = 8)
    (H : Ends (ev PP (gsF gv) B d 693 (sw693_143 kd) [(2, rf (B + 149)), (2, rf f1), (0, (g : Int)), (0, (ax : Int)), (0, o), (0, ((g8 n g ax : Nat) : Int)), (0, ((g8 n g (fA ax) : Nat) : Int)), (0, ((g8 n g (sA ax) : Nat) : Int)), u8] [] h) Q) :
    Ends (ev PP (gsF gv) B d 693 0 [(2, rf (B + 149)), (2, rf f1), (0, (g : Int)), u3, u4, u5, u6, u7, u8] [] h) Q := by
  have e7 : v710 kd = 0 := by rcases hkd with rfl | rfl | rfl | rfl <;> rfl
  have hf : fA ax < 3 := by have := fA_2 (ax := ax); omega
  have hsA : sA ax < 3 := by have := sA_2 (ax := ax); omega
  obtain ⟨p0, p1⟩ := coord_is m hn hg hax
  obtain ⟨r0, r1⟩ := coord_is m hn hg hf
  obtain ⟨t0, t1⟩ := coord_is m hn hg hsA
  refine Ends.eq (b693_0 l hd hq Dq F1) ?_
  rw [hk, ho, e7]
  simp only [show tst 0 (0 : Int) 0 = true from rfl, cond_true, tn]
  rw [e0, e1, (f635_is hax).1, (f635_is hax).2, p1, r1, t1]
  exact Ends.b0 (fun z => by omega) (fun _ => Ends.b1 (fun _ => Ends.g ⟨by omega, by omega⟩ (Ends.g ⟨by omega, by omega⟩ (Ends.g p0 (Ends.g r0 (Ends.g t0 H))))) (fun z => by omega))
theorem g8_b (hg : g < gN n) (hn : n ≤ 52) (ha : a < 3) : g8 n g a < 8 * n ∧ ((g8 n g a : Nat) : Int) % 8 ≠ 0 := by
  have rb := rT_b hg ha
  have := g8_C (n := n) (g := g) ha
  have := gC_lt (a := a) hg
  omega
/-- is a grain in, features of kind 1 -/
theorem c_isIn_1 (l : LX B n h) (hd : 12 ≤ d) (hn : n ≤ 52) (m : TbM B h) (hg : g < gN n) (hq : hv h (B + 149) 19 = rf q) (Dq : YD B q h) (F1 : YF B f1 h) (hk : hv h f1 1 = 1) (ho : hv h f1 3 = (s : Int)) (hs : s < 6) (e0 : hv h (q + (8 + 14 * s)) 0 = (ax : Int)) (e1 : hv h (q + (8 + 14 * s)) 1 = o) (hax : ax < 3) (pv : PvM B h 2 nb) (nbb : ∀ k, k < 2 → -200 ≤ nb k ∧ nb k ≤ 200) (ob : -200 ≤ o ∧ o ≤ 200) (Sm : SgM B h lv U0 V0 U1 V1) (hG : ∀ k, k < 24 → lv k = true → SgK n U0 V0 U1 V1 DU DV SZ k) (hl : ∀ k, lv k = true → k < 24) (Dm : DscM B n h D CU CV CR) :
    Vt 0 (cll PP (ev PP (gsF gv) B) d 693 [(2, rf (B + 149)), (2, rf f1), (0, (g : Int))] h) (fun v h' => h' = h ∧ v = if prG n (rgQ lv U0 V0 V1 DU DV D CU CV CR) ax (o + nb 0) (o + nb 1) g = true then 1 else 0) := by
  refine Vt.inq (D := 11) hd (Nat.le_of_ble_eq_true rfl) rfl (fun d hd Q K => ?_)
  have hf : fA ax < 3 := by have := fA_2 (ax := ax); omega
  have hsA : sA ax < 3 := by have := sA_2 (ax := ax); omega
  have n0 := nbb 0 (by decide)
  have n1 := nbb 1 (by decide)
  have gf := g8_b hg hn hf
  have gs := g8_b hg hn hsA
  have w1 : bop32 104 8 (bop32 96 o (nb 0)) = 8 * (o + nb 0) := by
    rw [add32 (x := o) (by omega) (by omega)]
    exact mul32 (by omega) (by omega)
  have w2 : bop32 104 8 (bop32 96 o (nb 1)) = 8 * (o + nb 1) := by
    rw [add32 (x := o) (by omega) (by omega)]
    exact mul32 (by omega) (by omega)
  have ep := pr_rg (n := n) (lv := lv) (U0 := U0) (V0 := V0) (V1 := V1) (DU := DU) (DV := DV) (D := D) (CU := CU) (CV := CV) (CR := CR) (fr := o + nb 0) (to := o + nb 1) hg hax (fun k lk => (hG k (hl k lk) lk).1.1)
  have out : ¬ (8 * (o + nb 0) < ((g8 n g ax : Nat) : Int) ∧ ((g8 n g ax : Nat) : Int) < 8 * (o + nb 1)) → ∀ u8 : AV, Ends (ev PP (gsF gv) B d 693 229 [(2, rf (B + 149)), (2, rf f1), (0, (g : Int)), (0, (ax : Int)), (0, o), (0, ((g8 n g ax : Nat) : Int)), (0, ((g8 n g (fA ax) : Nat) : Int)), (0, ((g8 n g (sA ax) : Nat) : Int)), u8] [] h) Q := fun z u8 => by
    refine Ends.eq (b693_229 l (by omega)) (Ends.eq (b693_230 l (by omega)) (Ends.g (Or.inl rfl) (Ends.sm (K _ _ ⟨rfl, ?_⟩))))
    rw [ep, decide_eq_false z]; rfl
  refine in_sk l (by omega) hn m hg hq Dq F1 hk ho hs e0 e1 hax (Or.inl rfl) ?_
  rw [show sw693_143 1 = 180 from rfl]
  refine Ends.eq (b693_180 l (by omega)) ?_
  simp only [show Int.toNat 0 = 0 from rfl, show Int.toNat 1 = 1 from rfl]
  rw [pv 0 (by decide), pv 1 (by decide), w1, w2]
  clear w1 w2
  refine Ends.b5 (fun z => out (by omega) _) (fun z1 => Ends.b3 (fun z => out (by omega) _) (fun z2 => ?_))
  refine Ends.ct l (by decide +kernel) (by decide) (c_isInRegion697 l (by omega) (by omega) Sm hG hl Dm (by omega) (by omega) gs.2) (fun y q2 l2 _ _ _ ⟨eq2_, ey⟩ => ?_)
  subst eq2_
  refine Ends.eq (b693_222 l2 (by omega)) (Ends.sm (K _ _ ⟨rfl, ?_⟩))
  rw [ep, decide_eq_true (show _ ∧ _ from ⟨by omega, by omega⟩), ey, ct0, Bool.true_and]
  cases rgB lv U0 V0 V1 DU DV D CU CV CR ((g8 n g (fA ax) : Nat) : Int) ((g8 n g (sA ax) : Nat) : Int) <;> rfl
/-- is a grain in, features of kind 8 -/
theorem c_isIn_8 (l : LX B n h) (hd : 12 ≤ d) (hn : n ≤ 52) (m : TbM B h) (hg : g < gN n) (hq : hv h (B + 149) 19 = rf q) (Dq : YD B q h) (F1 : YF B f1 h) (hk : hv h f1 1 = 8) (ho : hv h f1 3 = (s : Int)) (hs : s < 6) (e0 : hv h (q + (8 + 14 * s)) 0 = (ax : Int)) (e1 : hv h (q + (8 + 14 * s)) 1 = o) (hax : ax < 3) (pv : PvM B h 3 nb) (nbb : ∀ k, k < 3 → -200 ≤ nb k ∧ nb k ≤ 200) (n0 : 0 ≤ nb 0) (ob : -200 ≤ o ∧ o ≤ 200) (Sm : SgM B h lv U0 V0 U1 V1) (bl : BdL lv U0 V0 U1 V1) (hl : ∀ k, lv k = true → k < 24) :
    Vt 0 (cll PP (ev PP (gsF gv) B) d 693 [(2, rf (B + 149)), (2, rf f1), (0, (g : Int))] h) (fun v h' => h' = h ∧ v = if prG n (nrQ lv U0 V0 U1 V1 (nb 0)) ax (o + nb 1) (o + nb 2) g = true then 1 else 0) := by
  refine Vt.inq (D := 11) hd (Nat.le_of_ble_eq_true rfl) rfl (fun d hd Q K => ?_)
  have hf : fA ax < 3 := by have := fA_2 (ax := ax); omega
  have hsA : sA ax < 3 := by have := sA_2 (ax := ax); omega
  have n0' := nbb 0 (by decide)
  have n1 := nbb 1 (by decide)
  have n2 := nbb 2 (by decide)
  have gf := g8_b hg hn hf
  have gs := g8_b hg hn hsA
  have w1 : bop32 104 8 (bop32 96 o (nb 1)) = 8 * (o + nb 1) := by
    rw [add32 (x := o) (by omega) (by omega)]
    exact mul32 (by omega) (by omega)
  have w2 : bop32 104 8 (bop32 96 o (nb 2)) = 8 * (o + nb 2) := by
    rw [add32 (x := o) (by omega) (by omega)]
    exact mul32 (by omega) (by omega)
  have ep := pr_nr (n := n) (lv := lv) (U0 := U0) (V0 := V0) (U1 := U1) (V1 := V1) (r := nb 0) (fr := o + nb 1) (to := o + nb 2) hg hax
  have out : ¬ (8 * (o + nb 1) < ((g8 n g ax : Nat) : Int) ∧ ((g8 n g ax : Nat) : Int) < 8 * (o + nb 2)) → ∀ u8 : AV, Ends (ev PP (gsF gv) B d 693 638 [(2, rf (B + 149)), (2, rf f1), (0, (g : Int)), (0, (ax : Int)), (0, o), (0, ((g8 n g ax : Nat) : Int)), (0, ((g8 n g (fA ax) : Nat) : Int)), (0, ((g8 n g (sA ax) : Nat) : Int)), u8] [] h) Q := fun z u8 => by
    refine Ends.eq (b693_638 l (by omega)) (Ends.eq (b693_639 l (by omega)) (Ends.g (Or.inl rfl) (Ends.sm (K _ _ ⟨rfl, ?_⟩))))
    rw [ep, decide_eq_false z]; rfl
  refine in_sk l (by omega) hn m hg hq Dq F1 hk ho hs e0 e1 hax (Or.inr (Or.inr (Or.inr rfl))) ?_
  rw [show sw693_143 8 = 583 from rfl]
  refine Ends.eq (b693_583 l (by omega)) ?_
  simp only [show Int.toNat 0 = 0 from rfl, show Int.toNat 1 = 1 from rfl, show Int.toNat 2 = 2 from rfl]
  rw [pv 0 (by decide), pv 1 (by decide), pv 2 (by decide), w1, w2]
  clear w1 w2
  refine Ends.b5 (fun z => out (by omega) _) (fun z1 => Ends.b3 (fun z => out (by omega) _) (fun z2 => ?_))
  refine Ends.ct l (by decide +kernel) (by decide) (c_isNearLine705 l (by omega) Sm bl hl (by omega) (by omega) (by omega)) (fun y q2 l2 _ _ _ ⟨eq2_, ey⟩ => ?_)
  subst eq2_
  refine Ends.eq (b693_631 l2 (by omega)) (Ends.sm (K _ _ ⟨rfl, ?_⟩))
  rw [ep, decide_eq_true (show _ ∧ _ from ⟨by omega, by omega⟩), ey, ct0, Bool.true_and]
  cases nrB lv U0 V0 U1 V1 ((g8 n g (fA ax) : Nat) : Int) ((g8 n g (sA ax) : Nat) : Int) (8 * nb 0) <;> rfl
end RGQ
