/-! L3: tapers: both sides -/
noncomputable section TAP3
variable {gv : Nat → Int} {B n d s np nl nd nk ax a D f1 q g : Nat} {h : AH} {c : Nat → Int} {ab be dw nb U0 V0 U1 V1 DU DV SZ CU CV : Nat → Int} {CR : Nat → Nat} {S lv dlv dgk : Nat → Bool} {fr to_ dc : Nat → Nat} {cs : Nat → Cst} {w xa xb xc dr : Nat → Int} {isC gk : Nat → Bool} {Inv : AH → Prop} {W : Nat → Nat → Prop} {f : Nat → Nat → Nat} {o : Int}
/-- in quarters a region of unit squares is as in the squares -/
theorem sq_rg (hD : ∀ k, lv k = true → D8 (DU k) (DV k)) : sqF (rgQ lv U0 V0 V1 DU DV 0 CU CV CR) = sqR lv U0 V0 V1 DU DV 0 CU CV CR := funext (fun v => funext (fun u => by
  unfold sqF sqR rgQ
  have e : rgB lv U0 V0 V1 DU DV 0 CU CV CR (8 * (u : Int) + sU 0) (8 * (v : Int) + sV 0) = rgB lv U0 V0 V1 DU DV 0 CU CV CR (8 * (u : Int) + 4) (8 * (v : Int) + 3) := by
    unfold rgB
    rw [lc_q (x := sU 0) (y := sV 0) (x' := 4) (y' := 3) (A := (u : Int)) (C := (v : Int)) ⟨by decide, by decide, by decide⟩ hD]
    rfl
  rw [e]))
theorem dmid_b {k : Nat} (hg : g < gN n) (hk : k < 3) : ((gC n g k : Nat) : Int) * 8 < ((g8 n g k : Nat) : Int) ∧ ((g8 n g k : Nat) : Int) < ((gC n g k : Nat) : Int) * 8 + 8 := by
  have rb := rT_b hg hk
  have := g8_C (n := n) (g := g) hk
  omega
set_option maxHeartbeats 1000000 in
/-- behind a good straight profile: the taper -/
theorem c_taperGood {Q : Rs → Prop} {P : Nat → Nat → Nat → Bool} (l : LX B n h) (hd : 16 ≤ d) (hn0 : 0 < n) (hn : n ≤ 52) (m : TbC B h) (hs : s < 6) (hc : ∀ z, z < 37368 → hv h (B + 2) z = c z) (eax : c (skA s) = (ax : Int)) (eo : c (skA s + 1) = o) (hax : ax < 3) (ob : -200 ≤ o ∧ o ≤ 200) (pv : PvC B h 2 nb) (nbb : ∀ k, k < 2 → -200 ≤ nb k ∧ nb k ≤ 200) (sa : SG n h a S) (ha : B + 246 ≤ a) (qq : Qua n h (B + 114) P) (tz : TpZ B n h)
    (K : ∀ h', Agr (fun c _ => c = a ∨ c = B + 115 ∨ c = B + 116) h h' → TpZ B n h' → SG n h' a (fun g => S g || tpG n ax (sqF P) (o + nb 0) (o + nb 1) g) → Q ((0, (0, 1)), h')) (u3 u4 u5 : AV) :
    Ends (ev PP (gsF gv) B d 315 24 [(2, rf (B + 92)), (0, (s : Int)), (2, rf a), u3, u4, u5] [] h) Q := by
  have sk0 : skA s < 23000 := by unfold skA; omega
  obtain ⟨a1, a2⟩ := cell_is (i := skA s) hc (by omega)
  obtain ⟨b1, b2⟩ := cell_is (i := skA s + 1) hc (by omega)
  have e1 : bop32 96 (v391 (s : Int)) 1 = ((skA s + 1 : Nat) : Int) := by
    rw [v391_is hs]; exact addK (k := 1) (by omega)
  have v4 : v424 B h (s : Int) = o := by unfold v424; rw [e1, b2, eo]
  have v3 : v387 B h (s : Int) = (ax : Int) := by unfold v387; rw [v391_is hs, a2, eax]
  have q4 : q424 B h (s : Int) := by unfold q424; rw [e1]; exact b1
  have q3 : q387 B h (s : Int) := by unfold q387; rw [v391_is hs]; exact a1
  have n0 := nbb 0 (by decide)
  have n1 := nbb 1 (by decide)
  obtain ⟨p0, ep0⟩ : ∃ p, p = o + nb 0 := ⟨_, rfl⟩
  obtain ⟨p1, ep1⟩ : ∃ p, p = o + nb 1 := ⟨_, rfl⟩
  rw [← ep0, ← ep1] at K
  have w0 : bop32 96 o (nb 0) = p0 := by rw [ep0]; exact add32 (by omega) (by omega)
  have w1 : bop32 96 o (nb 1) = p1 := by rw [ep1]; exact add32 (by omega) (by omega)
  have eup : cond (tst 5 p1 p0) (0 : Int) 1 = if decide (p0 < p1) = true then 1 else 0 := by
    rw [ct5]
    by_cases e : p0 < p1
    · rw [if_pos e, if_pos (decide_eq_true e)]
    · rw [if_neg e, if_neg (fun z => e (of_decide_eq_true z))]
  refine Ends.eq (b315_24 l (by omega)) ?_
  simp only [show Int.toNat 0 = 0 from rfl, show Int.toNat 1 = 1 from rfl]
  rw [v4, v3, pv 0 (by decide), pv 1 (by decide), w0, w1, eup]
  refine Ends.g q3 (Ends.g q4 ?_)
  refine Ends.cv l (by decide +kernel) (c_set459 (ax := ax) (fr := p0) (up := decide (p0 < p1)) l (by omega) hn qq (Or.inl (by omega)) tz) (fun q lq _ _ _ ⟨gq, T⟩ => ?_)
  have mq : TbC B q := m.ext l.2.2 gq.ext (fun c k h1 h2 w => by omega)
  have sq := sa.agr gq (fun _ z => by omega)
  refine Ends.eq (b315_93 lq (by omega)) ?_
  rw [minI, max_I]
  refine Ends.cv lq (by decide +kernel) (c_between318b (P := fun x y z => tpB n (sqF P) (c3 x y z (fA ax)) (c3 x y z (sA ax)) (tpH p0 (decide (p0 < p1)) (c3 x y z ax))) (mth := 458) lq (by omega) hn0 hn mq (lk_115 lq) (by decide +kernel) (by decide) (by decide +kernel) sq ha hax (by split <;> omega) (fun q2 d hd l2 g2 x y z hx hy hz hb => ?_)) (fun q3 l3 _ _ _ ⟨g3, s3⟩ => ?_)
  · have at' : ∀ c k, c < B + 246 → hv q2 c k = hv q c k := fun c k hc => g2.at _ _ (by omega)
    have T2 : TpF B n q2 ax p0 (decide (p0 < p1)) (sqF P) := ⟨by rw [at' _ _ (by omega), at' _ _ (by omega), at' _ _ (by omega)]; exact T.1, fun y x h1 h2 => by rw [at' _ _ (by omega)]; exact T.2 y x h1 h2⟩
    refine c_has458 l2 hd hn hax T2 (fun v u => sq_1) ⟨by omega, by omega⟩ ⟨by omega, by omega⟩ ⟨by omega, by omega⟩ (by omega) ?_
    unfold tpH
    obtain ⟨k1, k2⟩ := hb
    generalize c3 ((x : Nat) : Int) ((y : Nat) : Int) ((z : Nat) : Int) ax = ww at *
    by_cases e : p0 < p1
    · rw [if_pos (decide_eq_true e)]
      rw [if_neg (by omega)] at k1
      omega
    · rw [if_neg (fun y => e (of_decide_eq_true y))]
      split at k2 <;> omega
  · refine Ends.eq (b315_117 l3 (by omega)) (Ends.sm (K q3 ((gq.sub (fun c k z => by omega)).tr g3 (fun c k z => Or.inl z)) ?_ ?_))
    · intro k hk
      rw [g3.at _ _ (by omega), g3.at _ _ (by omega)]
      exact T.zz k hk
    · refine SG.congr hn0 s3 (fun g hg => ?_)
      show (S g || _) = (S g || _)
      rw [c3_g (by have := fA_2 (ax := ax); omega), c3_g (by have := sA_2 (ax := ax); omega), c3_g hax]
      rfl
set_option maxHeartbeats 1000000 in
/-- is a grain in, features of kind 2 -/
theorem c_isIn_2 (l : LX B n h) (hd : 12 ≤ d) (hn : n ≤ 52) (m : TbM B h) (hg : g < gN n) (hq : hv h (B + 149) 19 = rf q) (Dq : YD B q h) (F1 : YF B f1 h) (hk : hv h f1 1 = 2) (ho : hv h f1 3 = (s : Int)) (hs : s < 6) (e0 : hv h (q + (8 + 14 * s)) 0 = (ax : Int)) (e1 : hv h (q + (8 + 14 * s)) 1 = o) (hax : ax < 3) (pv : PvM B h 2 nb) (nbb : ∀ k, k < 2 → -200 ≤ nb k ∧ nb k ≤ 200) (ob : -200 ≤ o ∧ o ≤ 200) (hf : ∀ v u, f v u ≤ 1) (M : SqM B n h f) :
    Vt 0 (cll PP (ev PP (gsF gv) B) d 693 [(2, rf (B + 149)), (2, rf f1), (0, (g : Int))] h) (fun v h' => h' = h ∧ v = if tpG n ax f (o + nb 0) (o + nb 1) g = true then 1 else 0) := by
  refine Vt.inq (D := 11) hd (Nat.le_of_ble_eq_true rfl) rfl (fun d hd Q K => ?_)
  have hfA : fA ax < 3 := by have := fA_2 (ax := ax); omega
  have hsA : sA ax < 3 := by have := sA_2 (ax := ax); omega
  have n0 := nbb 0 (by decide)
  have n1 := nbb 1 (by decide)
  have gf := g8_b hg hn hfA
  have gs := g8_b hg hn hsA
  have gw := g8_b hg hn hax
  have gm := dmid_b hg hax
  obtain ⟨p0, ep0⟩ : ∃ p, p = o + nb 0 := ⟨_, rfl⟩
  obtain ⟨p1, ep1⟩ : ∃ p, p = o + nb 1 := ⟨_, rfl⟩
  rw [← ep0, ← ep1] at K
  have w0 : bop32 96 o (nb 0) = p0 := by rw [ep0]; exact add32 (by omega) (by omega)
  have w1 : bop32 96 o (nb 1) = p1 := by rw [ep1]; exact add32 (by omega) (by omega)
  have m8 : bop32 104 8 p0 = 8 * p0 := mul32 (by omega) (by omega)
  have m8' : bop32 104 8 p1 = 8 * p1 := mul32 (by omega) (by omega)
  obtain ⟨ww, eww⟩ : ∃ ww : Int, ww = ((g8 n g ax : Nat) : Int) := ⟨_, rfl⟩
  have ev6 : v866 ww p0 p1 = if (p0 < p1 ∧ 8 * p0 < ww ∧ ww < 8 * p1) ∨ (¬ p0 < p1 ∧ 8 * p1 < ww ∧ ww < 8 * p0) then 1 else 0 := by
    unfold v866
    rw [m8, m8']
    simp only [ct2, ct3, ct4, ct5]
    by_cases z : p0 < p1 <;> by_cases y1 : 8 * p0 < ww <;> by_cases y2 : ww < 8 * p1 <;> by_cases y3 : 8 * p1 < ww <;> by_cases y4 : ww < 8 * p0 <;> simp only [z, y1, y2, y3, y4, if_true, if_false, and_true, and_false, or_true, or_false, not_true, not_false_iff, true_and, false_and, false_or, true_or, and_self] <;> omega
  have bt : btG n ax (if p1 < p0 then p1 else p0) (if p1 < p0 then p0 else p1) g = decide ((p0 < p1 ∧ 8 * p0 < ww ∧ ww < 8 * p1) ∨ (¬ p0 < p1 ∧ 8 * p1 < ww ∧ ww < 8 * p0)) := by
    unfold btG
    rw [decide_eq_decide, eww]
    split <;> omega
  have out : ¬ ((p0 < p1 ∧ 8 * p0 < ww ∧ ww < 8 * p1) ∨ (¬ p0 < p1 ∧ 8 * p1 < ww ∧ ww < 8 * p0)) → ∀ u8 : AV, Ends (ev PP (gsF gv) B d 693 290 [(2, rf (B + 149)), (2, rf f1), (0, (g : Int)), (0, (ax : Int)), (0, o), (0, ww), (0, ((g8 n g (fA ax) : Nat) : Int)), (0, ((g8 n g (sA ax) : Nat) : Int)), u8] [] h) Q := fun z u8 => by
    refine Ends.eq (b693_290 l (by omega)) (Ends.eq (b693_291 l (by omega)) (Ends.g (Or.inl rfl) (Ends.sm (K _ _ ⟨rfl, ?_⟩))))
    unfold tpG
    rw [bt, decide_eq_false z]; rfl
  refine in_sk l (by omega) hn m hg hq Dq F1 hk ho hs e0 e1 hax (Or.inr (Or.inl rfl)) ?_
  rw [show sw693_143 2 = 231 from rfl, ← eww]
  refine Ends.eq (b693_231 l (by omega)) ?_
  simp only [show Int.toNat 0 = 0 from rfl, show Int.toNat 1 = 1 from rfl]
  rw [pv 0 (by decide), pv 1 (by decide), w0, w1, m8, ev6]
  by_cases z : (p0 < p1 ∧ 8 * p0 < ww ∧ ww < 8 * p1) ∨ (¬ p0 < p1 ∧ 8 * p1 < ww ∧ ww < 8 * p0)
  · rw [if_pos z]
    have hH : 0 < tpH p0 (decide (p0 < p1)) ww ∧ tpH p0 (decide (p0 < p1)) ww ≤ 3700 := by
      unfold tpH
      by_cases e : p0 < p1
      · rw [if_pos (decide_eq_true e)]; omega
      · rw [if_neg (fun y => e (of_decide_eq_true y))]; omega
    have eH : v832 (bop32 100 ww (8 * p0)) = tpH p0 (decide (p0 < p1)) ww := by
      rw [sub32 (by omega) (by omega), v832_is (by omega) (by omega)]
      unfold tpH
      by_cases e : p0 < p1
      · rw [if_pos (decide_eq_true e), if_neg (by omega)]
      · rw [if_neg (fun y => e (of_decide_eq_true y)), if_pos (by omega)]
        omega
    rw [eH]
    clear ev6 w0 w1 m8 m8' eH
    refine Ends.b0 (fun y => absurd y (by decide)) (fun _ => ?_)
    refine Ends.ct l (by decide +kernel) (by decide) (c_isDeep683 l (by omega) hn hf M (by omega) (by omega) hH) (fun y q2 l2 _ _ _ ⟨eq2_, ey⟩ => ?_)
    subst eq2_
    refine Ends.eq (b693_283 l2 (by omega)) (Ends.sm (K _ _ ⟨rfl, ?_⟩))
    unfold tpG
    rw [bt, decide_eq_true z, ey, ct0, Bool.true_and, ← eww]
    cases tpB n f ((g8 n g (fA ax) : Nat) : Int) ((g8 n g (sA ax) : Nat) : Int) (tpH p0 (decide (p0 < p1)) ww) <;> rfl
  · rw [if_neg z]
    exact Ends.b0 (fun _ => out z _) (fun y => absurd rfl y)
end TAP3
