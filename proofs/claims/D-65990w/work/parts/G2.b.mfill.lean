/-! L3: fills (model) -/
noncomputable section FILM
variable {gv : Nat → Int} {B n d ax f2 q w1 k F g s D tt : Nat} {h : AH} {S lv : Nat → Bool} {U0 V0 U1 V1 DU DV SZ CU CV : Nat → Int} {CR : Nat → Nat} {o : Int} {dn : Bool} {R : Nat → Nat → Nat → Bool}
/-- is a grain between the sketch and what comes nearest in its column -/
def flP (n ax : Nat) (o : Int) (dn : Bool) (S : Nat → Bool) (g : Nat) : Prop := 0 < dsZ n ax o dn g ∧ ∀ g', g' < gN n → S g' = true → colG n ax g' = colG n ax g → 0 ≤ dsZ n ax o dn g' → dsZ n ax o dn g < dsZ n ax o dn g'
noncomputable def flG (n ax : Nat) (o : Int) (dn : Bool) (S : Nat → Bool) (R : Nat → Nat → Nat → Bool) (g : Nat) : Bool := @decide (flP n ax o dn S g) (Classical.propDecidable _) && R (quT ax (gSo g)) (gC n g (sA ax)) (gC n g (fA ax))
theorem flG_t (z : flP n ax o dn S g) : flG n ax o dn S R g = R (quT ax (gSo g)) (gC n g (sA ax)) (gC n g (fA ax)) := by
  unfold flG
  rw [@decide_eq_true _ (Classical.propDecidable _) z, Bool.true_and]
theorem flG_f (z : ¬ flP n ax o dn S g) : flG n ax o dn S R g = false := by
  unfold flG
  rw [@decide_eq_false _ (Classical.propDecidable _) z, Bool.false_and]
theorem near_fl {m : Int} (hn0 : 0 < n) (hn : n ≤ 52) (hg : g < gN n) (hax : ax < 3) (ob : 0 ≤ o ∧ o ≤ n) (N : NrV n ax o dn S (gN n) (colG n ax g) m) (pos : 0 < dsZ n ax o dn g) : dsZ n ax o dn g < m ↔ flP n ax o dn S g := by
  obtain ⟨h1, h2, h3⟩ := N
  have db := ds_b (n := n) (ax := ax) (o := o) (dn := dn) hn hg hax ob
  constructor
  · intro z
    refine ⟨pos, fun g' a1 a2 a3 a4 => ?_⟩
    have := h1 g' a1 a2 a3 a4
    omega
  · rintro ⟨-, z⟩
    rcases h3 with h3 | ⟨g', a1, a2, a3, a4, a5⟩
    · omega
    · rw [a5]; exact z g' a1 a2 a3 a4
set_option maxHeartbeats 2000000 in
theorem c_fill629 (l : LX B n h) (hd : 14 ≤ d) (hn0 : 0 < n) (hn : n ≤ 52) (m : TbM B h) (hq : hv h (B + 149) 19 = rf q) (Dq : YD B q h) (F1 : YF B f2 h) (hs : s < 6) (ho : hv h f2 3 = (s : Int)) (S3 : YS B (q + (8 + 14 * s)) h) (e0 : hv h (q + (8 + 14 * s)) 0 = (ax : Int)) (e1 : hv h (q + (8 + 14 * s)) 1 = o) (hax : ax < 3) (ob : 0 ≤ o ∧ o ≤ n) (ed : (hv h (B + 198) 0 = 1 ∧ dn = true) ∨ (hv h (B + 198) 0 ≠ 1 ∧ dn = false)) (Fi : FiM B n h F) (k24 : k < 24) (hr : tt < 19) (N : ∀ C, C < 4 * n * n → NrV n ax o dn S (gN n) C (hv h F (4 * n * n * k + C))) (Sm : SgM B h lv U0 V0 U1 V1) (hG : ∀ k, k < 24 → lv k = true → SgK n U0 V0 U1 V1 DU DV SZ k) (hl : ∀ k, lv k = true → k < 24) (Dm : DscM B n h D CU CV CR) :
    Vd (cll PP (ev PP (gsF gv) B) d 629 [(2, rf (B + 149)), (0, (k : Int)), (2, rf f2), (0, (tt : Int))] h) (fun h' => Agr (wto B n tt (wN n)) h h' ∧ MB B n h' tt (flG n ax o dn S (rgQ lv U0 V0 V1 DU DV D CU CV CR))) := by
  obtain ⟨f1', f2', f3'⟩ := Fi
  have hfA : fA ax < 3 := by have := fA_2 (ax := ax); omega
  have hsA : sA ax < 3 := by have := sA_2 (ax := ax); omega
  obtain ⟨w1, ew1⟩ : ∃ w1, w1 = q + (8 + 14 * s) := ⟨_, rfl⟩
  rw [← ew1] at S3 e0 e1
  have lo := S3.lo
  have gnb : gN n < 2147483647 := by
    have := Nat.mul_le_mul (Nat.mul_le_mul (Nat.mul_le_mul_left 24 hn) hn) hn
    unfold gN
    omega
  refine Vd.inq (D := 13) hd (Nat.le_of_ble_eq_true rfl) rfl (fun d hd Q K => ?_)
  obtain ⟨T, eT⟩ : ∃ T, T = flG n ax o dn S (rgQ lv U0 V0 V1 DU DV D CU CV CR) := ⟨_, rfl⟩
  rw [← eT] at K
  have at_ : ∀ {q' : AH}, Agr (wto B n tt (wN n)) h q' → ∀ c j, c ≠ B + 236 → hv q' c j = hv h c j := fun {q'} g c j hc => g.at _ _ (fun z => hc z.1)
  have w2 : ∀ c j, wto B n tt (wN n) c j → c = B + 236 := fun c j z => z.1
  have grains : ∀ (r i : Nat) (q' : AH) (u6 u7 u8 : AV), i + r = gN n → LX B n q' → Agr (wto B n tt (wN n)) h q' → MB B n q' tt (fun g => decide (g < i) && T g) → Ends (ev PP (gsF gv) B d 629 22 [(2, rf (B + 149)), (0, (k : Int)), (2, rf f2), (0, (tt : Int)), (2, rf w1), (0, (i : Int)), u6, u7, u8] [] q') Q := by
    intro r
    induction r with
    | zero =>
      intro i q' u6 u7 u8 ei lq g b
      obtain rfl : i = gN n := by omega
      have Sq : YS B w1 q' := S3.agr g (fun j _ z => by have := w2 _ _ z; omega)
      refine Ends.eq (b629_22 lq (by omega) Sq) (Ends.b3 (fun _ => Ends.sm (K q' ⟨g, b.congr (fun g hg => ?_)⟩)) (fun z => absurd z (Int.lt_irrefl _)))
      rw [decide_eq_true hg, Bool.true_and]
    | succ r ih =>
      intro i q' u6 u7 u8 ei lq g b
      have hg : i < gN n := by omega
      have Sq : YS B w1 q' := S3.agr g (fun j _ z => by have := w2 _ _ z; omega)
      have mq : TbM B q' := m.agr g (fun c j h1 h2 h3 z => by have := w2 _ _ z; omega)
      obtain ⟨a1, a2⟩ := v544_is (g := i) (w1 := w1) (ax := ax) (o := o) (dn := dn) hn mq hg hax (by rw [at_ g _ _ (by omega)]; exact e0) (by rw [at_ g _ _ (by omega)]; exact e1) ob (by rw [at_ g _ _ (by omega)]; exact ed)
      have db := ds_b (n := n) (ax := ax) (o := o) (dn := dn) hn hg hax ob
      have cl := cl_lt (n := n) (ax := ax) hg hax
      obtain ⟨p0, p1⟩ := coord_is mq hn hg hfA
      obtain ⟨r0, r1⟩ := coord_is mq hn hg hsA
      have gf := g8_b hg hn hfA
      have gs := g8_b hg hn hsA
      obtain ⟨i1', i2⟩ := fi_ix (k := k) (C := colG n ax i) hn k24 cl
      have i1 := fun _ : Unit => i1'
      clear i1'
      have n4 := n4_b hn
      have e4 : ∀ _ : Unit, bop32 104 (bop32 104 (bop32 104 4 (n : Int)) (n : Int)) (k : Int) = bop32 104 ((4 * n * n : Nat) : Int) (k : Int) := fun _ => by
        have b1 : 4 * n ≤ 208 := by omega
        rw [show bop32 104 4 (n : Int) = ((4 * n : Nat) : Int) from mulNN (x := 4) (by omega), show bop32 104 ((4 * n : Nat) : Int) (n : Int) = ((4 * n * n : Nat) : Int) from mulNN (by omega)]
      have e104 : hv q' (B + 149) 104 = rf F := by rw [at_ g _ _ (by omega)]; exact f1'
      have kF : hk q' F = (2, 4 * n * n * 24) := by rw [g.hk]; exact f2'
      have vF : hv q' F (4 * n * n * k + colG n ax i) = hv h F (4 * n * n * k + colG n ax i) := at_ g _ _ (by omega)
      have eax : hv q' w1 0 = (ax : Int) := by rw [at_ g _ _ (by omega)]; exact e0
      have next : ∀ (q2 : AH) (x6 x7 x8 : Int), LX B n q2 → Agr (wto B n tt (wN n)) h q2 → MB B n q2 tt (fun g => decide (g < i + 1) && T g) → Ends (ev PP (gsF gv) B d 629 128 [(2, rf (B + 149)), (0, (k : Int)), (2, rf f2), (0, (tt : Int)), (2, rf w1), (0, (i : Int)), (0, x6), (0, x7), (0, x8)] [] q2) Q := fun q2 x6 x7 x8 l2 g2 b2 => by
        refine Ends.eq (b629_128 l2 (by omega)) ?_
        rw [w_succ (by omega)]
        exact ih (i + 1) q2 _ _ _ (by omega) l2 g2 b2
      have no : T i = false → ∀ (q2 : AH) (x6 x7 x8 : Int), LX B n q2 → Agr (wto B n tt (wN n)) h q2 → MB B n q2 tt (fun g => decide (g < i) && T g) → Ends (ev PP (gsF gv) B d 629 128 [(2, rf (B + 149)), (0, (k : Int)), (2, rf f2), (0, (tt : Int)), (2, rf w1), (0, (i : Int)), (0, x6), (0, x7), (0, x8)] [] q2) Q := fun z q2 x6 x7 x8 l2 g2 b2 => next q2 x6 x7 x8 l2 g2 (b2.congr (fun g _ => by
        by_cases e : g = i
        · rw [e, z, Bool.and_false, Bool.and_false]
        · rw [show decide (g < i + 1) = decide (g < i) from by rw [decide_eq_decide]; omega]))
      have nf := near_fl (n := n) (g := i) (ax := ax) (o := o) (dn := dn) (S := S) hn0 hn hg hax ob (N _ cl)
      refine Ends.eq (b629_22 lq (by omega) Sq) ?_
      rw [a2, eax, (f635_is hax).1, (f635_is hax).2, p1, r1, v573_is hn hg hax, e4 (), i1 (), e104, ad_rf, tn, vF]
      refine Ends.b3 (fun z => absurd z (by omega)) (fun _ => Ends.g a1 (Ends.g p0 (Ends.g r0 (Ends.b5 (fun z => no (by rw [eT]; exact flG_f (fun y => by have := y.1; omega)) q' _ _ _ lq g b) (fun z => Ends.g ⟨rf_pos _, by rw [kF], by omega, by rw [kF]; show ((4 * n * n * k + colG n ax i : Nat) : Int) < ((4 * n * n * 24 : Nat) : Int); omega⟩ (Ends.b3 (fun z2 => no (by rw [eT]; exact flG_f (fun y => by have := (nf z).mpr y; omega)) q' _ _ _ lq g b) (fun z2 => ?_)))))))
      have fp := (nf z).mp z2
      have Sq' : SgM B q' lv U0 V0 U1 V1 := Sm.agr g (fun c j z => by have := w2 _ _ z; omega)
      have Dq' : DscM B n q' D CU CV CR := ⟨⟨by rw [at_ g _ _ (by omega)]; exact Dm.1.1, Dm.1.2⟩, fun i hi => by
        rw [at_ g _ _ (by omega), at_ g _ _ (by omega), at_ g _ _ (by omega)]; exact Dm.2 i hi⟩
      refine Ends.ct lq (by decide +kernel) (by decide) (c_isInRegion697 lq (by omega) (by omega) Sq' hG hl Dq' (by omega) (by omega) gs.2) (fun y q2 l2 _ _ _ ⟨eq2_, ey⟩ => ?_)
      subst eq2_
      obtain ⟨_, _, _, _, ht⟩ := g_lt hg
      have er : rgB lv U0 V0 V1 DU DV D CU CV CR ((g8 n i (fA ax) : Nat) : Int) ((g8 n i (sA ax) : Nat) : Int) = T i := by
        rw [eT, flG_t fp]
        unfold rgQ
        rw [g8_C hfA, g8_C hsA, show ((8 * gC n i (fA ax) + rT (gSo i) (fA ax) : Nat) : Int) = 8 * ((gC n i (fA ax) : Nat) : Int) + ((rT (gSo i) (fA ax) : Nat) : Int) by omega, show ((8 * gC n i (sA ax) + rT (gSo i) (sA ax) : Nat) : Int) = 8 * ((gC n i (sA ax) : Nat) : Int) + ((rT (gSo i) (sA ax) : Nat) : Int) by omega]
        exact rg_q hax ht (fun k lk => (hG k (hl k lk) lk).1.1)
      refine Ends.eq (b629_118 l2 (by omega)) ?_
      rw [ey, er]
      cases et : T i
      · exact Ends.b0 (fun _ => no et q2 _ _ _ l2 g b) (fun z => absurd rfl z)
      · refine Ends.b0 (fun z => absurd z (by decide)) (fun _ => ?_)
        refine Ends.cv l2 (by decide +kernel) (c_putM l2 (by omega) hn hr b hg) (fun q3 l3 _ _ _ ⟨_, g3, b3⟩ => ?_)
        refine next q3 _ _ _ l3 (g.tr g3 (fun _ _ z => z)) (b3.congr (fun g _ => ?_))
        by_cases e : g = i
        · rw [e, et, decide_eq_true (show i < i + 1 by omega), decide_eq_true (show i = i from rfl), Bool.or_true]; rfl
        · rw [decide_eq_false e, Bool.or_false, show decide (g < i + 1) = decide (g < i) from by rw [decide_eq_decide]; omega]
  refine Ends.eq (b629_0 l (by omega) hq Dq F1) ?_
  rw [ho, tn, ← ew1]
  refine Ends.g ⟨by omega, by omega⟩ ?_
  refine Ends.cv l (by decide +kernel) (c_empty l (by omega) hn hr) (fun q1 l1 _ _ _ ⟨g1, b1⟩ => ?_)
  refine Ends.eq (b629_19 l1 (by omega)) ?_
  exact grains (gN n) 0 q1 _ _ _ (by omega) l1 g1 (b1.congr (fun g _ => by rw [decide_eq_false (Nat.not_lt_zero g), Bool.false_and]))
end FILM
