/-! L3: Signs: number, next -/
/-- a reader in the cell o: its text in the cell a, m bytes, u -/
def SgP (B : Nat) (h : AH) (o a m : Nat) (u : Nat → Int) : Prop := YO B o h ∧ hv h o 0 = rf a ∧ (∃ N, hk h a = (4, N) ∧ m ≤ N) ∧ hv h o 1 = (m : Int) ∧ (∀ i, i < m → hv h a i % 256 = u i) ∧ m ≤ 8192
def sgW (o : Nat) : Nat → Nat → Prop := fun c k => c = o ∧ 2 ≤ k
section SIGNS
variable {gv : Nat → Int} {B n d o a m : Nat} {h : AH} {u : Nat → Int}
theorem SgP.ne (S : SgP B h o a m u) : a ≠ o := fun e => by
  obtain ⟨N, h1, _⟩ := S.2.2.1
  rw [e, S.1.1] at h1
  exact absurd (congrArg Prod.fst h1) (by show ¬ (1 : Nat) = 4; decide)
theorem SgP.agr {t : AH} (S : SgP B h o a m u) (g : Agr (sgW o) h t) : SgP B t o a m u := by
  have ne := S.ne
  obtain ⟨⟨y1, y2⟩, a1, ⟨N, a2, a3⟩, a4, a5, a6⟩ := S
  refine ⟨⟨by rw [g.hk]; exact y1, y2⟩, by rw [g.at _ _ (by unfold sgW; omega)]; exact a1, ⟨N, by rw [g.hk]; exact a2, a3⟩, by rw [g.at _ _ (by unfold sgW; omega)]; exact a4, fun i hi => ?_, a6⟩
  rw [g.at _ _ (by unfold sgW; omega)]; exact a5 i hi
theorem SgP.s {k : Nat} {v : Int} (S : SgP B h o a m u) (hk2 : 2 ≤ k) : SgP B (hset h o k v) o a m u := S.agr (Agr.rf.set ⟨rfl, hk2⟩)
theorem SgP.lx {k : Nat} {v : Int} (S : SgP B h o a m u) (l : LX B n h) : LX B n (hset h o k v) := LX.setO l S.1.1 (by decide +kernel)
theorem SgP.by (S : SgP B h o a m u) (p : Nat) : v367 o h (p : Int) = chr u m p := by
  unfold v367 chr
  rw [S.2.2.2.1, tst3, S.2.1, ad_rf, tn, and255]
  by_cases e : p < m
  · rw [if_pos e, decide_eq_true (by omega), S.2.2.2.2.1 p e]; rfl
  · rw [if_neg e, decide_eq_false (by omega)]; rfl
theorem SgP.q (S : SgP B h o a m u) (p : Nat) : q367 o h (p : Int) := by
  obtain ⟨N, h1, h2⟩ := S.2.2.1
  unfold q367
  rw [S.2.2.2.1, tst3, S.2.1, ad_rf, h1]
  by_cases e : p < m
  · rw [decide_eq_true (by omega)]
    exact ⟨rf_pos _, rfl, by omega, by show (p : Int) < ((N : Nat) : Int); omega⟩
  · rw [decide_eq_false (by omega)]; exact trivial
theorem SgP.hu (S : SgP B h o a m u) : ∀ i, i < m → 0 ≤ u i ∧ u i < 256 := fun i hi => by
  have := S.2.2.2.2.1 i hi
  omega
theorem hor_b {p : Nat} : ∀ (k : Nat) (a : Int), (∀ j, j < k → 48 ≤ u (p + j) ∧ u (p + j) ≤ 57) → 0 ≤ a → 0 ≤ hor u k p a ∧ hor u k p a + 1 ≤ (a + 1) * 10 ^ k
  | 0, a, _, h0 => ⟨h0, by show a + 1 ≤ (a + 1) * 1; omega⟩
  | k + 1, a, hd, h0 => by
    obtain ⟨i1, i2⟩ := hor_b k a (fun j hj => hd j (by omega)) h0
    have := hd k (by omega)
    rw [hor_s, Int.pow_succ, ← Int.mul_assoc]
    generalize (a + 1) * 10 ^ k = z at *
    omega
theorem isD_r {c : Int} (e : isD c = true) : 48 ≤ c ∧ c ≤ 57 := by
  unfold isD at e
  simp at e; exact e
theorem dig {X c : Int} (h1 : 0 ≤ X) (h2 : X < 1000000000) (h3 : 0 ≤ c) (h4 : c < 256) : bop64 101 (bop64 97 (bop64 105 10 X) (uop 2 c)) 48 = 10 * X + (c - 48) := by
  rw [mul64 (by omega) (by omega), show uop 2 c = c from rfl, add64 (by omega) (by omega), sub64 (by omega) (by omega)]
  omega
/-- what is read -/
def SgN (h' : AH) (o : Nat) (u : Nat → Int) (m f : Nat) : Prop := hv h' o 2 = (if nOK u m f then 2 else 3) ∧ hv h' o 3 = (f : Int) ∧ hv h' o 4 = (nE2 u m f : Int) ∧ hv h' o 5 = -1 ∧ (nOK u m f = true → hv h' o 6 = nAb u m f ∧ hv h' o 7 = nBe u m f)
theorem p10 {j : Nat} (h : j ≤ 4) : (1 : Int) ≤ 10 ^ j ∧ (10 : Int) ^ j ≤ 10000 := by
  have : j = 0 ∨ j = 1 ∨ j = 2 ∨ j = 3 ∨ j = 4 := by omega
  rcases this with rfl | rfl | rfl | rfl | rfl <;> decide
theorem p10' {j : Nat} (h : j ≤ 5) : (10 : Int) ^ j ≤ 100000 := by
  have : j = 0 ∨ j = 1 ∨ j = 2 ∨ j = 3 ∨ j = 4 ∨ j = 5 := by omega
  rcases this with rfl | rfl | rfl | rfl | rfl | rfl <;> decide
theorem c_sgNumber (l : LX B n h) (hd : 10 ≤ d) (S : SgP B h o a m u) {f : Nat} (h3 : hv h o 3 = (f : Int)) (h4 : hv h o 4 = (f : Int)) (h5 : hv h o 5 = -1) (hf : f ≤ m) :
    Vd (cll PP (ev PP (gsF gv) B) d 374 [(2, (rf o))] h) (fun h' => Agr (sgW o) h h' ∧ SgN h' o u m f) := by
  have hm := S.2.2.2.2.2
  have ho := S.1
  refine Vd.into (D := 9) hd (Nat.le_of_ble_eq_true rfl) rfl (fun d hd => ?_)
  refine Ends.eq (b374_0 (n := n) (by (repeat' first | assumption | refine LX.setF _ _ ?_ (by decide +kernel) | refine LX.setS ?_ rfl | refine LX.setA ?_ (by first | assumption | omega))) (by first | assumption | omega) (by first | assumption | omega)) ?_
  have l0 : LX B n (hset (hset h o 6 (0 : Int)) o 7 (1 : Int)) := (S.s (k := 6) (v := (0 : Int)) (by decide)).lx (S.lx l)
  refine lpm (fun (i : Nat) => m - (f + i)) (fun (i : Nat) L q => ∃ u1 : AV, L = [(2, rf o), u1] ∧ LX B n q ∧ Agr (sgW o) h q ∧ (∀ j, j < i → 48 ≤ u (f + j) ∧ u (f + j) ≤ 57) ∧ nE1 u m f = en isD u m (f + i) ∧ f + i ≤ m ∧ hv q o 3 = (f : Int) ∧ hv q o 4 = ((f + i : Nat) : Int) ∧ hv q o 5 = -1 ∧ hv q o 6 = hor u (min i 5) f 0 ∧ hv q o 7 = 1) ?_ (0) ⟨_, rfl, (by (repeat' first | assumption | refine LX.setF _ _ ?_ (by decide +kernel) | refine LX.setS ?_ rfl | refine LX.setA ?_ (by assumption))), ?_, ?_⟩
  · rintro i _ q ⟨uq0, rfl, lq, gq, ⟨i1, i2, i3, i4, i5, i6, i7, i8⟩⟩ ihi
    have Sq := S.agr gq
    have ho := Sq.1
    refine Ends.eq (b374_10 (n := n) (by (repeat' first | assumption | refine LX.setF _ _ ?_ (by decide +kernel) | refine LX.setS ?_ rfl | refine LX.setA ?_ (by first | assumption | omega))) (by first | assumption | omega) (by first | assumption | omega)) ?_
    rw [i5, Sq.by, v369_is]
    refine Ends.g (Sq.q _) ?_
    cases hD : isD (chr u m (f + i)) with
    | true =>
      refine Ends.b0 (fun z => absurd z (by decide)) (fun _ => ?_)
      obtain ⟨e1, e2⟩ := en_t (P := isD) rfl hD
      have ec : chr u m (f + i) = u (f + i) := if_pos e2
      have dd := isD_r hD
      rw [ec] at dd
      obtain ⟨hb1, hb2⟩ := hor_b (u := u) (p := f) (min i 5) 0 (fun j hj => i1 j (by omega)) (Int.le_refl 0)
      have h10 := p10' (j := min i 5) (by omega)
      rw [ec, i4, i7, subNN (by omega) (by omega), show f + i - f = i by omega, b96_1 (by omega), tst3, dig hb1 (by omega) (by omega) (by omega)]
      have lq2 := (Sq.s (k := 6) (v := cond (!decide ((i : Int) < 5)) (hor u (min i 5) f 0) (10 * hor u (min i 5) f 0 + (u (f + i) - 48))) (by decide)).lx (k := 4) (v := ((f + i + 1 : Nat) : Int)) (Sq.lx lq)
      refine ihi (i + 1) _ _ ?_ ⟨_, rfl, (by (repeat' first | assumption | refine LX.setF _ _ ?_ (by decide +kernel) | refine LX.setS ?_ rfl | refine LX.setA ?_ (by assumption))), ?_, ?_⟩
      · omega
      · exact (gq.set ⟨rfl, by decide⟩).set ⟨rfl, by decide⟩
      · refine ⟨fun j hj => ?_, by rw [i2, e1]; rfl, by omega, ?_, ?_, ?_, ?_, ?_⟩
        · by_cases e : j = i
          · rw [e]; exact dd
          · exact i1 j (by omega)
        · rw [hv_set_ne (by omega), hv_set_ne (by omega)]; exact i4
        · rw [hv_set_at]; rfl
        · rw [hv_set_ne (by omega), hv_set_ne (by omega)]; exact i6
        · rw [hv_set_ne (by omega), hv_set_at]
          by_cases e : i < 5
          · rw [decide_eq_true (by omega), show min i 5 = i by omega, show min (i + 1) 5 = i + 1 by omega, hor_s]; rfl
          · rw [decide_eq_false (by omega), show min (i + 1) 5 = min i 5 by omega]; rfl
        · rw [hv_set_ne (by omega), hv_set_ne (by omega)]; exact i8
    | false =>
      refine Ends.b0 (fun _ => ?_) (fun z => absurd rfl z)
      rw [en_f hD] at i2
      rw [i4, subNN (by omega) (by omega), show f + i - f = i by omega, tst5]
      have ek : cond (!decide ((5 : Int) < (i : Int))) (2 : Int) 3 = if i ≤ 5 then 2 else 3 := by
        by_cases e : i ≤ 5
        · rw [if_pos e, decide_eq_false (by omega)]; rfl
        · rw [if_neg e, decide_eq_true (by omega)]; rfl
      rw [ek]
      have S2 : SgP B (hset q o 2 (if i ≤ 5 then 2 else 3)) o a m u := Sq.s (by decide)
      have l2 : LX B n (hset q o 2 (if i ≤ 5 then 2 else 3)) := Sq.lx lq
      have ho := S2.1
      have done : nPt u m f = false → Ends (ev PP (gsF gv) B d 374 134 [(2, rf o), uq0] [] (hset q o 2 (if i ≤ 5 then 2 else 3))) (fun r => ∃ h', r = ((0, (9, 0)), h') ∧ Agr (sgW o) h h' ∧ SgN h' o u m f) := by
        intro hp
        refine Ends.eq (b374_134 (n := n) (by (repeat' first | assumption | refine LX.setF _ _ ?_ (by decide +kernel) | refine LX.setS ?_ rfl | refine LX.setA ?_ (by first | assumption | omega))) (by first | assumption | omega)) ?_
        have eN : nOK u m f = decide (i ≤ 5) := by
          unfold nOK
          rw [hp, i2, show f + i - f = i by omega]; simp
        have e2 : nE2 u m f = f + i := by unfold nE2; rw [hp, i2]; rfl
        refine Ends.sm ⟨_, rfl, gq.set ⟨rfl, by decide⟩, ?_, ?_, ?_, ?_, fun ok => ⟨?_, ?_⟩⟩
        · rw [hv_set_at, eN]; simp
        · rw [hv_set_ne (by omega)]; exact i4
        · rw [hv_set_ne (by omega), e2]; exact i5
        · rw [hv_set_ne (by omega)]; exact i6
        · rw [eN] at ok
          have ok := of_decide_eq_true ok
          rw [hv_set_ne (by omega), i7]
          unfold nAb
          rw [hp, i2, show f + i - f = i by omega, show min i 5 = i by omega]; rfl
        · rw [hv_set_ne (by omega), i8]
          unfold nBe
          rw [hp]; rfl
      rw [S2.by, b96_1 (by omega), S2.by, v369_is]
      refine Ends.g (S2.q _) (Ends.b1 (fun z => ?_) (fun z => Ends.g (S2.q _) ?_))
      · refine done ?_
        unfold nPt
        rw [i2, decide_eq_false z]; rfl
      cases hD2 : isD (chr u m (f + i + 1)) with
      | false =>
        refine Ends.b1 (fun z => absurd rfl z) (fun _ => done ?_)
        unfold nPt
        rw [i2, hD2, Bool.and_false]
      | true =>
        refine Ends.b1 (fun _ => ?_) (fun z => absurd z (by decide))
        have hp : nPt u m f = true := by
          unfold nPt
          rw [i2, hD2, z]; rfl
        have hlt := (en_t (P := isD) rfl hD2).2
        have g2 : Agr (sgW o) h (hset (hset q o 2 (if i ≤ 5 then 2 else 3)) o 4 ((f + i + 1 : Nat) : Int)) := (gq.set ⟨rfl, by decide⟩).set ⟨rfl, by decide⟩
        have l3 : LX B n (hset (hset q o 2 (if i ≤ 5 then 2 else 3)) o 4 ((f + i + 1 : Nat) : Int)) := S2.lx l2
        obtain ⟨hb1, hb2⟩ := hor_b (u := u) (p := f) (min i 5) 0 (fun j hj => i1 j (by omega)) (Int.le_refl 0)
        have h10 := p10' (j := min i 5) (by omega)
        refine lpm (fun (j : Nat) => m - (f + i + 1 + j)) (fun (j : Nat) L r => L = [(2, rf o), (0, (((f + i : Nat) : Int)))] ∧ LX B n r ∧ Agr (sgW o) h r ∧ (∀ z, z < j → 48 ≤ u (f + i + 1 + z) ∧ u (f + i + 1 + z) ≤ 57) ∧ en isD u m (f + i + 1) = en isD u m (f + i + 1 + j) ∧ f + i + 1 + j ≤ m ∧ hv r o 3 = (f : Int) ∧ hv r o 4 = ((f + i + 1 + j : Nat) : Int) ∧ hv r o 5 = -1 ∧ hv r o 2 = (if i ≤ 5 then 2 else 3) ∧ hv r o 6 = hor u (min j 4) (f + i + 1) (hor u (min i 5) f 0) ∧ hv r o 7 = 10 ^ (min j 4)) ?_ (0) ⟨rfl, (by (repeat' first | assumption | refine LX.setF _ _ ?_ (by decide +kernel) | refine LX.setS ?_ rfl | refine LX.setA ?_ (by assumption))), ?_, ?_⟩
        · rintro j _ r ⟨rfl, lr, gr, ⟨k1, k2, k3, k4, k5, k6, k7, k8, k9⟩⟩ ihj
          have Sr := S.agr gr
          have ho := Sr.1
          refine Ends.eq (b374_150 (n := n) (by (repeat' first | assumption | refine LX.setF _ _ ?_ (by decide +kernel) | refine LX.setS ?_ rfl | refine LX.setA ?_ (by first | assumption | omega))) (by first | assumption | omega) (by first | assumption | omega)) ?_
          rw [k5, Sr.by, v369_is]
          refine Ends.g (Sr.q _) ?_
          rw [subNN (by omega) (by omega), show f + i + 1 + j - (f + i) = j + 1 by omega]
          cases hD3 : isD (chr u m (f + i + 1 + j)) with
          | true =>
            refine Ends.b0 (fun z => absurd z (by decide)) (fun _ => ?_)
            obtain ⟨e1, e2⟩ := en_t (P := isD) rfl hD3
            have ec : chr u m (f + i + 1 + j) = u (f + i + 1 + j) := if_pos e2
            have dd := isD_r hD3
            rw [ec] at dd
            have kn : ∀ z, z < j + 1 → 48 ≤ u (f + i + 1 + z) ∧ u (f + i + 1 + z) ≤ 57 := fun z hz => by
              by_cases e : z = j
              · rw [e]; exact dd
              · exact k1 z (by omega)
            refine Ends.b4 (fun z => ?_) (fun z => ?_)
            · refine Ends.eq (b374_212 (n := n) (by (repeat' first | assumption | refine LX.setF _ _ ?_ (by decide +kernel) | refine LX.setS ?_ rfl | refine LX.setA ?_ (by first | assumption | omega))) (by first | assumption | omega) (by first | assumption | omega)) ?_
              rw [k5, b96_1 (by omega)]
              have lr2 := Sr.lx (k := 4) (v := ((f + i + 1 + j + 1 : Nat) : Int)) lr
              refine ihj (j + 1) _ _ ?_ ⟨rfl, (by (repeat' first | assumption | refine LX.setF _ _ ?_ (by decide +kernel) | refine LX.setS ?_ rfl | refine LX.setA ?_ (by assumption))), ?_, ?_⟩
              · omega
              · exact gr.set ⟨rfl, by decide⟩
              · refine ⟨kn, by rw [k2, e1]; rfl, by omega, ?_, ?_, ?_, ?_, ?_, ?_⟩
                · rw [hv_set_ne (by omega)]; exact k4
                · rw [hv_set_at]; rfl
                · rw [hv_set_ne (by omega)]; exact k6
                · rw [hv_set_ne (by omega)]; exact k7
                · rw [hv_set_ne (by omega), show min (j + 1) 4 = min j 4 by omega]; exact k8
                · rw [hv_set_ne (by omega), show min (j + 1) 4 = min j 4 by omega]; exact k9
            · obtain ⟨hc1, hc2⟩ := hor_b (u := u) (p := f + i + 1) (min j 4) (hor u (min i 5) f 0) (fun z hz => k1 z (by omega)) hb1
              have h11 := p10 (j := min j 4) (by omega)
              have hj4 : j < 4 := by omega
              rw [k8, k9, ec, show min j 4 = j by omega] at *
              have hX : hor u j (f + i + 1) (hor u (min i 5) f 0) < 1000000000 := by
                have hz : (hor u (min i 5) f 0 + 1) * 10 ^ j ≤ 100000 * 10 ^ j := Int.mul_le_mul_of_nonneg_right (by omega) (by omega)
                have h12 : (10 : Int) ^ j ≤ 1000 := by
                  have : j = 0 ∨ j = 1 ∨ j = 2 ∨ j = 3 := by omega
                  rcases this with rfl | rfl | rfl | rfl <;> decide
                omega
              rw [dig hc1 hX (by omega) (by omega), mul64 (by omega) (by omega)]
              have Sr2 : SgP B (hset (hset r o 6 (10 * hor u j (f + i + 1) (hor u (min i 5) f 0) + (u (f + i + 1 + j) - 48))) o 7 (10 * 10 ^ j)) o a m u := (Sr.s (k := 6) (v := 10 * hor u j (f + i + 1) (hor u (min i 5) f 0) + (u (f + i + 1 + j) - 48)) (by decide)).s (by decide)
              have lr2 : LX B n (hset (hset r o 6 (10 * hor u j (f + i + 1) (hor u (min i 5) f 0) + (u (f + i + 1 + j) - 48))) o 7 (10 * 10 ^ j)) := (Sr.s (k := 6) (v := 10 * hor u j (f + i + 1) (hor u (min i 5) f 0) + (u (f + i + 1 + j) - 48)) (by decide)).lx (Sr.lx lr)
              have ho := Sr2.1
              refine Ends.eq (b374_212 (n := n) (by (repeat' first | assumption | refine LX.setF _ _ ?_ (by decide +kernel) | refine LX.setS ?_ rfl | refine LX.setA ?_ (by first | assumption | omega))) (by first | assumption | omega) (by first | assumption | omega)) ?_
              rw [hv_set_ne (by omega), hv_set_ne (by omega), k5, b96_1 (by omega)]
              have lr3 := Sr2.lx (k := 4) (v := ((f + i + 1 + j + 1 : Nat) : Int)) lr2
              refine ihj (j + 1) _ _ ?_ ⟨rfl, (by (repeat' first | assumption | refine LX.setF _ _ ?_ (by decide +kernel) | refine LX.setS ?_ rfl | refine LX.setA ?_ (by assumption))), ?_, ?_⟩
              · omega
              · exact ((gr.set ⟨rfl, by decide⟩).set ⟨rfl, by decide⟩).set ⟨rfl, by decide⟩
              · refine ⟨kn, by rw [k2, e1]; rfl, by omega, ?_, ?_, ?_, ?_, ?_, ?_⟩
                · rw [hv_set_ne (by omega), hv_set_ne (by omega), hv_set_ne (by omega)]; exact k4
                · rw [hv_set_at]; rfl
                · rw [hv_set_ne (by omega), hv_set_ne (by omega), hv_set_ne (by omega)]; exact k6
                · rw [hv_set_ne (by omega), hv_set_ne (by omega), hv_set_ne (by omega)]; exact k7
                · rw [hv_set_ne (by omega), hv_set_ne (by omega), hv_set_at, show min (j + 1) 4 = j + 1 by omega, hor_s]
                · rw [hv_set_ne (by omega), hv_set_at, show min (j + 1) 4 = j + 1 by omega, Int.pow_succ]; omega
          | false =>
            refine Ends.b0 (fun _ => ?_) (fun z => absurd rfl z)
            rw [en_f hD3] at k2
            have e2 : nE2 u m f = f + i + 1 + j := by unfold nE2; rw [hp, i2]; exact k2
            have eN : nOK u m f = (decide (i ≤ 5) && decide (j ≤ 4)) := by
              unfold nOK
              rw [hp, e2, i2, show f + i - f = i by omega, show f + i + 1 + j - (f + i) = j + 1 by omega]
              simp
            have fin : nOK u m f = true → hor u (min j 4) (f + i + 1) (hor u (min i 5) f 0) = nAb u m f ∧ (10 : Int) ^ (min j 4) = nBe u m f := fun ok => by
              rw [eN] at ok
              simp at ok
              unfold nAb nBe
              rw [hp, e2, i2, show f + i - f = i by omega, show f + i + 1 + j - (f + i) - 1 = j by omega, show min i 5 = i by omega, show min j 4 = j by omega]
              exact ⟨rfl, rfl⟩
            refine Ends.b5 (fun z => ?_) (fun z => ?_)
            · refine Ends.eq (b374_240 (n := n) (by (repeat' first | assumption | refine LX.setF _ _ ?_ (by decide +kernel) | refine LX.setS ?_ rfl | refine LX.setA ?_ (by first | assumption | omega))) (by first | assumption | omega)) ?_
              refine Ends.sm ⟨_, rfl, gr, ?_, k4, by rw [k5, e2], k6, fun ok => ⟨k8.trans (fin ok).1, k9.trans (fin ok).2⟩⟩
              rw [k7, eN, decide_eq_true (show j ≤ 4 by omega)]; simp
            · have lr2 := Sr.lx (k := 2) (v := (3 : Int)) lr
              have ho := (Sr.s (k := 2) (v := (3 : Int)) (by decide)).1
              refine Ends.eq (b374_240 (n := n) (by (repeat' first | assumption | refine LX.setF _ _ ?_ (by decide +kernel) | refine LX.setS ?_ rfl | refine LX.setA ?_ (by first | assumption | omega))) (by first | assumption | omega)) ?_
              refine Ends.sm ⟨_, rfl, gr.set ⟨rfl, by decide⟩, ?_, ?_, ?_, ?_, fun ok => ?_⟩
              · rw [hv_set_at, eN, decide_eq_false (show ¬ j ≤ 4 by omega)]; simp
              · rw [hv_set_ne (by omega)]; exact k4
              · rw [hv_set_ne (by omega), k5, e2]
              · rw [hv_set_ne (by omega)]; exact k6
              · rw [eN, decide_eq_false (show ¬ j ≤ 4 by omega), Bool.and_false] at ok; cases ok
        · exact g2
        · refine ⟨fun z hz => absurd hz (by omega), rfl, by omega, ?_, hv_set_at .., ?_, ?_, ?_, ?_⟩
          · rw [hv_set_ne (by omega), hv_set_ne (by omega)]; exact i4
          · rw [hv_set_ne (by omega), hv_set_ne (by omega)]; exact i6
          · rw [hv_set_ne (by omega)]; exact hv_set_at ..
          · rw [hv_set_ne (by omega), hv_set_ne (by omega)]; exact i7
          · rw [hv_set_ne (by omega), hv_set_ne (by omega)]; exact i8
  · exact (Agr.rf.set ⟨rfl, by decide⟩).set ⟨rfl, by decide⟩
  · refine ⟨fun j hj => absurd hj (by omega), rfl, by omega, ?_, ?_, ?_, ?_, hv_set_at ..⟩
    · rw [hv_set_ne (by omega), hv_set_ne (by omega)]; exact h3
    · rw [hv_set_ne (by omega), hv_set_ne (by omega)]; exact h4
    · rw [hv_set_ne (by omega), hv_set_ne (by omega)]; exact h5
    · rw [hv_set_ne (by omega)]; exact hv_set_at ..
end SIGNS
