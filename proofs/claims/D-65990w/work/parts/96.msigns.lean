/-! L3: the model's signs: number, next -/
/-- the model's text: m bytes, u -/
def MgP (B : Nat) (h : AH) (m : Nat) (u : Nat → Int) : Prop := hv h (B + 149) 3 = (m : Int) ∧ (∀ i, i < m → hv h (B + 150) i = u i) ∧ (∀ i, i < m → 0 ≤ u i ∧ u i < 256) ∧ m ≤ 8192
def mgW (B : Nat) : Nat → Nat → Prop := fun c k => c = B + 149 ∧ 4 ≤ k ∧ k ≤ 10
/-- the model's kind of a sign -/
def mkd (u : Nat → Int) (m p : Nat) : Int := if tkK u m p = 3 ∧ tkS u m p = -1 then 4 else (tkK u m p : Int)
/-- the sign that stands at p was read -/
def MgT (B : Nat) (h : AH) (u : Nat → Int) (m p : Nat) : Prop := hv h (B + 149) 4 = (tkT u m p : Int) ∧ hv h (B + 149) 5 = (tkF u m p : Int) ∧ hv h (B + 149) 6 = mkd u m p ∧ hv h (B + 149) 7 = (tkF u m p : Int) ∧ hv h (B + 149) 8 = ((tkT u m p - tkF u m p : Nat) : Int) ∧ (tkK u m p = 2 → hv h (B + 149) 9 = nAb u m (tkF u m p) ∧ hv h (B + 149) 10 = nBe u m (tkF u m p))
theorem v700_is (c : Int) : v700 c = if isL c then 1 else 0 := v370_is c
theorem v685_is (c : Int) : v685 c = if isD c then 1 else 0 := v369_is c
theorem two2_iff {c e : Int} (h1 : 0 ≤ c) (h2 : c < 256) (h3 : -1 ≤ e) (h4 : e < 256) : two2 c e = true ↔ (e = 61 ∧ (c = 61 ∨ c = 33 ∨ c = 60 ∨ c = 62)) ∨ (c = e ∧ (c = 38 ∨ c = 124)) := by
  unfold two2
  simp only [Bool.and_eq_true, Bool.or_eq_true, decide_eq_true_eq]
  omega
theorem two_is {c e : Int} (h1 : 0 ≤ c) (h2 : c < 256) (h3 : -1 ≤ e) (h4 : e < 256) : cond (tst 1 e 61) (cond (tst 1 c e) (0 : Int) (cond (tst 0 c 38) 1 (cond (tst 1 c 124) 0 1))) (cond (tst 0 c 61) 1 (cond (tst 0 c 33) 1 (cond (tst 0 c 60) 1 (cond (tst 0 c 62) 1 (cond (tst 1 c e) 0 (cond (tst 0 c 38) 1 (cond (tst 1 c 124) 0 1))))))) = if two2 c e then 1 else 0 := by
  have k := two2_iff h1 h2 h3 h4
  simp only [tst0, tst1]
  by_cases h : two2 c e = true
  · rw [if_pos h]
    rcases k.mp h with ⟨rfl, rfl | rfl | rfl | rfl⟩ | ⟨rfl, rfl | rfl⟩ <;> rfl
  · rw [if_neg h]
    have k := mt k.mpr h
    by_cases e61 : e = 61
    · have a1 : ¬ c = 61 := by omega
      have a2 : ¬ c = 33 := by omega
      have a3 : ¬ c = 60 := by omega
      have a4 : ¬ c = 62 := by omega
      have a5 : ¬ c = e := by omega
      simp [e61, a1, a2, a3, a4]
    · by_cases ce : c = e
      · have a1 : ¬ c = 38 := by omega
        have a2 : ¬ c = 124 := by omega
        subst ce
        simp [e61, a1, a2]
      · simp [e61, ce]
theorem one_is (c : Int) : cond (tst 0 c 43) (1 : Int) (cond (tst 0 c 45) 1 (cond (tst 0 c 42) 1 (cond (tst 0 c 47) 1 (cond (tst 0 c 40) 1 (cond (tst 0 c 41) 1 (cond (tst 0 c 44) 1 (cond (tst 0 c 63) 1 (cond (tst 0 c 58) 1 (cond (tst 0 c 59) 1 (cond (tst 0 c 33) 1 (cond (tst 0 c 61) 1 (cond (tst 0 c 60) 1 (cond (tst 1 c 62) 0 1))))))))))))) = if c ∈ oneL then 1 else 0 := by
  simp only [tst0, tst1]
  by_cases h : c ∈ oneL
  · rw [if_pos h]
    unfold oneL at h
    simp only [List.mem_cons, List.not_mem_nil, or_false] at h
    rcases h with rfl | rfl | rfl | rfl | rfl | rfl | rfl | rfl | rfl | rfl | rfl | rfl | rfl | rfl <;> rfl
  · rw [if_neg h]
    unfold oneL at h
    simp only [List.mem_cons, List.not_mem_nil, or_false, not_or] at h
    simp [h]
section MSIGNS
variable {gv : Nat → Int} {B n d m : Nat} {h : AH} {u : Nat → Int}
theorem MgP.agr {W : Nat → Nat → Prop} {t : AH} (S : MgP B h m u) (g : Agr W h t) (h3 : ¬ W (B + 149) 3) (h5 : ∀ i, i < m → ¬ W (B + 150) i) : MgP B t m u :=
  ⟨by rw [g.at _ _ h3]; exact S.1, fun i hi => by rw [g.at _ _ (h5 i hi)]; exact S.2.1 i hi, S.2.2⟩
theorem MgP.ag {t : AH} (S : MgP B h m u) (g : Agr (mgW B) h t) : MgP B t m u := S.agr g (by unfold mgW; omega) (fun i _ => by unfold mgW; omega)
theorem MgP.s {k : Nat} {v : Int} (S : MgP B h m u) (h1 : 4 ≤ k) (h2 : k ≤ 10) : MgP B (hset h (B + 149) k v) m u := S.ag (Agr.rf.set ⟨rfl, h1, h2⟩)
theorem MgP.by (S : MgP B h m u) (p : Nat) : v829 B h (p : Int) = chr u m p := by
  unfold v829 chr
  rw [S.1, tst3, tn]
  by_cases e : p < m
  · rw [if_pos e, decide_eq_true (by omega), S.2.1 p e]; rfl
  · rw [if_neg e, decide_eq_false (by omega)]; rfl
theorem MgP.q (S : MgP B h m u) (p : Nat) : q829 B h (p : Int) := by
  unfold q829
  rw [S.1, tst3]
  have := S.2.2.2
  by_cases e : p < m
  · rw [decide_eq_true (by omega)]
    exact ⟨by omega, by omega⟩
  · rw [decide_eq_false (by omega)]; exact trivial
theorem digM {X c : Int} (h1 : 0 ≤ X) (h2 : X < 100000000000000) (h3 : 0 ≤ c) (h4 : c < 256) : bop64 97 (bop64 105 10 X) (uop 2 (bop32 100 c 48)) = 10 * X + (c - 48) := by
  rw [sub32 (by omega) (by omega), mul64 (by omega) (by omega), show uop 2 (c - 48) = c - 48 from rfl, add64 (by omega) (by omega)]
theorem p10b {j : Nat} (h : j ≤ 6) : (1 : Int) ≤ 10 ^ j ∧ (10 : Int) ^ j ≤ 1000000 := by
  have : j = 0 ∨ j = 1 ∨ j = 2 ∨ j = 3 ∨ j = 4 ∨ j = 5 ∨ j = 6 := by omega
  rcases this with rfl | rfl | rfl | rfl | rfl | rfl | rfl <;> decide
def MgN (B : Nat) (h' : AH) (u : Nat → Int) (m f : Nat) : Prop := hv h' (B + 149) 6 = (if nOK u m f then 2 else 4) ∧ hv h' (B + 149) 5 = (f : Int) ∧ hv h' (B + 149) 7 = (f : Int) ∧ hv h' (B + 149) 4 = (nE2 u m f : Int) ∧ (nOK u m f = true → hv h' (B + 149) 9 = nAb u m f ∧ hv h' (B + 149) 10 = nBe u m f)
set_option maxHeartbeats 1000000 in
theorem c_numberM (l : LX B n h) (hd : 10 ≤ d) (S : MgP B h m u) {f : Nat} (h4 : hv h (B + 149) 4 = (f : Int)) (h5 : hv h (B + 149) 5 = (f : Int)) (h7 : hv h (B + 149) 7 = (f : Int)) (hf : f ≤ m) :
    Vd (cll PP (ev PP (gsF gv) B) d 767 [(2, rf (B + 149))] h) (fun h' => Agr (mgW B) h h' ∧ MgN B h' u m f) := by
  have hm := S.2.2.2
  have hu := S.2.2.1
  refine Vd.into (D := 9) hd (Nat.le_of_ble_eq_true rfl) rfl (fun d hd => ?_)
  refine Ends.eq (b767_0 (n := n) (by (repeat' first | assumption | refine LX.setF _ _ ?_ (by decide +kernel) | refine LX.setS ?_ rfl | refine LX.setA ?_ (by first | assumption | omega))) (by first | assumption | omega)) ?_
  have l0 : LX B n (hset (hset h (B + 149) 9 (0 : Int)) (B + 149) 10 (1 : Int)) := (by (repeat' first | assumption | refine LX.setF _ _ ?_ (by decide +kernel) | refine LX.setS ?_ rfl | refine LX.setA ?_ (by assumption)))
  refine lpm (fun (i : Nat) => m - (f + i)) (fun (i : Nat) L q => ∃ u2 : AV, L = [(2, rf (B + 149)), (0, ((i : Int))), u2] ∧ LX B n q ∧ Agr (mgW B) h q ∧ (∀ j, j < i → 48 ≤ u (f + j) ∧ u (f + j) ≤ 57) ∧ nE1 u m f = en isD u m (f + i) ∧ f + i ≤ m ∧ hv q (B + 149) 4 = ((f + i : Nat) : Int) ∧ hv q (B + 149) 5 = (f : Int) ∧ hv q (B + 149) 7 = (f : Int) ∧ hv q (B + 149) 9 = hor u (min i 6) f 0 ∧ hv q (B + 149) 10 = 1) ?_ (0) ⟨_, rfl, (by (repeat' first | assumption | refine LX.setF _ _ ?_ (by decide +kernel) | refine LX.setS ?_ rfl | refine LX.setA ?_ (by assumption))), ?_, ?_⟩
  · rintro i _ q ⟨uq0, rfl, lq, gq, ⟨i1, i2, i3, i4, i5, i6, i7, i8⟩⟩ ihi
    have Sq := S.ag gq
    obtain ⟨hb1, hb2⟩ := hor_b (u := u) (p := f) (min i 6) 0 (fun j hj => i1 j (by omega)) (Int.le_refl 0)
    have h10 := p10b (j := min i 6) (by omega)
    refine Ends.eq (b767_12 (n := n) (by (repeat' first | assumption | refine LX.setF _ _ ?_ (by decide +kernel) | refine LX.setS ?_ rfl | refine LX.setA ?_ (by first | assumption | omega))) (by first | assumption | omega)) ?_
    rw [i4, Sq.by, v685_is]
    refine Ends.g (Sq.q _) ?_
    cases hD : isD (chr u m (f + i)) with
    | true =>
      refine Ends.b0 (fun z => absurd z (by decide)) (fun _ => ?_)
      obtain ⟨e1, e2⟩ := en_t (P := isD) rfl hD
      have ec : chr u m (f + i) = u (f + i) := if_pos e2
      have dd := isD_r hD
      rw [ec] at dd
      have on : ∀ r, LX B n r → Agr (mgW B) h r → hv r (B + 149) 4 = ((f + i : Nat) : Int) → hv r (B + 149) 5 = (f : Int) → hv r (B + 149) 7 = (f : Int) → hv r (B + 149) 9 = hor u (min (i + 1) 6) f 0 → hv r (B + 149) 10 = 1 → Ends (ev PP (gsF gv) B d 767 58 [(2, rf (B + 149)), (0, (i : Int)), uq0] [] r) (fun r => ∃ h', r = ((0, (9, 0)), h') ∧ Agr (mgW B) h h' ∧ MgN B h' u m f) := by
        intro r lr gr r4 r5 r7 r9 r10
        refine Ends.eq (b767_58 (n := n) (by (repeat' first | assumption | refine LX.setF _ _ ?_ (by decide +kernel) | refine LX.setS ?_ rfl | refine LX.setA ?_ (by first | assumption | omega))) (by first | assumption | omega)) ?_
        rw [r4, b96_1 (by omega), w_succ (by omega)]
        refine ihi (i + 1) _ _ ?_ ⟨_, rfl, (by (repeat' first | assumption | refine LX.setF _ _ ?_ (by decide +kernel) | refine LX.setS ?_ rfl | refine LX.setA ?_ (by assumption))), ?_, ?_⟩
        · omega
        · exact gr.set ⟨rfl, by decide, by decide⟩
        · refine ⟨fun j hj => ?_, by rw [i2, e1]; rfl, by omega, by rw [hv_set_at]; rfl, ?_, ?_, ?_, ?_⟩
          · by_cases e : j = i
            · rw [e]; exact dd
            · exact i1 j (by omega)
          · rw [hv_set_ne (by omega)]; exact r5
          · rw [hv_set_ne (by omega)]; exact r7
          · rw [hv_set_ne (by omega)]; exact r9
          · rw [hv_set_ne (by omega)]; exact r10
      refine Ends.b3 (fun z => ?_) (fun z => Ends.g ⟨by omega, by omega⟩ ?_)
      · exact on q lq gq i4 i5 i6 (by rw [show min (i + 1) 6 = min i 6 by omega]; exact i7) i8
      · rw [tn, Sq.2.1 _ e2, i7, digM hb1 (by omega) (by omega) (by omega)]
        refine on _ (LX.setF 149 9 lq (by decide +kernel)) (gq.set ⟨rfl, by decide, by decide⟩) ?_ ?_ ?_ ?_ ?_
        · rw [hv_set_ne (by omega)]; exact i4
        · rw [hv_set_ne (by omega)]; exact i5
        · rw [hv_set_ne (by omega)]; exact i6
        · rw [hv_set_at, show min (i + 1) 6 = i + 1 by omega, show min i 6 = i by omega, hor_s]
        · rw [hv_set_ne (by omega)]; exact i8
    | false =>
      refine Ends.b0 (fun _ => ?_) (fun z => absurd rfl z)
      rw [en_f hD] at i2
      have done : nPt u m f = false → Ends (ev PP (gsF gv) B d 767 188 [(2, rf (B + 149)), (0, (i : Int)), (0, 0)] [] q) (fun r => ∃ h', r = ((0, (9, 0)), h') ∧ Agr (mgW B) h h' ∧ MgN B h' u m f) := by
        intro hp
        refine Ends.eq (b767_188 (n := n) (by (repeat' first | assumption | refine LX.setF _ _ ?_ (by decide +kernel) | refine LX.setS ?_ rfl | refine LX.setA ?_ (by first | assumption | omega))) (by first | assumption | omega)) ?_
        have eN : nOK u m f = decide (i ≤ 5) := by
          unfold nOK
          rw [hp, i2, show f + i - f = i by omega]; simp
        have e2 : nE2 u m f = f + i := by unfold nE2; rw [hp, i2]; rfl
        refine Ends.sm ⟨_, rfl, gq.set ⟨rfl, by decide, by decide⟩, ?_, ?_, ?_, ?_, fun ok => ⟨?_, ?_⟩⟩
        · rw [hv_set_at, eN, tst4, tst5]
          by_cases e : i ≤ 5
          · rw [decide_eq_false (show ¬ (5 : Int) < (i : Int) by omega), decide_eq_true e]; rfl
          · rw [decide_eq_true (show (5 : Int) < (i : Int) by omega), decide_eq_false e]; rfl
        · rw [hv_set_ne (by omega)]; exact i5
        · rw [hv_set_ne (by omega)]; exact i6
        · rw [hv_set_ne (by omega), e2]; exact i4
        · rw [eN] at ok
          have ok := of_decide_eq_true ok
          rw [hv_set_ne (by omega), i7]
          unfold nAb
          rw [hp, i2, show f + i - f = i by omega, show min i 6 = i by omega]; rfl
        · rw [hv_set_ne (by omega), i8]
          unfold nBe
          rw [hp]; rfl
      rw [b96_1 (by omega), Sq.by, v685_is]
      refine Ends.b1 (fun z => ?_) (fun z => Ends.g (Sq.q _) ?_)
      · refine done ?_
        unfold nPt
        rw [i2, decide_eq_false z]; rfl
      cases hD2 : isD (chr u m (f + i + 1)) with
      | false =>
        refine Ends.b0 (fun _ => done ?_) (fun z => absurd rfl z)
        unfold nPt
        rw [i2, hD2, Bool.and_false]
      | true =>
        refine Ends.b0 (fun z => absurd z (by decide)) (fun _ => ?_)
        have hp : nPt u m f = true := by
          unfold nPt
          rw [i2, hD2, z]; rfl
        have hlt := (en_t (P := isD) rfl hD2).2
        have l3 : LX B n (hset q (B + 149) 4 ((f + i + 1 : Nat) : Int)) := (by (repeat' first | assumption | refine LX.setF _ _ ?_ (by decide +kernel) | refine LX.setS ?_ rfl | refine LX.setA ?_ (by assumption)))
        have g2 : Agr (mgW B) h (hset q (B + 149) 4 ((f + i + 1 : Nat) : Int)) := gq.set ⟨rfl, by decide, by decide⟩
        refine lpm (fun (j : Nat) => m - (f + i + 1 + j)) (fun (j : Nat) L r => L = [(2, rf (B + 149)), (0, ((i : Int))), (0, ((j : Int)))] ∧ LX B n r ∧ Agr (mgW B) h r ∧ (∀ z, z < j → 48 ≤ u (f + i + 1 + z) ∧ u (f + i + 1 + z) ≤ 57) ∧ en isD u m (f + i + 1) = en isD u m (f + i + 1 + j) ∧ f + i + 1 + j ≤ m ∧ hv r (B + 149) 4 = ((f + i + 1 + j : Nat) : Int) ∧ hv r (B + 149) 5 = (f : Int) ∧ hv r (B + 149) 7 = (f : Int) ∧ hv r (B + 149) 9 = hor u (min j 5) (f + i + 1) (hor u (min i 6) f 0) ∧ hv r (B + 149) 10 = 10 ^ (min j 5)) ?_ (0) ⟨rfl, (by (repeat' first | assumption | refine LX.setF _ _ ?_ (by decide +kernel) | refine LX.setS ?_ rfl | refine LX.setA ?_ (by assumption))), ?_, ?_⟩
        · rintro j _ r ⟨rfl, lr, gr, ⟨k1, k2, k3, k4, k5, k6, k7, k8⟩⟩ ihj
          have Sr := S.ag gr
          obtain ⟨hb3, hb4⟩ := hor_b (u := u) (p := f + i + 1) (min j 5) (hor u (min i 6) f 0) (fun z hz => k1 z (by omega)) hb1
          have h11 := p10b (j := min j 5) (by omega)
          have hbig : hor u (min j 5) (f + i + 1) (hor u (min i 6) f 0) < 100000000000000 := by
            have : (hor u (min i 6) f 0 + 1) * 10 ^ (min j 5) ≤ 1000001 * 1000000 := Int.mul_le_mul (by omega) h11.2 (by omega) (by omega)
            omega
          refine Ends.eq (b767_115 (n := n) (by (repeat' first | assumption | refine LX.setF _ _ ?_ (by decide +kernel) | refine LX.setS ?_ rfl | refine LX.setA ?_ (by first | assumption | omega))) (by first | assumption | omega)) ?_
          rw [k4, Sr.by, v685_is]
          refine Ends.g (Sr.q _) ?_
          cases hD3 : isD (chr u m (f + i + 1 + j)) with
          | true =>
            refine Ends.b0 (fun z => absurd z (by decide)) (fun _ => ?_)
            obtain ⟨e1, e2⟩ := en_t (P := isD) rfl hD3
            have ec : chr u m (f + i + 1 + j) = u (f + i + 1 + j) := if_pos e2
            have dd := isD_r hD3
            rw [ec] at dd
            have on : ∀ r', LX B n r' → Agr (mgW B) h r' → hv r' (B + 149) 4 = ((f + i + 1 + j : Nat) : Int) → hv r' (B + 149) 5 = (f : Int) → hv r' (B + 149) 7 = (f : Int) → hv r' (B + 149) 9 = hor u (min (j + 1) 5) (f + i + 1) (hor u (min i 6) f 0) → hv r' (B + 149) 10 = 10 ^ (min (j + 1) 5) → Ends (ev PP (gsF gv) B d 767 172 [(2, rf (B + 149)), (0, (i : Int)), (0, (j : Int))] [] r') (fun r => ∃ h', r = ((0, (9, 0)), h') ∧ Agr (mgW B) h h' ∧ MgN B h' u m f) := by
              intro r' lr gr r4 r5 r7 r9 r10
              refine Ends.eq (b767_172 (n := n) (by (repeat' first | assumption | refine LX.setF _ _ ?_ (by decide +kernel) | refine LX.setS ?_ rfl | refine LX.setA ?_ (by first | assumption | omega))) (by first | assumption | omega)) ?_
              rw [r4, b96_1 (by omega), w_succ (by omega)]
              refine ihj (j + 1) _ _ ?_ ⟨rfl, (by (repeat' first | assumption | refine LX.setF _ _ ?_ (by decide +kernel) | refine LX.setS ?_ rfl | refine LX.setA ?_ (by assumption))), ?_, ?_⟩
              · omega
              · exact gr.set ⟨rfl, by decide, by decide⟩
              · refine ⟨fun z hz => ?_, by rw [k2, e1]; rfl, by omega, by rw [hv_set_at]; rfl, ?_, ?_, ?_, ?_⟩
                · by_cases e : z = j
                  · rw [e]; exact dd
                  · exact k1 z (by omega)
                · rw [hv_set_ne (by omega)]; exact r5
                · rw [hv_set_ne (by omega)]; exact r7
                · rw [hv_set_ne (by omega)]; exact r9
                · rw [hv_set_ne (by omega)]; exact r10
            refine Ends.b3 (fun z => ?_) (fun z => Ends.g ⟨by omega, by omega⟩ ?_)
            · exact on r lr gr k4 k5 k6 (by rw [show min (j + 1) 5 = min j 5 by omega]; exact k7) (by rw [show min (j + 1) 5 = min j 5 by omega]; exact k8)
            · rw [tn, Sr.2.1 _ e2, k7, digM hb3 hbig (by omega) (by omega), k8, mul64 (by omega) (by omega)]
              refine on _ (LX.setF 149 10 (LX.setF 149 9 lr (by decide +kernel)) (by decide +kernel)) ((gr.set ⟨rfl, by decide, by decide⟩).set ⟨rfl, by decide, by decide⟩) ?_ ?_ ?_ ?_ ?_
              · rw [hv_set_ne (by omega), hv_set_ne (by omega)]; exact k4
              · rw [hv_set_ne (by omega), hv_set_ne (by omega)]; exact k5
              · rw [hv_set_ne (by omega), hv_set_ne (by omega)]; exact k6
              · rw [hv_set_ne (by omega), hv_set_at, show min (j + 1) 5 = j + 1 by omega, show min j 5 = j by omega, hor_s]
              · rw [hv_set_at, show min (j + 1) 5 = min j 5 + 1 by omega, Int.pow_succ]; omega
          | false =>
            refine Ends.b0 (fun _ => ?_) (fun z => absurd rfl z)
            rw [en_f hD3] at k2
            refine Ends.eq (b767_188 (n := n) (by (repeat' first | assumption | refine LX.setF _ _ ?_ (by decide +kernel) | refine LX.setS ?_ rfl | refine LX.setA ?_ (by first | assumption | omega))) (by first | assumption | omega)) ?_
            have e2 : nE2 u m f = f + i + 1 + j := by
              unfold nE2
              rw [hp, i2]; exact k2
            have eN : nOK u m f = (decide (i ≤ 5) && decide (j ≤ 4)) := by
              unfold nOK
              rw [hp, e2, i2, show f + i - f = i by omega, show f + i + 1 + j - (f + i) = j + 1 by omega]
              congr 1
              by_cases e : j ≤ 4
              · rw [decide_eq_true e, decide_eq_true (show j + 1 ≤ 5 by omega)]; rfl
              · rw [decide_eq_false e, decide_eq_false (show ¬ j + 1 ≤ 5 by omega)]; rfl
            refine Ends.sm ⟨_, rfl, gr.set ⟨rfl, by decide, by decide⟩, ?_, ?_, ?_, ?_, fun ok => ?_⟩
            · rw [hv_set_at, eN, tst4, tst5]
              by_cases e : i ≤ 5
              · by_cases e' : j ≤ 4
                · rw [decide_eq_false (show ¬ (5 : Int) < (i : Int) by omega), decide_eq_false (show ¬ (4 : Int) < (j : Int) by omega), decide_eq_true e, decide_eq_true e']; rfl
                · rw [decide_eq_false (show ¬ (5 : Int) < (i : Int) by omega), decide_eq_true (show (4 : Int) < (j : Int) by omega), decide_eq_true e, decide_eq_false e']; rfl
              · rw [decide_eq_true (show (5 : Int) < (i : Int) by omega), decide_eq_false e]; rfl
            · rw [hv_set_ne (by omega)]; exact k5
            · rw [hv_set_ne (by omega)]; exact k6
            · rw [hv_set_ne (by omega), e2]; exact k4
            · rw [eN, Bool.and_eq_true, decide_eq_true_eq, decide_eq_true_eq] at ok
              refine ⟨?_, ?_⟩
              · rw [hv_set_ne (by omega), k7]
                unfold nAb
                rw [hp, e2, i2, if_pos rfl, show f + i - f = i by omega, show f + i + 1 + j - (f + i) - 1 = j by omega, show min i 6 = i by omega, show min j 5 = j by omega]
              · rw [hv_set_ne (by omega), k8]
                unfold nBe
                rw [hp, e2, i2, if_pos rfl, show f + i + 1 + j - (f + i) - 1 = j by omega, show min j 5 = j by omega]
        · exact g2
        · exact ⟨fun z hz => by omega, rfl, by omega, hv_set_at .., by rw [hv_set_ne (by omega)]; exact i5, by rw [hv_set_ne (by omega)]; exact i6, by rw [hv_set_ne (by omega)]; exact i7, by rw [hv_set_ne (by omega)]; exact i8⟩
  · exact (Agr.rf.set ⟨rfl, by decide, by decide⟩).set ⟨rfl, by decide, by decide⟩
  · refine ⟨fun j hj => by omega, rfl, by omega, ?_, ?_, ?_, ?_, hv_set_at ..⟩
    · rw [hv_set_ne (by omega), hv_set_ne (by omega)]; exact h4
    · rw [hv_set_ne (by omega), hv_set_ne (by omega)]; exact h5
    · rw [hv_set_ne (by omega), hv_set_ne (by omega)]; exact h7
    · rw [hv_set_ne (by omega)]; exact hv_set_at ..
end MSIGNS
