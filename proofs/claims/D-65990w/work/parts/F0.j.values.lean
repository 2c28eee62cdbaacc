/-! L3: what VALUES are worth (model); what a formula gives -/
section MVAL
variable {gv : Nat → Int} {B n q nv nc k : Nat} {c : Nat → Int} {V : Nat → Fq}
/-- VALUES that were worked out -/
def rwMf (B : Nat) (h : AH) (v : Nat) : Fq := (hv h (B + 155) v, hv h (B + 156) v, hv h (B + 157) v, hv h (B + 158) v)
def KnM (B : Nat) (h : AH) (nv : Nat) (V : Nat → Fq) : Prop := ∀ v, v < 40 → (hv h (B + 154) v = 0 ∨ hv h (B + 154) v = 1) ∧ (hv h (B + 154) v = 1 → v < nv ∧ rwMf B h v = V v)
theorem KnM.mf {h t : AH} (K : KnM B h nv V) (g : Agr (mfW B) h t) : KnM B t nv V := fun v hv0 => by
  have e : ∀ c, B + 154 ≤ c → hv t c v = hv h c v := fun c hc => g.at _ _ (fun z => by unfold mfW at z; omega)
  unfold rwMf
  rw [e _ (by omega), e _ (by omega), e _ (by omega), e _ (by omega), e _ (by omega)]
  exact K v hv0
/-- a VALUE in a formula that was not worked out yet -/
theorem c_first638 : ∀ (g d : Nat) (h : AH) (x : Int) (N : Nat → Bool), LX B n h → AstO B g h x N → (∀ v, v < 40 → hv h (B + 154) v = 0 ∨ hv h (B + 154) v = 1) → g + 10 ≤ d → Vt 0 (cll PP (ev PP (gsF gv) B) d 638 [(2, rf (B + 149)), (2, x)] h) (fun r h' => h' = h ∧ ((r = -1 ∧ ∀ w, N w = true → w < 40 ∧ hv h (B + 154) w = 1) ∨ ∃ w : Nat, r = (w : Int) ∧ w < 40 ∧ N w = true ∧ hv h (B + 154) w = 0))
  | 0, d, h, x, N, l, A, k01, hd => by
    have z : x = 0 ∧ N = noN := by
      rcases A with z | ⟨D, A⟩
      · exact z
      · unfold AstI at A; exact A.elim
    rw [z.1, z.2]
    refine Vt.inq (D := 9) (by omega) (Nat.le_of_ble_eq_true rfl) rfl (fun d hd Q K => ?_)
    refine Ends.eq (b638_0 l (by omega)) (Ends.b0 (fun _ => Ends.sm (K _ _ ⟨rfl, Or.inl ⟨rfl, fun w hw => absurd hw Bool.false_ne_true⟩⟩)) (fun z => absurd rfl z))
  | g + 1, d, h, x, N, l, A, k01, hd => by
    have ih := c_first638 g
    rcases A.node with ⟨x0, eN⟩ | ⟨a, N4, N5, N6, ex, a1, a2, a3, A4, A5, A6, hN⟩
    · rw [x0, eN]
      refine Vt.inq (D := 9) (by omega) (Nat.le_of_ble_eq_true rfl) rfl (fun d hd Q K => ?_)
      exact Ends.eq (b638_0 l (by omega)) (Ends.b0 (fun _ => Ends.sm (K _ _ ⟨rfl, Or.inl ⟨rfl, fun w hw => absurd hw Bool.false_ne_true⟩⟩)) (fun z => absurd rfl z))
    · subst ex
      have rp := rf_pos a
      refine Vt.inq (D := g + 10) (by omega) (Nat.le_of_ble_eq_true rfl) rfl (fun d hd Q K => ?_)
      refine Ends.eq (b638_0 l (by omega)) (Ends.b0 (fun z => absurd z (by omega)) (fun _ => ?_))
      rw [ad_rf]
      refine Ends.g ⟨rp, a3⟩ ?_
      rcases hN with ⟨k1, eN⟩ | ⟨k1, e4, e5, e6, v, v40, kv, eN⟩
      · have inN : ∀ w, N4 w = true ∨ N5 w = true ∨ N6 w = true → N w = true := fun w z => by
          rw [eN]; unfold orN
          rcases z with z | z | z <;> rw [z] <;> simp
        refine Ends.b1 (fun _ => ?_) (fun z => absurd z k1)
        refine Ends.ct l (by decide +kernel) (by decide) (ih d h _ N4 l A4 k01 (by omega)) (fun r h1 l1 _ _ _ ⟨e1, r1⟩ => ?_)
        subst e1
        -- the last operand
        have third : ∀ (y : Int), y = -1 → (∀ w, N4 w = true → w < 40 ∧ hv h1 (B + 154) w = 1) → (∀ w, N5 w = true → w < 40 ∧ hv h1 (B + 154) w = 1) → Ends (ev PP (gsF gv) B d 638 57 [(2, rf (B + 149)), (2, rf a), (0, y)] [] h1) Q := fun y ey n4 n5 => by
          rw [ey]
          refine Ends.eq (b638_57 l1 (by omega)) (Ends.b3 (fun z => absurd z (by decide)) (fun _ => ?_))
          rw [ad_rf]
          refine Ends.g ⟨rp, a3⟩ ?_
          refine Ends.ct l1 (by decide +kernel) (by decide) (ih d h1 _ N6 l1 A6 k01 (by omega)) (fun r h2 l2 _ _ _ ⟨e2, r2⟩ => ?_)
          subst e2
          refine Ends.eq (b638_69 l2 (by omega)) (Ends.eq (b638_73 l2 (by omega)) (Ends.sm (K _ _ ⟨rfl, ?_⟩)))
          rcases r2 with ⟨r2, n6⟩ | ⟨w, r2, w1, w2, w3⟩
          · refine Or.inl ⟨r2, fun w hw => ?_⟩
            rw [eN] at hw
            unfold orN at hw
            rw [Bool.or_eq_true, Bool.or_eq_true] at hw
            rcases hw with hw | hw | hw
            · exact n4 w hw
            · exact n5 w hw
            · exact n6 w hw
          · exact Or.inr ⟨w, r2, w1, inN w (Or.inr (Or.inr w2)), w3⟩
        have found : ∀ (w : Nat), w < 40 → N w = true → hv h1 (B + 154) w = 0 → Ends (ev PP (gsF gv) B d 638 57 [(2, rf (B + 149)), (2, rf a), (0, (w : Int))] [] h1) Q := fun w w1 w2 w3 => by
          refine Ends.eq (b638_57 l1 (by omega)) (Ends.b3 (fun _ => ?_) (fun z => absurd z (by omega)))
          exact Ends.eq (b638_73 l1 (by omega)) (Ends.sm (K _ _ ⟨rfl, Or.inr ⟨w, rfl, w1, w2, w3⟩⟩))
        refine Ends.eq (b638_43 l1 (by omega)) ?_
        rcases r1 with ⟨r1, n4⟩ | ⟨w, r1, w1, w2, w3⟩
        · rw [r1, ad_rf]
          refine Ends.b3 (fun z => absurd z (by decide)) (fun _ => Ends.g ⟨rp, a3⟩ ?_)
          refine Ends.ct l1 (by decide +kernel) (by decide) (ih d h1 _ N5 l1 A5 k01 (by omega)) (fun r h2 l2 _ _ _ ⟨e2, r2⟩ => ?_)
          subst e2
          refine Ends.eq (b638_56 l2 (by omega)) ?_
          rcases r2 with ⟨r2, n5⟩ | ⟨w, r2, w1, w2, w3⟩
          · exact third _ r2 n4 n5
          · rw [r2]; exact found w w1 (inN w (Or.inr (Or.inl w2))) w3
        · rw [r1]
          exact Ends.b3 (fun _ => found w w1 (inN w (Or.inl w2)) w3) (fun z => absurd z (by omega))
      · refine Ends.b1 (fun z => absurd k1 z) (fun _ => ?_)
        rw [kv, tn]
        refine Ends.g ⟨by omega, by omega⟩ ?_
        rcases k01 v v40 with k0 | k0
        · rw [k0]
          refine Ends.sm (K _ _ ⟨rfl, Or.inr ⟨v, rfl, v40, ?_, k0⟩⟩)
          rw [eN]; exact decide_eq_true rfl
        · rw [k0]
          refine Ends.sm (K _ _ ⟨rfl, Or.inl ⟨rfl, fun w hw => ?_⟩⟩)
          rw [eN] at hw
          have := of_decide_eq_true hw
          rw [this]; exact ⟨v40, k0⟩
/-- what is known of the values of a design, throughout -/
def WoI (B : Nat) (h0 : AH) (c : Nat → Int) (q nv nc k : Nat) (V : Nat → Fq) (h : AH) : Prop := Agr (wvW B) h0 h ∧ KnM B h nv V
/-- a VALUE that is known -/
theorem c_known868 {h : AH} {d v : Nat} (l : LX B n h) (hd : 10 ≤ d) (hq : hv h (B + 149) 19 = rf q) (D : YD B q h) (v40 : v < 40) (k1 : hv h (B + 154) v = 1) : Vd (cll PP (ev PP (gsF gv) B) d 868 [(2, rf (B + 149)), (0, (v : Int))] h) (fun h' => MPut B h (rwMf B h v) h') := by
  refine Vd.inq (D := 9) hd (Nat.le_of_ble_eq_true rfl) rfl (fun d hd Q K => ?_)
  refine Ends.eq (b868_0 l (by omega)) ?_
  rw [tn, k1]
  refine Ends.g ⟨by omega, by omega⟩ (Ends.b1 (fun _ => ?_) (fun z => absurd z (by decide)))
  refine Ends.eq (b868_20 l (by omega) hq D) (Ends.b5 (fun _ => ?_) (fun z => absurd z (by decide)))
  rw [tn]
  refine Ends.g ⟨by omega, by omega⟩ (Ends.sm (K _ ⟨(((Agr.rf.set ⟨rfl, by decide, by decide⟩).set ⟨rfl, by decide, by decide⟩).set ⟨rfl, by decide, by decide⟩).set ⟨rfl, by decide, by decide⟩, ?_⟩))
  unfold frM rwMf
  rw [hv_set_ne (k := 26) (j := 23) (by omega), hv_set_ne (k := 25) (j := 23) (by omega), hv_set_ne (k := 24) (j := 23) (by omega), hv_set_at, hv_set_ne (k := 26) (j := 24) (by omega), hv_set_ne (k := 25) (j := 24) (by omega), hv_set_at, hv_set_ne (k := 26) (j := 25) (by omega), hv_set_at, hv_set_at]
theorem yd_wv {h t : AH} (D : YD B q h) (g : Agr (wvW B) h t) : YD B q t := D.far g (fun c k h1 h2 w => by have := D.lo; have := wv_lo w; omega)
theorem dv_wv {h t : AH} (X : DV B h c q nv nc) (l : LX B n h) (D : YD B q h) (hx : q + 140 ≤ hnx h) (e : Agr (wvW B) h t) (hn : nv ≤ 40) : DV B t c q nv nc := by
  obtain ⟨⟨a1, a2, a3⟩, V2, V3, V4, V5⟩ := X
  have lo := D.lo
  have K : ∀ j k, j < 140 → hv t (q + j) k = hv h (q + j) k := fun j k hj => e.at _ _ (fun w => by have := wv_lo w; omega)
  have K0 : ∀ k, hv t q k = hv h q k := fun k => K 0 k (by decide)
  refine ⟨⟨by rw [K0]; exact a1, by rw [K0]; exact a2, by rw [K0]; exact a3⟩, fun v hv1 => ?_, fun k h1 h2 => by rw [K 4 k (by decide)]; exact V3 k h1 h2, fun v k hv1 hk1 => ?_, fun v k h1 h2 h3 => ⟨(V5 v k h1 h2 h3).1, by rw [K 3 _ (by decide)]; exact (V5 v k h1 h2 h3).2⟩⟩
  · obtain ⟨s, s1, s2, s3, s4, s5⟩ := V2 v hv1
    exact ⟨s, s1, s2, s3, by rw [K 2 _ (by decide)]; exact s4, fun i hi => by rw [K 1 _ (by decide)]; exact s5 i hi⟩
  · rw [K 3 _ (by decide)]
    exact (V4 v k hv1 hk1).imp id (fun ⟨e1, X, N, p', r1, r2, r3⟩ => ⟨e1, X, N, p', r1, ast_wv r2 e, r3⟩)
/-- the model's design, its values -/
def WoB (B n : Nat) (h : AH) (c : Nat → Int) (q nv nc k : Nat) (V : Nat → Fq) : Prop := (hv h (B + 149) 19 = rf q ∧ YD B q h ∧ q + 140 ≤ hnx h ∧ DV B h c q nv nc) ∧ (DW c nv nc ∧ c 2 = (k : Int) ∧ k < nc) ∧ Vals c nv k V ∧ OKc c nv k
theorem WoB.wv {h t : AH} (X : WoB B n h c q nv nc k V) (l : LX B n h) (e : Agr (wvW B) h t) : WoB B n t c q nv nc k V := by
  obtain ⟨⟨a1, a2, a3, a4⟩, b, cc, dd⟩ := X
  refine ⟨⟨by rw [e.at _ _ (fun w => by unfold wvW mfW at w; omega)]; exact a1, yd_wv a2 e, by rw [e.nx]; exact a3, dv_wv a4 l a2 a3 e b.1.2.1⟩, b, cc, dd⟩
theorem WoB.ok {h : AH} (X : WoB B n h c q nv nc k V) {v : Nat} (hv1 : v < nv) : FOK (V v) := by
  obtain ⟨Y, N, p, r1, r2, r3⟩ := X.2.2.1 v hv1
  exact r3
theorem kn_cnt {f g : Nat → Bool} {w : Nat} (hw : w < 40) (h1 : f w = true) (h2 : ∀ v, g v = (f v && decide (v ≠ w))) : cntN g 40 + 1 = cntN f 40 := by
  have e : f = pls g w := funext fun v => by
    unfold pls
    rw [h2]
    by_cases z : v = w
    · rw [z, h1]; simp
    · simp [z]
  have gw : g w = false := by rw [h2]; simp
  have := cnt_pls gw 40
  rw [← e, if_pos hw] at this
  omega
set_option maxHeartbeats 1000000 in
theorem c_worthOf868 {h : AH} {d v : Nat} (l : LX B n h) (hd : 501 ≤ d) (X : WoB B n h c q nv nc k V) (K0 : KnM B h nv V) (hv0 : v < nv) : Vd (cll PP (ev PP (gsF gv) B) d 868 [(2, rf (B + 149)), (0, (v : Int))] h) (fun h' => Agr (wvW B) h h' ∧ KnM B h' nv V ∧ frM B h' = V v) := by
  have hn : nv ≤ 40 := X.2.1.1.2.1
  obtain ⟨rk, hr1, hr2⟩ := X.2.2.2.rk
  refine Vd.inq (D := 500) hd (Nat.le_of_ble_eq_true rfl) rfl (fun d hd Q K => ?_)
  -- the pile of VALUES that are asked for
  have loop : ∀ (M many : Nat) (as : Nat → Nat) (t : AH) (u3 u4 u5 : AV), 50 * cntN (fun w => decide (hv t (B + 154) w = 0)) 40 + (41 - many) ≤ M → LX B n t → Agr (wvW B) h t → KnM B t nv V → (many = 0 → hv t (B + 154) v = 1) → (0 < many → as 0 = v) → (∀ i, i < many → as i < nv ∧ hv t (B + 159) i = ((as i : Nat) : Int) ∧ hv t (B + 154) (as i) = 0 ∧ i + rk (as i) < nv) → (∀ i j, i < j → j < many → rk (as j) < rk (as i)) → Ends (ev PP (gsF gv) B d 868 20 [(2, rf (B + 149)), (0, (v : Int)), (0, (many : Int)), u3, u4, u5] [] t) Q := by
    intro M
    induction M with
    | zero =>
      intro many as t u3 u4 u5 hM lt gt Kt m0 a0 hs hr
      have : many = 0 ∨ many ≤ 40 := by
        rcases Nat.eq_zero_or_pos many with e | e
        · exact Or.inl e
        · have := (hs (many - 1) (by omega)).2.2.2; omega
      omega
    | succ M ih =>
      intro many as t u3 u4 u5 hM lt gt Kt m0 a0 hs hr
      have Xt := X.wv l gt
      obtain ⟨⟨tq, tD, tx, tV⟩, ⟨tW, tk, tkn⟩, tVal, -⟩ := Xt
      have lo := tD.lo
      refine Ends.eq (b868_20 lt (by omega) tq tD) ?_
      rcases Nat.eq_zero_or_pos many with e | e
      · subst e
        obtain ⟨-, k2⟩ := Kt v (by omega)
        obtain ⟨k3, k4⟩ := k2 (m0 rfl)
        refine Ends.b5 (fun _ => ?_) (fun z => absurd z (by decide))
        rw [tn]
        have gs : MPut B t (rwMf B t v) (hset (hset (hset (hset t (B + 149) 23 (hv t (B + 155) v)) (B + 149) 24 (hv t (B + 156) v)) (B + 149) 25 (hv t (B + 157) v)) (B + 149) 26 (hv t (B + 158) v)) := by
          refine ⟨(((Agr.rf.set ⟨rfl, by decide, by decide⟩).set ⟨rfl, by decide, by decide⟩).set ⟨rfl, by decide, by decide⟩).set ⟨rfl, by decide, by decide⟩, ?_⟩
          unfold frM rwMf
          rw [hv_set_ne (k := 26) (j := 23) (by omega), hv_set_ne (k := 25) (j := 23) (by omega), hv_set_ne (k := 24) (j := 23) (by omega), hv_set_at, hv_set_ne (k := 26) (j := 24) (by omega), hv_set_ne (k := 25) (j := 24) (by omega), hv_set_at, hv_set_ne (k := 26) (j := 25) (by omega), hv_set_at, hv_set_at]
        refine Ends.g ⟨by omega, by omega⟩ (Ends.sm (K _ ⟨gt.tr gs.1 (fun _ _ z => wv_mf z), Kt.mf gs.1, by rw [gs.2, k4]⟩))
      · obtain ⟨m, rfl⟩ : ∃ m, many = m + 1 := ⟨many - 1, by omega⟩
        obtain ⟨w1, w2, w3, w4⟩ := hs m (by omega)
        obtain ⟨w, ew⟩ : ∃ w, w = as m := ⟨_, rfl⟩
        rw [← ew] at w1 w2 w3 w4
        refine Ends.b5 (fun z => absurd z (by omega)) (fun _ => ?_)
        rw [b100_1' (by omega), tn, w2, show hv t q 2 = (k : Int) from by rw [tV.1.2.2]; exact tk]
        refine Ends.g ⟨by omega, by omega⟩ ?_
        refine Ends.ct lt (by decide +kernel) (by decide) (c_owner lt (by omega) tq tD tV tW w1 tkn) (fun x h2 l2 _ _ _ ⟨e2, ex⟩ => ?_)
        subst e2
        subst ex
        have hef : efK c w 4 k ≤ k := efK_le tW 4 k tkn
        have hk4 : k < 4 := by have := tW.2.2.2.2.1; omega
        obtain ⟨Y, N, p', r1, r2, r3⟩ := tV.eff tW w1 tkn
        have k3 : hk h2 (q + 3) = (6 + 2, 160) := tD.2.1.2.2.1
        refine Ends.eq (b868_54 l2 (by omega)) ?_
        rw [ad_rf, k3, show bop32 96 (bop32 104 40 ((efK c w 4 k : Nat) : Int)) (w : Int) = ((40 * efK c w 4 k + w : Nat) : Int) from by rw [show bop32 104 40 ((efK c w 4 k : Nat) : Int) = ((40 * efK c w 4 k : Nat) : Int) from mulNN (x := 40) (by omega)]; exact addNN (by omega), tn]
        refine Ends.g ⟨rf_pos _, rfl, by omega, by show _ < ((160 : Nat) : Int); omega⟩ ?_
        have k01 : ∀ v, v < 40 → hv h2 (B + 154) v = 0 ∨ hv h2 (B + 154) v = 1 := fun v hv1 => (Kt v hv1).1
        refine Ends.ct l2 (by decide +kernel) (by decide) (c_first638 240 d h2 _ N l2 (Or.inr ⟨Y, r2⟩) k01 (by omega)) (fun x h3 l3 _ _ _ ⟨e3, rx⟩ => ?_)
        subst e3
        refine Ends.eq (b868_66 l3 (by omega)) ?_
        rcases rx with ⟨rx, all⟩ | ⟨z, rx, z1, z2, z3⟩
        · rw [rx]
          refine Ends.b2 (fun _ => ?_) (fun z => absurd z (by decide))
          -- all that it names is known: it is worked out
          have HN : ∀ (q' : AH) (d' v' : Nat), LX B n q' → 20 ≤ d' → (Agr (wvW B) h3 q' ∧ KnM B q' nv V ∧ (∀ x, hv q' (B + 154) x = hv h3 (B + 154) x) ∧ ∀ x, hv q' (B + 159) x = hv h3 (B + 159) x) → (v' < 40 ∧ hv h3 (B + 154) v' = 1) → Vd (cll PP (ev PP (gsF gv) B) d' 868 [(2, rf (B + 149)), (0, (v' : Int))] q') (fun h' => Agr (wvW B) q' h' ∧ (Agr (wvW B) h3 h' ∧ KnM B h' nv V ∧ (∀ x, hv h' (B + 154) x = hv h3 (B + 154) x) ∧ ∀ x, hv h' (B + 159) x = hv h3 (B + 159) x) ∧ frM B h' = V v') := fun q' d' v' l' hd' ⟨g1, g2, g3, g4⟩ ⟨v1, v2⟩ => by
            have k1 : hv q' (B + 154) v' = 1 := by rw [g3]; exact v2
            obtain ⟨t', et, p1, p2⟩ := c_known868 (gv := gv) (d := d') l' (by omega) (by rw [g1.at _ _ (fun w => by unfold wvW mfW at w; omega)]; exact tq) (yd_wv tD g1) v1 k1
            refine ⟨t', et, p1.sub (fun _ _ z => wv_mf z), ⟨g1.tr p1 (fun _ _ z => wv_mf z), g2.mf p1, fun x => ?_, fun x => ?_⟩, ?_⟩
            · rw [p1.at _ _ (fun w => by unfold mfW at w; omega)]; exact g3 x
            · rw [p1.at _ _ (fun w => by unfold mfW at w; omega)]; exact g4 x
            · rw [p2]; exact ((g2 v' v1).2 k1).2
          refine Ends.cv l3 (by decide +kernel) (c_worthG (V := V) (D0 := 20) (P0 := fun v' => v' < 40 ∧ hv h3 (B + 154) v' = 1) (Inv := fun q' => Agr (wvW B) h3 q' ∧ KnM B q' nv V ∧ (∀ x, hv q' (B + 154) x = hv h3 (B + 154) x) ∧ ∀ x, hv q' (B + 159) x = hv h3 (B + 159) x) (by decide) (fun a b ⟨g1, g2, g3, g4⟩ g => ⟨g1.tr g (fun _ _ z => wv_mf z), g2.mf g, fun x => by rw [g.at _ _ (fun w => by unfold mfW at w; omega)]; exact g3 x, fun x => by rw [g.at _ _ (fun w => by unfold mfW at w; omega)]; exact g4 x⟩) (fun v' ⟨v1, v2⟩ => X.ok ((Kt v' v1).2 v2).1) HN 240 d h3 _ Y N l3 r2 ⟨Agr.rf, Kt, fun _ => rfl, fun _ => rfl⟩ (fun w hw => all w hw) (by omega)) (fun h4 l4 _ _ _ ⟨g4, ⟨g5, K4, e154, e159⟩, f4, o4⟩ => ?_)
          have fv : frM B h4 = V w := by
            rw [f4]
            obtain ⟨Y', N', q', s1, s2, s3⟩ := tVal w w1
            rw [r1] at s1
            have := Sum.inr.inj s1
            have : Y = Y' := congrArg Prod.fst this
            rw [this]; exact s2.symm
          refine Ends.eq (b868_93 l4 (by omega)) ?_
          rw [tn, inc32 (by omega) (by omega), show ((m + 1 : Nat) : Int) + (-1) = (m : Int) by omega, an0, an0, an1, an1, show anar 3 1 = 1 from rfl]
          refine Ends.g ⟨by omega, by omega⟩ ?_
          have f1 : hv h4 (B + 149) 23 = (V w).1 := by rw [← fv]; rfl
          have f2 : hv h4 (B + 149) 24 = (V w).2.1 := by rw [← fv]; rfl
          have f3 : hv h4 (B + 149) 25 = (V w).2.2.1 := by rw [← fv]; rfl
          have f4' : hv h4 (B + 149) 26 = (V w).2.2.2 := by rw [← fv]; rfl
          rw [f1, f2, f3, f4']
          have l5 : LX B n (hset (hset (hset (hset (hset h4 (B + 154) w 1) (B + 155) w (V w).1) (B + 156) w (V w).2.1) (B + 157) w (V w).2.2.1) (B + 158) w (V w).2.2.2) := ((((l4.setS rfl).setS rfl).setS rfl).setS rfl).setS rfl
          have g5' : Agr (wvW B) h4 (hset (hset (hset (hset (hset h4 (B + 154) w 1) (B + 155) w (V w).1) (B + 156) w (V w).2.1) (B + 157) w (V w).2.2.1) (B + 158) w (V w).2.2.2) := ((((Agr.rf.set (Or.inr ⟨by omega, by omega⟩)).set (Or.inr ⟨by omega, by omega⟩)).set (Or.inr ⟨by omega, by omega⟩)).set (Or.inr ⟨by omega, by omega⟩)).set (Or.inr ⟨by omega, by omega⟩)
          obtain ⟨t5, et5⟩ : ∃ t5, t5 = hset (hset (hset (hset (hset h4 (B + 154) w 1) (B + 155) w (V w).1) (B + 156) w (V w).2.1) (B + 157) w (V w).2.2.1) (B + 158) w (V w).2.2.2 := ⟨_, rfl⟩
          have c154 : ∀ x, hv t5 (B + 154) x = if x = w then 1 else hv h3 (B + 154) x := fun x => by
            rw [et5, hv_set_ne (by omega), hv_set_ne (by omega), hv_set_ne (by omega), hv_set_ne (by omega)]
            by_cases z : x = w
            · rw [if_pos z, z, hv_set_at]
            · rw [if_neg z, hv_set_ne (by omega)]; exact e154 x
          have c159 : ∀ x, hv t5 (B + 159) x = hv h4 (B + 159) x := fun x => by
            rw [et5, hv_set_ne (by omega), hv_set_ne (by omega), hv_set_ne (by omega), hv_set_ne (by omega), hv_set_ne (by omega)]
          have s155 : ∀ x, hv t5 (B + 155) x = if x = w then (V w).1 else hv h4 (B + 155) x := fun x => by
            rw [et5, hv_set_ne (by omega), hv_set_ne (by omega), hv_set_ne (by omega)]
            by_cases z : x = w
            · rw [if_pos z, z, hv_set_at]
            · rw [if_neg z, hv_set_ne (by omega), hv_set_ne (by omega)]
          have s156 : ∀ x, hv t5 (B + 156) x = if x = w then (V w).2.1 else hv h4 (B + 156) x := fun x => by
            rw [et5, hv_set_ne (by omega), hv_set_ne (by omega)]
            by_cases z : x = w
            · rw [if_pos z, z, hv_set_at]
            · rw [if_neg z, hv_set_ne (by omega), hv_set_ne (by omega), hv_set_ne (by omega)]
          have s157 : ∀ x, hv t5 (B + 157) x = if x = w then (V w).2.2.1 else hv h4 (B + 157) x := fun x => by
            rw [et5, hv_set_ne (by omega)]
            by_cases z : x = w
            · rw [if_pos z, z, hv_set_at]
            · rw [if_neg z, hv_set_ne (by omega), hv_set_ne (by omega), hv_set_ne (by omega), hv_set_ne (by omega)]
          have s158 : ∀ x, hv t5 (B + 158) x = if x = w then (V w).2.2.2 else hv h4 (B + 158) x := fun x => by
            rw [et5]
            by_cases z : x = w
            · rw [if_pos z, z, hv_set_at]
            · rw [if_neg z, hv_set_ne (by omega), hv_set_ne (by omega), hv_set_ne (by omega), hv_set_ne (by omega), hv_set_ne (by omega)]
          rw [← et5] at l5 g5' ⊢
          have K5 : KnM B t5 nv V := fun x hx => by
            rw [c154 x]
            unfold rwMf
            rw [s155, s156, s157, s158]
            by_cases z : x = w
            · rw [if_pos z, if_pos z, if_pos z, if_pos z, if_pos z]
              exact ⟨Or.inr rfl, fun _ => ⟨by omega, by rw [z]⟩⟩
            · rw [if_neg z, if_neg z, if_neg z, if_neg z, if_neg z, ← e154 x]
              exact K4 x hx
          refine ih m as t5 _ _ _ ?_ l5 ((gt.tr g5 (fun _ _ z => z)).tr g5' (fun _ _ z => z)) K5 (fun e0 => ?_) (fun hm => a0 (by omega)) (fun i hi => ?_) (fun i j hij hj => hr i j hij (by omega))
          · have := kn_cnt (f := fun x => decide (hv h3 (B + 154) x = 0)) (g := fun x => decide (hv t5 (B + 154) x = 0)) (w := w) (by omega) (decide_eq_true w3) (fun x => by
              rw [c154 x]
              by_cases z : x = w
              · rw [if_pos z, decide_eq_false (show ¬ x ≠ w from fun y => y z), Bool.and_false]; decide
              · rw [if_neg z, decide_eq_true z, Bool.and_true])
            omega
          · subst e0
            have : w = v := by rw [ew]; exact a0 (by omega)
            rw [c154 v, if_pos this.symm]
          · obtain ⟨b1, b2, b3, b4⟩ := hs i (by omega)
            have ne : as i ≠ w := fun e => by
              have := hr i m hi (by omega)
              rw [← ew, e] at this
              exact absurd this (Nat.lt_irrefl _)
            exact ⟨b1, by rw [c159, e159]; exact b2, by rw [c154, if_neg ne]; exact b3, b4⟩
        · rw [rx]
          refine Ends.b2 (fun z => absurd z (by omega)) (fun _ => ?_)
          rw [tn, an0, w_succ (by omega)]
          refine Ends.g ⟨by omega, by omega⟩ ?_
          have zn : nmE c nv k w z = true := by rw [← r3]; exact z2
          have zr := hr2 w z w1 zn
          have znv : z < nv := nmE_lt zn
          refine ih (m + 2) (fun i => if i = m + 1 then z else as i) _ _ _ _ ?_ (l3.setS rfl) (gt.set (Or.inr ⟨by omega, by omega⟩)) (fun x hx => ?_) (fun y => absurd y (by omega)) (fun _ => by simp only [if_neg (show ¬ 0 = m + 1 by omega)]; exact a0 (by omega)) (fun i hi => ?_) (fun i j hij hj => ?_)
          · have e1 : (fun w => decide (hv (hset h3 (B + 159) (m + 1) (z : Int)) (B + 154) w = 0)) = fun w => decide (hv h3 (B + 154) w = 0) := funext fun w => by rw [hv_set_ne (by omega)]
            rw [e1]; omega
          · unfold rwMf
            rw [hv_set_ne (by omega), hv_set_ne (by omega), hv_set_ne (by omega), hv_set_ne (by omega), hv_set_ne (by omega)]
            exact Kt x hx
          · by_cases e3 : i = m + 1
            · subst e3
              simp only [if_true]
              exact ⟨znv, hv_set_at .., by rw [hv_set_ne (by omega)]; exact z3, by omega⟩
            · simp only [if_neg e3]
              obtain ⟨b1, b2, b3, b4⟩ := hs i (by omega)
              exact ⟨b1, by rw [hv_set_ne (by omega)]; exact b2, by rw [hv_set_ne (by omega)]; exact b3, b4⟩
          · simp only [if_neg (show ¬ i = m + 1 by omega)]
            by_cases e3 : j = m + 1
            · simp only [if_pos e3]
              by_cases e4 : i = m
              · rw [e4, ← ew]; exact zr
              · have := hr i m (by omega) (by omega)
                rw [← ew] at this; omega
            · simp only [if_neg e3]
              exact hr i j hij (by omega)
  refine Ends.eq (b868_0 l (by omega)) ?_
  rw [tn, an0, show Int.toNat 0 = 0 from rfl]
  refine Ends.g ⟨by omega, by omega⟩ (Ends.b1 (fun z => ?_) (fun z => Ends.g ⟨by omega, by omega⟩ ?_))
  · have k1 : hv h (B + 154) v = 1 := by
      rcases (K0 v (by omega)).1 with e | e
      · exact absurd e z
      · exact e
    exact loop _ 0 (fun _ => 0) h _ _ _ (Nat.le_refl _) l Agr.rf K0 (fun _ => k1) (fun y => absurd y (Nat.lt_irrefl 0)) (fun i hi => absurd hi (Nat.not_lt_zero i)) (fun i j _ hj => absurd hj (Nat.not_lt_zero j))
  · refine loop _ 1 (fun _ => v) _ _ _ _ (Nat.le_refl _) (l.setS rfl) (Agr.rf.set (Or.inr ⟨by omega, by omega⟩)) (fun x hx => ?_) (fun y => absurd y (by decide)) (fun _ => rfl) (fun i hi => ?_) (fun i j h1 h2 => absurd h1 (by omega))
    · unfold rwMf
      rw [hv_set_ne (by omega), hv_set_ne (by omega), hv_set_ne (by omega), hv_set_ne (by omega), hv_set_ne (by omega)]
      exact K0 x hx
    · obtain rfl : i = 0 := by omega
      exact ⟨hv0, hv_set_at .., by rw [hv_set_ne (by omega)]; exact z, by have := hr1 v hv0; omega⟩
/-- what a formula is worth -/
theorem c_worth867 {h : AH} {d : Nat} {x : Int} {D : Dn} {N : Nat → Bool} (l : LX B n h) (hd : 981 ≤ d) (X : WoB B n h c q nv nc k V) (K0 : KnM B h nv V) (A : AstI (B + 246) 240 h x D N) (hN : ∀ w, N w = true → w < nv) : Vd (cll PP (ev PP (gsF gv) B) d 867 [(2, rf (B + 149)), (2, x)] h) (fun h' => Agr (wvW B) h h' ∧ KnM B h' nv V ∧ frM B h' = D (fun w => nmq (V w)) ∧ FOK (frM B h')) := by
  obtain ⟨t, e, g1, ⟨g2, g3⟩, f, o⟩ := c_worthG (V := V) (D0 := 501) (P0 := fun w => w < nv) (Inv := fun q' => Agr (wvW B) h q' ∧ KnM B q' nv V) (by decide) (fun a b ⟨g1, g2⟩ g => ⟨g1.tr g (fun _ _ z => wv_mf z), g2.mf g⟩) (fun v hv1 => X.ok hv1) (fun q' d' v' l' hd' ⟨g1, g2⟩ hv1 => by
    obtain ⟨t, e, r1, r2, r3⟩ := c_worthOf868 (gv := gv) (d := d') l' hd' (X.wv l g1) g2 hv1
    exact ⟨t, e, r1, ⟨g1.tr r1 (fun _ _ z => z), r2⟩, r3⟩) 240 d h x D N l A ⟨Agr.rf, K0⟩ hN (by omega)
  exact ⟨t, e, g1, g3, f, o⟩
/-- what a formula gives, or nothing -/
theorem c_given655 {h : AH} {d : Nat} {x : Int} {D : Dn} {N : Nat → Bool} (l : LX B n h) (hd : 982 ≤ d) (X : WoB B n h c q nv nc k V) (K0 : KnM B h nv V) (A : AstI (B + 246) 240 h x D N) (hN : ∀ w, N w = true → w < nv) : Vt 0 (cll PP (ev PP (gsF gv) B) d 655 [(2, rf (B + 149)), (2, x)] h) (fun v h' => Agr (wvW B) h h' ∧ KnM B h' nv V ∧ v = if gvs (D (fun w => nmq (V w))) = true then (D (fun w => nmq (V w))).1 else 100000) := by
  refine Vt.inq (D := 981) hd (Nat.le_of_ble_eq_true rfl) rfl (fun d hd Q K => ?_)
  refine Ends.eq (b655_0 l (by omega)) ?_
  refine Ends.cv l (by decide +kernel) (c_worth867 l (by omega) X K0 A hN) (fun t l1 _ _ _ ⟨g1, k1, f1, o1⟩ => ?_)
  refine Ends.eq (b655_5 l1 (by omega)) (Ends.sm (K _ _ ⟨g1, k1, ?_⟩))
  obtain ⟨p, ep⟩ : ∃ p, p = frM B t := ⟨_, rfl⟩
  have p1 : hv t (B + 149) 23 = p.1 := by rw [ep]; rfl
  have p2 : hv t (B + 149) 24 = p.2.1 := by rw [ep]; rfl
  have p3 : hv t (B + 149) 25 = p.2.2.1 := by rw [ep]; rfl
  have p4 : hv t (B + 149) 26 = p.2.2.2 := by rw [ep]; rfl
  rw [← f1, ← ep, p1, p2, p3, p4]
  rw [← ep] at o1
  have hb : -1000000000 ≤ p.1 ∧ p.1 ≤ 1000000000 := by
    rcases o1 with ⟨_, a, b, _⟩ | ⟨f, e, _⟩
    · exact ⟨a, b⟩
    · have q1 : (flt f).1 = 0 := rfl
      rw [e]; exact ⟨by omega, by omega⟩
  have eg : cond (tst 1 p.2.2.2 0) (0 : Int) (cond (tst 0 p.2.2.1 0) (cond (tst 1 (cmp64 p.2.1 1) 0) 0 (cond (tst 2 (cmp64 p.1 (-200)) 0) 0 (cond (tst 4 (cmp64 p.1 200) 0) 0 1))) (cond (tst 1 p.2.2.1 1) 0 (cond (tst 1 (cmp64 p.2.1 1) 0) 0 (cond (tst 2 (cmp64 p.1 (-200)) 0) 0 (cond (tst 4 (cmp64 p.1 200) 0) 0 1))))) = if gvs p = true then 1 else 0 := by
    have e1 : ∀ a b : Int, (cmp64 a b < 0) = (a < b) := fun a b => propext cmp64_neg
    have e2 : ∀ a b : Int, (0 < cmp64 a b) = (b < a) := fun a b => propext cmp64_pos
    have e3 : ∀ a b : Int, (cmp64 a b = 0) = (a = b) := fun a b => propext cmp64_z
    simp only [ct0, ct1, ct2, ct4, e1, e2, e3]
    unfold gvs
    by_cases a1 : p.2.2.2 = 0
    · by_cases a2 : p.2.2.1 = 0
      · by_cases a3 : p.2.1 = 1
        · by_cases a4 : p.1 < -200
          · simp [a1, a2, a3, a4, show ¬ -200 ≤ p.1 by omega]
          · by_cases a5 : 200 < p.1
            · simp [a1, a2, a3, a4, a5, show ¬ p.1 ≤ 200 by omega]
            · simp [a1, a2, a3, a4, a5, show -200 ≤ p.1 by omega, show p.1 ≤ 200 by omega]
        · simp [a1, a2, a3]
      · by_cases a6 : p.2.2.1 = 1
        · by_cases a3 : p.2.1 = 1
          · by_cases a4 : p.1 < -200
            · simp [a1, a6, a3, a4, show ¬ -200 ≤ p.1 by omega]
            · by_cases a5 : 200 < p.1
              · simp [a1, a6, a3, a4, a5, show ¬ p.1 ≤ 200 by omega]
              · simp [a1, a6, a3, a4, a5, show -200 ≤ p.1 by omega, show p.1 ≤ 200 by omega]
          · simp [a1, a6, a3]
        · have : ¬ (0 ≤ p.2.2.1 ∧ p.2.2.1 ≤ 1) := by omega
          by_cases a7 : 0 ≤ p.2.2.1
          · have a8 : ¬ p.2.2.1 ≤ 1 := by omega
            simp [a1, a2, a6, a7, a8]
          · simp [a1, a2, a6, a7]
    · simp [a1]
  rw [eg]
  by_cases z : gvs p = true
  · rw [if_pos z, if_pos z, ct0, if_neg (by decide)]
    exact w32_id ⟨by omega, by omega⟩
  · rw [if_neg z, if_neg z, ct0, if_pos rfl]
theorem c_value861 {h : AH} {d v : Nat} {w : Int} (l : LX B n h) (hd : 502 ≤ d) (X : WoB B n h c q nv nc k V) (K0 : KnM B h nv V) (hv0 : v < nv) (hw : 0 ≤ w ∧ w ≤ 3) : Vt 0 (cll PP (ev PP (gsF gv) B) d 861 [(2, rf (B + 149)), (0, (v : Int)), (0, w)] h) (fun x h' => Agr (fun c k => wvW B c k ∨ (c = B + 149 ∧ k = 0)) h h' ∧ hv h' (B + 149) 0 = 0 ∧ KnM B h' nv V ∧ x = fqW (V v) w) := by
  obtain ⟨⟨tq, tD, tx, tV⟩, tW, X2, X3⟩ := X
  refine Vt.inq (D := 501) hd (Nat.le_of_ble_eq_true rfl) rfl (fun d hd Q K => ?_)
  refine Ends.eq (b861_0 l (by omega) tq tD) ?_
  rw [tV.1.1, ct2, if_neg (by omega), ct2, if_pos (by omega), ct2, if_neg (by omega), ct5, if_neg (by omega)]
  refine Ends.ct l (by decide +kernel) (by decide) (c_fails l (by omega) (x := 0)) (fun x t l1 _ _ _ ⟨ex, et⟩ => ?_)
  subst ex
  refine Ends.eq (b861_37 l1 (by omega)) (Ends.b0 (fun _ => ?_) (fun z => absurd rfl z))
  have gs : Agr (fun c k => c = B + 149 ∧ k = 0) h t := by rw [et]; exact Agr.rf.set ⟨rfl, rfl⟩
  have at_ : ∀ c k, c ≠ B + 149 → hv t c k = hv h c k := fun c k hc => gs.at _ _ (fun z => hc z.1)
  have D' : YD B q t := tD.far gs (fun c k h1 h2 w => by have := tD.lo; omega)
  have lo := tD.lo
  have q' : hv t (B + 149) 19 = rf q := by rw [gs.at _ _ (by omega)]; exact tq
  have K' : KnM B t nv V := fun x hx => by
    unfold rwMf
    rw [at_ _ _ (by omega), at_ _ _ (by omega), at_ _ _ (by omega), at_ _ _ (by omega), at_ _ _ (by omega)]
    exact K0 x hx
  have V' : DV B t c q nv nc := by
    obtain ⟨⟨a1, a2, a3⟩, V2, V3, V4, V5⟩ := tV
    have K : ∀ j k, j < 140 → hv t (q + j) k = hv h (q + j) k := fun j k hj => at_ _ _ (by omega)
    have K0 : ∀ k, hv t q k = hv h q k := fun k => K 0 k (by decide)
    refine ⟨⟨by rw [K0]; exact a1, by rw [K0]; exact a2, by rw [K0]; exact a3⟩, fun v hv1 => ?_, fun k h1 h2 => by rw [K 4 k (by decide)]; exact V3 k h1 h2, fun v k hv1 hk1 => ?_, fun v k h1 h2 h3 => ⟨(V5 v k h1 h2 h3).1, by rw [K 3 _ (by decide)]; exact (V5 v k h1 h2 h3).2⟩⟩
    · obtain ⟨s, s1, s2, s3, s4, s5⟩ := V2 v hv1
      exact ⟨s, s1, s2, s3, by rw [K 2 _ (by decide)]; exact s4, fun i hi => by rw [K 1 _ (by decide)]; exact s5 i hi⟩
    · rw [K 3 _ (by decide)]
      refine (V4 v k hv1 hk1).imp id (fun ⟨e1, X, N, p', r1, r2, r3⟩ => ⟨e1, X, N, p', r1, ?_, r3⟩)
      exact AstI.keep (Nat.le_refl _) (Nat.le_of_eq gs.nx.symm) (fun a h1 _ hk0 => ⟨by rw [gs.hk]; exact hk0, fun k _ => at_ _ _ (by omega)⟩) 240 240 _ X N (Nat.le_refl _) r2
  have X' : WoB B n t c q nv nc k V := ⟨⟨q', D', by rw [gs.nx]; exact tx, V'⟩, tW, X2, X3⟩
  refine Ends.cv l1 (by decide +kernel) (c_worthOf868 l1 (by omega) X' K' hv0) (fun t2 l2 _ _ _ ⟨g2, k2, f2⟩ => ?_)
  have G : Agr (fun c k => wvW B c k ∨ (c = B + 149 ∧ k = 0)) h t2 := (gs.sub (fun c k z => Or.inr z)).tr g2 (fun c k z => Or.inl z)
  have z0 : hv t2 (B + 149) 0 = 0 := by rw [g2.at _ _ (fun w => by unfold wvW mfW at w; omega), et, hv_set_at]
  have ov := X'.ok hv0
  have hb : (-1000000000 ≤ (V v).1 ∧ (V v).1 ≤ 1000000000) ∧ (0 ≤ (V v).2.1 ∧ (V v).2.1 ≤ 1000000000) ∧ -4 ≤ (V v).2.2.1 ∧ (V v).2.2.1 ≤ 4 := by
    rcases ov with ⟨_, a, b, c, e, f, g, _⟩ | ⟨f, e, _⟩
    · exact ⟨⟨a, b⟩, ⟨by omega, e⟩, f, g⟩
    · have q1 : (flt f).1 = 0 := rfl
      have q2 : (flt f).2.1 = 1 := rfl
      have q3 : (flt f).2.2.1 = 0 := rfl
      rw [e]; exact ⟨⟨by omega, by omega⟩, ⟨by omega, by omega⟩, by omega, by omega⟩
  have f1 : hv t2 (B + 149) 23 = (V v).1 := by rw [← f2]; rfl
  have f2' : hv t2 (B + 149) 24 = (V v).2.1 := by rw [← f2]; rfl
  have f3 : hv t2 (B + 149) 25 = (V v).2.2.1 := by rw [← f2]; rfl
  have f4 : hv t2 (B + 149) 26 = (V v).2.2.2 := by rw [← f2]; rfl
  have u3 : ∀ x : Int, uop 3 x = w32 x := fun _ => rfl
  refine Ends.eq (b861_47 l2 (by omega)) ?_
  rw [f1, f2', f3, f4]
  refine Ends.b1 (fun z => Ends.sm (K _ _ ⟨G, z0, k2, ?_⟩)) (fun z => Ends.sm (K _ _ ⟨G, z0, k2, ?_⟩))
  · unfold fqW
    rw [if_neg z, ct1, ct1]
    by_cases w0 : w = 0
    · rw [if_pos w0, if_pos w0]
      exact w32_id ⟨by omega, by omega⟩
    · rw [if_neg w0, if_neg w0]
      by_cases w1 : w = 1
      · rw [if_pos w1, if_pos w1]
        exact w32_id ⟨by omega, by omega⟩
      · rw [if_neg w1, if_neg w1]
        show w32 ((V v).2.2.1) = (V v).2.2.1
        exact w32_id ⟨by omega, by omega⟩
  · unfold fqW
    rw [if_pos z]
end MVAL
