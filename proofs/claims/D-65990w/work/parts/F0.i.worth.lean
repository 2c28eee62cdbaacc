/-! L3: what formulas are worth (model) -/
section WORTH
variable {gv : Nat → Int} {B n : Nat}
def wvW (B : Nat) : Nat → Nat → Prop := fun c k => mfW B c k ∨ (B + 154 ≤ c ∧ c ≤ B + 159)
theorem wv_mf {c k : Nat} (h : mfW B c k) : wvW B c k := Or.inl h
theorem wv_lo {c k : Nat} (h : wvW B c k) : c < B + 246 := by
  unfold wvW mfW at h
  omega
theorem ast_wv {g : Nat} {h t : AH} {x : Int} {D : Dn} {N : Nat → Bool} (A : AstI (B + 246) g h x D N) (e : Agr (wvW B) h t) : AstI (B + 246) g t x D N :=
  AstI.keep (Nat.le_refl _) (Nat.le_of_eq e.nx.symm) (fun a h1 _ hk0 => ⟨by rw [e.hk]; exact hk0, fun k _ => e.at _ _ (fun z => by have := wv_lo z; omega)⟩) g g x D N (Nat.le_refl g) A
theorem MPut.wv {h h' : AH} {q : Fq} (p : MPut B h q h') : Agr (wvW B) h h' := p.1.sub (fun _ _ z => Or.inl z)
theorem flt_of {q : Fq} (ok : FOK q) (z : q.2.2.2 ≠ 0) : q = flt q.2.2.2 := by
  rcases ok with ⟨a, _⟩ | ⟨f, e, _⟩
  · exact absurd a z
  · rw [e]; rfl
theorem nmq_0 {q : Fq} (z : q.2.2.2 = 0) : nmq q = q := by
  unfold nmq
  rw [if_pos z]; exact fq_eta z
theorem nmq_1 {q : Fq} (ok : FOK q) (z : q.2.2.2 ≠ 0) : nmq q = flt 4 := by
  unfold nmq
  rw [if_neg z, flt_of ok z]; rfl
theorem fault_nn {q : Fq} (ok : FOK q) : 0 ≤ q.2.2.2 := by
  rcases ok with ⟨a, _⟩ | ⟨f, e, h1, _⟩
  · omega
  · rw [e]; show 0 ≤ f; omega
/-- functions of one number, of two, of three -/
theorem c_called565 {V : Nat → Fq} {Inv : AH → Prop} (hI : ∀ q q', Inv q → Agr (mfW B) q q' → Inv q') {P0 : Nat → Prop} {g D0 d : Nat} {h : AH} {a f : Nat} {N : Nat → Bool} {D : Dn}
    (W : ∀ (d : Nat) (h : AH) (x : Int) (D : Dn) (N : Nat → Bool), LX B n h → AstI (B + 246) g h x D N → Inv h → (∀ w, N w = true → P0 w) → D0 ≤ d → (Vd (cll PP (ev PP (gsF gv) B) d 867 [(2, rf (B + 149)), (2, x)] h) (fun h' => Agr (wvW B) h h' ∧ Inv h' ∧ frM B h' = D (fun w => nmq (V w)) ∧ FOK (frM B h')))) (hd : D0 + 1 ≤ d) (hd2 : 18 ≤ d)
    (l : LX B n h) (ha : B + 246 ≤ a) (hk0 : hk h a = (1, 24)) (i : Inv h) (hN : ∀ w, N w = true → P0 w) (hf : f ≤ 10) (e1 : hv h a 1 = (f : Int))
    (A : (4 < f ∧ hv h a 5 = 0 ∧ hv h a 6 = 0 ∧ ∃ D1, AstI (B + 246) g h (hv h a 4) D1 N ∧ D = fun e => fAlone f (D1 e)) ∨ (f < 4 ∧ hv h a 6 = 0 ∧ ∃ D1 N1 D2 N2, AstI (B + 246) g h (hv h a 4) D1 N1 ∧ AstI (B + 246) g h (hv h a 5) D2 N2 ∧ D = (fun e => fPair f (D1 e) (D2 e)) ∧ N = orN N1 N2) ∨ (f = 4 ∧ ∃ D1 N1 D2 N2 D3 N3, AstI (B + 246) g h (hv h a 4) D1 N1 ∧ AstI (B + 246) g h (hv h a 5) D2 N2 ∧ AstI (B + 246) g h (hv h a 6) D3 N3 ∧ D = (fun e => fThree (D1 e) (D2 e) (D3 e)) ∧ N = orN N1 (orN N2 N3))) :
    Vd (cll PP (ev PP (gsF gv) B) d 565 [(2, rf (B + 149)), (2, rf a)] h) (fun h' => Agr (wvW B) h h' ∧ Inv h' ∧ frM B h' = D (fun w => nmq (V w)) ∧ FOK (frM B h')) := by
  have at_ : ∀ {q : AH}, Agr (wvW B) h q → ∀ k, hv q a k = hv h a k := fun g k => g.at _ _ (fun z => by have := wv_lo z; omega)
  have hk_ : ∀ {q : AH}, Agr (wvW B) h q → hk q a = (1, 24) := fun g => by rw [g.hk]; exact hk0
  refine Vd.inq (D := d - 1) (by omega) (Nat.le_of_ble_eq_true rfl) rfl (fun d hd Q K => ?_)
  -- the first number
  have first : ∀ (D1 : Dn) (N1 : Nat → Bool), AstI (B + 246) g h (hv h a 4) D1 N1 → (∀ w, N1 w = true → P0 w) → (∀ q1, LX B n q1 → Agr (wvW B) h q1 → Inv q1 → frM B q1 = D1 (fun w => nmq (V w)) → FOK (frM B q1) → Ends (ev PP (gsF gv) B d 565 8 [(2, rf (B + 149)), (2, rf a), (9, 0), (9, 0), (9, 0), (9, 0), (9, 0), (9, 0), (9, 0), (9, 0), (9, 0), (9, 0), (9, 0)] [] q1) Q) → Ends (ev PP (gsF gv) B d 565 0 [(2, rf (B + 149)), (2, rf a), (9, 0), (9, 0), (9, 0), (9, 0), (9, 0), (9, 0), (9, 0), (9, 0), (9, 0), (9, 0), (9, 0)] [] h) Q := fun D1 N1 A1 hN1 k => by
    refine Ends.eq (b565_0 l (by omega)) ?_
    rw [ad_rf]
    refine Ends.g ⟨rf_pos _, hk0⟩ ?_
    exact Ends.cv l (by decide +kernel) (W d h _ D1 N1 l A1 i hN1 (by omega)) (fun q1 l1 _ _ _ ⟨g1, i1, f1, o1⟩ => k q1 l1 g1 i1 f1 o1)
  have fx : ∀ (q1 : AH), (frM B q1).2.2.2 = hv q1 (B + 149) 26 := fun _ => rfl
  rcases A with ⟨h4, n5, n6, D1, A1, eD⟩ | ⟨h4, n6, D1, N1, D2, N2, A1, A2, eD, eN⟩ | ⟨h4, D1, N1, D2, N2, D3, N3, A1, A2, A3, eD, eN⟩
  · refine first D1 N A1 hN (fun q1 l1 g1 i1 f1 o1 => ?_)
    refine Ends.eq (b565_8 l1 (by omega)) ?_
    rw [ad_rf, at_ g1, at_ g1, n5, e1]
    refine Ends.b5 (fun z => Ends.g ⟨rf_pos _, hk_ g1⟩ (Ends.b0 (fun _ => ?_) (fun z2 => absurd rfl z2))) (fun z => ?_)
    · have z0 : (frM B q1).2.2.2 = 0 := by have := fault_nn o1; rw [fx] at this ⊢; omega
      refine Ends.cv l1 (by decide +kernel) (c_one770 (f := f) l1 (by omega) (by omega) hf o1 z0 rfl) (fun q2 l2 _ _ _ g2 => ?_)
      refine Ends.eq (b565_31 l2 (by omega)) (Ends.sm (K _ ⟨g1.tr g2.1 (fun _ _ z => wv_mf z), hI _ _ i1 g2.1, ?_, ?_⟩))
      · rw [g2.2, f1, eD]
      · rw [g2.2]; exact fAlone_ok o1
    · have zf : (frM B q1).2.2.2 ≠ 0 := by rw [fx]; omega
      refine Ends.sm (K _ ⟨g1, i1, ?_, o1⟩)
      rw [eD]
      show frM B q1 = fAlone f (D1 _)
      rw [← f1]
      unfold fAlone
      rw [if_pos zf]; exact flt_of o1 zf
  · refine first D1 N1 A1 (fun w z => hN w (by rw [eN]; unfold orN; rw [z]; rfl)) (fun q1 l1 g1 i1 f1 o1 => ?_)
    refine Ends.eq (b565_8 l1 (by omega)) ?_
    rw [ad_rf, at_ g1, at_ g1]
    refine Ends.b5 (fun z => Ends.g ⟨rf_pos _, hk_ g1⟩ (Ends.b0 (fun z2 => absurd z2 (by have := A2.pos; omega)) (fun _ => ?_))) (fun z => ?_)
    · have z0 : (frM B q1).2.2.2 = 0 := by have := fault_nn o1; rw [fx] at this ⊢; omega
      refine Ends.cv l1 (by decide +kernel) (W d q1 _ D2 N2 l1 (ast_wv A2 g1) i1 (fun w z => hN w (by rw [eN]; unfold orN; rw [z, Bool.or_true])) (by omega)) (fun q2 l2 _ _ _ ⟨g2, i2, f2, o2⟩ => ?_)
      have G2 := g1.tr g2 (fun _ _ z => z)
      refine Ends.eq (b565_57 l2 (by omega)) ?_
      rw [ad_rf, at_ G2, at_ G2, n6, e1]
      -- both fractions
      obtain ⟨x, ex⟩ : ∃ x, x = frM B q1 := ⟨_, rfl⟩
      obtain ⟨y, ey⟩ : ∃ y, y = frM B q2 := ⟨_, rfl⟩
      have x1 : hv q1 (B + 149) 23 = x.1 := by rw [ex]; rfl
      have x2 : hv q1 (B + 149) 24 = x.2.1 := by rw [ex]; rfl
      have x3 : hv q1 (B + 149) 25 = x.2.2.1 := by rw [ex]; rfl
      have y1 : hv q2 (B + 149) 23 = y.1 := by rw [ey]; rfl
      have y2 : hv q2 (B + 149) 24 = y.2.1 := by rw [ey]; rfl
      have y3 : hv q2 (B + 149) 25 = y.2.2.1 := by rw [ey]; rfl
      have y4 : hv q2 (B + 149) 26 = y.2.2.2 := by rw [ey]; rfl
      rw [x1, x2, x3, y1, y2, y3, y4]
      rw [← ex] at o1 f1 z0
      rw [← ey] at o2 f2
      have ed : D (fun w => nmq (V w)) = fPair f x y := by
        rw [eD]
        show fPair f (D1 (fun w => nmq (V w))) (D2 (fun w => nmq (V w))) = _
        rw [← f1, ← f2]
      rw [ed] at K
      refine Ends.b5 (fun zy => Ends.g ⟨rf_pos _, hk_ G2⟩ (Ends.b0 (fun _ => ?_) (fun z2 => absurd rfl z2))) (fun zy => ?_)
      · have y0 : y.2.2.2 = 0 := by have := fault_nn o2; omega
        obtain ⟨a1, a2, a3, a4⟩ := o1.b z0
        obtain ⟨b1, b2, b3, b4⟩ := o2.b y0
        obtain ⟨m1, m2, m3, m4, m5⟩ := fqB o1 o2 z0 y0
        have okP : FOK (fPair f x y) := fPair_ok o1 o2
        have done : ∀ {q3 : AH}, MPut B q2 (fPair f x y) q3 → Q ((0, (9, 0)), q3) := fun p => K _ ⟨G2.tr p.1 (fun _ _ z => wv_mf z), hI _ _ i2 p.1, p.2, by rw [p.2]; exact okP⟩
        refine Ends.b0 (fun ek => ?_) (fun ek => ?_)
        · have bd : bd2 true x y = 0 := by rw [bd2_z z0 y0, decide_eq_false (fun z => z ek.symm)]; rfl
          rcases (by omega : f < 2 ∨ f = 2 ∨ f = 3) with e | e | e
          · have esw : sw565_167 (f : Int) = 196 := by
              rcases (by omega : f = 0 ∨ f = 1) with e | e <;> rw [e] <;> rfl
            rw [esw]
            refine Ends.eq (b565_196 l2 (by omega)) ?_
            rw [ad_rf, at_ G2, e1, ordF_is o1 o2 z0 y0]
            have take : ∀ v : Int, (v = 0 → fPair f x y = y) → (v ≠ 0 → fPair f x y = x) → Ends (brc 0 v 0 (aft PP 565 268 271 [(2, rf (B + 149)), (2, rf a), (1, x.1), (9, 0), (1, x.2.1), (9, 0), (0, x.2.2.1), (1, y.1), (9, 0), (1, y.2.1), (9, 0), (0, y.2.2.1), (0, v)] [] (ev PP (gsF gv) B d 565) (cll PP (ev PP (gsF gv) B) d 649 [(2, rf (B + 149)), (1, y.1), (1, y.2.1), (0, x.2.2.1)] q2)) (aft PP 565 255 258 [(2, rf (B + 149)), (2, rf a), (1, x.1), (9, 0), (1, x.2.1), (9, 0), (0, x.2.2.1), (1, y.1), (9, 0), (1, y.2.1), (9, 0), (0, y.2.2.1), (0, v)] [] (ev PP (gsF gv) B d 565) (cll PP (ev PP (gsF gv) B) d 649 [(2, rf (B + 149)), (1, x.1), (1, x.2.1), (0, x.2.2.1)] q2))) Q := fun v w1 w2 => by
              refine Ends.b0 (fun z => ?_) (fun z => ?_)
              · refine Ends.cv l2 (by decide +kernel) (c_frac649 l2 (by omega) (by omega) (by omega) (by omega)) (fun q3 l3 _ _ _ g3 => ?_)
                refine Ends.eq (b565_271 l3 (by omega)) (Ends.eq (b565_348 l3 (by omega)) (Ends.sm (done ?_)))
                rw [ek, mkF_self o2 y0, fq_eta y0] at g3
                rw [w1 z]; exact g3
              · refine Ends.cv l2 (by decide +kernel) (c_frac649 l2 (by omega) (by omega) (by omega) (by omega)) (fun q3 l3 _ _ _ g3 => ?_)
                refine Ends.eq (b565_258 l3 (by omega)) (Ends.eq (b565_348 l3 (by omega)) (Ends.sm (done ?_)))
                rw [mkF_self o1 z0, fq_eta z0] at g3
                rw [w2 z]; exact g3
            have pr : ∀ b : Bool, (b = true → fPair f x y = x) → (b = false → fPair f x y = y) → fPair f x y = if b = true then x else y := fun b h1 h2 => by cases b; exact h2 rfl; exact h1 rfl
            have fp : fPair f x y = if decide (ordF x y ≤ 0) = decide (f = 0) then x else y := by
              unfold fPair
              rw [bd, if_neg (by decide), if_pos e, fq_eta z0, fq_eta y0]; rfl
            refine Ends.g ⟨rf_pos _, hk_ G2⟩ (take _ (fun z => ?_) (fun z => ?_))
            · rw [fp]
              rcases (by omega : f = 0 ∨ f = 1) with e0 | e0
              · subst e0
                have z' : cond (tst 4 (ordF x y) 0) (0 : Int) 1 = 0 := z
                rw [ct4] at z'
                by_cases w : 0 < ordF x y
                · rw [if_neg (by rw [decide_eq_false (show ¬ ordF x y ≤ 0 by omega)]; decide)]
                · rw [if_neg w] at z'; exact absurd z' (by decide)
              · subst e0
                have z' : cond (tst 2 (ordF x y) 0) (0 : Int) 1 = 0 := z
                rw [ct2] at z'
                by_cases w : ordF x y < 0
                · rw [if_neg (by rw [decide_eq_true (show ordF x y ≤ 0 by omega)]; decide)]
                · rw [if_neg w] at z'; exact absurd z' (by decide)
            · rw [fp]
              rcases (by omega : f = 0 ∨ f = 1) with e0 | e0
              · subst e0
                have z' : cond (tst 4 (ordF x y) 0) (0 : Int) 1 ≠ 0 := z
                rw [ct4] at z'
                by_cases w : 0 < ordF x y
                · rw [if_pos w] at z'; exact absurd rfl z'
                · rw [if_pos (by rw [decide_eq_true (show ordF x y ≤ 0 by omega)]; decide)]
              · subst e0
                have z' : cond (tst 2 (ordF x y) 0) (0 : Int) 1 ≠ 0 := z
                rw [ct2] at z'
                by_cases w : ordF x y < 0
                · rw [if_pos w] at z'; exact absurd rfl z'
                · by_cases w2 : ordF x y = 0
                  · have : x = y := fq_same o1 o2 z0 y0 ek (by
                      unfold ordF cmpZ at w2
                      split at w2
                      · exact absurd w2 (by decide)
                      · split at w2
                        · next w3 => exact w3
                        · exact absurd w2 (by decide))
                    rw [this]; split <;> rfl
                  · rw [if_pos (by rw [decide_eq_false (show ¬ ordF x y ≤ 0 by omega)]; decide)]
          · subst e
            show Ends (ev PP (gsF gv) B d 565 310 _ [] q2) Q
            refine Ends.eq (b565_310 l2 (by omega)) (Ends.l1 (fun hz => ?_) (fun hz => ?_))
            · rw [mul64 (x := x.1) (y := y.2.1) (by omega) (by omega), mul64 (x := y.1) (y := x.2.1) (by omega) (by omega), mul64 (x := x.2.1) (y := y.2.1) (by omega) (by omega), (v641_fq o1 o2 z0 y0 hz).2]
              have hne : y.1 * x.2.1 ≠ 0 := fun w => by
                rcases Int.mul_eq_zero.mp w with w | w
                · exact hz w
                · omega
              obtain ⟨r1, r2, -, -⟩ := dv_r o1 o2 z0 y0 hz
              have r3 := Int.emod_nonneg (dvA x y) (show dvB x y ≠ 0 by omega)
              have r4 := Int.emod_lt_of_pos (dvA x y) r2.1
              refine Ends.g (show q642 _ _ from by unfold q642 q641; exact hne) ?_
              refine Ends.cv l2 (by decide +kernel) (c_frac649 l2 (by omega) (by split <;> omega) (by omega) (by omega)) (fun q3 l3 _ _ _ g3 => ?_)
              refine Ends.eq (b565_348 l3 (by omega)) (Ends.sm (done ?_))
              have : fPair 2 x y = fRest x y := by
                unfold fPair
                rw [bd, if_neg (by decide), if_neg (by decide), if_neg hz, if_neg (by decide)]
              rw [this]; exact g3
            · refine Ends.cv l2 (by decide +kernel) (c_faulty624 l2 (by omega)) (fun q3 l3 _ _ _ g3 => ?_)
              refine Ends.eq (b565_322 l3 (by omega)) (Ends.eq (b565_348 l3 (by omega)) (Ends.sm (done ?_)))
              have : fPair 2 x y = flt 2 := by
                unfold fPair
                rw [bd, if_neg (by decide), if_neg (by decide), if_pos hz]
              rw [this]; exact g3
          · subst e
            show Ends (ev PP (gsF gv) B d 565 274 _ [] q2) Q
            refine Ends.eq (b565_274 l2 (by omega)) (Ends.l1 (fun hz => ?_) (fun hz => ?_))
            · rw [mul64 (x := x.1) (y := y.2.1) (by omega) (by omega), mul64 (x := y.1) (y := x.2.1) (by omega) (by omega), (v641_fq o1 o2 z0 y0 hz).1]
              have hne : y.1 * x.2.1 ≠ 0 := fun w => by
                rcases Int.mul_eq_zero.mp w with w | w
                · exact hz w
                · omega
              obtain ⟨r1, r2, -, -⟩ := dv_r o1 o2 z0 y0 hz
              have r3 := ldiv_b (x := dvA x y) (y := dvB x y) (by omega) (by omega) r2.1
              refine Ends.g (show q641 _ _ from by unfold q641; exact hne) ?_
              refine Ends.cv l2 (by decide +kernel) (c_frac649 l2 (by omega) r3 (by decide) (by decide)) (fun q3 l3 _ _ _ g3 => ?_)
              refine Ends.eq (b565_307 l3 (by omega)) (Ends.eq (b565_348 l3 (by omega)) (Ends.sm (done ?_)))
              have : fPair 3 x y = mkF (dvA x y / dvB x y) 1 0 := by
                unfold fPair
                rw [bd, if_neg (by decide), if_neg (by decide), if_neg hz, if_pos rfl]
              rw [this]; exact g3
            · refine Ends.cv l2 (by decide +kernel) (c_faulty624 l2 (by omega)) (fun q3 l3 _ _ _ g3 => ?_)
              refine Ends.eq (b565_286 l3 (by omega)) (Ends.eq (b565_348 l3 (by omega)) (Ends.sm (done ?_)))
              have : fPair 3 x y = flt 2 := by
                unfold fPair
                rw [bd, if_neg (by decide), if_neg (by decide), if_pos hz]
              rw [this]; exact g3
        · refine Ends.cv l2 (by decide +kernel) (c_faulty624 l2 (by omega)) (fun q3 l3 _ _ _ g3 => ?_)
          refine Ends.eq (b565_162 l3 (by omega)) (Ends.sm (done ?_))
          have : fPair f x y = flt 1 := by
            unfold fPair
            rw [bd2_z z0 y0, show decide (y.2.2.1 ≠ x.2.2.1) = true from decide_eq_true (p := y.2.2.1 ≠ x.2.2.1) (fun z => ek z.symm), Bool.true_and, if_pos rfl, if_pos (by decide)]
          rw [this]; exact g3
      · have zf : y.2.2.2 ≠ 0 := by omega
        refine Ends.sm (K _ ⟨G2, i2, ?_, by rw [← ey]; exact o2⟩)
        rw [← ey]
        unfold fPair
        rw [show bd2 true x y = y.2.2.2 from by unfold bd2; rw [if_neg (fun z => z z0), if_pos zf], if_pos zf]; exact flt_of o2 zf
    · have zf : (frM B q1).2.2.2 ≠ 0 := by rw [fx]; omega
      refine Ends.sm (K _ ⟨g1, i1, ?_, o1⟩)
      rw [eD]
      show frM B q1 = fPair f (D1 _) (D2 _)
      rw [← f1]
      unfold fPair bd2
      rw [if_pos zf, if_pos zf]; exact flt_of o1 zf
  · subst h4
    refine first D1 N1 A1 (fun w z => hN w (by rw [eN]; unfold orN; rw [z]; rfl)) (fun q1 l1 g1 i1 f1 o1 => ?_)
    refine Ends.eq (b565_8 l1 (by omega)) ?_
    rw [ad_rf, at_ g1, at_ g1]
    obtain ⟨x, ex⟩ : ∃ x, x = frM B q1 := ⟨_, rfl⟩
    have x1 : hv q1 (B + 149) 23 = x.1 := by rw [ex]; rfl
    have x2 : hv q1 (B + 149) 24 = x.2.1 := by rw [ex]; rfl
    have x3 : hv q1 (B + 149) 25 = x.2.2.1 := by rw [ex]; rfl
    have x4 : hv q1 (B + 149) 26 = x.2.2.2 := by rw [ex]; rfl
    rw [x1, x2, x3, x4]
    rw [← ex] at o1 f1
    refine Ends.b5 (fun z => Ends.g ⟨rf_pos _, hk_ g1⟩ (Ends.b0 (fun z2 => absurd z2 (by have := A2.pos; omega)) (fun _ => ?_))) (fun z => ?_)
    · have z0 : x.2.2.2 = 0 := by have := fault_nn o1; omega
      refine Ends.cv l1 (by decide +kernel) (W d q1 _ D2 N2 l1 (ast_wv A2 g1) i1 (fun w z => hN w (by rw [eN]; unfold orN; rw [z, Bool.true_or, Bool.or_true])) (by omega)) (fun q2 l2 _ _ _ ⟨g2, i2, f2, o2⟩ => ?_)
      have G2 := g1.tr g2 (fun _ _ z => z)
      refine Ends.eq (b565_57 l2 (by omega)) ?_
      rw [ad_rf, at_ G2, at_ G2]
      obtain ⟨y, ey⟩ : ∃ y, y = frM B q2 := ⟨_, rfl⟩
      have y1 : hv q2 (B + 149) 23 = y.1 := by rw [ey]; rfl
      have y2 : hv q2 (B + 149) 24 = y.2.1 := by rw [ey]; rfl
      have y3 : hv q2 (B + 149) 25 = y.2.2.1 := by rw [ey]; rfl
      have y4 : hv q2 (B + 149) 26 = y.2.2.2 := by rw [ey]; rfl
      rw [y1, y2, y3, y4]
      rw [← ey] at o2 f2
      refine Ends.b5 (fun zy => Ends.g ⟨rf_pos _, hk_ G2⟩ (Ends.b0 (fun z2 => absurd z2 (by have := A3.pos; omega)) (fun _ => ?_))) (fun zy => ?_)
      · have y0 : y.2.2.2 = 0 := by have := fault_nn o2; omega
        refine Ends.cv l2 (by decide +kernel) (W d q2 _ D3 N3 l2 (ast_wv A3 G2) i2 (fun w z => hN w (by rw [eN]; unfold orN; rw [z, Bool.or_true, Bool.or_true])) (by omega)) (fun q3 l3 _ _ _ ⟨g3, i3, f3, o3⟩ => ?_)
        have G3 := G2.tr g3 (fun _ _ z => z)
        refine Ends.eq (b565_98 l3 (by omega)) ?_
        obtain ⟨w, ew⟩ : ∃ w, w = frM B q3 := ⟨_, rfl⟩
        have w1 : hv q3 (B + 149) 23 = w.1 := by rw [ew]; rfl
        have w2 : hv q3 (B + 149) 24 = w.2.1 := by rw [ew]; rfl
        have w3 : hv q3 (B + 149) 25 = w.2.2.1 := by rw [ew]; rfl
        have w4 : hv q3 (B + 149) 26 = w.2.2.2 := by rw [ew]; rfl
        rw [w1, w2, w3, w4]
        rw [← ew] at o3 f3
        have ed : D (fun w => nmq (V w)) = fThree x y w := by
          rw [eD]
          show fThree (D1 (fun w => nmq (V w))) (D2 (fun w => nmq (V w))) (D3 (fun w => nmq (V w))) = _
          rw [← f1, ← f2, ← f3]
        rw [ed] at K
        have done : ∀ {q4 : AH}, MPut B q3 (fThree x y w) q4 → Q ((0, (9, 0)), q4) := fun p => K _ ⟨G3.tr p.1 (fun _ _ z => wv_mf z), hI _ _ i3 p.1, p.2, by rw [p.2]; exact fThree_ok o1 o2 o3⟩
        refine Ends.b5 (fun zw => ?_) (fun zw => ?_)
        · have z3 : w.2.2.2 = 0 := by have := fault_nn o3; omega
          have bad : (y.2.2.1 ≠ x.2.2.1 ∨ w.2.2.1 ≠ x.2.2.1) → Ends (ev PP (gsF gv) B d 565 122 [(2, rf (B + 149)), (2, rf a), (1, x.1), (9, 0), (1, x.2.1), (9, 0), (0, x.2.2.1), (1, y.1), (9, 0), (1, y.2.1), (9, 0), (0, y.2.2.1), (9, 0)] [] q3) Q := fun hk1 => by
            refine Ends.eq (b565_122 l3 (by omega)) ?_
            refine Ends.cv l3 (by decide +kernel) (c_faulty624 l3 (by omega)) (fun q4 l4 _ _ _ g4 => ?_)
            refine Ends.eq (b565_127 l4 (by omega)) (Ends.eq (b565_149 l4 (by omega)) (Ends.sm (done ?_)))
            have e : bd3 x y w = 1 := by
              unfold bd3
              rw [if_neg (by omega), if_neg (by omega), if_neg (by omega)]
              by_cases e1 : y.2.2.1 ≠ x.2.2.1
              · rw [if_pos e1]
              · rw [if_neg e1]
                rcases hk1 with e2 | e2
                · exact absurd e2 e1
                · rw [if_pos e2]
            have : fThree x y w = flt 1 := by
              unfold fThree
              rw [e, if_pos (by decide)]
            rw [this]; exact g4
          refine Ends.b1 (fun ek => bad (Or.inl (fun z => ek z.symm))) (fun ek => Ends.b0 (fun ek2 => ?_) (fun ek2 => bad (Or.inr (fun z => ek2 z.symm))))
          refine Ends.cv l3 (by decide +kernel) (c_middle751 l3 (by omega) o1 o2 o3 z0 y0 z3 ek ek2 w3) (fun q4 l4 _ _ _ g4 => ?_)
          exact Ends.eq (b565_149 l4 (by omega)) (Ends.sm (done g4))
        · have zf : w.2.2.2 ≠ 0 := by omega
          refine Ends.sm (K _ ⟨G3, i3, ?_, by rw [← ew]; exact o3⟩)
          rw [← ew]
          unfold fThree
          rw [show bd3 x y w = w.2.2.2 from by unfold bd3; rw [if_neg (fun z => z z0), if_neg (fun z => z y0), if_pos zf], if_pos zf]; exact flt_of o3 zf
      · have zf : y.2.2.2 ≠ 0 := by omega
        refine Ends.sm (K _ ⟨G2, i2, ?_, by rw [← ey]; exact o2⟩)
        rw [eD, ← ey]
        show y = fThree (D1 _) (D2 _) (D3 _)
        rw [← f1, ← f2]
        unfold fThree
        generalize D3 (fun w => nmq (V w)) = w3
        rw [show bd3 x y w3 = y.2.2.2 from by unfold bd3; rw [if_neg (fun z => z z0), if_pos zf], if_pos zf]; exact flt_of o2 zf
    · have zf : x.2.2.2 ≠ 0 := by omega
      refine Ends.sm (K _ ⟨g1, i1, ?_, by rw [← ex]; exact o1⟩)
      rw [eD, ← ex]
      show x = fThree (D1 _) (D2 _) (D3 _)
      rw [← f1]
      unfold fThree bd3
      rw [if_pos zf, if_pos zf]; exact flt_of o1 zf
/-- any formula, its names by what HN says -/
theorem c_worthG {V : Nat → Fq} {Inv : AH → Prop} {P0 : Nat → Prop} {D0 : Nat} (h20 : 20 ≤ D0) (hI : ∀ q q', Inv q → Agr (mfW B) q q' → Inv q') (hF : ∀ v, P0 v → FOK (V v)) (HN : ∀ (q : AH) (d v : Nat), LX B n q → D0 ≤ d → Inv q → P0 v → Vd (cll PP (ev PP (gsF gv) B) d 868 [(2, rf (B + 149)), (0, (v : Int))] q) (fun q' => Agr (wvW B) q q' ∧ Inv q' ∧ frM B q' = V v)) :
    ∀ (g d : Nat) (h : AH) (x : Int) (D : Dn) (N : Nat → Bool), LX B n h → AstI (B + 246) g h x D N → Inv h → (∀ w, N w = true → P0 w) → D0 + 2 * g ≤ d → Vd (cll PP (ev PP (gsF gv) B) d 867 [(2, rf (B + 149)), (2, x)] h) (fun h' => Agr (wvW B) h h' ∧ Inv h' ∧ frM B h' = D (fun w => nmq (V w)) ∧ FOK (frM B h'))
  | 0, _, _, _, _, _, _, A, _, _, _ => by unfold AstI at A; exact A.elim
  | g + 1, d, h, x, D, N, l, A, i, hN, hd => by
    have ih := c_worthG h20 hI hF HN g
    have A0 := A
    unfold AstI at A
    obtain ⟨a, ex, a1, a2, a3, A⟩ := A
    subst ex
    have at_ : ∀ {q : AH}, Agr (wvW B) h q → ∀ k, hv q a k = hv h a k := fun g k => g.at _ _ (fun z => by have := wv_lo z; omega)
    have hk_ : ∀ {q : AH}, Agr (wvW B) h q → hk q a = (1, 24) := fun g => by rw [g.hk]; exact a3
    have fx : ∀ (q1 : AH), (frM B q1).2.2.2 = hv q1 (B + 149) 26 := fun _ => rfl
    have fk : ∀ (q1 : AH), (frM B q1).2.2.1 = hv q1 (B + 149) 25 := fun _ => rfl
    have ft : ∀ (q1 : AH), (frM B q1).1 = hv q1 (B + 149) 23 := fun _ => rfl
    refine Vd.inq (D := D0 + 2 * g + 1) (by omega) (Nat.le_of_ble_eq_true rfl) rfl (fun d hd Q K => ?_)
    refine Ends.eq (b867_0 l (by omega)) ?_
    rw [ad_rf]
    refine Ends.g ⟨rf_pos _, a3⟩ ?_
    -- the operand
    have sub : ∀ (pc0 nx : Nat) (k : Nat) (L : List AV) (q : AH) (D1 : Dn) (N1 : Nat → Bool), LX B n q → Agr (wvW B) h q → Inv q → AstI (B + 246) g h (hv h a k) D1 N1 → (∀ w, N1 w = true → P0 w) → (∀ q1, LX B n q1 → Agr (wvW B) h q1 → Inv q1 → frM B q1 = D1 (fun w => nmq (V w)) → FOK (frM B q1) → Ends (ev PP (gsF gv) B d 867 nx L [] q1) Q) → Ends (aft PP 867 pc0 nx L [] (ev PP (gsF gv) B d 867) (cll PP (ev PP (gsF gv) B) d 867 [(2, rf (B + 149)), (2, hv q a k)] q)) Q := fun pc0 nx k L q D1 N1 lq gq iq A1 hN1 kk => by
      rw [at_ gq]
      exact Ends.cv lq (by decide +kernel) (ih d q _ D1 N1 lq (ast_wv A1 gq) iq hN1 (by omega)) (fun q1 l1 _ _ _ ⟨g1, i1, f1, o1⟩ => kk q1 l1 (gq.tr g1 (fun _ _ z => z)) i1 f1 o1)
    have ret : ∀ (L : List AV) (q1 : AH), LX B n q1 → Q ((0, (9, 0)), q1) → ∀ x1 u2 u3 u4 u5 u6, Ends (ev PP (gsF gv) B d 867 308 [(2, rf (B + 149)), (2, x1), u2, u3, u4, u5, u6] [] q1) Q := fun _ q1 l1 hq x1 u2 u3 u4 u5 u6 => Ends.eq (b867_308 l1 (by omega)) (Ends.sm hq)
    rcases A with ⟨k0_, k4, k5, k6, b1, b2, b3, eD, eN⟩ | ⟨k0_, k4, k5, k6, v, hv40, kv, eD, eN⟩ | ⟨k0_, D1, N1, D2, N2, D3, N3, A1, A2, A3, eD, eN⟩ | ⟨k0_, k5, k6, D1, A1, eD⟩ | ⟨k0_, f, hf, kf, A1⟩ | ⟨k0_, k6, s, op, D1, N1, D2, N2, ks, ko, A1, A2, eD, eN⟩
    · rw [k0_]
      show Ends (ev PP (gsF gv) B d 867 48 _ [] h) Q
      refine Ends.eq (b867_48 l (by omega)) ?_
      rw [ad_rf]
      refine Ends.g ⟨rf_pos _, a3⟩ ?_
      have okm : FOK (mkF (hv h a 2) (hv h a 3) (hv h a 1)) := FOK.mk (by omega) (by omega) (by omega)
      refine Ends.cv l (by decide +kernel) (c_frac649 l (by omega) (by omega) (by omega) (by omega)) (fun q1 l1 _ _ _ g1 => ?_)
      refine Ends.eq (b867_64 l1 (by omega)) (ret [] q1 l1 (K _ ⟨g1.wv, hI _ _ i g1.1, ?_, ?_⟩) _ _ _ _ _ _)
      · rw [g1.2, eD]
      · rw [g1.2]; exact okm
    · rw [k0_]
      show Ends (ev PP (gsF gv) B d 867 67 _ [] h) Q
      refine Ends.eq (b867_67 l (by omega)) ?_
      rw [ad_rf, kv]
      have pv : P0 v := hN v (by rw [eN]; exact decide_eq_true rfl)
      have ov := hF v pv
      refine Ends.g ⟨rf_pos _, a3⟩ ?_
      refine Ends.cv l (by decide +kernel) (HN h d v l (by omega) i pv) (fun q1 l1 _ _ _ ⟨g1, i1, f1⟩ => ?_)
      refine Ends.eq (b867_75 l1 (by omega)) ?_
      rw [← fx, f1]
      refine Ends.b5 (fun z => ?_) (fun z => ?_)
      · have z0 : (V v).2.2.2 = 0 := by have := fault_nn ov; omega
        refine ret [] q1 l1 (K _ ⟨g1, i1, ?_, ?_⟩) _ _ _ _ _ _
        · rw [f1, eD]
          exact (nmq_0 z0).symm
        · rw [f1]; exact ov
      · refine Ends.cv l1 (by decide +kernel) (c_faulty624 l1 (by omega)) (fun q2 l2 _ _ _ g2 => ?_)
        refine Ends.eq (b867_87 l2 (by omega)) (ret [] q2 l2 (K _ ⟨g1.tr g2.1 (fun _ _ z => wv_mf z), hI _ _ i1 g2.1, ?_, ?_⟩) _ _ _ _ _ _)
        · rw [g2.2, eD]
          exact (nmq_1 ov (by omega)).symm
        · rw [g2.2]; exact FOK.flt (by decide) (by decide)
    · rw [k0_]
      show Ends (ev PP (gsF gv) B d 867 90 _ [] h) Q
      refine Ends.eq (b867_90 l (by omega)) ?_
      rw [ad_rf]
      refine Ends.g ⟨rf_pos _, a3⟩ (sub _ _ 4 _ h D1 N1 l Agr.rf i A1 (fun w z => hN w (by rw [eN]; unfold orN; rw [z]; rfl)) (fun q1 l1 g1 i1 f1 o1 => ?_))
      refine Ends.eq (b867_98 l1 (by omega)) ?_
      rw [← fx, ← fk, ← ft]
      obtain ⟨c, ec⟩ : ∃ c, c = frM B q1 := ⟨_, rfl⟩
      rw [← ec] at f1 o1 ⊢
      have ed : D (fun w => nmq (V w)) = fIf c (D2 (fun w => nmq (V w))) (D3 (fun w => nmq (V w))) := by rw [eD, f1]
      rw [ed] at K
      refine Ends.b5 (fun z => Ends.b0 (fun zk => ?_) (fun zk => ?_)) (fun z => ?_)
      · have z0 : c.2.2.2 = 0 := by have := fault_nn o1; omega
        have fb : fBad c = 0 := by unfold fBad; rw [if_neg (by omega), if_neg (by omega)]
        rw [ad_rf, tc0]
        by_cases ct : c.1 = 0
        · rw [decide_eq_true ct]
          refine Ends.g ⟨rf_pos _, hk_ g1⟩ (sub _ _ 6 _ q1 D3 N3 l1 g1 i1 A3 (fun w z => hN w (by rw [eN]; unfold orN; rw [z, Bool.or_true, Bool.or_true])) (fun q2 l2 g2 i2 f2 o2 => ?_))
          refine Ends.eq (b867_145 l2 (by omega)) (ret [] q2 l2 (K _ ⟨g2, i2, ?_, o2⟩) _ _ _ _ _ _)
          rw [f2]
          unfold fIf
          rw [fb, if_neg (by decide), if_neg (fun z => z ct)]
        · rw [decide_eq_false ct]
          refine Ends.g ⟨rf_pos _, hk_ g1⟩ (sub _ _ 5 _ q1 D2 N2 l1 g1 i1 A2 (fun w z => hN w (by rw [eN]; unfold orN; rw [z, Bool.true_or, Bool.or_true])) (fun q2 l2 g2 i2 f2 o2 => ?_))
          refine Ends.eq (b867_145 l2 (by omega)) (ret [] q2 l2 (K _ ⟨g2, i2, ?_, o2⟩) _ _ _ _ _ _)
          rw [f2]
          unfold fIf
          rw [fb, if_neg (by decide), if_pos ct]
      · have z0 : c.2.2.2 = 0 := by have := fault_nn o1; omega
        refine Ends.cv l1 (by decide +kernel) (c_faulty624 l1 (by omega)) (fun q2 l2 _ _ _ g2 => ?_)
        refine Ends.eq (b867_118 l2 (by omega)) (ret [] q2 l2 (K _ ⟨g1.tr g2.1 (fun _ _ z => wv_mf z), hI _ _ i1 g2.1, ?_, ?_⟩) _ _ _ _ _ _)
        · have fb : fBad c = 1 := by unfold fBad; rw [if_neg (by omega), if_pos zk]
          rw [g2.2]
          unfold fIf
          rw [fb, if_pos (by decide)]
        · rw [g2.2]; exact FOK.flt (by decide) (by decide)
      · have zf : c.2.2.2 ≠ 0 := by omega
        refine Ends.sm (K _ ⟨g1, i1, ?_, by rw [← ec]; exact o1⟩)
        have fb : fBad c = c.2.2.2 := by unfold fBad; rw [if_pos zf]
        rw [← ec]
        unfold fIf
        rw [fb, if_pos zf]; exact flt_of o1 zf
    · rcases k0_ with k0_ | k0_
      · rw [k0_]
        show Ends (ev PP (gsF gv) B d 867 148 _ [] h) Q
        refine Ends.eq (b867_148 l (by omega)) ?_
        rw [ad_rf]
        refine Ends.g ⟨rf_pos _, a3⟩ (sub _ _ 4 _ h D1 N l Agr.rf i A1 hN (fun q1 l1 g1 i1 f1 o1 => ?_))
        refine Ends.eq (b867_156 l1 (by omega)) ?_
        obtain ⟨c, ec⟩ : ∃ c, c = frM B q1 := ⟨_, rfl⟩
        have ed : D (fun w => nmq (V w)) = fNeg c := by
          rw [eD, ec, f1]
          show (if hv h a 0 = 3 then _ else _) = _
          rw [if_pos k0_]
        rw [ed] at K
        have c1 : hv q1 (B + 149) 23 = c.1 := by rw [ec]; rfl
        have c4 : hv q1 (B + 149) 26 = c.2.2.2 := by rw [ec]; rfl
        rw [c1, c4]
        have oc : FOK c := by rw [ec]; exact o1
        refine Ends.b1 (fun z => ?_) (fun z => ?_)
        · refine ret [] q1 l1 (K _ ⟨g1, i1, ?_, o1⟩) _ _ _ _ _ _
          rw [← ec, flt_of oc z]; rfl
        · obtain ⟨a1', a2', -, -⟩ := oc.b z
          have l2 : LX B n (hset q1 (B + 149) 23 (uop 1 c.1)) := LX.setF 149 23 l1 (by decide +kernel)
          have gs : Agr (mfW B) q1 (hset q1 (B + 149) 23 (uop 1 c.1)) := Agr.rf.set ⟨rfl, by decide, by decide⟩
          have ef : frM B (hset q1 (B + 149) 23 (uop 1 c.1)) = fNeg c := by
            unfold frM
            rw [hv_set_at, hv_set_ne (by omega), hv_set_ne (by omega), hv_set_ne (by omega), neg64 (by omega) (by omega), ec]; rfl
          refine ret [] _ l2 (K _ ⟨g1.tr gs (fun _ _ z => wv_mf z), hI _ _ i1 gs, ef, ?_⟩) _ _ _ _ _ _
          rw [ef]; exact fNeg_ok oc
      · rw [k0_]
        show Ends (ev PP (gsF gv) B d 867 175 _ [] h) Q
        refine Ends.eq (b867_175 l (by omega)) ?_
        rw [ad_rf]
        refine Ends.g ⟨rf_pos _, a3⟩ (sub _ _ 4 _ h D1 N l Agr.rf i A1 hN (fun q1 l1 g1 i1 f1 o1 => ?_))
        refine Ends.eq (b867_183 l1 (by omega)) ?_
        obtain ⟨c, ec⟩ : ∃ c, c = frM B q1 := ⟨_, rfl⟩
        have ed : D (fun w => nmq (V w)) = fNot c := by
          rw [eD, ec, f1]
          show (if hv h a 0 = 3 then _ else _) = _
          rw [if_neg (by omega)]
        rw [ed] at K
        have c1 : hv q1 (B + 149) 23 = c.1 := by rw [ec]; rfl
        have c3 : hv q1 (B + 149) 25 = c.2.2.1 := by rw [ec]; rfl
        have c4 : hv q1 (B + 149) 26 = c.2.2.2 := by rw [ec]; rfl
        rw [c1, c3, c4]
        have oc : FOK c := by rw [ec]; exact o1
        refine Ends.b5 (fun z => Ends.b0 (fun zk => ?_) (fun zk => ?_)) (fun z => ?_)
        · have z0 : c.2.2.2 = 0 := by have := fault_nn oc; omega
          have eb : cond (tst 1 (cmp64 c.1 0) 0) (0 : Int) 1 = b2i (decide (c.1 = 0)) := by
            rw [tc1]
            by_cases w : c.1 = 0
            · rw [decide_eq_true w]; rfl
            · rw [decide_eq_false w]; rfl
          rw [eb]
          refine Ends.cv l1 (by decide +kernel) (c_truth854 l1 (by omega) rfl) (fun q2 l2 _ _ _ g2 => ?_)
          have en : fNot c = mkF (b2i (decide (c.1 = 0))) 1 0 := by unfold fNot; rw [if_neg (by omega), if_neg (by omega)]
          refine Ends.eq (b867_224 l2 (by omega)) (ret [] q2 l2 (K _ ⟨g1.tr g2.1 (fun _ _ z => wv_mf z), hI _ _ i1 g2.1, ?_, ?_⟩) _ _ _ _ _ _)
          · rw [g2.2, en]
          · rw [g2.2, ← en]; exact fNot_ok oc
        · have z0 : c.2.2.2 = 0 := by have := fault_nn oc; omega
          refine Ends.cv l1 (by decide +kernel) (c_faulty624 l1 (by omega)) (fun q2 l2 _ _ _ g2 => ?_)
          have en : fNot c = flt 1 := by unfold fNot; rw [if_neg (by omega), if_pos zk]
          refine Ends.eq (b867_203 l2 (by omega)) (ret [] q2 l2 (K _ ⟨g1.tr g2.1 (fun _ _ z => wv_mf z), hI _ _ i1 g2.1, ?_, ?_⟩) _ _ _ _ _ _)
          · rw [g2.2, en]
          · rw [g2.2]; exact FOK.flt (by decide) (by decide)
        · have zf : c.2.2.2 ≠ 0 := by omega
          refine Ends.sm (K _ ⟨g1, i1, ?_, o1⟩)
          rw [← ec]
          unfold fNot
          rw [if_pos zf]; exact flt_of oc zf
    · rw [k0_]
      show Ends (ev PP (gsF gv) B d 867 303 _ [] h) Q
      refine Ends.eq (b867_303 l (by omega)) ?_
      refine Ends.cv l (by decide +kernel) (c_called565 (V := V) (P0 := P0) (D0 := D0 + 2 * g) (g := g) (D := D) (N := N) hI (fun d' h' x' D' N' l' A' i' hN' hd' => ih d' h' x' D' N' l' A' i' hN' (by omega)) (by omega) (by omega) l a1 a3 i hN hf kf A1) (fun q1 l1 _ _ _ ⟨g1, i1, f1, o1⟩ => ?_)
      exact ret [] q1 l1 (K _ ⟨g1, i1, f1, o1⟩) _ _ _ _ _ _
    · rw [k0_]
      show Ends (ev PP (gsF gv) B d 867 227 _ [] h) Q
      refine Ends.eq (b867_227 l (by omega)) ?_
      rw [ad_rf]
      refine Ends.g ⟨rf_pos _, a3⟩ (sub _ _ 4 _ h D1 N1 l Agr.rf i A1 (fun w z => hN w (by rw [eN]; unfold orN; rw [z]; rfl)) (fun q1 l1 g1 i1 f1 o1 => ?_))
      refine Ends.eq (b867_235 l1 (by omega)) ?_
      rw [ad_rf]
      obtain ⟨x, ex⟩ : ∃ x, x = frM B q1 := ⟨_, rfl⟩
      have x1 : hv q1 (B + 149) 23 = x.1 := by rw [ex]; rfl
      have x2 : hv q1 (B + 149) 24 = x.2.1 := by rw [ex]; rfl
      have x3 : hv q1 (B + 149) 25 = x.2.2.1 := by rw [ex]; rfl
      have x4 : hv q1 (B + 149) 26 = x.2.2.2 := by rw [ex]; rfl
      rw [x1, x2, x3, x4]
      have ox : FOK x := by rw [ex]; exact o1
      refine Ends.b5 (fun z => Ends.g ⟨rf_pos _, hk_ g1⟩ (sub _ _ 5 _ q1 D2 N2 l1 g1 i1 A2 (fun w z => hN w (by rw [eN]; unfold orN; rw [z, Bool.or_true])) (fun q2 l2 g2 i2 f2 o2 => ?_))) (fun z => ?_)
      · have z0 : x.2.2.2 = 0 := by have := fault_nn ox; omega
        refine Ends.eq (b867_268 l2 (by omega)) ?_
        obtain ⟨y, ey⟩ : ∃ y, y = frM B q2 := ⟨_, rfl⟩
        have y1 : hv q2 (B + 149) 23 = y.1 := by rw [ey]; rfl
        have y2 : hv q2 (B + 149) 24 = y.2.1 := by rw [ey]; rfl
        have y3 : hv q2 (B + 149) 25 = y.2.2.1 := by rw [ey]; rfl
        have y4 : hv q2 (B + 149) 26 = y.2.2.2 := by rw [ey]; rfl
        rw [y1, y2, y3, y4, ad_rf, at_ g2, ks]
        have oy : FOK y := by rw [ey]; exact o2
        have ed : D (fun w => nmq (V w)) = fTwo op x y := by rw [eD, ex, ey, f1, f2]
        rw [ed] at K
        refine Ends.b1 (fun zf => ?_) (fun y0 => Ends.g ⟨rf_pos _, hk_ g2⟩ ?_)
        · refine ret [] q2 l2 (K _ ⟨g2, i2, ?_, o2⟩) _ _ _ _ _ _
          rw [← ey]
          unfold fTwo
          rw [show bd2 (alk op) x y = y.2.2.2 from by unfold bd2; rw [if_neg (fun z => z z0), if_pos zf], if_pos zf]; exact flt_of oy zf
        · refine Ends.cv l2 (by decide +kernel) (c_two857 (s := s) (op := op) l2 (by omega) ko ox oy z0 y0) (fun q3 l3 _ _ _ g3 => ?_)
          refine Ends.eq (b867_300 l3 (by omega)) (ret [] q3 l3 (K _ ⟨g2.tr g3.1 (fun _ _ z => wv_mf z), hI _ _ i2 g3.1, g3.2, ?_⟩) _ _ _ _ _ _)
          rw [g3.2]; exact fTwo_ok ox oy
      · have zf : x.2.2.2 ≠ 0 := by omega
        refine Ends.sm (K _ ⟨g1, i1, ?_, o1⟩)
        rw [eD, ← ex]
        show x = fTwo op (D1 _) (D2 _)
        rw [← f1, ← ex]
        unfold fTwo bd2
        rw [if_pos zf, if_pos zf]; exact flt_of ox zf
end WORTH
