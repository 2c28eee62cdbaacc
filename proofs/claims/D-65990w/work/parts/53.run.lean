/-! L3: Flood.run -/
section RUN
variable {gv : Nat → Int} {B n d : Nat} {h : AH} {W Se Fs S : Nat → Bool}
theorem cnt_row {t z y : Nat} (ht : t < 24) (hz : z < n) (hy : y < n) : cntN (fun g => S g && !decide (rk n g = rw3 n t z y)) (gN n) + cntN (fun x => S (gI n x y z t)) n = cntN S (gN n) := by
  have key : ∀ m, m ≤ n → cntN (fun g => S g && !(decide (rk n g = rw3 n t z y) && decide (gX n g < m))) (gN n) + cntN (fun x => S (gI n x y z t)) m = cntN S (gN n) := by
    intro m
    induction m with
    | zero => intro _; exact cntN_congr _ (fun g _ => by simp)
    | succ m ih =>
      intro hm
      have hmn : m < n := by omega
      rw [cntN_s]
      have ha := gI_lt hmn hy hz ht
      have eq : ∀ g, g < gN n → (S g && !(decide (rk n g = rw3 n t z y) && decide (gX n g < m + 1))) = ((S g && !(decide (rk n g = rw3 n t z y) && decide (gX n g < m))) && !decide (g = gI n m y z t)) := fun g hg => by
        by_cases e : g = gI n m y z t
        · subst e
          rw [rk_at ht hy hmn, gX_I hmn ht]
          simp
        · have : ¬ (rk n g = rw3 n t z y ∧ gX n g = m) := fun ⟨q1, q2⟩ => e (by
            rw [rk_eq hg hz hy] at q1
            rw [← gI_g (n := n) (g := g), q1.1, q1.2.1, q1.2.2, q2])
          by_cases q1 : rk n g = rw3 n t z y
          · have q2 : gX n g ≠ m := fun q => this ⟨q1, q⟩
            have q3 : (gX n g < m + 1) = (gX n g < m) := by rw [eq_iff_iff]; omega
            simp [e, q3]
          · simp [e, q1]
      rw [cntN_congr _ eq]
      have ih' := ih (by omega)
      have hTa : (S (gI n m y z t) && !(decide (rk n (gI n m y z t) = rw3 n t z y) && decide (gX n (gI n m y z t) < m))) = S (gI n m y z t) := by
        rw [gX_I hmn ht]; simp
      cases hS : S (gI n m y z t)
      · rw [cntN_congr (g := fun g => S g && !(decide (rk n g = rw3 n t z y) && decide (gX n g < m))) _ (fun g hg => by
          by_cases e : g = gI n m y z t
          · subst e; rw [hTa, hS]; rfl
          · simp [e])]
        simp only [Bool.false_eq_true, if_false, Nat.add_zero]; exact ih'
      · have := cntN_rem (S := fun g => S g && !(decide (rk n g = rw3 n t z y) && decide (gX n g < m))) (a := gI n m y z t) (by rw [hTa, hS]) ha
        simp only [if_true]
        omega
  rw [← key n (Nat.le_refl _)]
  congr 1
  refine cntN_congr _ (fun g hg => ?_)
  obtain ⟨-, hx, -, -, -⟩ := g_lt hg
  simp [hx]
def Clo (n : Nat) (W Se Fs : Nat → Bool) (X : Nat → Nat → Prop) : Prop := ∀ g g' f, g < gN n → g' < gN n → f < 4 → Se g = true → Fs g = false → ¬ X g f → nbr n g f = (g' : Int) → W g' = true → Se g' = true
def Gen (n : Nat) (W Se Se' : Nat → Bool) : Prop := ∀ P : Nat → Prop, (∀ g, g < gN n → Se g = true → P g) → (∀ g g' f, g < gN n → g' < gN n → f < 4 → P g → nbr n g f = (g' : Int) → W g' = true → P g') → ∀ g, g < gN n → Se' g = true → P g
theorem SG.clear_row {a : Nat} (s : SG n h a S) (hn0 : 0 < n) {t z y : Nat} (ht : t < 24) (hz : z < n) (hy : y < n) : SG n (hset h a (rw3 n t z y) 0) a (fun g => S g && !decide (rk n g = rw3 n t z y)) := by
  refine SG.of hn0 (Sol.put s (rw3_lt ht hz hy) (w := 0) ⟨by decide, by decide⟩ (r := fun _ => false) (fun x hx => by rw [tb_0]; simp)) (fun t' z' y' x' ht' hz' hy' hx' => ?_)
  rw [rk_at ht' hy' hx']
  by_cases e : rw3 n t' z' y' = rw3 n t z y
  · simp [e]
  · rw [if_neg e, onK_at hz' hy']; simp [e]
/-- a row is taken out of the queue -/
theorem Flo.pop {se fs qu qd wi : Nat} (hn0 : 0 < n) (hn : n ≤ 52) (F : Flo B n h se fs qu qd wi W Se Fs) {Q : Nat → Bool} {hd wt : Nat} (q : FlQ B n h qu qd Q hd wt) (fq : ∀ r, r < 24 * n * n → (Q r = true ↔ ∃ g, g < gN n ∧ rk n g = r ∧ Fs g = true)) (hw : 0 < wt) {t z y : Nat} (ht : t < 24) (hz : z < n) (hy : y < n) (er : hv h qu hd = ((rw3 n t z y : Nat) : Int)) :
    Flo B n (hset (hset (hset (hset h (B + 81) 6 (((hd + 1) % (24 * n * n) : Nat) : Int)) (B + 81) 7 ((wt - 1 : Nat) : Int)) qd (rw3 n t z y) 0) fs (rw3 n t z y) 0) se fs qu qd wi W Se (fun g => Fs g && !decide (rk n g = rw3 n t z y)) := by
  obtain ⟨⟨f2, f3, f4, f5, f8, kq, kd, b1, b2, b3, b4, b5, n1, n2, n3, n4, n5, n6, n7, n8, n9, n10⟩, sw, ss, sf, sub1, sub2, -⟩ := F
  obtain ⟨q6, q7, qh, qw, qq, qe, qi⟩ := q
  have hp := rw3_lt ht hz hy
  have hN := rows_le hn
  have F3 : Fr (fun c => c = qd ∨ c = B + 81) h (hset (hset (hset h (B + 81) 6 (((hd + 1) % (24 * n * n) : Nat) : Int)) (B + 81) 7 ((wt - 1 : Nat) : Int)) qd (rw3 n t z y) 0) := ((Fr.set (Or.inr rfl)).tr (Fr.set (Or.inr rfl))).tr (Fr.set (Or.inl rfl))
  have F4 : Fr (fun c => c = fs ∨ c = qd ∨ c = B + 81) h (hset (hset (hset (hset h (B + 81) 6 (((hd + 1) % (24 * n * n) : Nat) : Int)) (B + 81) 7 ((wt - 1 : Nat) : Int)) qd (rw3 n t z y) 0) fs (rw3 n t z y) 0) := (F3.sub (fun c hc => Or.inr hc)).tr (Fr.set (Or.inl rfl))
  have m0 : hd % (24 * n * n) = hd := Nat.mod_eq_of_lt qh
  have e0 : hv h qu ((hd + 0) % (24 * n * n)) = ((rw3 n t z y : Nat) : Int) := by rw [Nat.add_zero, m0]; exact er
  obtain ⟨r0, h1, h2, h3⟩ := qe 0 hw
  rw [e0] at h2
  obtain rfl : r0 = rw3 n t z y := by omega
  refine ⟨⟨?_, ?_, ?_, ?_, ?_, ?_, ?_, b1, b2, b3, b4, b5, n1, n2, n3, n4, n5, n6, n7, n8, n9, n10⟩, sw.fr F4 (by omega), ss.fr F4 (by omega), (sf.fr F3 (by omega)).clear_row hn0 ht hz hy, fun g hg q => ?_, sub2, fun i => Q i && !decide (i = rw3 n t z y), (hd + 1) % (24 * n * n), wt - 1, ⟨?_, ?_, Nat.mod_lt _ (by omega), ?_, ?_, ?_, ?_⟩, ?_⟩
  · rw [hv_set_ne (by omega), hv_set_ne (by omega), hv_set_ne (by omega), hv_set_ne (by omega)]; exact f2
  · rw [hv_set_ne (by omega), hv_set_ne (by omega), hv_set_ne (by omega), hv_set_ne (by omega)]; exact f3
  · rw [hv_set_ne (by omega), hv_set_ne (by omega), hv_set_ne (by omega), hv_set_ne (by omega)]; exact f4
  · rw [hv_set_ne (by omega), hv_set_ne (by omega), hv_set_ne (by omega), hv_set_ne (by omega)]; exact f5
  · rw [hv_set_ne (by omega), hv_set_ne (by omega), hv_set_ne (by omega), hv_set_ne (by omega)]; exact f8
  · rw [F4.2.1]; exact kq
  · rw [F4.2.1]; exact kd
  · rw [Bool.and_eq_true] at q; exact sub1 g hg q.1
  · rw [hv_set_ne (by omega), hv_set_ne (by omega), hv_set_ne (by omega)]; exact hv_set_at ..
  · rw [hv_set_ne (by omega), hv_set_ne (by omega)]; exact hv_set_at ..
  · have := cntN_rem h3 h1
    omega
  · intro i hi
    rw [hv_set_ne (by omega)]
    by_cases e : i = rw3 n t z y
    · subst e; rw [hv_set_at]; simp
    · rw [hv_set_ne (by omega), hv_set_ne (by omega), hv_set_ne (by omega), qq i hi]; simp [e]
  · intro i hi
    rw [F4.1 qu (by omega), Nat.mod_add_mod, show hd + 1 + i = hd + (i + 1) by omega]
    obtain ⟨r', g1, g2, g3⟩ := qe (i + 1) (by omega)
    refine ⟨r', g1, g2, ?_⟩
    have : r' ≠ rw3 n t z y := fun e => by
      have := qi (i + 1) 0 (by omega) hw (by rw [g2, e0, e])
      omega
    simp [g3, this]
  · intro i j hi hj
    rw [F4.1 qu (by omega), F4.1 qu (by omega), Nat.mod_add_mod, Nat.mod_add_mod, show hd + 1 + i = hd + (i + 1) by omega, show hd + 1 + j = hd + (j + 1) by omega]
    intro e
    have := qi (i + 1) (j + 1) (by omega) (by omega) e
    omega
  · intro i hi
    rw [Bool.and_eq_true, fq i hi]
    constructor
    · rintro ⟨⟨g, g1, g2, g3⟩, g4⟩
      refine ⟨g, g1, g2, ?_⟩
      show (Fs g && !decide (rk n g = rw3 n t z y)) = true
      rw [g2, g3]; simpa using g4
    · rintro ⟨g, g1, g2, g3⟩
      rw [Bool.and_eq_true] at g3
      exact ⟨⟨g, g1, g2, g3.1⟩, by rw [← g2]; exact g3.2⟩
theorem clo_add {X X' : Nat → Nat → Prop} {r f : Nat} {v : Int} {M : Nat → Bool} (c : Clo n W Se Fs X) (p : PouOK n W Se r v f M) (hX : ∀ g f', ¬ X' g f' → ¬ X g f' ∨ ((rk n g = r ∧ tb v (gX n g) = true) ∧ f' = f)) : Clo n W (fun g => Se g || M g) (fun g => Fs g || M g) X' := by
  intro g g' f' h1 h2 h3 h4 h5 h6 h7 h8
  have h4 : (Se g || M g) = true := h4
  have h5 : (Fs g || M g) = false := h5
  rw [Bool.or_eq_false_iff] at h5
  rw [h5.2, Bool.or_false] at h4
  rcases hX g f' h6 with q | ⟨⟨q1, q2⟩, rfl⟩
  · show (Se g' || M g') = true
    rw [c g g' f' h1 h2 h3 h4 h5.1 q h7 h8]; rfl
  · exact p.2 g g' h1 h2 q1 q2 h7 h8
theorem gen_add {S0 : Nat → Bool} {r f : Nat} {v : Int} {M : Nat → Bool} (hf : f < 4) (ge : Gen n W S0 Se) (p : PouOK n W Se r v f M) (hV : ∀ g, g < gN n → rk n g = r → tb v (gX n g) = true → Se g = true) : Gen n W S0 (fun g => Se g || M g) := by
  intro P h1 h2 g hg q
  rw [Bool.or_eq_true] at q
  rcases q with q | q
  · exact ge P h1 h2 g hg q
  · obtain ⟨q1, q2, g0, q3, q4, q5, q6⟩ := p.1 g hg q
    exact h2 g0 g f q3 hg hf (ge P h1 h2 g0 q3 (hV g0 q3 q4 q5)) q6 q1
theorem cnt_add {M : Nat → Bool} (hM : ∀ g, g < gN n → M g = true → Se g = false) (hs : ∀ g, g < gN n → Fs g = true → Se g = true) : cntN (fun g => Se g || M g) (gN n) + cntN Fs (gN n) = cntN Se (gN n) + cntN (fun g => Fs g || M g) (gN n) := by
  have d : ∀ (S : Nat → Bool), (∀ g, g < gN n → S g = true → Se g = true) → ∀ g, g < gN n → S g = true → M g = false := fun S h1 g hg q => by
    cases e : M g
    · rfl
    · have := hM g hg e
      rw [h1 g hg q] at this; cases this
  rw [cntN_or _ (d Se (fun _ _ q => q)), cntN_or _ (d Fs hs)]
  omega
set_option maxHeartbeats 4000000 in
theorem c_run (l : LX B n h) (hd : 13 ≤ d) (hn0 : 0 < n) (hn : n ≤ 52) (m : TbC B h) {se fs qu qd wi : Nat} (F : Flo B n h se fs qu qd wi W Se Fs) (cl : Clo n W Se Fs (fun _ _ => False)) :
    Vt 0 (cll PP (ev PP (gsF gv) B) d 181 [(2, rf (B + 81))] h) (fun v h' => Fr (flA B se fs qu qd) h h' ∧ ∃ Se', Flo B n h' se fs qu qd wi W Se' (fun _ => false) ∧ (∀ g, g < gN n → Se g = true → Se' g = true) ∧ Clo n W Se' (fun _ => false) (fun _ _ => False) ∧ Gen n W Se Se' ∧ ∃ k : Nat, v = (k : Int) ∧ k + cntN Se (gN n) = cntN Se' (gN n) + cntN Fs (gN n)) := by
  have hN := rows_le hn
  have hG := gN_le hn
  have nn : n * n ≤ 2704 := Nat.mul_le_mul hn hn
  have nn0 : 0 < n * n := Nat.mul_pos hn0 hn0
  refine Vt.into (D := 12) hd (Nat.le_of_ble_eq_true rfl) rfl (fun d hd => Ends.eq (b181_0 l (by omega)) ?_)
  refine lpm (fun (k : Nat) => gN n - k) (fun (k : Nat) L q => ∃ S1, ∃ F1, ∃ u2 u3 u4 u5 u6 u7 u8 : AV, L = [(2, rf (B + 81)), (0, ((k : Int))), u2, u3, u4, u5, u6, u7, u8] ∧ LX B n q ∧ Fr (flA B se fs qu qd) h q ∧ Flo B n q se fs qu qd wi W S1 F1 ∧ (∀ g, g < gN n → Se g = true → S1 g = true) ∧ Clo n W S1 F1 (fun _ _ => False) ∧ Gen n W Se S1 ∧ k + cntN Se (gN n) + cntN F1 (gN n) = cntN S1 (gN n) + cntN Fs (gN n)) ?_ (0) ⟨Se, Fs, _, _, _, _, _, _, _, rfl, (by (repeat' first | assumption | refine LX.setF _ _ ?_ (by decide +kernel) | refine LX.setS ?_ rfl | refine LX.setA ?_ (by assumption))), ?_⟩
  · rintro k _ q ⟨S1, F1, uq0, uq1, uq2, uq3, uq4, uq5, uq6, rfl, lq, ⟨fq, FQ, su, c1, ge, ct⟩⟩ ihk
    have FQ0 := FQ
    obtain ⟨⟨f2, f3, f4, f5, f8, kq, kd, b1, b2, b3, b4, b5, n1, n2, n3, n4, n5, n6, n7, n8, n9, n10⟩, sw, ss, sf, sub1, sub2, Q, hd0, wt, qs, qf⟩ := FQ
    have qs0 := qs
    obtain ⟨q6, q7, qh, qw, qq, qe, qi⟩ := qs
    have wtN : wt ≤ 24 * n * n := by rw [qw]; exact cntN_le _ _
    have cF : cntN F1 (gN n) ≤ cntN S1 (gN n) := by
      have : ∀ N, N ≤ gN n → cntN F1 N ≤ cntN S1 N := by
        intro N
        induction N with
        | zero => intro _; exact Nat.le_refl _
        | succ N ih =>
          intro hN'
          have := ih (by omega)
          have h1 := sub1 N (by omega)
          rw [cntN_s, cntN_s]
          cases e : F1 N
          · simp; split <;> omega
          · rw [h1 e]; simp; omega
      exact this _ (Nat.le_refl _)
    have cS := cntN_le S1 (gN n)
    have cFs : cntN Fs (gN n) ≤ cntN Se (gN n) := by
      obtain ⟨-, -, -, -, sb, -⟩ := F
      have : ∀ N, N ≤ gN n → cntN Fs N ≤ cntN Se N := by
        intro N
        induction N with
        | zero => intro _; exact Nat.le_refl _
        | succ N ih =>
          intro hN'
          have := ih (by omega)
          have h1 := sb N (by omega)
          rw [cntN_s, cntN_s]
          cases e : Fs N
          · simp; split <;> omega
          · rw [h1 e]; simp; omega
      exact this _ (Nat.le_refl _)
    refine Ends.eq (b181_2 (n := n) (by (repeat' first | assumption | refine LX.setF _ _ ?_ (by decide +kernel) | refine LX.setS ?_ rfl | refine LX.setA ?_ (by first | assumption | omega))) (by first | assumption | omega)) ?_
    rw [q7]
    refine Ends.b5 (fun hw => ?_) (fun hw => ?_)
    · -- nothing waits
      have hw0 : cntN Q (24 * n * n) = 0 := by omega
      have noF : ∀ g, g < gN n → F1 g = false := fun g hg => by
        cases e : F1 g
        · rfl
        · have := cntN_zero _ hw0 (rk n g) (rk_lt hg)
          rw [(qf _ (rk_lt hg)).mpr ⟨g, hg, rfl, e⟩] at this; cases this
      refine Ends.sm ⟨_, _, rfl, fq, S1, ⟨⟨f2, f3, f4, f5, f8, kq, kd, b1, b2, b3, b4, b5, n1, n2, n3, n4, n5, n6, n7, n8, n9, n10⟩, sw, ss, sf.congr hn0 (fun g hg => noF g hg), fun g hg z => (by cases z), sub2, Q, hd0, wt, qs0, fun r hr => ?_⟩, su, fun g g' f h1 h2 h3 h4 _ h6 h7 h8 => c1 g g' f h1 h2 h3 h4 (noF g h1) h6 h7 h8, ge, k, rfl, ?_⟩
      · constructor
        · intro z; rw [cntN_zero _ hw0 r hr] at z; cases z
        · rintro ⟨g, g1, g2, g3⟩; cases g3
      · have : cntN F1 (gN n) = 0 := by
          rw [cntN_congr (g := fun _ => false) _ noF]
          have : ∀ N, cntN (fun _ => false) N = 0 := fun N => by induction N with
            | zero => rfl
            | succ N ih => rw [cntN_s, ih]; rfl
          exact this _
        omega
    · -- a row is taken
      have hw' : 0 < wt := by omega
      obtain ⟨r, hr, er, hQr⟩ := qe 0 hw'
      rw [Nat.add_zero, Nat.mod_eq_of_lt qh] at er
      obtain ⟨d1, d2, d3, d4⟩ := rw3_dec hn0 hr
      generalize et : r / (n * n) = t at *
      generalize ez : r / n % n = z at *
      generalize ey : r % n = y at *
      subst d4
      have P := FQ0.pop hn0 hn qs0 qf hw' d1 d2 d3 er
      have hp := rw3_lt d1 d2 d3
      have ks := ss.1
      have kf := sf.1
      simp only [f3, f4, f5, q6, ad_rf, tn, er, kq, kd, kf, an1, show anar 3 0 = 0 from rfl]
      rw [show bop32 104 (n : Int) (n : Int) = ((n * n : Nat) : Int) from mulNN (by omega), show bop32 96 (hd0 : Int) 1 = ((hd0 + 1 : Nat) : Int) from addNN (y := 1) (by omega), modNN (by omega) (by omega), show bop32 100 (wt : Int) 1 = ((wt - 1 : Nat) : Int) from subNN (y := 1) (by omega) hw', divNN (by omega) nn0, divNN (by omega) hn0, modNN hn0 (by omega), modNN hn0 (by omega), et, ez, ey]
      have ev : hv (hset (hset (hset q (B + 81) 6 (((hd0 + 1) % (24 * n * n) : Nat) : Int)) (B + 81) 7 ((wt - 1 : Nat) : Int)) qd (rw3 n t z y) 0) fs (rw3 n t z y) = hv q fs (rw3 n t z y) := by
        rw [hv_set_ne (by omega), hv_set_ne (by omega), hv_set_ne (by omega)]
      rw [ev]
      have hvb : ∀ x, x < 64 → tb (hv q fs (rw3 n t z y)) x = (decide (x < n) && F1 (gI n x y z t)) := fun x hx => sf.bit d1 d2 d3 hx
      have hvn : ∀ x, n ≤ x → tb (hv q fs (rw3 n t z y)) x = false := fun x hx => by
        by_cases q : x < 64
        · rw [hvb x q, decide_eq_false (by omega)]; rfl
        · exact tb_big (by omega)
      have rc := rowCnt (r := fun x => F1 (gI n x y z t)) hn hvb
      have cr := cnt_row (S := F1) d1 d2 d3
      have cl0 := cntN_le (fun x => F1 (gI n x y z t)) n
      generalize hv q fs (rw3 n t z y) = v at *
      -- the row isn't empty
      obtain ⟨g0, hg0, rg0, Fg0⟩ := (qf _ hp).mp hQr
      have cpos : 0 < cntN (fun x => F1 (gI n x y z t)) n := by
        apply Classical.byContradiction
        intro q
        obtain ⟨-, hx0, -, -, -⟩ := g_lt hg0
        have := cntN_zero (S := fun x => F1 (gI n x y z t)) n (by omega) (gX n g0) hx0
        rw [rk_eq hg0 d2 d3] at rg0
        rw [← rg0.1, ← rg0.2.1, ← rg0.2.2, gI_g, Fg0] at this; cases this
      generalize ec : cntN (fun x => F1 (gI n x y z t)) n = c at *
      rw [rc, addNN (by omega)]
      have kd1 : (hk q qd).1 = 3 + 2 := by rw [kd]
      have kf1 : (hk q fs).1 = 1 + 2 := by rw [kf]
      have ls : LX B n (hset (hset (hset (hset q (B + 81) 6 (((hd0 + 1) % (24 * n * n) : Nat) : Int)) (B + 81) 7 ((wt - 1 : Nat) : Int)) qd (rw3 n t z y) 0) fs (rw3 n t z y) 0) := (by (repeat' first | assumption | refine LX.setF _ _ ?_ (by decide +kernel) | refine LX.setS ?_ rfl | refine LX.setA ?_ (by assumption)))
      have fs4 : Fr (flA B se fs qu qd) q (hset (hset (hset (hset q (B + 81) 6 (((hd0 + 1) % (24 * n * n) : Nat) : Int)) (B + 81) 7 ((wt - 1 : Nat) : Int)) qd (rw3 n t z y) 0) fs (rw3 n t z y) 0) := (((Fr.set (by unfold flA; simp)).tr (Fr.set (by unfold flA; simp))).tr (Fr.set (by unfold flA; simp))).tr (Fr.set (by unfold flA; simp))
      generalize hset (hset (hset (hset q (B + 81) 6 (((hd0 + 1) % (24 * n * n) : Nat) : Int)) (B + 81) 7 ((wt - 1 : Nat) : Int)) qd (rw3 n t z y) 0) fs (rw3 n t z y) 0 = s at *
      have flq : ∀ c, c ≤ B + 80 → ¬ flA B se fs qu qd c := fun c hc => by unfold flA; omega
      have V1 : ∀ g, g < gN n → rk n g = rw3 n t z y → tb v (gX n g) = true → F1 g = true := fun g hg q1 q2 => by
        obtain ⟨-, hx, -, -, -⟩ := g_lt hg
        rw [hvb _ (by omega)] at q2
        rw [rk_eq hg d2 d3] at q1
        rw [← q1.1, ← q1.2.1, ← q1.2.2, gI_g] at q2
        simp [hx] at q2
        exact q2
      have V2 : ∀ g, g < gN n → rk n g = rw3 n t z y → F1 g = true → tb v (gX n g) = true := fun g hg q1 q2 => by
        obtain ⟨-, hx, -, -, -⟩ := g_lt hg
        rw [hvb _ (by omega)]
        rw [rk_eq hg d2 d3] at q1
        rw [← q1.1, ← q1.2.1, ← q1.2.2, gI_g]
        simp [hx, q2]
      refine Ends.g ⟨rf_pos _, by trivial, by omega, by omega⟩ (Ends.g (by omega) (Ends.g ⟨rf_pos _, by trivial, by omega, by omega, by omega⟩ (Ends.g ⟨rf_pos _, by trivial, by omega, by omega⟩ (Ends.g ⟨rf_pos _, by trivial, by omega, by omega, by omega⟩ (Ends.g (by omega) (Ends.g (by omega) ?_))))))
      refine lp (4) (fun f L q2 => ∃ S2, ∃ F2, L = [(2, rf (B + 81)), (0, (((k + c : Nat) : Int))), (0, (((rw3 n t z y : Nat) : Int))), (1, v), ((9, 0)), (0, ((t : Int))), (0, ((z : Int))), (0, ((y : Int))), (0, ((f : Int)))] ∧ LX B n q2 ∧ f ≤ 4 ∧ 1 ≤ f ∧ Fr (flA B se fs qu qd) h q2 ∧ Flo B n q2 se fs qu qd wi W S2 F2 ∧ (∀ g, g < gN n → S1 g = true → S2 g = true) ∧ (∀ g, g < gN n → rk n g = rw3 n t z y → tb v (gX n g) = true → F2 g = false) ∧ Clo n W S2 F2 (fun g f' => (rk n g = rw3 n t z y ∧ tb v (gX n g) = true) ∧ (f' = 0 ∨ f ≤ f')) ∧ Gen n W Se S2 ∧ k + c + cntN Se (gN n) + cntN F2 (gN n) = cntN S2 (gN n) + cntN Fs (gN n)) ?_ ?_ (1) ⟨S1, (fun g => F1 g && !decide (rk n g = rw3 n t z y)), rfl, (by (repeat' first | assumption | refine LX.setF _ _ ?_ (by decide +kernel) | refine LX.setS ?_ rfl | refine LX.setA ?_ (by assumption))), by omega, ?_⟩
      · rintro f _ q2 hf ⟨S2, F2, rfl, lq2, hfN, ⟨hf1, f5, F5, su5, nf5, c5, g5, ct5⟩⟩ ihf
        have m5 : TbC B q2 := m.fr f5 (fun c h1 h2 => flq c (by omega))
        have hnx : nxt t f < 24 := nxt_lt ⟨t, d1⟩ ⟨f, hf⟩
        have mx := ((m5.1 t d1).2.2.2.2.2.2.1 f hf).1
        refine Ends.eq (b181_112 (n := n) (by (repeat' first | assumption | refine LX.setF _ _ ?_ (by decide +kernel) | refine LX.setS ?_ rfl | refine LX.setA ?_ (by first | assumption | omega))) (by first | assumption | omega)) ?_
        rw [show bop32 104 4 (t : Int) = ((4 * t : Nat) : Int) from mulNN (x := 4) (by omega), addNN (by omega), tn, mx, row_eq hn hnx d2 d3]
        refine Ends.b3 (fun _ => by omega) (fun _ => Ends.g ⟨by omega, by omega⟩ ?_)
        refine Ends.cv lq2 (by decide +kernel) (c_pour lq2 (by omega) hn0 hn F5 hnx d2 d3) (fun h6 l6 _ _ _ ⟨f6, F6⟩ => ?_)
        have pk := pou_in (W := W) (Se := S2) (v := v) d1 d2 d3 (show f ≠ 0 by omega) hf
        have hV : ∀ g, g < gN n → rk n g = rw3 n t z y → tb v (gX n g) = true → S2 g = true := fun g hg q1 q2 => su5 g hg (sub1 g hg (V1 g hg q1 q2))
        refine Ends.eq (b181_149 (n := n) (by (repeat' first | assumption | refine LX.setF _ _ ?_ (by decide +kernel) | refine LX.setS ?_ rfl | refine LX.setA ?_ (by first | assumption | omega))) (by first | assumption | omega)) ?_
        rw [w_succ (by omega)]
        refine ihf _ _ ⟨(fun g => S2 g || poM n W S2 (rw3 n (nxt t f) z y) v g),  (fun g => F2 g || poM n W S2 (rw3 n (nxt t f) z y) v g), rfl, (by (repeat' first | assumption | refine LX.setF _ _ ?_ (by decide +kernel) | refine LX.setS ?_ rfl | refine LX.setA ?_ (by assumption))), by omega, ?_⟩
        refine ⟨by omega, f5.tr f6, F6, fun g hg q => (by simp [su5 g hg q]), fun g hg q1 q2 => ?_, clo_add c5 pk (fun g f' q => ?_), gen_add hf g5 pk hV, ?_⟩
        · show (F2 g || poM n W S2 (rw3 n (nxt t f) z y) v g) = false
          rw [nf5 g hg q1 q2, Bool.false_or]
          cases e : poM n W S2 (rw3 n (nxt t f) z y) v g
          · rfl
          · have := (pk.1 g hg e).2.1
            rw [hV g hg q1 q2] at this; cases this
        · by_cases e : (rk n g = rw3 n t z y ∧ tb v (gX n g) = true) ∧ f' = f
          · exact Or.inr e
          · refine Or.inl (fun q2 => q ⟨q2.1, ?_⟩)
            have := q2.2
            have : f' ≠ f := fun e2 => e ⟨q2.1, e2⟩
            omega
        · have := cnt_add (fun g hg e => (pk.1 g hg e).2.1) F5.2.2.2.2.1
          omega
      · rintro f _ q2 hf ⟨S2, F2, rfl, lq2, hfN, ⟨hf1, f5, F5, su5, nf5, c5, g5, ct5⟩⟩
        obtain rfl : f = 4 := by omega
        have m5 : TbC B q2 := m.fr f5 (fun c h1 h2 => flq c (by omega))
        refine Ends.eq (b181_112 (n := n) (by (repeat' first | assumption | refine LX.setF _ _ ?_ (by decide +kernel) | refine LX.setS ?_ rfl | refine LX.setA ?_ (by first | assumption | omega))) (by first | assumption | omega)) ?_
        refine Ends.b3 (fun _ => ?_) (fun _ => by omega)
        refine Ends.cv lq2 (by decide +kernel) (c_beyond lq2 (by omega) hn0 hn m5 F5 d1 d2 d3 hvn) (fun h6 l6 _ _ _ ⟨f6, M, F6, pk⟩ => ?_)
        have hV : ∀ g, g < gN n → rk n g = rw3 n t z y → tb v (gX n g) = true → S2 g = true := fun g hg q1 q2 => su5 g hg (sub1 g hg (V1 g hg q1 q2))
        refine Ends.eq (b181_166 (n := n) (by (repeat' first | assumption | refine LX.setF _ _ ?_ (by decide +kernel) | refine LX.setS ?_ rfl | refine LX.setA ?_ (by first | assumption | omega))) (by first | assumption | omega)) ?_
        refine ihk (k + c) _ _ ?_ ⟨ (fun g => S2 g || M g),  (fun g => F2 g || M g), _, _, _, _, _, _, _, rfl, (by (repeat' first | assumption | refine LX.setF _ _ ?_ (by decide +kernel) | refine LX.setS ?_ rfl | refine LX.setA ?_ (by assumption))), ?_⟩
        · omega
        · have c6 : Clo n W (fun g => S2 g || M g) (fun g => F2 g || M g) (fun _ f' => 4 ≤ f') := clo_add c5 pk (fun g f' q => by
            by_cases e : (rk n g = rw3 n t z y ∧ tb v (gX n g) = true) ∧ f' = 0
            · exact Or.inr e
            · refine Or.inl (fun q2 => ?_)
              rcases q2.2 with q3 | q3
              · exact e ⟨q2.1, q3⟩
              · exact q q3)
          refine ⟨f5.tr f6, F6, fun g hg q => (by simp [su5 g hg (su g hg q)]), fun g g' f' h1 h2 h3 h4 h5 _ h7 h8 => c6 g g' f' h1 h2 h3 h4 h5 (by omega) h7 h8, gen_add (by decide) g5 pk hV, ?_⟩
          · have := cnt_add (fun g hg e => (pk.1 g hg e).2.1) F5.2.2.2.2.1
            omega
      · refine ⟨Nat.le_refl _, fq.tr fs4, P, fun _ _ q => q, fun g hg q1 _ => by simp [q1], fun g g' f' h1 h2 h3 h4 h5 h6 h7 h8 => ?_, ge, by omega⟩
        by_cases e : F1 g = true
        · exfalso
          simp [e] at h5
          exact h6 ⟨⟨h5, V2 g h1 h5 e⟩, by omega⟩
        · exact c1 g g' f' h1 h2 h3 h4 (by simpa using e) (fun q => q) h7 h8
  · exact ⟨Fr.rf, F, fun g _ z => z, cl, fun P h1 _ g hg z => h1 g hg z, by omega⟩
end RUN
