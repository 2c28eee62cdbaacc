/-! L3: uniteTurned -/
section TURN
variable {gv : Nat → Int} {B n d a b : Nat} {h : AH} {S T : Nat → Bool}
/-- T turned, the first i rows -/
def taS (n : Nat) (fr : Nat → Nat) (tu : Nat → Bool) (ad : Nat → Int) (T : Nat → Bool) (P : Nat → Prop) (x : Nat) : Prop := ∃ g, g < gN n ∧ P g ∧ T g = true ∧ taG n fr tu ad g = (x : Int)
def rk (n g : Nat) : Nat := rw3 n (gSo g) (gZ n g) (gY n g)
theorem rk_eq {g t z y : Nat} (hg : g < gN n) (hz : z < n) (hy : y < n) : rk n g = rw3 n t z y ↔ gSo g = t ∧ gZ n g = z ∧ gY n g = y := by
  obtain ⟨-, -, h2, h3, -⟩ := g_lt hg
  exact rw3_inj h3 h2 hz hy
theorem rk_lt {g : Nat} (hg : g < gN n) : rk n g < 24 * n * n := by
  obtain ⟨-, -, h2, h3, h4⟩ := g_lt hg
  exact rw3_lt h4 h3 h2
theorem taS_mono {fr : Nat → Nat} {tu : Nat → Bool} {ad : Nat → Int} {P Q : Nat → Prop} {x : Nat} (e : ∀ g, g < gN n → T g = true → (P g ↔ Q g)) : taS n fr tu ad T P x ↔ taS n fr tu ad T Q x := by
  unfold taS
  constructor
  · rintro ⟨g, h1, h2, h3, h4⟩; exact ⟨g, h1, (e g h1 h3).mp h2, h3, h4⟩
  · rintro ⟨g, h1, h2, h3, h4⟩; exact ⟨g, h1, (e g h1 h3).mpr h2, h3, h4⟩
theorem uN_less {v : Int} {k : Nat} (l : Low v k) : uN (bop64 127 v (bop64 101 v 1)) < uN v := by
  have h1 : (uN v).testBit k = true := by rw [← tb_uN]; exact l.2.1
  have hpos : uN v ≠ 0 := fun e => by rw [e] at h1; simp at h1
  have hlt := uN_lt v
  have e : uN (bop64 101 v 1) = uN v - 1 := by
    rw [uN_sub, show uN 1 = 1 from rfl]; omega
  rw [uN_and, e]
  have : uN v &&& (uN v - 1) ≤ uN v - 1 := Nat.and_le_right
  omega
set_option maxHeartbeats 2000000 in
theorem c_uniteTurned (l : LX B n h) (hd : 13 ≤ d) (hn0 : 0 < n) (hn : n ≤ 52) (m : TbC B h) (sa : SG n h a S) (sb : SG n h b T) (hab : a ≠ b) (hB : B ≤ a) (ha : a = B + 117 ∨ B + 246 ≤ a) (hb : b = B + 117 ∨ B + 246 ≤ b) {fr : Nat → Nat} {tu : Nat → Bool} {ad : Nat → Int} (tr : TrA B h fr tu ad) (hp : isPer fr) :
    Vd (cll PP (ev PP (gsF gv) B) d 363 [(2, rf (B + 51)), (2, rf a), (2, rf b), (2, rf (B + 106)), (2, rf (B + 108)), (2, rf (B + 107))] h) (fun h' => Fr (fun c => c = a ∨ c = B + 54 ∨ c = B + 55) h h' ∧ ∃ R, SG n h' a R ∧ ∀ g, g < gN n → (R g = true ↔ S g = true ∨ taS n fr tu ad T (fun _ => True) g)) := by
  have hN := rows_le hn
  refine Vd.into (D := 12) hd (Nat.le_of_ble_eq_true rfl) rfl (fun d hd => ?_)
  refine Ends.eq (b363_0 l (by omega)) ?_
  refine lp (24) (fun t L q1 => ∃ R, ∃ u7 u8 u9 u10 u11 : AV, L = [(2, rf (B + 51)), (2, (rf a)), (2, (rf b)), (2, (rf (B + 106))), (2, (rf (B + 108))), (2, (rf (B + 107))), (0, ((t : Int))), u7, u8, u9, u10, u11] ∧ LX B n q1 ∧ t ≤ 24 ∧ Fr (fun c => c = a ∨ c = B + 54 ∨ c = B + 55) h q1 ∧ SG n q1 a R ∧ ∀ g, g < gN n → (R g = true ↔ S g = true ∨ taS n fr tu ad T (fun g => rk n g < rw3 n t 0 0) g)) ?_ ?_ (0) ⟨S, _, _, _, _, _, rfl, (by (repeat' first | assumption | refine LX.setF _ _ ?_ (by decide +kernel) | refine LX.setS ?_ rfl | refine LX.setA ?_ (by assumption))), by omega, ?_⟩
  · rintro t _ q1 ht ⟨R, uq10, uq11, uq12, uq13, uq14, rfl, lq1, htN, ⟨f1, s1, e1⟩⟩ iht
    refine Ends.eq (b363_3 (n := n) (by (repeat' first | assumption | refine LX.setF _ _ ?_ (by decide +kernel) | refine LX.setS ?_ rfl | refine LX.setA ?_ (by first | assumption | omega))) (by first | assumption | omega)) ?_
    refine Ends.b3 (fun _ => by omega) (fun _ => ?_)
    refine lp (n) (fun z L q2 => ∃ R2, ∃ u8 u9 u10 u11 : AV, L = [(2, rf (B + 51)), (2, (rf a)), (2, (rf b)), (2, (rf (B + 106))), (2, (rf (B + 108))), (2, (rf (B + 107))), (0, ((t : Int))), (0, ((z : Int))), u8, u9, u10, u11] ∧ LX B n q2 ∧ z ≤ n ∧ Fr (fun c => c = a ∨ c = B + 54 ∨ c = B + 55) h q2 ∧ SG n q2 a R2 ∧ ∀ g, g < gN n → (R2 g = true ↔ S g = true ∨ taS n fr tu ad T (fun g => rk n g < rw3 n t z 0) g)) ?_ ?_ (0) ⟨R, _, _, _, _, rfl, (by (repeat' first | assumption | refine LX.setF _ _ ?_ (by decide +kernel) | refine LX.setS ?_ rfl | refine LX.setA ?_ (by assumption))), by omega, ?_⟩
    · rintro z _ q2 hz ⟨R2, uq20, uq21, uq22, uq23, rfl, lq2, hzN, ⟨f2, s2, e2⟩⟩ ihz
      refine Ends.eq (b363_13 (n := n) (by (repeat' first | assumption | refine LX.setF _ _ ?_ (by decide +kernel) | refine LX.setS ?_ rfl | refine LX.setA ?_ (by first | assumption | omega))) (by first | assumption | omega)) ?_
      refine Ends.b3 (fun _ => by omega) (fun _ => ?_)
      refine lp (n) (fun y L q3 => ∃ R3, ∃ u9 u10 u11 : AV, L = [(2, rf (B + 51)), (2, (rf a)), (2, (rf b)), (2, (rf (B + 106))), (2, (rf (B + 108))), (2, (rf (B + 107))), (0, ((t : Int))), (0, ((z : Int))), (0, ((y : Int))), u9, u10, u11] ∧ LX B n q3 ∧ y ≤ n ∧ Fr (fun c => c = a ∨ c = B + 54 ∨ c = B + 55) h q3 ∧ SG n q3 a R3 ∧ ∀ g, g < gN n → (R3 g = true ↔ S g = true ∨ taS n fr tu ad T (fun g => rk n g < rw3 n t z y) g)) ?_ ?_ (0) ⟨R2, _, _, _, rfl, (by (repeat' first | assumption | refine LX.setF _ _ ?_ (by decide +kernel) | refine LX.setS ?_ rfl | refine LX.setA ?_ (by assumption))), by omega, ?_⟩
      · rintro y _ q3 hy ⟨R3, uq30, uq31, uq32, rfl, lq3, hyN, ⟨f3, s3, e3⟩⟩ ihy
        have b3 : SG n q3 b T := sb.fr f3 (by omega)
        have kb := b3.1
        have hr := rw3_lt ht hz hy
        have hrow := b3.2 (rw3 n t z y) hr
        refine Ends.eq (b363_25 (n := n) (by (repeat' first | assumption | refine LX.setF _ _ ?_ (by decide +kernel) | refine LX.setS ?_ rfl | refine LX.setA ?_ (by first | assumption | omega))) (by first | assumption | omega)) ?_
        simp only [ad_rf, kb, row_eq hn ht hz hy, tn]
        refine Ends.b3 (fun _ => by omega) (fun _ => Ends.g ⟨rf_pos _, by trivial, by omega, by omega⟩ ?_)
        refine lpm (fun (v : Int) => uN v) (fun (v : Int) L q4 => ∃ R4, ∃ u11 : AV, L = [(2, rf (B + 51)), (2, (rf a)), (2, (rf b)), (2, (rf (B + 106))), (2, (rf (B + 108))), (2, (rf (B + 107))), (0, ((t : Int))), (0, ((z : Int))), (0, ((y : Int))), (1, v), ((9, 0)), u11] ∧ LX B n q4 ∧ cn 1 v ∧ (∀ x, x < 64 → tb v x = true → tb (hv q3 b (rw3 n t z y)) x = true) ∧ Fr (fun c => c = a ∨ c = B + 54 ∨ c = B + 55) h q4 ∧ SG n q4 a R4 ∧ ∀ g, g < gN n → (R4 g = true ↔ S g = true ∨ taS n fr tu ad T (fun g => rk n g < rw3 n t z y ∨ (rk n g = rw3 n t z y ∧ tb v (gX n g) = false)) g)) ?_ (hv q3 b (rw3 n t z y)) ⟨R3, _, rfl, (by (repeat' first | assumption | refine LX.setF _ _ ?_ (by decide +kernel) | refine LX.setS ?_ rfl | refine LX.setA ?_ (by assumption))), ?_⟩
        · rintro v _ q4 ⟨R4, uq40, rfl, lq4, ⟨cv, sub, f4, s4, e4⟩⟩ ihv
          refine Ends.eq (b363_51 (n := n) (by (repeat' first | assumption | refine LX.setF _ _ ?_ (by decide +kernel) | refine LX.setS ?_ rfl | refine LX.setA ?_ (by first | assumption | omega))) (by first | assumption | omega)) ?_
          refine Ends.b0 (fun z0 => ?_) (fun z0 => ?_)
          · rw [cmp64_z] at z0
            subst z0
            rw [w_succ (by omega)]
            refine ihy _ _ ⟨R4, _, _, _, rfl, (by (repeat' first | assumption | refine LX.setF _ _ ?_ (by decide +kernel) | refine LX.setS ?_ rfl | refine LX.setA ?_ (by assumption))), by omega, ?_⟩
            refine ⟨f4, s4, fun g hg => ?_⟩
            rw [e4 g hg]
            refine or_congr Iff.rfl (taS_mono (fun g' hg' _ => ?_))
            rw [tb_0, rw3_y]
            constructor
            · intro h; omega
            · intro h
              by_cases q : rk n g' < rw3 n t z y
              · exact Or.inl q
              · exact Or.inr ⟨by omega, rfl⟩
          · have hv0 : v ≠ 0 := fun e => z0 (cmp64_z.mpr e)
            obtain ⟨k, lk⟩ := Low.ex cv hv0
            have hb1 := sub k lk.1 lk.2.1
            rw [hrow.2 k lk.1, onK_at hz hy] at hb1
            have hk : k < n := by
              apply Classical.byContradiction
              intro q
              simp [q] at hb1
            have hT : T (gI n k y z t) = true := by simpa [hk] using hb1
            refine Ends.ct lq4 (by decide +kernel) (by decide) (c_ntz lq4 (by omega) lk) (fun r h5 l5 _ _ _ ⟨e5, e6⟩ => ?_)
            subst e5 e6
            refine Ends.eq (b363_63 (n := n) (by first | assumption | omega) (by (repeat' first | assumption | refine LX.setF _ _ ?_ (by decide +kernel) | refine LX.setS ?_ rfl | refine LX.setA ?_ (by first | assumption | omega))) (by first | assumption | omega)) ?_
            have m4 : TbC B h5 := m.fr f4 (fun c h1 h2 => by omega)
            have tr4 : TrA B h5 fr tu ad := tr.fr f4 (fun c h1 h2 => by omega)
            refine Ends.cv l5 (by decide +kernel) (c_turnOne l5 (by omega) hn m4 s4 hB ha tr4 hp ht hk hy hz) (fun h6 l6 _ _ _ ⟨f6, s6⟩ => ?_)
            refine Ends.eq (b363_92 (n := n) (by (repeat' first | assumption | refine LX.setF _ _ ?_ (by decide +kernel) | refine LX.setS ?_ rfl | refine LX.setA ?_ (by first | assumption | omega))) (by first | assumption | omega)) ?_
            refine ihv (bop64 127 v (bop64 101 v 1)) _ _ ?_ ⟨ (fun g => R4 g || decide (taG n fr tu ad (gI n k y z t) = (g : Int))), _, rfl, (by (repeat' first | assumption | refine LX.setF _ _ ?_ (by decide +kernel) | refine LX.setS ?_ rfl | refine LX.setA ?_ (by assumption))), ?_⟩
            · exact uN_less lk
            · refine ⟨cn_bop64, fun x hx hx2 => ?_, f4.tr f6, s6, fun g hg => ?_⟩
              · rw [lk.less] at hx2
                exact sub x hx (by simp at hx2; exact hx2.2)
              · rw [Bool.or_eq_true, e4 g hg, decide_eq_true_eq, or_assoc]
                refine or_congr Iff.rfl ?_
                unfold taS
                constructor
                · rintro (⟨g', h1, h2, h3, h4⟩ | h4)
                  · refine ⟨g', h1, ?_, h3, h4⟩
                    rcases h2 with h2 | ⟨h2, h2'⟩
                    · exact Or.inl h2
                    · exact Or.inr ⟨h2, by rw [lk.less, h2', Bool.and_false]⟩
                  · refine ⟨gI n k y z t, gI_lt hk hy hz ht, Or.inr ⟨?_, ?_⟩, hT, h4⟩
                    · rw [rk_eq (gI_lt hk hy hz ht) hz hy]; exact ⟨gSo_I ht, gZ_I hk hy ht, gY_I hk hy ht⟩
                    · rw [lk.less, gX_I hk ht]; simp
                · rintro ⟨g', h1, h2, h3, h4⟩
                  rcases h2 with h2 | ⟨h2, h2'⟩
                  · exact Or.inl ⟨g', h1, Or.inl h2, h3, h4⟩
                  · by_cases e : gX n g' = k
                    · rw [rk_eq h1 hz hy] at h2
                      obtain ⟨q1, q2, q3⟩ := h2
                      have : g' = gI n k y z t := by rw [← gI_g (n := n) (g := g'), q1, q2, q3, e]
                      rw [this] at h4
                      exact Or.inr h4
                    · refine Or.inl ⟨g', h1, Or.inr ⟨h2, ?_⟩, h3, h4⟩
                      rw [lk.less] at h2'
                      simpa [e] using h2'
        · refine ⟨hrow.1, fun x _ hx => hx, f3, s3, fun g hg => ?_⟩
          rw [e3 g hg]
          refine or_congr Iff.rfl (taS_mono (fun g' hg' hT => ?_))
          constructor
          · intro h; exact Or.inl h
          · rintro (h | ⟨h1, h2⟩)
            · exact h
            · exfalso
              obtain ⟨-, hx', -, -, -⟩ := g_lt hg'
              rw [hrow.2 _ (by omega), onK_at hz hy] at h2
              rw [rk_eq hg' hz hy] at h1
              obtain ⟨q1, q2, q3⟩ := h1
              rw [← q1, ← q2, ← q3, gI_g, hT] at h2
              simp [hx'] at h2
      · rintro y _ q3 hy ⟨R3, uq30, uq31, uq32, rfl, lq3, hyN, ⟨f3, s3, e3⟩⟩
        obtain rfl : n = y := by omega
        refine Ends.eq (b363_25 (n := n) (by (repeat' first | assumption | refine LX.setF _ _ ?_ (by decide +kernel) | refine LX.setS ?_ rfl | refine LX.setA ?_ (by first | assumption | omega))) (by first | assumption | omega)) ?_
        refine Ends.b3 (fun _ => ?_) (fun _ => by omega)
        rw [w_succ (by omega)]
        refine ihz _ _ ⟨R3, _, _, _, _, rfl, (by (repeat' first | assumption | refine LX.setF _ _ ?_ (by decide +kernel) | refine LX.setS ?_ rfl | refine LX.setA ?_ (by assumption))), by omega, ?_⟩
        exact ⟨f3, s3, fun g hg => by rw [e3 g hg, rw3_z]⟩
      · exact ⟨f2, s2, e2⟩
    · rintro z _ q2 hz ⟨R2, uq20, uq21, uq22, uq23, rfl, lq2, hzN, ⟨f2, s2, e2⟩⟩
      obtain rfl : n = z := by omega
      refine Ends.eq (b363_13 (n := n) (by (repeat' first | assumption | refine LX.setF _ _ ?_ (by decide +kernel) | refine LX.setS ?_ rfl | refine LX.setA ?_ (by first | assumption | omega))) (by first | assumption | omega)) ?_
      refine Ends.b3 (fun _ => ?_) (fun _ => by omega)
      rw [w_succ (by omega)]
      refine iht _ _ ⟨R2, _, _, _, _, _, rfl, (by (repeat' first | assumption | refine LX.setF _ _ ?_ (by decide +kernel) | refine LX.setS ?_ rfl | refine LX.setA ?_ (by assumption))), by omega, ?_⟩
      exact ⟨f2, s2, fun g hg => by rw [e2 g hg, rw3_t]⟩
    · exact ⟨f1, s1, e1⟩
  · rintro t _ q1 ht ⟨R, uq10, uq11, uq12, uq13, uq14, rfl, lq1, htN, ⟨f1, s1, e1⟩⟩
    obtain rfl : t = 24 := by omega
    refine Ends.eq (b363_3 (n := n) (by (repeat' first | assumption | refine LX.setF _ _ ?_ (by decide +kernel) | refine LX.setS ?_ rfl | refine LX.setA ?_ (by first | assumption | omega))) (by first | assumption | omega)) ?_
    refine Ends.b3 (fun _ => ?_) (fun _ => by omega)
    refine Ends.sm ⟨_, rfl, f1, R, s1, fun g hg => ?_⟩
    rw [e1 g hg]
    refine or_congr Iff.rfl (taS_mono (fun g' hg' _ => ⟨fun _ => trivial, fun _ => ?_⟩))
    have := rk_lt hg'
    have e : rw3 n 24 0 0 = 24 * n * n := by unfold rw3; rw [Nat.add_zero, Nat.add_zero]
    omega
  · refine ⟨Fr.rf, sa, fun g hg => ⟨fun h => Or.inl h, fun h => ?_⟩⟩
    rcases h with h | ⟨g', h1, h2, h3, h4⟩
    · exact h
    · exfalso
      have h2 : rk n g' < rw3 n 0 0 0 := h2
      unfold rw3 at h2
      simp at h2
end TURN
