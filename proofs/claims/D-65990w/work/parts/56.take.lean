/-! L3: the model's takePiece -/
section TAKE
variable {gv : Nat → Int} {B n d s t u : Nat} {h : AH} {S0 T S : Nat → Bool}
def tpW (B n s t u : Nat) : Nat → Nat → Prop := fun c k => wto B n s (wN n) c k ∨ wto B n t (wN n) c k ∨ wto B n u (wN n) c k ∨ (c = B + 149 ∧ 90 ≤ k ∧ k ≤ 92)
theorem MB.wz {q : AH} (m : MB B n q t S) {w : Nat} (hw : w < wN n) : MB B n (hset q (B + 236) (wN n * t + w) 0) t (fun x => S x && !decide (x / 64 = w)) := by
  intro k hk
  by_cases e : k = w
  · subst e
    rw [hv_set_at]
    refine ⟨⟨by decide, by decide⟩, fun x hx => ?_⟩
    have : (64 * k + x) / 64 = k := by omega
    rw [tb_0]; simp [this]
  · rw [hv_set_ne (by omega)]
    refine ⟨(m k hk).1, fun x hx => ?_⟩
    have : ¬ (64 * k + x) / 64 = w := by omega
    rw [(m k hk).2 x hx]; simp [this]
theorem fld {q q' : AH} {r : Nat} (g : Agr (wto B n r (wN n)) q q') (k : Nat) : hv q' (B + 149) k = hv q (B + 149) k := g.at _ _ (fun z => by have := z.1; omega)
theorem MB.fset {q : AH} (m : MB B n q t S) (k : Nat) (v : Int) : MB B n (hset q (B + 149) k v) t S := by
  intro j hj
  rw [hv_set_ne (by omega)]; exact m j hj
theorem tp_b : ∀ {r d p s : Bool}, (s = true ↔ r = true ∨ d = true ∨ p = true) → d = false → ¬ (r = true ∧ p = true) → r = (s && !p) := by decide
set_option maxHeartbeats 8000000 in
theorem c_takePiece (l : LX B n h) (hd : 12 ≤ d) (hn0 : 0 < n) (hn : n ≤ 52) (hs : s < 19) (ht : t < 19) (hu : u < 19) (hst : s ≠ t) (hsu : s ≠ u) (htu : t ≠ u) (m : TbM B h) (bs : MB B n h s S0) (bt : MB B n h t T) (bu : MB B n h u (fun _ => false)) {lo : Nat} {hi : Int} (f90 : hv h (B + 149) 90 = (lo : Int)) (f91 : hv h (B + 149) 91 = hi) (lh : (lo : Int) ≤ hi + 1) (hw : hi < (wN n : Nat)) (hT : ∀ x, x < gN n → T x = true → lo ≤ x / 64 ∧ ((x / 64 : Nat) : Int) ≤ hi) {g : Nat} (hg : g < gN n) (hSg : S0 g = true) :
    Vt 0 (cll PP (ev PP (gsF gv) B) d 846 [(2, rf (B + 149)), (0, (s : Int)), (0, (g : Int)), (0, (t : Int)), (0, (u : Int))] h) (fun v h' => Agr (tpW B n s t u) h h' ∧ ∃ (P : Nat → Bool) (lo' hi' : Nat) (bd : Int), MB B n h' s (fun x => S0 x && !P x) ∧ MB B n h' t P ∧ MB B n h' u (fun _ => false) ∧ (∀ x, x < gN n → (P x = true ↔ Rch n S0 g x)) ∧ hv h' (B + 149) 90 = (lo' : Int) ∧ hv h' (B + 149) 91 = (hi' : Int) ∧ lo' ≤ hi' ∧ hi' < wN n ∧ (∀ x, x < gN n → P x = true → lo' ≤ x / 64 ∧ x / 64 ≤ hi') ∧ hv h' (B + 149) 92 = bd ∧ (bd = 0 ∨ bd = 1) ∧ (bd = 1 ↔ ∃ x, x < gN n ∧ P x = true ∧ nbr n x 0 = -1) ∧ v = ((cntN P (gN n) : Nat) : Int)) := by
  have hG := gN_le hn
  have hW := wN_le hn
  have mA : ∀ {q : AH}, Agr (tpW B n s t u) h q → TbM B q := fun a => m.agr a (fun c k h1 h2 h3 => by unfold tpW wto; omega)
  have aS : ∀ {q q' : AH}, Agr (tpW B n s t u) h q → Agr (wto B n s (wN n)) q q' → Agr (tpW B n s t u) h q' := fun a b => a.tr b (fun c k z => Or.inl z)
  have aT : ∀ {q q' : AH}, Agr (tpW B n s t u) h q → Agr (wto B n t (wN n)) q q' → Agr (tpW B n s t u) h q' := fun a b => a.tr b (fun c k z => Or.inr (Or.inl z))
  have aU : ∀ {q q' : AH}, Agr (tpW B n s t u) h q → Agr (wto B n u (wN n)) q q' → Agr (tpW B n s t u) h q' := fun a b => a.tr b (fun c k z => Or.inr (Or.inr (Or.inl z)))
  have aF : ∀ {q : AH} {k : Nat} {v : Int}, 90 ≤ k → k ≤ 92 → Agr (tpW B n s t u) h q → Agr (tpW B n s t u) h (hset q (B + 149) k v) := fun h1 h2 a => a.set (Or.inr (Or.inr (Or.inr ⟨rfl, h1, h2⟩)))
  refine Vt.into (D := 11) hd (Nat.le_of_ble_eq_true rfl) rfl (fun d hd => Ends.eq (b846_0 l (by omega)) ?_)
  rw [f90]
  -- what was taken before goes
  refine lp ((hi + 1).toNat) (fun w L q => ∃ u6 u7 u8 u9 u10 : AV, L = [(2, rf (B + 149)), (0, ((s : Int))), (0, ((g : Int))), (0, ((t : Int))), (0, ((u : Int))), (0, ((w : Int))), u6, u7, u8, u9, u10] ∧ LX B n q ∧ w ≤ (hi + 1).toNat ∧ Agr (tpW B n s t u) h q ∧ MB B n q s S0 ∧ MB B n q u (fun _ => false) ∧ hv q (B + 149) 91 = hi ∧ lo ≤ w ∧ MB B n q t (fun x => T x && !(decide (lo ≤ x / 64) && decide (x / 64 < w)))) ?_ ?_ (lo) ⟨_, _, _, _, _, rfl, (by (repeat' first | assumption | refine LX.setF _ _ ?_ (by decide +kernel) | refine LX.setS ?_ rfl | refine LX.setA ?_ (by assumption))), by omega, ?_, ?_⟩
  · rintro w _ q hw ⟨uq0, uq1, uq2, uq3, uq4, rfl, lq, hwN, gq, ⟨q1, q2, q3, q4, q5⟩⟩ ihw
    have hwn : w < wN n := by omega
    refine Ends.eq (b846_6 (n := n) (by (repeat' first | assumption | refine LX.setF _ _ ?_ (by decide +kernel) | refine LX.setS ?_ rfl | refine LX.setA ?_ (by first | assumption | omega))) (by first | assumption | omega)) ?_
    rw [q3, widx hn ht hwn, tn, an1]
    refine Ends.b4 (fun _ => by omega) (fun _ => Ends.g (wok ht hwn) ?_)
    rw [w_succ (by omega)]
    have a1 : Agr (wto B n t (wN n)) q (hset q (B + 236) (wN n * t + w) 0) := Agr.rf.set ⟨rfl, by omega, by omega⟩
    refine ihw _ _ ⟨_, _, _, _, _, rfl, lx236 lq, by omega, aT gq a1, q1.row a1 hst, q2.row a1 (fun e => htu e.symm), by rw [fld a1]; exact q3, by omega, (q5.wz hwn).congr (fun x hx => ?_)⟩
    by_cases e : x / 64 = w
    · simp [e, q4]
    · have e2 : (x / 64 < w + 1) = (x / 64 < w) := by rw [eq_iff_iff]; omega
      simp [e2, e]
  · rintro w _ q hw ⟨uq0, uq1, uq2, uq3, uq4, rfl, lq, hwN, gq, ⟨q1, q2, q3, q4, q5⟩⟩
    have hG2 : g / 64 < wN n := wN_g hg
    refine Ends.eq (b846_6 (n := n) (by (repeat' first | assumption | refine LX.setF _ _ ?_ (by decide +kernel) | refine LX.setS ?_ rfl | refine LX.setA ?_ (by first | assumption | omega))) (by first | assumption | omega)) ?_
    rw [q3]
    refine Ends.b4 (fun _ => ?_) (fun _ => by omega)
    have q6 : MB B n q t (fun _ => false) := q5.congr (fun x hx => by
      cases e : T x
      · rfl
      · have := hT x hx e
        have e1 : lo ≤ x / 64 := this.1
        have e2 : x / 64 < w := by omega
        simp [e1, e2])
    refine Ends.cv lq (by decide +kernel) (c_putM lq (by omega) hn hu q2 hg) (fun h1 l1 _ _ _ ⟨_, g1, b1⟩ => ?_)
    refine Ends.eq (b846_46 (n := n) (by (repeat' first | assumption | refine LX.setF _ _ ?_ (by decide +kernel) | refine LX.setS ?_ rfl | refine LX.setA ?_ (by first | assumption | omega))) (by first | assumption | omega)) ?_
    refine Ends.cv l1 (by decide +kernel) (c_dropM l1 (by omega) hn hs (q1.row g1 hsu) hg) (fun h2 l2 _ _ _ ⟨_, g2, b2⟩ => ?_)
    refine Ends.eq (b846_52 (n := n) (by (repeat' first | assumption | refine LX.setF _ _ ?_ (by decide +kernel) | refine LX.setS ?_ rfl | refine LX.setA ?_ (by first | assumption | omega))) (by first | assumption | omega)) ?_
    rw [show bop32 108 (g : Int) 64 = ((g / 64 : Nat) : Int) from divNN (y := 64) (by omega) (by decide)]
    have A2 := aS (aU gq g1) g2
    have t2 : MB B n h2 t (fun _ => false) := (q6.row g1 htu).row g2 (fun e => hst e.symm)
    have u2 : MB B n h2 u (fun x => false || decide (x = g)) := b1.row g2 (fun e => hsu e.symm)
    have ini : TPI n S0 g (fun x => S0 x && !decide (x = g)) (fun x => decide (x = g)) (fun _ => false) (fun _ _ => False) (g / 64) (g / 64) 0 0 := by
      refine ⟨fun x hx => ?_, Or.inl (by simp), fun x x' f _ _ _ z => (by cases z), Or.inl rfl, ⟨fun z => absurd z (by decide), fun ⟨x, _, z, _⟩ => (by cases z)⟩, ?_, Nat.le_refl _, hG2⟩
      · by_cases e : x = g
        · subst e; simp [hSg]; exact Rch.rf
        · simp [e]
      · have : ∀ N, cntN (fun _ => false) N = 0 := fun N => by induction N with
          | zero => rfl
          | succ N ih => rw [cntN_s, ih]; rfl
        exact (this _).symm
    refine lpm (fun (mu : Nat) => mu) (fun (mu : Nat) L pa => ∃ (R : Nat → Bool), ∃ (D : Nat → Bool), ∃ (P : Nat → Bool), ∃ (l9 : Nat), ∃ (h9 : Nat), ∃ (mn : Nat), ∃ (go : Nat), ∃ (bd : Int), ∃ u7 u8 u9 u10 : AV, L = [(2, rf (B + 149)), (0, ((s : Int))), (0, ((g : Int))), (0, ((t : Int))), (0, ((u : Int))), (0, ((mn : Int))), (0, ((go : Int))), u7, u8, u9, u10] ∧ LX B n pa ∧ Agr (tpW B n s t u) h pa ∧ mu = 2 * (gN n - mn) + go ∧ (go = 0 ∨ go = 1) ∧ (go = 0 → ∀ x, x < gN n → D x = false) ∧ TPI n S0 g R D P (fun _ _ => False) l9 h9 mn bd ∧ MB B n pa s R ∧ MB B n pa u D ∧ MB B n pa t P ∧ hv pa (B + 149) 90 = (l9 : Int) ∧ hv pa (B + 149) 91 = (h9 : Int) ∧ hv pa (B + 149) 92 = bd) ?_ (2 * gN n + 1) ⟨(fun x => S0 x && !decide (x = g)), (fun x => decide (x = g)), (fun _ => false), g / 64, g / 64, 0, 1, 0, _, _, _, _, rfl, (by (repeat' first | assumption | refine LX.setF _ _ ?_ (by decide +kernel) | refine LX.setS ?_ rfl | refine LX.setA ?_ (by assumption))), ?_, ?_⟩
    · rintro mu _ pa ⟨R, D, P, l9, h9, mn, go, bd, upa0, upa1, upa2, upa3, rfl, lpa, gpa, ⟨emu, hgo, hD0, TP, p1, p2, p3, p4, p5, p6⟩⟩ ihmu
      refine Ends.eq (b846_76 (n := n) (by (repeat' first | assumption | refine LX.setF _ _ ?_ (by decide +kernel) | refine LX.setS ?_ rfl | refine LX.setA ?_ (by first | assumption | omega))) (by first | assumption | omega)) ?_
      refine Ends.b0 (fun z0 => ?_) (fun z0 => ?_)
      · -- the end
        have hD := hD0 (by omega)
        obtain ⟨t1, t2', t3, t4, t5, t6, t7, t8⟩ := TP
        have hPg : P g = true := by rcases t2' with q | q
                                    · rw [hD g hg] at q; cases q
                                    · exact q
        refine Ends.sm ⟨_, _, rfl, gpa, P, l9, h9, bd, p1.congr (fun x hx => ?_), p3, p2.congr (fun x hx => hD x hx), fun x hx => ⟨fun q => ((t1 x hx).2.2.2.2 (Or.inr q)).1, fun q => ?_⟩, p4, p5, t7, t8, fun x hx q => ((t1 x hx).2.2.2.2 (Or.inr q)).2, p6, t4, ?_, by rw [t6]⟩
        · exact tp_b (t1 x hx).1 (hD x hx) (t1 x hx).2.2.1
        · have := q (fun y => y < gN n ∧ P y = true) ⟨hg, hPg⟩ (fun y y' f h1 h2 h3 ⟨_, h4⟩ h5 h6 => ⟨h2, by
            have a := t3 y y' f h1 h2 h3 h4 (fun q => q) h5
            have b := (t1 y' h2).1.mp h6
            rw [a, hD y' h2] at b
            simpa using b⟩)
          exact this.2
        · rw [t5]
          exact ⟨fun ⟨x, a, b, _, c⟩ => ⟨x, a, b, c⟩, fun ⟨x, a, b, c⟩ => ⟨x, a, b, fun q => q, c⟩⟩
      · have hgo1 : go = 1 := by omega
        have mnle : mn ≤ gN n := by rw [TP.2.2.2.2.2.1]; exact cntN_le _ _
        rw [p4]
        refine lpm (fun (wv : Nat) => wN n - wv) (fun (wv : Nat) L p2 => ∃ (R2 : Nat → Bool), ∃ (D2 : Nat → Bool), ∃ (P2 : Nat → Bool), ∃ (l92 : Nat), ∃ (h92 : Nat), ∃ (mn2 : Nat), ∃ (go2 : Nat), ∃ (bd2 : Int), ∃ u8 u9 u10 : AV, L = [(2, rf (B + 149)), (0, ((s : Int))), (0, ((g : Int))), (0, ((t : Int))), (0, ((u : Int))), (0, ((mn2 : Int))), (0, ((go2 : Int))), (0, ((wv : Int))), u8, u9, u10] ∧ LX B n p2 ∧ Agr (tpW B n s t u) h p2 ∧ wv ≤ wN n ∧ (go2 = 0 ∨ go2 = 1) ∧ (go2 = 0 → mn2 = mn ∧ ∀ x, x < gN n → D2 x = true → wv ≤ x / 64) ∧ (go2 = 1 → mn < mn2) ∧ TPI n S0 g R2 D2 P2 (fun _ _ => False) l92 h92 mn2 bd2 ∧ MB B n p2 s R2 ∧ MB B n p2 u D2 ∧ MB B n p2 t P2 ∧ hv p2 (B + 149) 90 = (l92 : Int) ∧ hv p2 (B + 149) 91 = (h92 : Int) ∧ hv p2 (B + 149) 92 = bd2) ?_ (l9) ⟨R, D, P, l9, h9, mn, 0, bd, _, _, _, rfl, (by (repeat' first | assumption | refine LX.setF _ _ ?_ (by decide +kernel) | refine LX.setS ?_ rfl | refine LX.setA ?_ (by assumption))), ?_, ?_⟩
        · rintro wv _ p2 ⟨R2, D2, P2, l92, h92, mn2, go2, bd2, up20, up21, up22, rfl, lp2, gp2, ⟨wvn, go2b, gz, gp1, TP2, r1, r2, r3, r4, r5, r6⟩⟩ ihwv
          have mn2le : mn2 ≤ gN n := by rw [TP2.2.2.2.2.2.1]; exact cntN_le _ _
          refine Ends.eq (b846_90 (n := n) (by (repeat' first | assumption | refine LX.setF _ _ ?_ (by decide +kernel) | refine LX.setS ?_ rfl | refine LX.setA ?_ (by first | assumption | omega))) (by first | assumption | omega)) ?_
          rw [r5]
          refine Ends.b4 (fun z1 => ?_) (fun z1 => ?_)
          · refine ihmu (2 * (gN n - mn2) + go2) _ _ ?_ ⟨ R2,  D2,  P2,  l92,  h92,  mn2,  go2,  bd2, _, _, _, _, rfl, (by (repeat' first | assumption | refine LX.setF _ _ ?_ (by decide +kernel) | refine LX.setS ?_ rfl | refine LX.setA ?_ (by assumption))), ?_, ?_⟩
            · rcases go2b with q | q
              · have := (gz q).1; omega
              · have := gp1 q; omega
            · exact gp2
            · refine ⟨rfl, go2b, fun q x hx => ?_, TP2, r1, r2, r3, r4, r5, r6⟩
              cases e : D2 x
              · rfl
              · have a := (gz q).2 x hx e
                have b := ((TP2.1 x hx).2.2.2.2 (Or.inl e)).2.2
                omega
          · have h92w := TP2.2.2.2.2.2.2.2
            refine lpm (fun (mm : Nat) => gN n - mm) (fun (mm : Nat) L p3 => ∃ (R3 : Nat → Bool), ∃ (D3 : Nat → Bool), ∃ (P3 : Nat → Bool), ∃ (l93 : Nat), ∃ (h93 : Nat), ∃ (go3 : Nat), ∃ (bd3 : Int), ∃ u8 u9 u10 : AV, L = [(2, rf (B + 149)), (0, ((s : Int))), (0, ((g : Int))), (0, ((t : Int))), (0, ((u : Int))), (0, ((mm : Int))), (0, ((go3 : Int))), (0, ((wv : Int))), u8, u9, u10] ∧ LX B n p3 ∧ Agr (tpW B n s t u) h p3 ∧ (go3 = 0 ∨ go3 = 1) ∧ (go3 = 0 → mm = mn ∧ ∀ x, x < gN n → D3 x = true → wv ≤ x / 64) ∧ (go3 = 1 → mn < mm) ∧ TPI n S0 g R3 D3 P3 (fun _ _ => False) l93 h93 mm bd3 ∧ MB B n p3 s R3 ∧ MB B n p3 u D3 ∧ MB B n p3 t P3 ∧ hv p3 (B + 149) 90 = (l93 : Int) ∧ hv p3 (B + 149) 91 = (h93 : Int) ∧ hv p3 (B + 149) 92 = bd3) ?_ (mn2) ⟨R2, D2, P2, l92, h92, go2, bd2, _, _, _, rfl, (by (repeat' first | assumption | refine LX.setF _ _ ?_ (by decide +kernel) | refine LX.setS ?_ rfl | refine LX.setA ?_ (by assumption))), ?_, ?_⟩
            · rintro mm _ p3 ⟨R3, D3, P3, l93, h93, go3, bd3, up30, up31, up32, rfl, lp3, gp3, ⟨go3b, gz3, gp3', TP3, v1, v2, v3, v4, v5, v6⟩⟩ ihmm
              have wvl : wv < wN n := by omega
              have mmle : mm ≤ gN n := by rw [TP3.2.2.2.2.2.1]; exact cntN_le _ _
              refine Ends.eq (b846_99 (n := n) (by (repeat' first | assumption | refine LX.setF _ _ ?_ (by decide +kernel) | refine LX.setS ?_ rfl | refine LX.setA ?_ (by first | assumption | omega))) (by first | assumption | omega)) ?_
              rw [widx hn hu wvl, tn]
              refine Ends.g (wok hu wvl) (Ends.b0 (fun z2 => ?_) (fun z2 => ?_))
              · rw [cmp64_z] at z2
                rw [w_succ (by omega)]
                refine ihwv (wv + 1) _ _ ?_ ⟨ R3,  D3,  P3,  l93,  h93,  mm,  go3,  bd3, _, _, _, rfl, (by (repeat' first | assumption | refine LX.setF _ _ ?_ (by decide +kernel) | refine LX.setS ?_ rfl | refine LX.setA ?_ (by assumption))), ?_, ?_⟩
                · omega
                · exact gp3
                · refine ⟨by omega, go3b, fun q => ⟨(gz3 q).1, fun x hx e => ?_⟩, gp3', TP3, v1, v2, v3, v4, v5, v6⟩
                  have a := (gz3 q).2 x hx e
                  have : x / 64 ≠ wv := fun e2 => by
                    have b := (v2 wv wvl).2 (x % 64) (by omega)
                    rw [z2, tb_0, show 64 * wv + x % 64 = x by omega, e] at b
                    simp [hx] at b
                  omega
              · obtain ⟨k, lk⟩ := Low.ex (v2 wv wvl).1 (fun e => z2 (cmp64_z.mpr e))
                have hk6 := lk.1
                have hb := lk.2.1
                rw [(v2 wv wvl).2 k hk6] at hb
                simp only [Bool.and_eq_true, decide_eq_true_eq] at hb
                obtain ⟨hn9, hDn⟩ := hb
                refine Ends.ct lp3 (by decide +kernel) (by decide) (c_lowest lp3 (by omega) lk) (fun r h5 l5 _ _ _ ⟨e5, e6⟩ => ?_)
                subst e5 e6
                refine Ends.eq (b846_145 (n := n) (by (repeat' first | assumption | refine LX.setF _ _ ?_ (by decide +kernel) | refine LX.setS ?_ rfl | refine LX.setA ?_ (by first | assumption | omega))) (by first | assumption | omega)) ?_
                rw [show bop32 104 64 (wv : Int) = ((64 * wv : Nat) : Int) from mulNN (x := 64) (by omega), addNN (by omega)]
                generalize en : 64 * wv + k = n0 at *
                refine Ends.cv l5 (by decide +kernel) (c_dropM l5 (by omega) hn hu v2 hn9) (fun h6 l6 _ _ _ ⟨_, g6, b6⟩ => ?_)
                refine Ends.eq (b846_156 (n := n) (by (repeat' first | assumption | refine LX.setF _ _ ?_ (by decide +kernel) | refine LX.setS ?_ rfl | refine LX.setA ?_ (by first | assumption | omega))) (by first | assumption | omega)) ?_
                refine Ends.cv l6 (by decide +kernel) (c_putM l6 (by omega) hn ht (v3.row g6 htu) hn9) (fun h7 l7 _ _ _ ⟨_, g7, b7⟩ => ?_)
                refine Ends.eq (b846_163 (n := n) (by (repeat' first | assumption | refine LX.setF _ _ ?_ (by decide +kernel) | refine LX.setS ?_ rfl | refine LX.setA ?_ (by first | assumption | omega))) (by first | assumption | omega)) ?_
                have A7 := aT (aU gp3 g6) g7
                have TP4 := TP3.take hn9 hDn
                have mm1 : mm + 1 ≤ gN n := by rw [TP4.2.2.2.2.2.1]; exact cntN_le _ _
                rw [inc32 (by omega) (by omega), show (mm : Int) + 1 = ((mm + 1 : Nat) : Int) from rfl]
                refine lp (4) (fun f L p4 => ∃ (R4 : Nat → Bool), ∃ (D4 : Nat → Bool), ∃ (l94 : Nat), ∃ (h94 : Nat), ∃ (bd4 : Int), ∃ u10 : AV, L = [(2, rf (B + 149)), (0, ((s : Int))), (0, ((g : Int))), (0, ((t : Int))), (0, ((u : Int))), (0, (((mm + 1 : Nat) : Int))), (0, 1), (0, ((wv : Int))), (0, ((n0 : Int))), (0, ((f : Int))), u10] ∧ LX B n p4 ∧ f ≤ 4 ∧ Agr (tpW B n s t u) h p4 ∧ TPI n S0 g R4 D4 (fun x => P3 x||decide (x = n0)) (fun x f' => x = n0 ∧ f ≤ f') l94 h94 (mm + 1) bd4 ∧ MB B n p4 s R4 ∧ MB B n p4 u D4 ∧ MB B n p4 t (fun x => P3 x||decide (x = n0)) ∧ hv p4 (B + 149) 90 = (l94 : Int) ∧ hv p4 (B + 149) 91 = (h94 : Int) ∧ hv p4 (B + 149) 92 = bd4) ?_ ?_ (0) ⟨R3, (fun x => D3 x && !decide (x = n0)), l93, h93, bd3, _, rfl, (by (repeat' first | assumption | refine LX.setF _ _ ?_ (by decide +kernel) | refine LX.setS ?_ rfl | refine LX.setA ?_ (by assumption))), by omega, ?_, ?_⟩
                · rintro f _ p4 hf ⟨R4, D4, l94, h94, bd4, up40, rfl, lp4, hfN, gp4, ⟨TQ, w1, w2, w3, w4, w5, w6⟩⟩ ihf
                  have mq := mA gp4
                  have hPn : (fun x => P3 x || decide (x = n0)) n0 = true := by simp
                  obtain ⟨nq, nv⟩ := nbr_is mq hn hn9 hf
                  have nx : ∀ (R5 D5 : Nat → Bool) (l95 h95 : Nat) (bd5 : Int) (x10 : Int) (p5 : AH), LX B n p5 → Agr (tpW B n s t u) h p5 → TPI n S0 g R5 D5 (fun x => P3 x || decide (x = n0)) (fun x f' => x = n0 ∧ f + 1 ≤ f') l95 h95 (mm + 1) bd5 → MB B n p5 s R5 → MB B n p5 u D5 → MB B n p5 t (fun x => P3 x || decide (x = n0)) → hv p5 (B + 149) 90 = (l95 : Int) → hv p5 (B + 149) 91 = (h95 : Int) → hv p5 (B + 149) 92 = bd5 → Ends (ev PP (gsF gv) B d 846 275 [(2, rf (B + 149)), (0, ((s : Int))), (0, ((g : Int))), (0, ((t : Int))), (0, ((u : Int))), (0, (((mm + 1 : Nat) : Int))), (0, 1), (0, ((wv : Int))), (0, ((n0 : Int))), (0, ((f : Int))), (0, x10)] [] p5) _ := fun R5 D5 l95 h95 bd5 x10 p5 l5' g5 T5 c1 c2 c3 c4 c5 c6 => by
                    refine Ends.eq (b846_275 (n := n) (by (repeat' first | assumption | refine LX.setF _ _ ?_ (by decide +kernel) | refine LX.setS ?_ rfl | refine LX.setA ?_ (by first | assumption | omega))) (by first | assumption | omega)) ?_
                    rw [w_succ (by omega)]
                    refine ihf _ _ ⟨R5,  D5,  l95,  h95,  bd5, _, rfl, (by (repeat' first | assumption | refine LX.setF _ _ ?_ (by decide +kernel) | refine LX.setS ?_ rfl | refine LX.setA ?_ (by assumption))), by omega, ?_, ?_⟩
                    · exact g5
                    · exact ⟨T5, c1, c2, c3, c4, c5, c6⟩
                  refine Ends.eq (b846_169 (n := n) (by (repeat' first | assumption | refine LX.setF _ _ ?_ (by decide +kernel) | refine LX.setS ?_ rfl | refine LX.setA ?_ (by first | assumption | omega))) (by first | assumption | omega)) ?_
                  rw [nv]
                  refine Ends.b3 (fun _ => by omega) (fun _ => Ends.g nq ?_)
                  rcases nbr_lt hn hn9 hf with e1 | ⟨b, e1, e2⟩
                  · have TQ2 := TQ.out hn9 hPn e1
                    rw [e1]
                    refine Ends.b3 (fun z => absurd z (by decide)) (fun _ => Ends.b1 (fun z3 => ?_) (fun z3 => ?_))
                    · rw [if_neg (by omega)] at TQ2
                      refine Ends.eq (b846_200 (n := n) (by (repeat' first | assumption | refine LX.setF _ _ ?_ (by decide +kernel) | refine LX.setS ?_ rfl | refine LX.setA ?_ (by first | assumption | omega))) (by first | assumption | omega)) ?_
                      refine Ends.b2 (fun _ => nx _ _ _ _ _ _ _ lp4 gp4 TQ2 w1 w2 w3 w4 w5 w6) (fun z => absurd z (by decide))
                    · rw [if_pos (by omega)] at TQ2
                      refine Ends.eq (b846_200 (n := n) (by (repeat' first | assumption | refine LX.setF _ _ ?_ (by decide +kernel) | refine LX.setS ?_ rfl | refine LX.setA ?_ (by first | assumption | omega))) (by first | assumption | omega)) ?_
                      refine Ends.b2 (fun _ => nx _ _ _ _ _ _ _ (by (repeat' first | assumption | refine LX.setF _ _ ?_ (by decide +kernel) | refine LX.setS ?_ rfl | refine LX.setA ?_ (by assumption))) (aF (by decide) (by decide) gp4) TQ2 (w1.fset _ _) (w2.fset _ _) (w3.fset _ _) (by rw [hv_set_ne (by omega)]; exact w4) (by rw [hv_set_ne (by omega)]; exact w5) (hv_set_at ..)) (fun z => absurd z (by decide))
                  · rw [e1]
                    refine Ends.b3 (fun _ => ?_) (fun z => by omega)
                    obtain ⟨a1, a2⟩ := has_is w1 hs hn e2
                    refine Ends.eq (b846_200 (n := n) (by (repeat' first | assumption | refine LX.setF _ _ ?_ (by decide +kernel) | refine LX.setS ?_ rfl | refine LX.setA ?_ (by first | assumption | omega))) (by first | assumption | omega)) ?_
                    rw [a2]
                    refine Ends.b2 (fun z => by omega) (fun _ => Ends.g a1 ?_)
                    cases hR : R4 b
                    · refine Ends.b1 (fun z => absurd rfl z) (fun _ => nx _ _ _ _ _ _ _ lp4 gp4 (TQ.non e1 hR) w1 w2 w3 w4 w5 w6)
                    · refine Ends.b1 (fun _ => ?_) (fun z => by rw [if_pos rfl] at z; exact absurd z (by decide))
                      have hbw : b / 64 < wN n := wN_g e2
                      have TQ3 := TQ.new hn9 hf hPn e2 hbw e1 hR
                      refine Ends.cv lp4 (by decide +kernel) (c_dropM lp4 (by omega) hn hs w1 e2) (fun h8 l8 _ _ _ ⟨_, g8, b8⟩ => ?_)
                      refine Ends.eq (b846_225 (n := n) (by (repeat' first | assumption | refine LX.setF _ _ ?_ (by decide +kernel) | refine LX.setS ?_ rfl | refine LX.setA ?_ (by first | assumption | omega))) (by first | assumption | omega)) ?_
                      refine Ends.cv l8 (by decide +kernel) (c_putM l8 (by omega) hn hu (w2.row g8 (fun e => hsu e.symm)) e2) (fun h9' l9' _ _ _ ⟨_, g9, b9⟩ => ?_)
                      refine Ends.eq (b846_233 (n := n) (by (repeat' first | assumption | refine LX.setF _ _ ?_ (by decide +kernel) | refine LX.setS ?_ rfl | refine LX.setA ?_ (by first | assumption | omega))) (by first | assumption | omega)) ?_
                      have c4 : hv h9' (B + 149) 90 = (l94 : Int) := by rw [fld g9, fld g8]; exact w4
                      have c5 : hv h9' (B + 149) 91 = (h94 : Int) := by rw [fld g9, fld g8]; exact w5
                      have c6 : hv h9' (B + 149) 92 = bd4 := by rw [fld g9, fld g8]; exact w6
                      have A9 := aU (aS gp4 g8) g9
                      have s9 := b8.row g9 hsu
                      have t9 := (w3.row g8 (fun e => hst e.symm)).row g9 htu
                      rw [show bop32 108 (b : Int) 64 = ((b / 64 : Nat) : Int) from divNN (y := 64) (by omega) (by decide), c4]
                      have fin : ∀ (p6 : AH), LX B n p6 → Agr (tpW B n s t u) h p6 → MB B n p6 s (fun x => R4 x && !decide (x = b)) → MB B n p6 u (fun x => D4 x || decide (x = b)) → MB B n p6 t (fun x => P3 x || decide (x = n0)) → hv p6 (B + 149) 90 = ((min l94 (b / 64) : Nat) : Int) → hv p6 (B + 149) 91 = (h94 : Int) → hv p6 (B + 149) 92 = bd4 → Ends (ev PP (gsF gv) B d 846 254 [(2, rf (B + 149)), (0, ((s : Int))), (0, ((g : Int))), (0, ((t : Int))), (0, ((u : Int))), (0, (((mm + 1 : Nat) : Int))), (0, 1), (0, ((wv : Int))), (0, ((n0 : Int))), (0, ((f : Int))), (0, ((b : Int)))] [] p6) _ := fun p6 l6' g6' y1 y2 y3 y4 y5 y6 => by
                        refine Ends.eq (b846_254 (n := n) (by (repeat' first | assumption | refine LX.setF _ _ ?_ (by decide +kernel) | refine LX.setS ?_ rfl | refine LX.setA ?_ (by first | assumption | omega))) (by first | assumption | omega)) ?_
                        rw [show bop32 108 (b : Int) 64 = ((b / 64 : Nat) : Int) from divNN (y := 64) (by omega) (by decide), y5]
                        refine Ends.b5 (fun z5 => ?_) (fun z5 => ?_)
                        · refine nx _ _ _ _ _ _ _ l6' g6' TQ3 y1 y2 y3 y4 ?_ y6
                          rw [y5, Nat.max_eq_left (by omega)]
                        · refine nx _ _ _ _ _ _ _ (by (repeat' first | assumption | refine LX.setF _ _ ?_ (by decide +kernel) | refine LX.setS ?_ rfl | refine LX.setA ?_ (by assumption))) (aF (by decide) (by decide) g6') TQ3 (y1.fset _ _) (y2.fset _ _) (y3.fset _ _) (by rw [hv_set_ne (by omega)]; exact y4) ?_ (by rw [hv_set_ne (by omega)]; exact y6)
                          rw [hv_set_at, Nat.max_eq_right (by omega)]
                      refine Ends.b3 (fun z4 => ?_) (fun z4 => ?_)
                      · refine fin _ l9' A9 s9 b9 t9 ?_ c5 c6
                        rw [c4, Nat.min_eq_left (by omega)]
                      · refine fin _ (by (repeat' first | assumption | refine LX.setF _ _ ?_ (by decide +kernel) | refine LX.setS ?_ rfl | refine LX.setA ?_ (by assumption))) (aF (by decide) (by decide) A9) (s9.fset _ _) (b9.fset _ _) (t9.fset _ _) ?_ (by rw [hv_set_ne (by omega)]; exact c5) (by rw [hv_set_ne (by omega)]; exact c6)
                        rw [hv_set_at, Nat.min_eq_right (by omega)]
                · rintro f _ p4 hf ⟨R4, D4, l94, h94, bd4, up40, rfl, lp4, hfN, gp4, ⟨TQ, w1, w2, w3, w4, w5, w6⟩⟩
                  obtain rfl : f = 4 := by omega
                  refine Ends.eq (b846_169 (n := n) (by (repeat' first | assumption | refine LX.setF _ _ ?_ (by decide +kernel) | refine LX.setS ?_ rfl | refine LX.setA ?_ (by first | assumption | omega))) (by first | assumption | omega)) ?_
                  refine Ends.b3 (fun _ => ?_) (fun _ => by omega)
                  refine ihmm (mm + 1) _ _ ?_ ⟨ R4,  D4,  (fun x => P3 x || decide (x = n0)),  l94,  h94,  1,  bd4, _, _, _, rfl, (by (repeat' first | assumption | refine LX.setF _ _ ?_ (by decide +kernel) | refine LX.setS ?_ rfl | refine LX.setA ?_ (by assumption))), ?_, ?_⟩
                  · omega
                  · exact gp4
                  · refine ⟨Or.inr rfl, fun z => absurd z (by decide), fun _ => ?_, ⟨TQ.1, TQ.2.1, fun x x' f h1 h2 h3 h4 _ h6 => TQ.2.2.1 x x' f h1 h2 h3 h4 (fun z => by omega) h6, TQ.2.2.2.1, ?_, TQ.2.2.2.2.2⟩, w1, w2, w3, w4, w5, w6⟩
                    · rcases go3b with q | q
                      · have := (gz3 q).1; omega
                      · have := gp3' q; omega
                    · rw [TQ.2.2.2.2.1]
                      exact ⟨fun ⟨x, a, b, _, c⟩ => ⟨x, a, b, fun q => q, c⟩, fun ⟨x, a, b, _, c⟩ => ⟨x, a, b, fun z => by omega, c⟩⟩
                · exact A7
                · refine ⟨⟨TP4.1, TP4.2.1, fun x x' f h1 h2 h3 h4 h5 h6 => TP4.2.2.1 x x' f h1 h2 h3 h4 (fun z => h5 ⟨z, by omega⟩) h6, TP4.2.2.2.1, ?_, TP4.2.2.2.2.2⟩, (v1.row g6 hsu).row g7 hst, b6.row g7 (fun e => htu e.symm), b7, by rw [fld g7, fld g6]; exact v4, by rw [fld g7, fld g6]; exact v5, by rw [fld g7, fld g6]; exact v6⟩
                  rw [TP4.2.2.2.2.1]
                  exact ⟨fun ⟨x, a, b, e, c⟩ => ⟨x, a, b, fun z => e z.1, c⟩, fun ⟨x, a, b, e, c⟩ => ⟨x, a, b, fun z => e ⟨z, by omega⟩, c⟩⟩
            · exact gp2
            · exact ⟨go2b, gz, gp1, TP2, r1, r2, r3, r4, r5, r6⟩
        · exact gpa
        · refine ⟨by have := TP.2.2.2.2.2.2; omega, Or.inl rfl, fun _ => ⟨rfl, fun x hx e => ((TP.1 x hx).2.2.2.2 (Or.inl e)).2.1⟩, fun z => absurd z (by decide), TP, p1, p2, p3, p4, p5, p6⟩
    · exact aF (by decide) (by decide) (aF (by decide) (by decide) (aF (by decide) (by decide) A2))
    · refine ⟨by omega, Or.inr rfl, fun z => absurd z (by decide), ini, ((b2.fset _ _).fset _ _).fset _ _, (((u2.congr (fun x _ => by simp)).fset _ _).fset _ _).fset _ _, ((t2.fset _ _).fset _ _).fset _ _, ?_, ?_, hv_set_at ..⟩
      · rw [hv_set_ne (by omega), hv_set_ne (by omega)]; exact hv_set_at ..
      · rw [hv_set_ne (by omega)]; exact hv_set_at ..
  · exact Agr.rf
  · exact ⟨bs, bu, f91, Nat.le_refl _, bt.congr (fun x hx => by
      by_cases e : lo ≤ x / 64 ∧ x / 64 < lo
      · omega
      · have : (decide (lo ≤ x / 64) && decide (x / 64 < lo)) = false := by simp
        rw [this]; simp)⟩
end TAKE
