/-! L3: the model's reader: calls -/
section MCALL
variable {gv : Nat → Int} {B n m : Nat} {u : Nat → Int} {fd : Nat → Int} {bk : Nat → Bool} {nv : Nat} {tl : Int} {DX : AH → Prop}
theorem ast_put {lo g a k : Nat} {s : AH} {x v : Int} {D : Dn} {N : Nat → Bool} (A : AstI lo g s x D N) (ha : a < lo) : AstI lo g (hset s a k v) x D N :=
  AstI.keep (h := s) (t := hset s a k v) (Nat.le_refl _) (Nat.le_refl _) (fun b hb _ kb => ⟨kb, fun j _ => hv_na (by omega)⟩) g g x D N (Nat.le_refl _) A
set_option maxHeartbeats 4000000 in
theorem c_readCallM (ok : MOk gv B n m u fd bk nv tl DX) {p : Nat} (hA : ∀ q, p < q → q ≤ m → stA gv B n m u fd bk tl DX q) {d dp : Nat} {h : AH} {r : PR} (hr : RdR u m fd bk 3 0 dp p accZ r) (l : LX B n h) (M : MC gv B m u tl DX h) (S : MSt B m u h dp p) (hd : FD dp ≤ d) (hs : ¬ (isSg u m p 45 || isSg u m p 33) = true) (h40 : ¬ isSg u m p 40 = true) (k1 : tkK u m p = 1) {fw : Nat} (hfw : fnW u m p = (fw : Int)) :
    Vt 2 (cll PP (ev PP (gsF gv) B) d 790 [(2, rf (B + 149)), (0, (fw : Int))] h) (MRes B m u h dp p r) := by
  obtain ⟨S1, S2, S3, S4, S5⟩ := S
  unfold FD at hd
  have hm := M.2.2.2.2
  have hb := l.2.2
  have k2 : ¬ tkK u m p = 2 := by omega
  have hf0 : 0 ≤ fnW u m p := by omega
  have hf10 : fw ≤ 10 := by have := (fnW_r u m p).2; omega
  have hft : (fnW u m p).toNat = fw := by rw [hfw]; rfl
  obtain ⟨b1, b2⟩ := k_lt (u := u) S4 (by rw [k1]; decide)
  refine Vt.into (D := d - 1) (by omega) (Nat.le_of_ble_eq_true rfl) rfl (fun d' hd' => ?_)
  refine Ends.eq (b790_0 (n := n) (by (repeat' first | assumption | refine LX.setF _ _ ?_ (by decide +kernel) | refine LX.setS ?_ rfl | refine LX.setA ?_ (by first | assumption | omega))) (by first | assumption | omega)) ?_
  refine Ends.ct l (by decide +kernel) (by decide) (c_mkF l (by omega)) (fun x s0 l0 _ _ _ ⟨ex, es⟩ => ?_)
  subst ex
  have x0 : Ext (MW B) 1 7 h s0 := by rw [es]; exact mkN_ext
  have t0 : MgT B s0 u m p := by rw [es]; exact S1.mkN hb
  have i12 : hv s0 (B + 149) 12 = (dp : Int) := by rw [es, mkN_at hb]; exact S2
  have i11 : hv s0 (B + 149) 11 = -1 := by rw [es, mkN_at hb]; exact S3
  have kn0 : hk s0 (hnx h) = (1, 24) := by rw [es]; exact mkN_hk
  have hv0 : ∀ k, hv s0 (hnx h) k = if k = 1 then (fw : Int) else if k = 0 then 5 else 0 := fun k => by
    rw [es, mkN_hv]
    by_cases e6 : k = 6
    · subst e6; rfl
    by_cases e5 : k = 5
    · subst e5; rfl
    by_cases e4 : k = 4
    · subst e4; rfl
    rw [if_neg e6, if_neg e5, if_neg e4]
  have nx0 : hnx s0 = hnx h + 1 := by rw [es]; rfl
  clear es
  have M0 := M.ext ok l x0
  refine Ends.eq (b790_8 (n := n) (by (repeat' first | assumption | refine LX.setF _ _ ?_ (by decide +kernel) | refine LX.setS ?_ rfl | refine LX.setA ?_ (by first | assumption | omega))) (by first | assumption | omega)) ?_
  have en : cond (tst 1 (fw : Int) 4) (cond (tst 3 (fw : Int) 4) (1 : Int) 2) 3 = ((nnF fw : Nat) : Int) := by
    unfold nnF
    rw [tst1, tst3]
    by_cases e4 : fw = 4
    · subst e4; rfl
    by_cases e : fw < 4
    · rw [if_pos e, decide_eq_false (show ¬ (fw : Int) = 4 by omega), decide_eq_true (show (fw : Int) < 4 by omega)]; rfl
    · rw [if_neg e, if_neg e4, decide_eq_false (show ¬ (fw : Int) = 4 by omega), decide_eq_false (show ¬ (fw : Int) < 4 by omega)]; rfl
  rw [en]
  generalize hdue : nnF fw = due
  have due3 : 1 ≤ due ∧ due ≤ 3 := by rw [← hdue]; unfold nnF; split <;> (try split) <;> omega
  refine Ends.cv l0 (by decide +kernel) (c_nextM l0 (by omega) M0.1 t0.1 b2) (fun s1 l1 _ _ _ ⟨g1, t1⟩ => ?_)
  have x1 := x0.mt (mg_mw g1)
  have M1 := M.ext ok l x1
  have j12 : hv s1 (B + 149) 12 = (dp : Int) := by rw [g1.at _ _ (by unfold mgW; omega)]; exact i12
  have j11 : hv s1 (B + 149) 11 = -1 := by rw [g1.at _ _ (by unfold mgW; omega)]; exact i11
  have hv1 : ∀ k, hv s1 (hnx h) k = if k = 1 then (fw : Int) else if k = 0 then 5 else 0 := fun k => by rw [g1.at _ _ (by unfold mgW; omega)]; exact hv0 k
  have kn1 : hk s1 (hnx h) = (1, 24) := by rw [g1.hk]; exact kn0
  have nx1 : hnx s1 = hnx h + 1 := by rw [g1.nx]; exact nx0
  refine Ends.eq (b790_33 (n := n) (by (repeat' first | assumption | refine LX.setF _ _ ?_ (by decide +kernel) | refine LX.setS ?_ rfl | refine LX.setA ?_ (by first | assumption | omega))) (by first | assumption | omega)) ?_
  refine Ends.ct l1 (by decide +kernel) (by decide) (c_is1 l1 (by omega) M1.1 M1.2.1 t1 b2 51 40 (by decide) (by decide) (by decide)) (fun v q l2 _ _ _ ⟨eh, w⟩ => ?_)
  subst eh
  refine Ends.eq (b790_39 (n := n) (by (repeat' first | assumption | refine LX.setF _ _ ?_ (by decide +kernel) | refine LX.setS ?_ rfl | refine LX.setA ?_ (by first | assumption | omega))) (by first | assumption | omega)) ?_
  rcases w with ⟨w, rfl⟩ | ⟨w, rfl⟩
  case inr =>
    refine Ends.b1 (fun z => absurd rfl z) (fun _ => ?_)
    refine Ends.ct l1 (by decide +kernel) (by decide) (c_failM l1 (by omega) j11 t1.2.1) (fun v h4 l4 _ _ _ ⟨ev, w5⟩ => ?_)
    subst ev
    refine Ends.eq (b790_46 (n := n) (by (repeat' first | assumption | refine LX.setF _ _ ?_ (by decide +kernel) | refine LX.setS ?_ rfl | refine LX.setA ?_ (by first | assumption | omega))) (by first | assumption | omega)) ?_
    rcases w5 with ⟨_, eh4⟩ | ⟨z, _⟩
    · subst eh4
      exact Ends.sm ⟨_, _, rfl, Or.inr ⟨_, RdR.uni hr (R3_20 hs h40 k2 k1 hf0 w), rfl, (x1.ms (by decide) (by decide)).ml (by omega) (by omega), hv_set_at ..⟩⟩
    · omega
  refine Ends.b1 (fun _ => ?_) (fun z => absurd z (by decide))
  obtain ⟨c1, c2⟩ := sg_lt (u := u) b2 w
  refine Ends.ct l1 (by decide +kernel) (by decide) (c_enterM l1 (by omega) M1.1 t1 b2 j12 S5 j11) (fun v2 q2 l2 _ _ _ ⟨h2, g2, t2, w2⟩ => ?_)
  have x2 := x1.mt (mg_mw g2)
  refine Ends.eq (b790_51 (n := n) (by (repeat' first | assumption | refine LX.setF _ _ ?_ (by decide +kernel) | refine LX.setS ?_ rfl | refine LX.setA ?_ (by first | assumption | omega))) (by first | assumption | omega)) ?_
  rcases w2 with ⟨dlt, ev, eq⟩ | ⟨deq, ev, eq⟩
  case inr =>
    subst ev eq
    refine Ends.b1 (fun z => absurd rfl z) (fun _ => ?_)
    exact Ends.sm ⟨_, _, rfl, Or.inr ⟨_, RdR.uni hr (R3_8 hs h40 k2 k1 hf0 w (by omega)), rfl, ((x2.ms (by decide) (by decide)).ms (by decide) (by decide)).ml (by omega) (by omega), hv_set_at ..⟩⟩
  subst ev
  refine Ends.b1 (fun _ => ?_) (fun z => absurd z (by decide))
  have n24 : ¬ 24 ≤ dp := by omega
  have x2' : Ext (MW B) 1 7 h q2 := by rw [eq]; exact (x2.ms (by decide) (by decide)).ml (by omega) (by omega)
  have t2' : MgT B q2 u m (tkT u m (tkT u m p)) := by rw [eq]; exact t2.f (by decide)
  have y12 : hv q2 (B + 149) 12 = ((dp + 1 : Nat) : Int) := by rw [eq]; exact hv_set_at ..
  have y11 : hv q2 (B + 149) 11 = -1 := by rw [eq, hv_set_ne (by omega), g2.at _ _ (by unfold mgW; omega)]; exact j11
  have hv2 : ∀ k, hv q2 (hnx h) k = if k = 1 then (fw : Int) else if k = 0 then 5 else 0 := fun k => by rw [eq, hv_na (by omega), g2.at _ _ (by unfold mgW; omega)]; exact hv1 k
  have kn2 : hk q2 (hnx h) = (1, 24) := by rw [eq]; show hk h2 (hnx h) = _; rw [g2.hk]; exact kn1
  have nx2 : hnx q2 = hnx h + 1 := by rw [eq]; show hnx h2 = _; rw [g2.nx]; exact nx1
  clear eq
  -- behind the arguments
  have fin : ∀ (s : AH) (q : Nat) (Dd : Dn) (Nn : Nat → Bool) (u5 : AV), LX B n s → Ext (MW B) (q - p) (7 * (q - p)) h s → MgT B s u m q → hv s (B + 149) 12 = ((dp + 1 : Nat) : Int) → hv s (B + 149) 11 = -1 → AstI (hnx h) (q - p) s (rf (hnx h)) Dd Nn → p < q → q ≤ m → (isSg u m q 41 = true → r = .inr (Dd, Nn, tkT u m q)) → (¬ isSg u m q 41 = true → r = .inl (tkF u m q)) → Ends (ev PP (gsF gv) B d' 790 59 [(2, rf (B + 149)), (0, (fw : Int)), (2, rf (hnx h)), (0, (due : Int)), (0, (due : Int)), u5] [] s) (fun r' => ∃ x h', r' = ((0, (2, x)), h') ∧ MRes B m u h dp p r x h') := by
    intro s q Dd Nn u5 ls xs ts e12 e11 As hpq hqm ry rn
    have xs' := xs.ms (k := 12) (v := (dp : Int)) (by decide) (by decide)
    have Ms := M.ext ok l xs'
    refine Ends.eq (b790_59 (n := n) (by (repeat' first | assumption | refine LX.setF _ _ ?_ (by decide +kernel) | refine LX.setS ?_ rfl | refine LX.setA ?_ (by first | assumption | omega))) (by first | assumption | omega)) ?_
    rw [e12, b100_1' (by omega)]
    refine Ends.b3 (fun _ => ?_) (fun z => by omega)
    have l3 : LX B n (hset s (B + 149) 12 (dp : Int)) := (by (repeat' first | assumption | refine LX.setF _ _ ?_ (by decide +kernel) | refine LX.setS ?_ rfl | refine LX.setA ?_ (by assumption)))
    refine Ends.ct l3 (by decide +kernel) (by decide) (c_needM l3 (by omega) Ms.1 Ms.2.1 (ts.f (by decide)) hqm 15 41 (by decide) (by decide) (by decide) (by rw [hv_set_ne (by omega)]; exact e11)) (fun v h7 l7 _ _ _ w7 => ?_)
    refine Ends.eq (b790_151 (n := n) (by (repeat' first | assumption | refine LX.setF _ _ ?_ (by decide +kernel) | refine LX.setS ?_ rfl | refine LX.setA ?_ (by first | assumption | omega))) (by first | assumption | omega)) ?_
    rcases w7 with ⟨k41, ev, g7, t7⟩ | ⟨k41, ev, eh⟩
    · subst ev
      obtain ⟨d1, d2⟩ := sg_lt (u := u) hqm k41
      have x7 := mg_mw g7
      refine Ends.sm ⟨_, _, rfl, Or.inl ⟨Dd, Nn, tkT u m q, ry k41, (xs'.mt x7).ml (by omega) (by omega), t7, by rw [g7.at _ _ (by unfold mgW; omega)]; exact hv_set_at .., by rw [g7.at _ _ (by unfold mgW; omega), hv_set_ne (by omega)]; exact e11, As.mw ls (((Ext.rf (W := MW B) (c := 0) (s := 0)).ms (k := 12) (v := (dp : Int)) (by decide) (by decide)).mt x7) (by omega), by omega, d2⟩⟩
    · subst ev eh
      exact Ends.sm ⟨_, _, rfl, Or.inr ⟨_, rn k41, rfl, (xs'.ms (by decide) (by decide)).ml (by omega) (by omega), hv_set_at ..⟩⟩
  -- an argument
  have arg : ∀ (i q : Nat) (s : AH) (u5 : AV) (r2 : PR), i < 3 → RdR u m fd bk 0 0 (dp + 1) q accZ r2 → LX B n s → Ext (MW B) (q - p) (7 * (q - p)) h s → hnx h + 1 ≤ hnx s → MgT B s u m q → hv s (B + 149) 12 = ((dp + 1 : Nat) : Int) → hv s (B + 149) 11 = -1 → p < q → q ≤ m → hk s (hnx h) = (1, 24) → (∀ e, r2 = .inl e → r = .inl e) →
      (∀ D N q' y s' u5', r2 = .inr (D, N, q') → LX B n s' → Ext (MW B) (q' - p) (7 * (q' - p)) h s' → hnx h + 1 ≤ hnx s' → MgT B s' u m q' → hv s' (B + 149) 12 = ((dp + 1 : Nat) : Int) → hv s' (B + 149) 11 = -1 → q < q' → q' ≤ m → hk s' (hnx h) = (1, 24) → (∀ k, k ≠ 4 + i → hv s' (hnx h) k = hv s (hnx h) k) → hv s' (hnx h) (4 + i) = y → AstI (hnx h + 1) (q' - q) s' y D N → (∀ x D0 N0 g, AstI (hnx h + 1) g s x D0 N0 → AstI (hnx h + 1) g s' x D0 N0) → Ends (ev PP (gsF gv) B d' 790 59 [(2, rf (B + 149)), (0, (fw : Int)), (2, rf (hnx h)), (0, (due : Int)), (0, ((i + 1 : Nat) : Int)), u5'] [] s') (fun r' => ∃ x h', r' = ((0, (2, x)), h') ∧ MRes B m u h dp p r x h')) →
      Ends (ev PP (gsF gv) B d' 790 81 [(2, rf (B + 149)), (0, (fw : Int)), (2, rf (hnx h)), (0, (due : Int)), (0, (i : Int)), u5] [] s) (fun r' => ∃ x h', r' = ((0, (2, x)), h') ∧ MRes B m u h dp p r x h') := by
    intro i q s u5 r2 hi a2 ls xs hns ts e12 e11 hpq hqm kns re K
    refine Ends.eq (b790_81 (n := n) (by (repeat' first | assumption | refine LX.setF _ _ ?_ (by decide +kernel) | refine LX.setS ?_ rfl | refine LX.setA ?_ (by first | assumption | omega))) (by first | assumption | omega)) ?_
    refine Ends.ct ls (by decide +kernel) (by decide) (hA q hpq hqm d' (dp + 1) s r2 a2 ls (M.ext ok l xs) ⟨ts, e12, e11, hqm, by omega⟩ (by unfold FD; omega)) (fun y s3 l3 _ _ _ R2 => ?_)
    refine Ends.eq (b790_85 (n := n) (by (repeat' first | assumption | refine LX.setF _ _ ?_ (by decide +kernel) | refine LX.setS ?_ rfl | refine LX.setA ?_ (by first | assumption | omega))) (by first | assumption | omega)) ?_
    rcases R2 with ⟨D, N, q', er2, e3, t3, e312, e311, A3, lt3, le3⟩ | ⟨e, er2, ey, e3, w3⟩
    case inr =>
      subst ey
      refine Ends.b0 (fun _ => ?_) (fun z => absurd rfl z)
      exact Ends.sm ⟨_, _, rfl, Or.inr ⟨e, re e er2, rfl, (xs.mt e3).ml (by omega) (by omega), w3⟩⟩
    have yp := A3.pos
    refine Ends.b0 (fun z => by omega) (fun _ => ?_)
    have kn3 : hk s3 (hnx h) = (1, 24) := by rw [e3.1 _ (by omega)]; exact kns
    have hn3 : hnx h + 1 ≤ hnx s3 := by have := e3.2.2.1; omega
    have x3 : Ext (MW B) (q' - p) (7 * (q' - p)) h s3 := (xs.mt e3).ml (by omega) (by omega)
    have keep : ∀ k, hv s3 (hnx h) k = hv s (hnx h) k := fun k => e3.at k (by omega) (by unfold MW; omega)
    have put : ∀ (k : Nat) (u5' : AV), k = 4 + i → Ends (ev PP (gsF gv) B d' 790 59 [(2, rf (B + 149)), (0, (fw : Int)), (2, rf (hnx h)), (0, (due : Int)), (0, ((i + 1 : Nat) : Int)), u5'] [] (hset s3 (hnx h) k y)) (fun r' => ∃ x h', r' = ((0, (2, x)), h') ∧ MRes B m u h dp p r x h') := by
      intro k u5' ek
      subst ek
      have at4 : ∀ z, hv (hset s3 (hnx h) (4 + i) y) (B + 149) z = hv s3 (B + 149) z := fun z => hv_na (by omega)
      refine K D N q' y _ u5' er2 (lx_na l3 hb) (x3.set (fun z => absurd z (by omega))) hn3 ?_ (by rw [at4]; exact e312) (by rw [at4]; exact e311) lt3 le3 kn3 (fun k hk => by rw [hv_set_ne (by omega)]; exact keep k) (hv_set_at ..) (ast_put (A3.lo hns) (by omega)) (fun x D0 N0 g A => ast_put (A.mw ls e3 (Nat.le_refl _)) (by omega))
      obtain ⟨z1, z2, z3, z4, z5, z6⟩ := t3
      exact ⟨by rw [at4]; exact z1, by rw [at4]; exact z2, by rw [at4]; exact z3, by rw [at4]; exact z4, by rw [at4]; exact z5, fun k2 => by rw [at4, at4]; exact z6 k2⟩
    have on : ∀ (k : Nat), k = 4 + i → Ends (ev PP (gsF gv) B d' 790 129 [(2, rf (B + 149)), (0, (fw : Int)), (2, rf (hnx h)), (0, (due : Int)), (0, (i : Int)), (2, y)] [] (hset s3 (hnx h) k y)) (fun r' => ∃ x h', r' = ((0, (2, x)), h') ∧ MRes B m u h dp p r x h') := by
      intro k ek
      have l4 : LX B n (hset s3 (hnx h) k y) := lx_na l3 hb
      refine Ends.eq (b790_129 (n := n) (by (repeat' first | assumption | refine LX.setF _ _ ?_ (by decide +kernel) | refine LX.setS ?_ rfl | refine LX.setA ?_ (by first | assumption | omega))) (by first | assumption | omega)) ?_
      rw [w_succ (by omega)]
      exact put k _ ek
    rw [ad_rf]
    have hi3 : i = 0 ∨ i = 1 ∨ i = 2 := by omega
    rcases hi3 with rfl | rfl | rfl
    · refine Ends.b1 (fun z => absurd rfl z) (fun _ => Ends.g ⟨rf_pos _, kn3, by omega, rfl⟩ ?_)
      have l4 : LX B n (hset s3 (hnx h) 4 y) := lx_na l3 hb
      refine Ends.eq (b790_105 (n := n) (by (repeat' first | assumption | refine LX.setF _ _ ?_ (by decide +kernel) | refine LX.setS ?_ rfl | refine LX.setA ?_ (by first | assumption | omega))) (by first | assumption | omega)) ?_
      exact on 4 rfl
    · refine Ends.b1 (fun _ => Ends.b1 (fun z => absurd rfl z) (fun _ => Ends.g ⟨rf_pos _, kn3, by omega, rfl⟩ ?_)) (fun z => absurd z (by decide))
      have l4 : LX B n (hset s3 (hnx h) 5 y) := lx_na l3 hb
      refine Ends.eq (b790_120 (n := n) (by (repeat' first | assumption | refine LX.setF _ _ ?_ (by decide +kernel) | refine LX.setS ?_ rfl | refine LX.setA ?_ (by first | assumption | omega))) (by first | assumption | omega)) ?_
      exact on 5 rfl
    · refine Ends.b1 (fun _ => Ends.b1 (fun _ => Ends.g ⟨rf_pos _, kn3, by omega, rfl⟩ ?_) (fun z => absurd z (by decide))) (fun z => absurd z (by decide))
      exact on 6 rfl
  -- a comma
  have comma : ∀ (i q : Nat) (s : AH) (u5 : AV), 1 ≤ i → i < due → LX B n s → Ext (MW B) (q - p) (7 * (q - p)) h s → MgT B s u m q → hv s (B + 149) 11 = -1 → p < q → q ≤ m → (¬ isSg u m q 44 = true → r = .inl (tkF u m q)) →
      (∀ s', LX B n s' → Agr (mgW B) s s' → MgT B s' u m (tkT u m q) → isSg u m q 44 = true → Ends (ev PP (gsF gv) B d' 790 81 [(2, rf (B + 149)), (0, (fw : Int)), (2, rf (hnx h)), (0, (due : Int)), (0, (i : Int)), u5] [] s') (fun r' => ∃ x h', r' = ((0, (2, x)), h') ∧ MRes B m u h dp p r x h')) →
      Ends (ev PP (gsF gv) B d' 790 59 [(2, rf (B + 149)), (0, (fw : Int)), (2, rf (hnx h)), (0, (due : Int)), (0, (i : Int)), u5] [] s) (fun r' => ∃ x h', r' = ((0, (2, x)), h') ∧ MRes B m u h dp p r x h') := by
    intro i q s u5 hi hid ls xs ts e11 hpq hqm rn K
    have Ms := M.ext ok l xs
    refine Ends.eq (b790_59 (n := n) (by (repeat' first | assumption | refine LX.setF _ _ ?_ (by decide +kernel) | refine LX.setS ?_ rfl | refine LX.setA ?_ (by first | assumption | omega))) (by first | assumption | omega)) ?_
    refine Ends.b3 (fun z => by omega) (fun _ => Ends.b5 (fun z => by omega) (fun _ => ?_))
    refine Ends.ct ls (by decide +kernel) (by decide) (c_needM ls (by omega) Ms.1 Ms.2.1 ts hqm 16 44 (by decide) (by decide) (by decide) e11) (fun v h7 l7 _ _ _ w7 => ?_)
    refine Ends.eq (b790_76 (n := n) (by (repeat' first | assumption | refine LX.setF _ _ ?_ (by decide +kernel) | refine LX.setS ?_ rfl | refine LX.setA ?_ (by first | assumption | omega))) (by first | assumption | omega)) ?_
    rcases w7 with ⟨k44, ev, g7, t7⟩ | ⟨k44, ev, eh⟩
    · subst ev
      refine Ends.b1 (fun _ => ?_) (fun z => absurd z (by decide))
      exact K h7 l7 g7 t7 k44
    · subst ev eh
      refine Ends.b1 (fun z => absurd rfl z) (fun _ => ?_)
      exact Ends.sm ⟨_, _, rfl, Or.inr ⟨_, rn k44, rfl, (xs.ms (by decide) (by decide)).ml (by omega) (by omega), hv_set_at ..⟩⟩
  -- the first one
  obtain ⟨r1, a1⟩ := RdR.tot0 (u := u) (m := m) (fd := fd) (bk := bk) (dp := dp + 1) (acc := accZ) c2
  have l2' := l2
  refine Ends.eq (b790_59 (n := n) (by (repeat' first | assumption | refine LX.setF _ _ ?_ (by decide +kernel) | refine LX.setS ?_ rfl | refine LX.setA ?_ (by first | assumption | omega))) (by first | assumption | omega)) ?_
  refine Ends.b3 (fun z => by omega) (fun _ => Ends.b5 (fun _ => ?_) (fun z => absurd z (by decide)))
  refine arg 0 _ q2 _ r1 (by decide) a1 l2 (x2'.ml (by omega) (by omega)) (by omega) t2' y12 y11 (by omega) c2 kn2 (fun e he => RdR.uni hr (R3_9 hs h40 k2 k1 hf0 w n24 (by rw [← he]; exact a1))) (fun D N p1 y s4 u5 er1 l4 x4 n4 t4 e412 e411 lt4 le4 kn4 keep4 put4 A4 _ => ?_)
  subst er1
  have hv4 : ∀ k, k ≠ 4 → hv s4 (hnx h) k = if k = 1 then (fw : Int) else if k = 0 then 5 else 0 := fun k hk => by rw [keep4 k hk]; exact hv2 k
  by_cases f5 : 4 < fw
  · have hd1 : due = 1 := by rw [← hdue]; unfold nnF; rw [if_neg (by omega), if_neg (by omega)]
    subst hd1
    refine fin s4 p1 (fun e => fAlone fw (D e)) N u5 l4 x4 t4 e412 e411 ?_ (by omega) le4 (fun k41 => RdR.uni hr (by have := R3_10 hs h40 k2 k1 hf0 w n24 a1 (by omega) k41; rw [hft] at this; exact this)) (fun k41 => RdR.uni hr (R3_11 hs h40 k2 k1 hf0 w n24 a1 (by omega) k41))
    obtain ⟨g0, eg0⟩ : ∃ g0, p1 - p = g0 + 1 := ⟨p1 - p - 1, by omega⟩
    rw [eg0]
    unfold AstI
    refine ⟨hnx h, rfl, Nat.le_refl _, by omega, kn4, Or.inr (Or.inr (Or.inr (Or.inr (Or.inl ⟨hv4 0 (by decide), fw, hf10, hv4 1 (by decide), Or.inl ⟨f5, hv4 5 (by decide), hv4 6 (by decide), D, ?_, rfl⟩⟩))))⟩
    rw [show hv s4 (hnx h) 4 = y from put4]
    exact (A4.lo (Nat.le_succ _)).up (by omega)
  have nf5 : ¬ 4 < fnW u m p := by omega
  have hd2 : 2 ≤ due := by rw [← hdue]; unfold nnF; split <;> (try split) <;> omega
  refine comma 1 p1 s4 u5 (by decide) (by omega) l4 x4 t4 e411 (by omega) le4 (fun k44 => RdR.uni hr (R3_19 hs h40 k2 k1 hf0 w n24 a1 nf5 k44)) (fun s5 l5 g5 t5 k44 => ?_)
  obtain ⟨c5, c6⟩ := sg_lt (u := u) le4 k44
  have x5 : Ext (MW B) (tkT u m p1 - p) (7 * (tkT u m p1 - p)) h s5 := (x4.mt (mg_mw g5)).ml (by omega) (by omega)
  obtain ⟨r2, a2⟩ := RdR.tot0 (u := u) (m := m) (fd := fd) (bk := bk) (dp := dp + 1) (acc := accZ) c6
  have kn5 : hk s5 (hnx h) = (1, 24) := by rw [g5.hk]; exact kn4
  have n5 : hnx h + 1 ≤ hnx s5 := by rw [g5.nx]; exact n4
  have e512 : hv s5 (B + 149) 12 = ((dp + 1 : Nat) : Int) := by rw [g5.at _ _ (by unfold mgW; omega)]; exact e412
  have e511 : hv s5 (B + 149) 11 = -1 := by rw [g5.at _ _ (by unfold mgW; omega)]; exact e411
  have hv5 : ∀ k, hv s5 (hnx h) k = hv s4 (hnx h) k := fun k => g5.at _ _ (by unfold mgW; omega)
  have A5 : AstI (hnx h + 1) (p1 - tkT u m (tkT u m p)) s5 y D N := A4.mw l4 (mg_mw g5) (Nat.le_refl _)
  refine arg 1 _ s5 _ r2 (by decide) a2 l5 x5 n5 t5 e512 e511 (by omega) c6 kn5 (fun e he => RdR.uni hr (R3_12 hs h40 k2 k1 hf0 w n24 a1 nf5 k44 (by rw [← he]; exact a2))) (fun D2 N2 p2 y2 s6 u56 er2 l6 x6 n6 t6 e612 e611 lt6 le6 kn6 keep6 put6 A6 tr6 => ?_)
  subst er2
  have A5_6 := tr6 _ _ _ _ A5
  have hv6 : ∀ k, k ≠ 4 → k ≠ 5 → hv s6 (hnx h) k = if k = 1 then (fw : Int) else if k = 0 then 5 else 0 := fun k hk hk2 => by rw [keep6 k hk2, hv5]; exact hv4 k hk
  have h64 : hv s6 (hnx h) 4 = y := by rw [keep6 4 (by decide), hv5]; exact put4
  by_cases f4 : fw < 4
  · have hd2' : due = 2 := by rw [← hdue]; unfold nnF; rw [if_pos f4]
    subst hd2'
    refine fin s6 p2 (fun e => fPair fw (D e) (D2 e)) (orN N N2) u56 l6 x6 t6 e612 e611 ?_ (by omega) le6 (fun k41 => RdR.uni hr (by have := R3_13 hs h40 k2 k1 hf0 w n24 a1 nf5 k44 a2 (by omega) k41; rw [hft] at this; exact this)) (fun k41 => RdR.uni hr (R3_14 hs h40 k2 k1 hf0 w n24 a1 nf5 k44 a2 (by omega) k41))
    obtain ⟨g0, eg0⟩ : ∃ g0, p2 - p = g0 + 1 := ⟨p2 - p - 1, by omega⟩
    rw [eg0]
    unfold AstI
    refine ⟨hnx h, rfl, Nat.le_refl _, by omega, kn6, Or.inr (Or.inr (Or.inr (Or.inr (Or.inl ⟨hv6 0 (by decide) (by decide), fw, hf10, hv6 1 (by decide) (by decide), Or.inr (Or.inl ⟨f4, hv6 6 (by decide) (by decide), D, N, D2, N2, ?_, ?_, rfl, rfl⟩)⟩))))⟩
    · rw [h64]; exact (A5_6.lo (Nat.le_succ _)).up (by omega)
    · rw [show hv s6 (hnx h) 5 = y2 from put6]; exact (A6.lo (Nat.le_succ _)).up (by omega)
  have f44 : fw = 4 := by omega
  have hd3 : due = 3 := by rw [← hdue]; unfold nnF; rw [if_neg f4, if_pos f44]
  have nf4 : ¬ fnW u m p < 4 := by omega
  refine comma 2 p2 s6 u56 (by decide) (by omega) l6 x6 t6 e611 (by omega) le6 (fun k44' => RdR.uni hr (R3_18 hs h40 k2 k1 hf0 w n24 a1 nf5 k44 a2 nf4 k44')) (fun s7 l7 g7 t7 k44' => ?_)
  obtain ⟨c7, c8⟩ := sg_lt (u := u) le6 k44'
  have x7 : Ext (MW B) (tkT u m p2 - p) (7 * (tkT u m p2 - p)) h s7 := (x6.mt (mg_mw g7)).ml (by omega) (by omega)
  obtain ⟨r3, a3⟩ := RdR.tot0 (u := u) (m := m) (fd := fd) (bk := bk) (dp := dp + 1) (acc := accZ) c8
  have kn7 : hk s7 (hnx h) = (1, 24) := by rw [g7.hk]; exact kn6
  have n7 : hnx h + 1 ≤ hnx s7 := by rw [g7.nx]; exact n6
  have e712 : hv s7 (B + 149) 12 = ((dp + 1 : Nat) : Int) := by rw [g7.at _ _ (by unfold mgW; omega)]; exact e612
  have e711 : hv s7 (B + 149) 11 = -1 := by rw [g7.at _ _ (by unfold mgW; omega)]; exact e611
  have hv7 : ∀ k, hv s7 (hnx h) k = hv s6 (hnx h) k := fun k => g7.at _ _ (by unfold mgW; omega)
  have A5_7 := A5_6.mw l6 (mg_mw g7) (Nat.le_refl _)
  have A6_7 := A6.mw l6 (mg_mw g7) (Nat.le_refl _)
  refine arg 2 _ s7 _ r3 (by decide) a3 l7 x7 n7 t7 e712 e711 (by omega) c8 kn7 (fun e he => RdR.uni hr (R3_15 hs h40 k2 k1 hf0 w n24 a1 nf5 k44 a2 nf4 k44' (by rw [← he]; exact a3))) (fun D3 N3 p3 y3 s8 u58 er3 l8 x8 n8 t8 e812 e811 lt8 le8 kn8 keep8 put8 A8 tr8 => ?_)
  subst er3
  have A5_8 := tr8 _ _ _ _ A5_7
  have A6_8 := tr8 _ _ _ _ A6_7
  have hv8 : ∀ k, k ≠ 4 → k ≠ 5 → k ≠ 6 → hv s8 (hnx h) k = if k = 1 then (fw : Int) else if k = 0 then 5 else 0 := fun k h1 h2 h3 => by rw [keep8 k h3, hv7]; exact hv6 k h1 h2
  have h84 : hv s8 (hnx h) 4 = y := by rw [keep8 4 (by decide), hv7]; exact h64
  have h85 : hv s8 (hnx h) 5 = y2 := by rw [keep8 5 (by decide), hv7]; exact put6
  subst hd3
  refine fin s8 p3 (fun e => fThree (D e) (D2 e) (D3 e)) (orN N (orN N2 N3)) u58 l8 x8 t8 e812 e811 ?_ (by omega) le8 (fun k41 => RdR.uni hr (R3_16 hs h40 k2 k1 hf0 w n24 a1 nf5 k44 a2 nf4 k44' a3 k41)) (fun k41 => RdR.uni hr (R3_17 hs h40 k2 k1 hf0 w n24 a1 nf5 k44 a2 nf4 k44' a3 k41))
  obtain ⟨g0, eg0⟩ : ∃ g0, p3 - p = g0 + 1 := ⟨p3 - p - 1, by omega⟩
  rw [eg0]
  unfold AstI
  refine ⟨hnx h, rfl, Nat.le_refl _, by omega, kn8, Or.inr (Or.inr (Or.inr (Or.inr (Or.inl ⟨hv8 0 (by decide) (by decide) (by decide), fw, hf10, hv8 1 (by decide) (by decide) (by decide), Or.inr (Or.inr ⟨f44, D, N, D2, N2, D3, N3, ?_, ?_, ?_, rfl, rfl⟩)⟩))))⟩
  · rw [h84]; exact (A5_8.lo (Nat.le_succ _)).up (by omega)
  · rw [h85]; exact (A6_8.lo (Nat.le_succ _)).up (by omega)
  · rw [show hv s8 (hnx h) 6 = y3 from put8]; exact (A8.lo (Nat.le_succ _)).up (by omega)
end MCALL
