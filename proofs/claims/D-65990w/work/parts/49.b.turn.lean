/-! L3: turnOne -/
section TURN
variable {gv : Nat → Int} {B n d a b : Nat} {h : AH} {S T : Nat → Bool}
theorem c_turnOne (l : LX B n h) (hd : 11 ≤ d) (hn : n ≤ 52) (m : TbC B h) (sa : SG n h a S) (hB : B ≤ a) (ha : a = B + 117 ∨ B + 246 ≤ a) {fr : Nat → Nat} {tu : Nat → Bool} {ad : Nat → Int} (tr : TrA B h fr tu ad) (hp : isPer fr) {t x y z : Nat} (ht : t < 24) (hx : x < n) (hy : y < n) (hz : z < n) :
    Vd (cll PP (ev PP (gsF gv) B) d 359 [(2, rf (B + 51)), (2, rf a), (0, (t : Int)), (0, (x : Int)), (0, (y : Int)), (0, (z : Int)), (2, rf (B + 106)), (2, rf (B + 108)), (2, rf (B + 107))] h) (fun h' => Fr (fun c => c = a ∨ c = B + 54 ∨ c = B + 55) h h' ∧ SG n h' a (fun g => S g || decide (taG n fr tu ad (gI n x y z t) = (g : Int)))) := by
  have hn0 : 0 < n := by omega
  have hg := gI_lt hx hy hz ht
  have k106 : hk h (B + 106) = (2, 3) := lk_106 l
  have k107 : hk h (B + 107) = (2, 3) := lk_107 l
  have k108 : hk h (B + 108) = (5, 3) := lk_108 l
  obtain ⟨m1, -⟩ := m.1 t ht
  have r0 : hv h (B + 37) (3 * t) = (rT t 0 : Nat) := m1 0 (by decide)
  have r1 : hv h (B + 37) (3 * t + 1) = (rT t 1 : Nat) := m1 1 (by decide)
  have r2 : hv h (B + 37) (3 * t + 2) = (rT t 2 : Nat) := m1 2 (by decide)
  have b0 : rT t 0 < 8 := (rT_lt ⟨t, ht⟩ 0).2
  have b1 : rT t 1 < 8 := (rT_lt ⟨t, ht⟩ 1).2
  have b2 : rT t 2 < 8 := (rT_lt ⟨t, ht⟩ 2).2
  have g0 : g8 n (gI n x y z t) 0 = 8 * x + rT t 0 := by show 8 * gX n _ + rT (gSo _) 0 = _; rw [gX_I hx ht, gSo_I ht]
  have g1 : g8 n (gI n x y z t) 1 = 8 * y + rT t 1 := by show 8 * gY n _ + rT (gSo _) 1 = _; rw [gY_I hx hy ht, gSo_I ht]
  have g2 : g8 n (gI n x y z t) 2 = 8 * z + rT t 2 := by show 8 * gZ n _ + rT (gSo _) 2 = _; rw [gZ_I hx hy ht, gSo_I ht]
  refine Vd.into (D := 10) hd (Nat.le_of_ble_eq_true rfl) rfl (fun d hd => ?_)
  refine Ends.eq (b359_0 l (by omega)) ?_
  rw [show bop32 104 3 (t : Int) = ((3 * t : Nat) : Int) from mulNN (x := 3) (by omega), show bop32 96 ((3 * t : Nat) : Int) 1 = ((3 * t + 1 : Nat) : Int) from addNN (y := 1) (by omega), show bop32 96 ((3 * t : Nat) : Int) 2 = ((3 * t + 2 : Nat) : Int) from addNN (y := 2) (by omega), tn, tn, tn, r0, r1, r2, show bop32 104 8 (x : Int) = ((8 * x : Nat) : Int) from mulNN (x := 8) (by omega), show bop32 104 8 (y : Int) = ((8 * y : Nat) : Int) from mulNN (x := 8) (by omega), show bop32 104 8 (z : Int) = ((8 * z : Nat) : Int) from mulNN (x := 8) (by omega), addNN (by omega), addNN (by omega), addNN (by omega), ← g0, ← g1, ← g2]
  (repeat' first
    | (exfalso; omega)
    | refine Ends.g (by first | ((repeat' (refine And.intro ?_ ?_)) <;> first | exact rf_pos _ | exact trivial | rfl | assumption | omega | decide)) ?_
    | refine Ends.b0 (fun _ => ?_) (fun _ => ?_)
    | refine Ends.b1 (fun _ => ?_) (fun _ => ?_)
    | refine Ends.b2 (fun _ => ?_) (fun _ => ?_)
    | refine Ends.b3 (fun _ => ?_) (fun _ => ?_)
    | refine Ends.b4 (fun _ => ?_) (fun _ => ?_)
    | refine Ends.b5 (fun _ => ?_) (fun _ => ?_))
  refine lp (3) (fun i L q => ∃ u10 : AV, L = [(2, rf (B + 51)), (2, (rf a)), (0, ((t : Int))), (0, ((x : Int))), (0, ((y : Int))), (0, ((z : Int))), (2, (rf (B + 106))), (2, (rf (B + 108))), (2, (rf (B + 107))), (0, ((i : Int))), u10] ∧ LX B n q ∧ i ≤ 3 ∧ Fr (fun c => c = B + 54 ∨ c = B + 55) h q ∧ (∀ k, k < 3 → hv q (B + 54) k = ((g8 n (gI n x y z t) k : Nat) : Int)) ∧ ∀ k, k < i → hv q (B + 55) k = ta8 n fr tu ad (gI n x y z t) k ∧ 0 ≤ ta8 n fr tu ad (gI n x y z t) k ∧ ta8 n fr tu ad (gI n x y z t) k < 8 * n) ?_ ?_ (0) ⟨_, rfl, (by (repeat' first | assumption | refine LX.setF _ _ ?_ (by decide +kernel) | refine LX.setS ?_ rfl | refine LX.setA ?_ (by assumption))), by omega, ?_⟩
  · rintro i _ q hi ⟨uq0, rfl, lq, hiN, ⟨fq, oq, nq⟩⟩ ihi
    obtain ⟨t1, t2, t3, t4, t5⟩ := tr i hi
    have tb8 := ta8_b (fr := fr) (tu := tu) hn hg t5
    have hgb := g8_lt hg (fr i)
    have u1 : hv q (B + 106) i = (fr i : Nat) := by rw [fq.1 _ (by omega)]; exact t1
    have u2 : hv q (B + 108) i = (if tu i then 1 else 0) := by rw [fq.1 _ (by omega)]; exact t3
    have u3 : hv q (B + 107) i = 8 * ad i := by rw [fq.1 _ (by omega)]; exact t4
    have q6 : hk q (B + 106) = (2, 3) := by rw [fq.2.1]; exact k106
    have q7 : hk q (B + 107) = (2, 3) := by rw [fq.2.1]; exact k107
    have q8 : hk q (B + 108) = (5, 3) := by rw [fq.2.1]; exact k108
    have ev : bop32 96 (cond (tst 0 (if tu i then 1 else 0) 0) ((g8 n (gI n x y z t) (fr i) : Nat) : Int) (uop 0 ((g8 n (gI n x y z t) (fr i) : Nat) : Int))) (8 * ad i) = ta8 n fr tu ad (gI n x y z t) i := by
      unfold ta8 at tb8 ⊢
      cases hq : tu i <;> simp only [hq, if_true, if_false, Bool.false_eq_true] at tb8 ⊢
      · show bop32 96 ((g8 n (gI n x y z t) (fr i) : Nat) : Int) _ = _
        exact add32 (by omega) (by omega)
      · show bop32 96 (uop 0 ((g8 n (gI n x y z t) (fr i) : Nat) : Int)) _ = _
        rw [neg32 (by omega) (by omega)]
        exact add32 (by omega) (by omega)
    refine Ends.eq (b359_75 (n := n) (by (repeat' first | assumption | refine LX.setF _ _ ?_ (by decide +kernel) | refine LX.setS ?_ rfl | refine LX.setA ?_ (by first | assumption | omega))) (by first | assumption | omega)) ?_
    simp only [ad_rf, q6, q7, q8, tn, u1, u2, u3, oq _ t2, an0, ev, hv_set_at, show bop32 104 8 (n : Int) = 8 * (n : Int) from mul32 (by omega) (by omega)]
    refine Ends.b3 (fun _ => by omega) (fun _ => ?_)
    have frn : ∀ v, Fr (fun c => c = B + 54 ∨ c = B + 55) h (hset q (B + 55) i v) := fun v => fq.tr (Fr.set (Or.inr rfl))
    refine Ends.g ⟨rf_pos _, by trivial, by omega, by omega⟩ (Ends.g ⟨by omega, by omega⟩ (Ends.g ⟨rf_pos _, by trivial, by omega, by omega⟩ (Ends.g ⟨rf_pos _, by trivial, by omega, by omega⟩ (Ends.g ⟨by omega, by omega⟩ ?_))))
    have out : ta8 n fr tu ad (gI n x y z t) i < 0 ∨ 8 * (n : Int) ≤ ta8 n fr tu ad (gI n x y z t) i → SG n (hset q (B + 55) i (ta8 n fr tu ad (gI n x y z t) i)) a (fun g => S g || decide (taG n fr tu ad (gI n x y z t) = (g : Int))) := fun ho => by
      refine (sa.fr (frn _) (by omega)).congr hn0 (fun g _ => ?_)
      have : taG n fr tu ad (gI n x y z t) = -1 := by
        unfold taG gAt
        obtain rfl | rfl | rfl : i = 0 ∨ i = 1 ∨ i = 2 := by omega
        · rw [if_pos (by omega)]
        · rw [if_pos (by omega)]
        · rw [if_pos (by omega)]
      rw [this, decide_eq_false (by omega), Bool.or_false]
    refine Ends.b2 (fun z1 => ?_) (fun z1 => Ends.b2 (fun z2 => ?_) (fun z2 => ?_))
    · refine Ends.eq (b359_149 (n := n) (by (repeat' first | assumption | refine LX.setF _ _ ?_ (by decide +kernel) | refine LX.setS ?_ rfl | refine LX.setA ?_ (by first | assumption | omega))) (by first | assumption | omega)) ?_
      exact Ends.sm ⟨_, rfl, (frn _).sub (fun c hc => Or.inr hc), out (Or.inl z1)⟩
    · rw [w_succ (by omega)]
      refine ihi _ _ ⟨_, rfl, (by (repeat' first | assumption | refine LX.setF _ _ ?_ (by decide +kernel) | refine LX.setS ?_ rfl | refine LX.setA ?_ (by assumption))), by omega, ?_⟩
      refine ⟨frn _, fun k hk => by rw [hv_set_ne (by omega)]; exact oq k hk, fun k hk => ?_⟩
      by_cases e : k = i
      · subst e; rw [hv_set_at]; exact ⟨rfl, z1, z2⟩
      · rw [hv_set_ne (fun q => e q.2)]; exact nq k (by omega)
    · refine Ends.eq (b359_149 (n := n) (by (repeat' first | assumption | refine LX.setF _ _ ?_ (by decide +kernel) | refine LX.setS ?_ rfl | refine LX.setA ?_ (by first | assumption | omega))) (by first | assumption | omega)) ?_
      exact Ends.sm ⟨_, rfl, (frn _).sub (fun c hc => Or.inr hc), out (Or.inr z2)⟩
  · rintro i _ q hi ⟨uq0, rfl, lq, hiN, ⟨fq, oq, nq⟩⟩
    obtain rfl : i = 3 := by omega
    obtain ⟨c0, p0, l0⟩ := nq 0 (by decide)
    obtain ⟨c1, p1, l1⟩ := nq 1 (by decide)
    obtain ⟨c2, p2, l2⟩ := nq 2 (by decide)
    have hty := ta_ty hg hp p0 p1 p2
    have eG : taG n fr tu ad (gI n x y z t) = gAt n (ta8 n fr tu ad (gI n x y z t) 0) (ta8 n fr tu ad (gI n x y z t) 1) (ta8 n fr tu ad (gI n x y z t) 2) := rfl
    generalize ta8 n fr tu ad (gI n x y z t) 0 = X at *
    generalize ta8 n fr tu ad (gI n x y z t) 1 = Y at *
    generalize ta8 n fr tu ad (gI n x y z t) 2 = Z at *
    obtain ⟨X, rfl⟩ : ∃ X' : Nat, X = (X' : Int) := ⟨X.toNat, by omega⟩
    obtain ⟨Y, rfl⟩ : ∃ Y' : Nat, Y = (Y' : Int) := ⟨Y.toNat, by omega⟩
    obtain ⟨Z, rfl⟩ : ∃ Z' : Nat, Z = (Z' : Int) := ⟨Z.toNat, by omega⟩
    rw [tn, tn, tn] at hty
    have mq : TbC B q := m.fr fq (fun c h1 h2 => by omega)
    have ty := mq.2 (X % 8) (Y % 8) (Z % 8) (by omega) (by omega) (by omega)
    rw [if_pos hty] at ty
    refine Ends.eq (b359_75 (n := n) (by (repeat' first | assumption | refine LX.setF _ _ ?_ (by decide +kernel) | refine LX.setS ?_ rfl | refine LX.setA ?_ (by first | assumption | omega))) (by first | assumption | omega)) ?_
    simp only [show Int.toNat (0 : Int) = 0 from rfl, show Int.toNat (1 : Int) = 1 from rfl, show Int.toNat (2 : Int) = 2 from rfl, c0, c1, c2, and7, shr3 (show X < 2147483648 by omega), shr3 (show Y < 2147483648 by omega), shr3 (show Z < 2147483648 by omega)]
    rw [show bop32 104 64 ((X % 8 : Nat) : Int) = ((64 * (X % 8) : Nat) : Int) from mulNN (x := 64) (by omega), show bop32 104 8 ((Y % 8 : Nat) : Int) = ((8 * (Y % 8) : Nat) : Int) from mulNN (x := 8) (by omega), addNN (by omega), addNN (by omega), tn, ty]
    refine Ends.b3 (fun _ => ?_) (fun _ => by omega)
    refine Ends.g ⟨by omega, by omega⟩ ?_
    have sq : SG n q a S := sa.fr fq (by omega)
    refine Ends.cv lq (by decide +kernel) (c_putG lq (by omega) hn0 hn sq hB hty (show X / 8 < n by omega) (show Y / 8 < n by omega) (show Z / 8 < n by omega)) (fun h1 l1 _ _ _ ⟨f1, s1⟩ => ?_)
    refine Ends.eq (b359_228 (n := n) (by (repeat' first | assumption | refine LX.setF _ _ ?_ (by decide +kernel) | refine LX.setS ?_ rfl | refine LX.setA ?_ (by first | assumption | omega))) (by first | assumption | omega)) ?_
    refine Ends.sm ⟨_, rfl, (fq.sub (fun c hc => Or.inr hc)).tr (f1.sub (fun c hc => Or.inl hc)), s1.congr hn0 (fun g _ => ?_)⟩
    rw [eG]
    unfold gAt
    rw [if_neg (by omega), tn, tn, tn]
    congr 1
    refine decide_eq_decide.mpr ⟨fun e => by rw [e], fun e => by omega⟩
  · refine ⟨((Fr.set (Or.inl rfl)).tr (Fr.set (Or.inl rfl))).tr (Fr.set (Or.inl rfl)), fun k hk => ?_, fun k hk => by omega⟩
    obtain rfl | rfl | rfl : k = 0 ∨ k = 1 ∨ k = 2 := by omega
    · rw [hv_set_ne (by omega), hv_set_ne (by omega)]; exact hv_set_at ..
    · rw [hv_set_ne (by omega)]; exact hv_set_at ..
    · exact hv_set_at ..
end TURN
