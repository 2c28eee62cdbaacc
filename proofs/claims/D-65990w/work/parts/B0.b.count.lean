/-! L3: counts under a pairing; a solid's grains counted by rows -/
section CREL
variable {D T : Nat → Bool} {r : Nat → Nat → Prop}
theorem cntN_none {S : Nat → Bool} : ∀ N, (∀ i, i < N → S i = false) → cntN S N = 0
  | 0, _ => rfl
  | N + 1, h => by rw [cntN_s, cntN_none N (fun i hi => h i (by omega)), h N (by omega)]; rfl
/-- each of D has its own of T, and the other way round -/
theorem cnt_rel : ∀ (M : Nat) (D T : Nat → Bool) (N : Nat), (∀ i, i < M → D i = true → ∃ j, j < N ∧ T j = true ∧ r i j) → (∀ j, j < N → T j = true → ∃ i, i < M ∧ D i = true ∧ r i j) → (∀ i j j', r i j → r i j' → j = j') → (∀ i i' j, r i j → r i' j → i = i') → cntN D M = cntN T N
  | 0, D, T, N, _, h2, _, _ => by
    rw [cntN_none (S := T) N (fun j hj => by
      cases e : T j
      · rfl
      · obtain ⟨i, hi, _⟩ := h2 j hj e
        omega)]
    rfl
  | M + 1, D, T, N, h1, h2, h3, h4 => by
    rw [cntN_s]
    cases e : D M
    · rw [cnt_rel M D T N (fun i hi => h1 i (by omega)) (fun j hj ht => by
        obtain ⟨i, hi, hd, hr⟩ := h2 j hj ht
        refine ⟨i, ?_, hd, hr⟩
        by_cases z : i = M
        · rw [z, e] at hd; exact absurd hd (by decide)
        · omega) h3 h4]
      rfl
    · obtain ⟨j0, hj0, ht0, hr0⟩ := h1 M (by omega) e
      rw [← cntN_rem ht0 hj0, cnt_rel M D (fun i => T i && !decide (i = j0)) N (fun i hi hd => by
        obtain ⟨j, hj, ht, hr⟩ := h1 i (by omega) hd
        refine ⟨j, hj, ?_, hr⟩
        have : j ≠ j0 := fun z => by rw [z] at hr; have := h4 _ _ _ hr hr0; omega
        simp [ht, this]) (fun j hj ht => by
        rw [Bool.and_eq_true] at ht
        obtain ⟨i, hi, hd, hr⟩ := h2 j hj ht.1
        refine ⟨i, ?_, hd, hr⟩
        by_cases z : i = M
        · rw [z] at hr
          have := h3 _ _ _ hr hr0
          rw [this] at ht
          simp at ht
        · omega) h3 h4]
      rfl
end CREL
theorem cntN_app (f : Nat → Bool) (a : Nat) : ∀ b, cntN f (a + b) = cntN f a + cntN (fun x => f (a + x)) b
  | 0 => rfl
  | b + 1 => by rw [← Nat.add_assoc, cntN_s, cntN_s, cntN_app f a b]; omega
theorem cntR_flat {n : Nat} (hn0 : 0 < n) (R : Nat → Nat → Bool) : ∀ K, cntR n R K = cntN (fun i => R (i / n) (i % n)) (K * n)
  | 0 => by rw [Nat.zero_mul]; rfl
  | K + 1 => by
    rw [Nat.succ_mul, cntN_app, ← cntR_flat hn0 R K]
    show _ + cntN (R K) n = _
    rw [cntN_congr n (fun i hi => by
      show R K i = R ((K * n + i) / n) ((K * n + i) % n)
      rw [(dm hi).1, (dm hi).2])]
/-- the grains of a solid, counted by rows -/
theorem cntG {n : Nat} (hn0 : 0 < n) (S : Nat → Bool) : cntR n (onK n (fun t z y x => S (gI n x y z t))) (24 * n * n) = cntN S (gN n) := by
  rw [cntR_flat hn0]
  refine cnt_rel (r := fun i g => ∃ t z y x, t < 24 ∧ z < n ∧ y < n ∧ x < n ∧ i = rw3 n t z y * n + x ∧ g = gI n x y z t) _ _ _ _ (fun i hi hd => ?_) (fun g hg hs => ?_) ?_ ?_
  · have hk : i / n < 24 * n * n := (Nat.div_lt_iff_lt_mul hn0).mpr hi
    obtain ⟨k1, k2, k3, k4⟩ := rw3_dec hn0 hk
    have hx := Nat.mod_lt i hn0
    refine ⟨gI n (i % n) (i / n % n) (i / n / n % n) (i / n / (n * n)), gI_lt hx k3 k2 k1, hd, _, _, _, _, k1, k2, k3, hx, ?_, rfl⟩
    rw [k4, Nat.mul_comm]
    exact (Nat.div_add_mod i n).symm
  · obtain ⟨_, g1, g2, g3, g4⟩ := g_lt hg
    refine ⟨rw3 n (gSo g) (gZ n g) (gY n g) * n + gX n g, ?_, ?_, _, _, _, _, g4, g3, g2, g1, rfl, gI_g.symm⟩
    · have h1 := rw3_lt (n := n) g4 g3 g2
      have h2 : (rw3 n (gSo g) (gZ n g) (gY n g) + 1) * n ≤ 24 * n * n * n := Nat.mul_le_mul_right n h1
      rw [Nat.succ_mul] at h2
      omega
    · show onK n _ ((rw3 n (gSo g) (gZ n g) (gY n g) * n + gX n g) / n) ((rw3 n (gSo g) (gZ n g) (gY n g) * n + gX n g) % n) = true
      rw [(dm g1).1, (dm g1).2, onK_at g3 g2, gI_g]
      exact hs
  · rintro i g g' ⟨t, z, y, x, a1, a2, a3, a4, a5, a6⟩ ⟨t', z', y', x', b1, b2, b3, b4, b5, b6⟩
    rw [a5] at b5
    have e1 := congrArg (· / n) b5
    have e2 := congrArg (· % n) b5
    simp only [(dm a4).1, (dm b4).1, (dm a4).2, (dm b4).2] at e1 e2
    obtain ⟨q1, q2, q3⟩ := (rw3_inj a2 a3 b2 b3).mp e1
    rw [a6, b6, q1, q2, q3, e2]
  · rintro i i' g ⟨t, z, y, x, a1, a2, a3, a4, a5, a6⟩ ⟨t', z', y', x', b1, b2, b3, b4, b5, b6⟩
    rw [a6] at b6
    obtain ⟨q1, q2, q3, q4⟩ := (gI_inj a4 a3 a1 b4 b3 b1).mp b6
    rw [a5, b5, q1, q2, q3, q4]
theorem SG.ext {n a c s : Nat} {h t : AH} {S : Nat → Bool} {W : Nat → Nat → Prop} (g : SG n h a S) (e : Ext W c s h t) (ha : a < hnx h) (hW : ∀ k, ¬ W a k) : SG n t a S :=
  ⟨(e.hk ha).trans g.1, fun k hk => by rw [e.at k ha (hW k)]; exact g.2 k hk⟩
theorem SG.agr {n a : Nat} {h t : AH} {S : Nat → Bool} {W : Nat → Nat → Prop} (g : SG n h a S) (e : Agr W h t) (hW : ∀ k, ¬ W a k) : SG n t a S :=
  ⟨(e.hk a).trans g.1, fun k hk => by rw [e.at a k (hW k)]; exact g.2 k hk⟩
theorem MB.ext {B n s c z : Nat} {h t : AH} {S : Nat → Bool} {W : Nat → Nat → Prop} (m : MB B n h s S) (e : Ext W c z h t) (hb : B + 246 ≤ hnx h) (hW : ∀ k, k < wN n → ¬ W (B + 236) (wN n * s + k)) : MB B n t s S := fun k hk => by
  rw [e.at _ (by omega) (hW k hk)]; exact m k hk
theorem TbC.ext {B c s : Nat} {h t : AH} {W : Nat → Nat → Prop} (m : TbC B h) (hb : B + 246 ≤ hnx h) (X : Ext W c s h t) (hW : ∀ c k, B + 37 ≤ c → c ≤ B + 46 → ¬ W c k) : TbC B t := by
  have e : ∀ j k, 37 ≤ j → j ≤ 46 → hv t (B + j) k = hv h (B + j) k := fun j k h1 h2 => X.at _ (by omega) (hW _ _ (by omega) (by omega))
  refine ⟨fun t0 ht => ?_, fun x y z hx hy hz => ?_⟩
  · obtain ⟨q1, q2, q3, q4, q5, q6, q7, q8⟩ := m.1 t0 ht
    refine ⟨fun a ha => ?_, ?_, ?_, ?_, ?_, ?_, fun f hf => ?_, fun a ha => ?_⟩
    · rw [e 37 _ (by decide) (by decide)]; exact q1 a ha
    · rw [e 38 _ (by decide) (by decide)]; exact q2
    · rw [e 39 _ (by decide) (by decide)]; exact q3
    · rw [e 40 _ (by decide) (by decide)]; exact q4
    · rw [e 41 _ (by decide) (by decide)]; exact q5
    · rw [e 42 _ (by decide) (by decide)]; exact q6
    · rw [e 44 _ (by decide) (by decide), e 45 _ (by decide) (by decide)]; exact q7 f hf
    · rw [e 46 _ (by decide) (by decide)]; exact q8 a ha
  · rw [e 43 _ (by decide) (by decide)]; exact m.2 x y z hx hy hz
section TURN317
variable {gv : Nat → Int} {B n d a b : Nat} {h : AH} {S T : Nat → Bool}
def waF (w k : Nat) : Nat := perL.getD (3 * (w / 8) + k) 0
def waT (w k : Nat) : Bool := decide (w / 2 ^ k % 2 = 1)
def waA (n w k : Nat) : Int := if waT w k = true then (n : Int) else 0
theorem wa_per : ∀ w : Fin 48, isPer (waF w) := by
  intro w
  unfold isPer
  revert w
  decide +kernel
theorem wa_8 {w g k : Nat} : ta8 n (waF w) (waT w) (waA n w) g k = tu8 n w g k := by
  unfold ta8 tu8 waA waT waF
  by_cases e : w / 2 ^ k % 2 = 1
  · rw [if_pos e, decide_eq_true e, if_pos rfl, if_pos rfl]; omega
  · rw [if_neg e, decide_eq_false e, if_neg (by decide), if_neg (by decide)]; omega
theorem wa_0 : ∀ p : Fin 6, (cond (tst 0 ((p : Nat) : Int) 0) (0 : Int) (cond (tst 1 ((p : Nat) : Int) 3) (cond (tst 0 ((p : Nat) : Int) 1) 1 (cond (tst 1 ((p : Nat) : Int) 5) 2 1)) 0)) = ((perL.getD (3 * p) 0 : Nat) : Int) ∧ (cond (tst 0 ((p : Nat) : Int) 0) (1 : Int) (cond (tst 1 ((p : Nat) : Int) 4) (cond (tst 0 ((p : Nat) : Int) 1) 2 (cond (tst 1 ((p : Nat) : Int) 3) 0 2)) 1)) = ((perL.getD (3 * p + 1) 0 : Nat) : Int) ∧ bop32 100 (bop32 100 3 ((perL.getD (3 * p) 0 : Nat) : Int)) ((perL.getD (3 * p + 1) 0 : Nat) : Int) = ((perL.getD (3 * p + 2) 0 : Nat) : Int) := by decide +kernel
def wayW (B : Nat) : Nat → Nat → Prop := fun c _ => c = B + 106 ∨ c = B + 107 ∨ c = B + 108
theorem c_way319 (l : LX B n h) (hd : 10 ≤ d) (hn : n ≤ 52) {w : Nat} (hw : w < 48) : Vd (cll PP (ev PP (gsF gv) B) d 319 [(2, rf (B + 92)), (0, (w : Int))] h) (fun h' => Agr (wayW B) h h' ∧ TrA B h' (waF w) (waT w) (waA n w)) := by
  refine Vd.into (D := 9) hd (Nat.le_of_ble_eq_true rfl) rfl (fun d hd => ?_)
  obtain ⟨p0, p1, p2⟩ := wa_0 ⟨w / 8, by omega⟩
  have hf : ∀ k, k < 3 → waF w k < 3 := fun k hk => per_lt ⟨3 * (w / 8) + k, by omega⟩
  refine Ends.eq (b319_0 (n := n) (by (repeat' first | assumption | refine LX.setF _ _ ?_ (by decide +kernel) | refine LX.setS ?_ rfl | refine LX.setA ?_ (by first | assumption | omega))) (by first | assumption | omega)) ?_
  have e8 : bop32 108 (w : Int) 8 = ((w / 8 : Nat) : Int) := divNN (x := w) (y := 8) (by omega) (by decide)
  rw [e8]
  refine Ends.g ⟨by decide, by decide⟩ (Ends.g ⟨by decide, by decide⟩ (Ends.g ⟨by decide, by decide⟩ ?_))
  simp only [an0]
  rw [p0, p1]
  generalize eq : hset (hset h (B + 106) (Int.toNat 0) ((perL.getD (3 * (w / 8)) 0 : Nat) : Int)) (B + 106) (Int.toNat 1) ((perL.getD (3 * (w / 8) + 1) 0 : Nat) : Int) = q
  have q0 : hv q (B + 106) (Int.toNat 0) = ((perL.getD (3 * (w / 8)) 0 : Nat) : Int) := by rw [← eq, hv_set_ne (fun z => absurd z.2 (by decide)), hv_set_at]
  have q1 : hv q (B + 106) (Int.toNat 1) = ((perL.getD (3 * (w / 8) + 1) 0 : Nat) : Int) := by rw [← eq, hv_set_at]
  rw [q0, q1, p2]
  have lq : LX B n q := by rw [← eq]; exact LX.setS (LX.setS l rfl) rfl
  have gq : Agr (wayW B) h q := by rw [← eq]; exact (Agr.rf.set (Or.inl rfl)).set (Or.inl rfl)
  clear eq
  have st : ∀ (r i : Nat) (s : AH), i + r = 3 → LX B n s → Agr (wayW B) h s → (∀ k, k < 3 → hv s (B + 106) k = (waF w k : Nat)) → (∀ k, k < i → hv s (B + 108) k = (if waT w k = true then 1 else 0) ∧ hv s (B + 107) k = 8 * waA n w k) → Ends (ev PP (gsF gv) B d 319 96 [(2, rf (B + 92)), (0, (w : Int)), (0, ((w / 8 : Nat) : Int)), (0, (i : Int))] [] s) (fun r => ∃ h', r = ((0, (9, 0)), h') ∧ Agr (wayW B) h h' ∧ TrA B h' (waF w) (waT w) (waA n w)) := by
    intro r
    induction r with
    | zero =>
      intro i s hi ls g f6 f7
      obtain rfl : i = 3 := by omega
      refine Ends.eq (b319_96 (n := n) (by (repeat' first | assumption | refine LX.setF _ _ ?_ (by decide +kernel) | refine LX.setS ?_ rfl | refine LX.setA ?_ (by first | assumption | omega))) (by first | assumption | omega)) ?_
      refine Ends.b3 (fun _ => Ends.sm ⟨_, rfl, g, fun k hk => ⟨f6 k hk, hf k hk, (f7 k hk).1, (f7 k hk).2, ?_, ?_⟩⟩) (fun z => absurd z (by decide))
      · unfold waA; split <;> omega
      · unfold waA; split <;> omega
    | succ r ih =>
      intro i s hi ls g f6 f7
      refine Ends.eq (b319_96 (n := n) (by (repeat' first | assumption | refine LX.setF _ _ ?_ (by decide +kernel) | refine LX.setS ?_ rfl | refine LX.setA ?_ (by first | assumption | omega))) (by first | assumption | omega)) ?_
      refine Ends.b3 (fun z => by omega) (fun _ => Ends.g ⟨by omega, by omega⟩ ?_)
      rw [bit32 (by omega) (by omega), tn, w_succ (by omega)]
      have e1 : cond (tst 1 ((w / 2 ^ i % 2 : Nat) : Int) 1) (0 : Int) 1 = if waT w i = true then 1 else 0 := by
        unfold waT
        rw [tst1]
        by_cases e : w / 2 ^ i % 2 = 1
        · rw [e, decide_eq_true (show ((1 : Nat) : Int) = 1 from rfl)]; rfl
        · rw [decide_eq_false e, decide_eq_false (show ¬ ((w / 2 ^ i % 2 : Nat) : Int) = 1 by omega)]; rfl
      have e2 : anar 3 (if waT w i = true then (1 : Int) else 0) = if waT w i = true then 1 else 0 := by cases waT w i <;> rfl
      have e3 : anar 0 (cond (tst 0 (if waT w i = true then (1 : Int) else 0) 0) 0 (bop32 104 8 (n : Int))) = 8 * waA n w i := by
        rw [an0, show bop32 104 8 (n : Int) = 8 * (n : Int) from mul32 (by omega) (by omega)]
        unfold waA
        cases waT w i <;> rfl
      rw [e1, e2, hv_set_at, e3]
      refine ih (i + 1) _ (by omega) (LX.setS (LX.setS ls rfl) rfl) ((g.set (Or.inr (Or.inr rfl))).set (Or.inr (Or.inl rfl))) (fun k hk => by rw [hv_na (by omega), hv_na (by omega)]; exact f6 k hk) (fun k hk => ?_)
      by_cases z : k = i
      · rw [z, hv_na (by omega), hv_set_at, hv_set_at]
        exact ⟨rfl, rfl⟩
      · rw [hv_na (by omega), hv_set_ne (by omega), hv_set_ne (by omega), hv_na (by omega)]
        exact f7 k (by omega)
  refine st 3 0 _ rfl (LX.setS lq rfl) (gq.set (Or.inl rfl)) (fun k hk => ?_) (fun k hk => by omega)
  have : k = 0 ∨ k = 1 ∨ k = 2 := by omega
  rcases this with rfl | rfl | rfl
  · rw [hv_set_ne (fun z => absurd z.2 (by decide))]; exact q0
  · rw [hv_set_ne (fun z => absurd z.2 (by decide))]; exact q1
  · exact hv_set_at ..
theorem Agr.fr {A : Nat → Prop} {h t : AH} (g : Agr (fun c _ => A c) h t) : Fr A h t := ⟨fun c hc k => g.at c k hc, g.hk, g.nx, g.us⟩
def tuW (B a : Nat) : Nat → Nat → Prop := fun c _ => c = a ∨ c = B + 54 ∨ c = B + 55 ∨ c = B + 106 ∨ c = B + 107 ∨ c = B + 108
theorem tuG_wa {w g : Nat} : taG n (waF w) (waT w) (waA n w) g = tuG n w g 0 0 0 := by
  unfold taG tuG
  rw [wa_8, wa_8, wa_8, Int.mul_zero, Int.add_zero, Int.add_zero, Int.add_zero]
theorem c_turn317 (l : LX B n h) (hd : 15 ≤ d) (hn0 : 0 < n) (hn : n ≤ 52) (m : TbC B h) (sa : SG n h a S) (sb : SG n h b T) (hab : a ≠ b) (hB : B ≤ a) (ha : a = B + 117 ∨ B + 246 ≤ a) (hb : b = B + 117 ∨ B + 246 ≤ b) {w : Nat} (hw : w < 48) :
    Vd (cll PP (ev PP (gsF gv) B) d 317 [(2, rf (B + 92)), (2, rf a), (2, rf b), (0, (w : Int))] h) (fun h' => Agr (tuW B a) h h' ∧ ∃ R, SG n h' a R ∧ ∀ g, g < gN n → (R g = true ↔ S g = true ∨ ∃ g0, g0 < gN n ∧ T g0 = true ∧ tuG n w g0 0 0 0 = (g : Int))) := by
  refine Vd.into (D := 14) hd (Nat.le_of_ble_eq_true rfl) rfl (fun d hd => ?_)
  refine Ends.eq (b317_0 (n := n) (by (repeat' first | assumption | refine LX.setF _ _ ?_ (by decide +kernel) | refine LX.setS ?_ rfl | refine LX.setA ?_ (by first | assumption | omega))) (by first | assumption | omega)) ?_
  refine Ends.cv l (by decide +kernel) (c_way319 l (by omega) hn hw) (fun h1 l1 _ _ _ ⟨g1, t1⟩ => ?_)
  refine Ends.eq (b317_5 (n := n) (by (repeat' first | assumption | refine LX.setF _ _ ?_ (by decide +kernel) | refine LX.setS ?_ rfl | refine LX.setA ?_ (by first | assumption | omega))) (by first | assumption | omega)) ?_
  have m1 : TbC B h1 := m.fr (A := fun c => c = B + 106 ∨ c = B + 107 ∨ c = B + 108) g1.fr (fun c _ _ => by omega)
  refine Ends.cv l1 (by decide +kernel) (c_uniteTurned l1 (by omega) hn0 hn m1 (sa.agr g1 (fun k z => by unfold wayW at z; omega)) (sb.agr g1 (fun k z => by unfold wayW at z; omega)) hab hB ha hb t1 (wa_per ⟨w, hw⟩)) (fun h2 l2 _ _ _ ⟨f2, R, s2, r2⟩ => ?_)
  refine Ends.eq (b317_26 (n := n) (by (repeat' first | assumption | refine LX.setF _ _ ?_ (by decide +kernel) | refine LX.setS ?_ rfl | refine LX.setA ?_ (by first | assumption | omega))) (by first | assumption | omega)) ?_
  refine Ends.sm ⟨_, rfl, (g1.sub (fun c k z => by unfold wayW at z; unfold tuW; omega)).tr f2.agr (fun c k z => by unfold tuW; omega), R, s2, fun g hg => ?_⟩
  rw [r2 g hg]
  unfold taS
  refine or_congr Iff.rfl ⟨fun ⟨g0, a1, _, a2, a3⟩ => ⟨g0, a1, a2, by rw [← tuG_wa]; exact a3⟩, fun ⟨g0, a1, a2, a3⟩ => ⟨g0, a1, trivial, a2, by rw [tuG_wa]; exact a3⟩⟩
end TURN317
