/-! L3: counts of sets; Flood.pour -/
theorem cntN_or {S M : Nat → Bool} : ∀ N, (∀ i, i < N → S i = true → M i = false) → cntN (fun i => S i || M i) N = cntN S N + cntN M N
  | 0, _ => rfl
  | N + 1, h => by
    rw [cntN_s, cntN_s, cntN_s, cntN_or N (fun i hi => h i (by omega))]
    have := h N (by omega)
    cases hS : S N <;> cases hM : M N <;> simp [hS, hM] at this ⊢ <;> omega
theorem cntN_set {S : Nat → Bool} {a : Nat} (hS : S a = false) : ∀ N, cntN (fun i => S i || decide (i = a)) N = cntN S N + if a < N then 1 else 0
  | 0 => rfl
  | N + 1 => by
    rw [cntN_s, cntN_s, cntN_set hS N]
    by_cases e : N = a
    · subst e; simp [hS]
    · have : (a < N + 1) = (a < N) := by rw [eq_iff_iff]; omega
      simp [e, this]; omega
theorem cntN_rem {S : Nat → Bool} {a : Nat} (hS : S a = true) {N : Nat} (ha : a < N) : cntN (fun i => S i && !decide (i = a)) N + 1 = cntN S N := by
  have h1 := cntN_set (S := fun i => S i && !decide (i = a)) (a := a) (by simp) N
  rw [if_pos ha] at h1
  rw [← h1]
  refine cntN_congr N (fun i _ => ?_)
  by_cases e : i = a
  · subst e; simp [hS]
  · simp [e]
theorem cntN_lt {S : Nat → Bool} {a N : Nat} (ha : a < N) (hS : S a = false) : cntN S N < N := by
  have h1 := cntN_set hS N
  rw [if_pos ha] at h1
  have h2 := cntN_le (fun i => S i || decide (i = a)) N
  omega
theorem cntN_zero {S : Nat → Bool} : ∀ N, cntN S N = 0 → ∀ i, i < N → S i = false
  | 0, _, i, hi => by omega
  | N + 1, h, i, hi => by
    rw [cntN_s] at h
    by_cases e : i = N
    · subst e; cases hS : S i
      · rfl
      · rw [hS] at h; simp at h
    · exact cntN_zero N (by omega) i (by omega)
section FLOOD
variable {gv : Nat → Int} {B n d : Nat} {h : AH} {W Se Fs : Nat → Bool}
/-- Flood's arrays: seen, fresh, queue, queued, within -/
def FlC (B n : Nat) (h : AH) (se fs qu qd wi : Nat) : Prop := hv h (B + 81) 2 = rf se ∧ hv h (B + 81) 3 = rf fs ∧ hv h (B + 81) 4 = rf qu ∧ hv h (B + 81) 5 = rf qd ∧ hv h (B + 81) 8 = rf wi ∧ hk h qu = (2, 24 * n * n) ∧ hk h qd = (5, 24 * n * n) ∧ B + 246 ≤ se ∧ B + 246 ≤ fs ∧ B + 246 ≤ qu ∧ B + 246 ≤ qd ∧ (wi = B + 117 ∨ B + 246 ≤ wi) ∧ se ≠ fs ∧ se ≠ qu ∧ se ≠ qd ∧ se ≠ wi ∧ fs ≠ qu ∧ fs ≠ qd ∧ fs ≠ wi ∧ qu ≠ qd ∧ qu ≠ wi ∧ qd ≠ wi
/-- the rows that wait -/
def FlQ (B n : Nat) (h : AH) (qu qd : Nat) (Q : Nat → Bool) (hd wt : Nat) : Prop := hv h (B + 81) 6 = (hd : Nat) ∧ hv h (B + 81) 7 = (wt : Nat) ∧ hd < 24 * n * n ∧ wt = cntN Q (24 * n * n) ∧ (∀ r, r < 24 * n * n → hv h qd r = if Q r then 1 else 0) ∧ (∀ i, i < wt → ∃ r : Nat, r < 24 * n * n ∧ hv h qu ((hd + i) % (24 * n * n)) = (r : Int) ∧ Q r = true) ∧ ∀ i j, i < wt → j < wt → hv h qu ((hd + i) % (24 * n * n)) = hv h qu ((hd + j) % (24 * n * n)) → i = j
def Flo (B n : Nat) (h : AH) (se fs qu qd wi : Nat) (W Se Fs : Nat → Bool) : Prop := FlC B n h se fs qu qd wi ∧ SG n h wi W ∧ SG n h se Se ∧ SG n h fs Fs ∧ (∀ g, g < gN n → Fs g = true → Se g = true) ∧ (∀ g, g < gN n → Se g = true → W g = true) ∧ ∃ Q hd wt, FlQ B n h qu qd Q hd wt ∧ ∀ r, r < 24 * n * n → (Q r = true ↔ ∃ g, g < gN n ∧ rk n g = r ∧ Fs g = true)
def flA (B se fs qu qd : Nat) (c : Nat) : Prop := c = se ∨ c = fs ∨ c = qu ∨ c = qd ∨ c = B + 81
/-- what is poured: bits b into row r -/
def poM (n : Nat) (W Se : Nat → Bool) (r : Nat) (b : Int) (g : Nat) : Bool := (decide (rk n g = r) && tb b (gX n g)) && (W g && !Se g)
theorem SG.bit {n a : Nat} {h : AH} {S : Nat → Bool} (s : SG n h a S) {t z y x : Nat} (ht : t < 24) (hz : z < n) (hy : y < n) (hx : x < 64) : tb (hv h a (rw3 n t z y)) x = (decide (x < n) && S (gI n x y z t)) := by
  rw [(s.2 _ (rw3_lt ht hz hy)).2 x hx, onK_at hz hy]
theorem SG.orrow {n a : Nat} {h : AH} {S M : Nat → Bool} (s : SG n h a S) (hn0 : 0 < n) {t z y : Nat} (ht : t < 24) (hz : z < n) (hy : y < n) {w : Int} (hw : ∀ x, x < 64 → tb w x = (decide (x < n) && M (gI n x y z t))) (hM : ∀ g, g < gN n → M g = true → rk n g = rw3 n t z y) : SG n (hset h a (rw3 n t z y) (bop64 129 (hv h a (rw3 n t z y)) w)) a (fun g => S g || M g) := by
  have hp := rw3_lt ht hz hy
  refine SG.of hn0 (Sol.put s hp cn_bop64 (r := fun x => S (gI n x y z t) || M (gI n x y z t)) (fun x hx => ?_)) (fun t' z' y' x' ht' hz' hy' hx' => ?_)
  · rw [tb_or, hw x hx, s.bit ht hz hy hx]; cases decide (x < n) <;> rfl
  · by_cases e : rw3 n t' z' y' = rw3 n t z y
    · rw [if_pos e]
      obtain ⟨rfl, rfl, rfl⟩ := (rw3_inj hz' hy' hz hy).mp e
      rfl
    · rw [if_neg e, onK_at hz' hy']
      have : M (gI n x' y' z' t') = false := by
        cases q : M (gI n x' y' z' t')
        · rfl
        · exfalso; apply e
          have := hM _ (gI_lt hx' hy' hz' ht') q
          unfold rk at this
          rw [gSo_I ht', gZ_I hx' hy' ht', gY_I hx' hy' ht'] at this
          exact this
      rw [this, Bool.or_false]
theorem rk_at {t z y x : Nat} (ht : t < 24) (hy : y < n) (hx : x < n) : rk n (gI n x y z t) = rw3 n t z y := by
  unfold rk; rw [gSo_I ht, gZ_I hx hy ht, gY_I hx hy ht]
theorem ring_ne {a i j N : Nat} (ha : a < N) (hi : i < j) (hj : j < N) : (a + i) % N ≠ (a + j) % N := by
  by_cases h1 : a + i < N
  · rw [Nat.mod_eq_of_lt h1]
    by_cases h2 : a + j < N
    · rw [Nat.mod_eq_of_lt h2]; omega
    · rw [Nat.mod_eq_sub_mod (by omega), Nat.mod_eq_of_lt (by omega)]; omega
  · rw [Nat.mod_eq_sub_mod (a := a + i) (by omega), Nat.mod_eq_of_lt (a := a + i - N) (by omega), Nat.mod_eq_sub_mod (a := a + j) (by omega), Nat.mod_eq_of_lt (by omega)]; omega
set_option maxHeartbeats 4000000 in
theorem c_pour (l : LX B n h) (hd : 10 ≤ d) (hn0 : 0 < n) (hn : n ≤ 52) {se fs qu qd wi : Nat} (F : Flo B n h se fs qu qd wi W Se Fs) {t z y : Nat} (ht : t < 24) (hz : z < n) (hy : y < n) {b : Int} :
    Vd (cll PP (ev PP (gsF gv) B) d 180 [(2, rf (B + 81)), (0, ((rw3 n t z y : Nat) : Int)), (1, b)] h) (fun h' => Fr (flA B se fs qu qd) h h' ∧ Flo B n h' se fs qu qd wi W (fun g => Se g || poM n W Se (rw3 n t z y) b g) (fun g => Fs g || poM n W Se (rw3 n t z y) b g)) := by
  have hN := rows_le hn
  have hp := rw3_lt ht hz hy
  obtain ⟨⟨f2, f3, f4, f5, f8, kq, kd, b1, b2, b3, b4, b5, n1, n2, n3, n4, n5, n6, n7, n8, n9, n10⟩, sw, ss, sf, sub1, sub2, Q, hd0, wt, ⟨q6, q7, qh, qw, qq, qe, qi⟩, fq⟩ := F
  have ks := ss.1
  have kf := sf.1
  have kw := sw.1
  generalize er : rw3 n t z y = r at *
  have hM : ∀ g, g < gN n → poM n W Se r b g = true → rk n g = r := fun g _ q => by
    unfold poM at q; simp at q; exact q.1.1
  refine Vd.into (D := 9) hd (Nat.le_of_ble_eq_true rfl) rfl (fun d hd => Ends.eq (b180_0 (by decide) l hd) ?_)
  simp only [f2, f3, f4, f5, f8, q6, q7, ad_rf, tn, an1, an0, ks, kf, kw, kd, kq, show anar 3 1 = 1 from rfl]
  have bm : ∀ x, x < 64 → tb (bop64 127 (bop64 127 b (hv h wi r)) (bop64 131 (hv h se r) (-1))) x = (decide (x < n) && poM n W Se r b (gI n x y z t)) := fun x hx => by
    rw [tb_and, tb_and, tb_not _ hx, ← er, sw.bit ht hz hy hx, ss.bit ht hz hy hx]
    by_cases q : x < n
    · unfold poM
      rw [rk_at ht hy q, gX_I q ht]
      simp [q, Bool.and_assoc]
    · simp [q]
  refine Ends.g ⟨rf_pos _, by trivial, by omega, by omega⟩ (Ends.g ⟨rf_pos _, by trivial, by omega, by omega⟩ ?_)
  generalize em : bop64 127 (bop64 127 b (hv h wi r)) (bop64 131 (hv h se r) (-1)) = mo at *
  have cm : cn 1 mo := by rw [← em]; exact cn_bop64
  refine Ends.b1 (fun zm => ?_) (fun zm => ?_)
  · -- something is new
    have hne : hv (hset h se r (bop64 129 (hv h se r) mo)) fs r = hv h fs r := hv_set_ne (fun q => n1 q.1.symm)
    rw [hne]
    have hq0 : hv (hset (hset h se r (bop64 129 (hv h se r) mo)) fs r (bop64 129 (hv h fs r) mo)) qd r = hv h qd r := by
      rw [hv_set_ne (fun q => n6 q.1.symm), hv_set_ne (fun q => n3 q.1.symm)]
    rw [hq0, qq r hp]
    refine Ends.g ⟨rf_pos _, by trivial, by omega, by omega, by omega⟩ (Ends.g ⟨rf_pos _, by trivial, by omega, by omega⟩ (Ends.g ⟨rf_pos _, by trivial, by omega, by omega, by omega⟩ (Ends.g ⟨rf_pos _, by trivial, by omega, by omega⟩ ?_)))
    -- the two rows of bits
    have s1 : SG n (hset h se r (bop64 129 (hv h se r) mo)) se (fun g => Se g || poM n W Se r b g) := by
      have := ss.orrow hn0 ht hz hy (w := mo) (M := poM n W Se r b) bm (by rw [er]; exact hM)
      rw [er] at this; exact this
    have sf1 : SG n (hset h se r (bop64 129 (hv h se r) mo)) fs Fs := sf.fr (Fr.set (A := fun c => c = se) rfl) (fun e => n1 e.symm)
    have s2 : SG n (hset (hset h se r (bop64 129 (hv h se r) mo)) fs r (bop64 129 (hv h fs r) mo)) fs (fun g => Fs g || poM n W Se r b g) := by
      have := sf1.orrow hn0 ht hz hy (w := mo) (M := poM n W Se r b) bm (by rw [er]; exact hM)
      rw [er, hne] at this; exact this
    have s3 : SG n (hset (hset h se r (bop64 129 (hv h se r) mo)) fs r (bop64 129 (hv h fs r) mo)) se (fun g => Se g || poM n W Se r b g) := s1.fr (Fr.set (A := fun c => c = fs) rfl) n1
    have w3 : SG n (hset (hset h se r (bop64 129 (hv h se r) mo)) fs r (bop64 129 (hv h fs r) mo)) wi W := (sw.fr (Fr.set (A := fun c => c = se) rfl) (fun e => n4 e.symm)).fr (Fr.set (A := fun c => c = fs) rfl) (fun e => n7 e.symm)
    have F2 : Fr (fun c => c = se ∨ c = fs) h (hset (hset h se r (bop64 129 (hv h se r) mo)) fs r (bop64 129 (hv h fs r) mo)) := (Fr.set (Or.inl rfl)).tr (Fr.set (Or.inr rfl))
    generalize hset (hset h se r (bop64 129 (hv h se r) mo)) fs r (bop64 129 (hv h fs r) mo) = s at *
    have e81 : ∀ k, hv s (B + 81) k = hv h (B + 81) k := fun k => F2.1 _ (by omega) k
    have equ : ∀ k, hv s qu k = hv h qu k := fun k => F2.1 _ (by omega) k
    have eqd : ∀ k, hv s qd k = hv h qd k := fun k => F2.1 _ (by omega) k
    have u1 : ∀ g, g < gN n → (Fs g || poM n W Se r b g) = true → (Se g || poM n W Se r b g) = true := fun g hg q => by
      rw [Bool.or_eq_true] at q ⊢; exact q.imp (sub1 g hg) id
    have u2 : ∀ g, g < gN n → (Se g || poM n W Se r b g) = true → W g = true := fun g hg q => by
      rw [Bool.or_eq_true] at q
      rcases q with q | q
      · exact sub2 g hg q
      · unfold poM at q; simp at q; exact q.2.1
    cases hQ : Q r
    · -- the row is put into the queue
      have hwt : wt < 24 * n * n := by rw [qw]; exact cntN_lt hp hQ
      have hix : (hd0 + wt) % (24 * n * n) < 24 * n * n := Nat.mod_lt _ (by omega)
      refine Ends.b0 (fun _ => ?_) (fun z => absurd rfl z)
      rw [addNN (by omega), modNN (by omega) (by omega), tn, show bop32 96 (wt : Int) 1 = ((wt + 1 : Nat) : Int) from addNN (y := 1) (by omega)]
      refine Ends.g ⟨rf_pos _, by trivial, by omega, by omega, by omega⟩ (Ends.g (by omega) (Ends.g ⟨rf_pos _, by trivial, by omega, by omega, by omega⟩ (Ends.sm ⟨_, rfl, ?_, ?_⟩)))
      · exact (F2.sub (fun c hc => by unfold flA; rcases hc with hc | hc <;> simp [hc])).tr (((Fr.set (by unfold flA; simp)).tr (Fr.set (by unfold flA; simp))).tr (Fr.set (by unfold flA; simp)))
      · have F3 : Fr (fun c => c = qd ∨ c = qu ∨ c = B + 81) s (hset (hset (hset s qd r 1) qu ((hd0 + wt) % (24 * n * n)) (r : Int)) (B + 81) 7 ((wt + 1 : Nat) : Int)) := ((Fr.set (Or.inl rfl)).tr (Fr.set (Or.inr (Or.inl rfl)))).tr (Fr.set (Or.inr (Or.inr rfl)))
        refine ⟨⟨?_, ?_, ?_, ?_, ?_, ?_, ?_, b1, b2, b3, b4, b5, n1, n2, n3, n4, n5, n6, n7, n8, n9, n10⟩, w3.fr F3 (by omega), s3.fr F3 (by omega), s2.fr F3 (by omega), u1, u2, fun i => Q i || decide (i = r), hd0, wt + 1, ⟨?_, ?_, qh, ?_, ?_, ?_, ?_⟩, ?_⟩
        · rw [hv_set_ne (by omega), hv_set_ne (by omega), hv_set_ne (by omega), e81]; exact f2
        · rw [hv_set_ne (by omega), hv_set_ne (by omega), hv_set_ne (by omega), e81]; exact f3
        · rw [hv_set_ne (by omega), hv_set_ne (by omega), hv_set_ne (by omega), e81]; exact f4
        · rw [hv_set_ne (by omega), hv_set_ne (by omega), hv_set_ne (by omega), e81]; exact f5
        · rw [hv_set_ne (by omega), hv_set_ne (by omega), hv_set_ne (by omega), e81]; exact f8
        · rw [F3.2.1, F2.2.1]; exact kq
        · rw [F3.2.1, F2.2.1]; exact kd
        · rw [hv_set_ne (by omega), hv_set_ne (by omega), hv_set_ne (by omega), e81]; exact q6
        · exact hv_set_at ..
        · rw [cntN_set hQ, if_pos hp, qw]
        · intro i hi
          rw [hv_set_ne (by omega), hv_set_ne (by omega)]
          by_cases e : i = r
          · subst e; rw [hv_set_at]; simp
          · rw [hv_set_ne (by omega), eqd, qq i hi]; simp [e]
        · intro i hi
          rw [hv_set_ne (by omega)]
          by_cases e : i = wt
          · subst e
            exact ⟨r, hp, hv_set_at .., by simp⟩
          · obtain ⟨r', h1, h2, h3⟩ := qe i (by omega)
            have hne2 : (hd0 + i) % (24 * n * n) ≠ (hd0 + wt) % (24 * n * n) := ring_ne qh (by omega) hwt
            refine ⟨r', h1, ?_, by simp [h3]⟩
            rw [hv_set_ne (fun q => hne2 q.2), hv_set_ne (by omega), equ]; exact h2
        · intro i j hi hj
          have o81 : ∀ (X : AH) (v : Int) (k : Nat), hv (hset X (B + 81) 7 v) qu k = hv X qu k := fun X v k => hv_set_ne (by omega)
          rw [o81, o81]
          have val : ∀ i, i < wt + 1 → hv (hset (hset s qd r 1) qu ((hd0 + wt) % (24 * n * n)) (r : Int)) qu ((hd0 + i) % (24 * n * n)) = if i = wt then (r : Int) else hv h qu ((hd0 + i) % (24 * n * n)) := fun i hi => by
            by_cases e : i = wt
            · subst e; rw [if_pos rfl]; exact hv_set_at ..
            · have hne2 : (hd0 + i) % (24 * n * n) ≠ (hd0 + wt) % (24 * n * n) := ring_ne qh (by omega) hwt
              rw [if_neg e, hv_set_ne (fun q => hne2 q.2), hv_set_ne (by omega), equ]
          rw [val i hi, val j hj]
          have noR : ∀ i, i < wt → hv h qu ((hd0 + i) % (24 * n * n)) ≠ (r : Int) := fun i hi e => by
            obtain ⟨r', h1, h2, h3⟩ := qe i hi
            rw [h2] at e
            have : r' = r := by omega
            rw [this, hQ] at h3; cases h3
          by_cases e1 : i = wt
          · by_cases e2 : j = wt
            · intro _; omega
            · rw [if_pos e1, if_neg e2]; intro e; exact absurd e.symm (noR j (by omega))
          · by_cases e2 : j = wt
            · rw [if_neg e1, if_pos e2]; intro e; exact absurd e (noR i (by omega))
            · rw [if_neg e1, if_neg e2]; exact qi i j (by omega) (by omega)
        · intro i hi
          rw [Bool.or_eq_true, fq i hi, decide_eq_true_eq]
          constructor
          · rintro (⟨g, h1, h2, h3⟩ | rfl)
            · exact ⟨g, h1, h2, by simp [h3]⟩
            · obtain ⟨x, hx, e⟩ : ∃ x, x < 64 ∧ tb mo x = true := by
                apply Classical.byContradiction
                intro hno
                apply zm
                refine cmp64_z.mpr ((tb_z cm).mpr (fun x hx => ?_))
                cases e : tb mo x
                · rfl
                · exact absurd ⟨x, hx, e⟩ hno
              rw [bm x hx] at e
              simp at e
              exact ⟨gI n x y z t, gI_lt e.1 hy hz ht, by rw [rk_at ht hy e.1, er], by simp [e.2]⟩
          · rintro ⟨g, h1, h2, h3⟩
            rw [Bool.or_eq_true] at h3
            rcases h3 with h3 | h3
            · exact Or.inl ⟨g, h1, h2, h3⟩
            · right; rw [← h2]; exact hM g h1 h3
    · -- it waits already
      refine Ends.b0 (fun z => absurd z (by decide)) (fun _ => Ends.sm ⟨_, rfl, F2.sub (fun c hc => by unfold flA; rcases hc with hc | hc <;> simp [hc]), ?_⟩)
      refine ⟨⟨?_, ?_, ?_, ?_, ?_, ?_, ?_, b1, b2, b3, b4, b5, n1, n2, n3, n4, n5, n6, n7, n8, n9, n10⟩, w3, s3, s2, u1, u2, Q, hd0, wt, ⟨?_, ?_, qh, qw, ?_, ?_, ?_⟩, ?_⟩
      · rw [e81]; exact f2
      · rw [e81]; exact f3
      · rw [e81]; exact f4
      · rw [e81]; exact f5
      · rw [e81]; exact f8
      · rw [F2.2.1]; exact kq
      · rw [F2.2.1]; exact kd
      · rw [e81]; exact q6
      · rw [e81]; exact q7
      · intro i hi; rw [eqd]; exact qq i hi
      · intro i hi; rw [equ]; exact qe i hi
      · intro i j hi hj; rw [equ, equ]; exact qi i j hi hj
      · intro i hi
        rw [fq i hi]
        constructor
        · rintro ⟨g, h1, h2, h3⟩; exact ⟨g, h1, h2, by simp [h3]⟩
        · rintro ⟨g, h1, h2, h3⟩
          rw [Bool.or_eq_true] at h3
          rcases h3 with h3 | h3
          · exact ⟨g, h1, h2, h3⟩
          · have e : i = r := by rw [← h2]; exact hM g h1 h3
            subst e
            exact (fq i hi).mp hQ
  · -- nothing is new
    rw [cmp64_z] at zm
    have hno : ∀ g, g < gN n → poM n W Se r b g = false := fun g hg => by
      cases q : poM n W Se r b g
      · rfl
      · exfalso
        obtain ⟨-, hx, hy', hz', ht'⟩ := g_lt hg
        have e := hM g hg q
        rw [← er, rk_eq hg hz hy] at e
        have := bm (gX n g) (by omega)
        rw [zm, tb_0, ← e.1, ← e.2.1, ← e.2.2, gI_g, q] at this
        simp [hx] at this
    refine Ends.sm ⟨_, rfl, Fr.rf, ⟨f2, f3, f4, f5, f8, kq, kd, b1, b2, b3, b4, b5, n1, n2, n3, n4, n5, n6, n7, n8, n9, n10⟩, sw, ss.congr hn0 (fun g hg => by rw [hno g hg, Bool.or_false]), sf.congr hn0 (fun g hg => by rw [hno g hg, Bool.or_false]), ?_, ?_, Q, hd0, wt, ⟨q6, q7, qh, qw, qq, qe, qi⟩, ?_⟩
    · intro g hg q; simp [hno g hg] at q ⊢; exact sub1 g hg q
    · intro g hg q; simp [hno g hg] at q; exact sub2 g hg q
    · intro i hi
      rw [fq i hi]
      constructor
      · rintro ⟨g, h1, h2, h3⟩; exact ⟨g, h1, h2, by simp [h3]⟩
      · rintro ⟨g, h1, h2, h3⟩; simp [hno g h1] at h3; exact ⟨g, h1, h2, h3⟩
end FLOOD
/-! L3: Flood.beyond, Flood.run -/
section FLOOD2
variable {gv : Nat → Int} {B n d : Nat} {h : AH} {W Se Fs : Nat → Bool}
/-- the neighbours, at facet f, of the grains of row r with bits v are poured -/
def PouOK (n : Nat) (W Se : Nat → Bool) (r : Nat) (v : Int) (f : Nat) (M : Nat → Bool) : Prop := (∀ g', g' < gN n → M g' = true → W g' = true ∧ Se g' = false ∧ ∃ g, g < gN n ∧ rk n g = r ∧ tb v (gX n g) = true ∧ nbr n g f = (g' : Int)) ∧ ∀ g g', g < gN n → g' < gN n → rk n g = r → tb v (gX n g) = true → nbr n g f = (g' : Int) → W g' = true → (Se g' || M g') = true
theorem poM_is {r g : Nat} {b : Int} : poM n W Se r b g = true ↔ rk n g = r ∧ tb b (gX n g) = true ∧ W g = true ∧ Se g = false := by
  unfold poM; simp only [Bool.and_eq_true, decide_eq_true_eq, Bool.not_eq_true', and_assoc]
theorem pou_in {t z y f : Nat} {v : Int} (ht : t < 24) (hz : z < n) (hy : y < n) (hf0 : f ≠ 0) (hf : f < 4) : PouOK n W Se (rw3 n t z y) v f (poM n W Se (rw3 n (nxt t f) z y) v) := by
  have hnx : nxt t f < 24 := nxt_lt ⟨t, ht⟩ ⟨f, hf⟩
  refine ⟨fun g' hg' q => ?_, fun g g' hg hg' hr hv hnb hW => ?_⟩
  · rw [poM_is] at q
    obtain ⟨q1, q2, q3, q4⟩ := q
    obtain ⟨-, hx, -, -, -⟩ := g_lt hg'
    rw [rk_eq hg' hz hy] at q1
    refine ⟨q3, q4, gI n (gX n g') y z t, gI_lt hx hy hz ht, rk_at ht hy hx, by rw [gX_I hx ht]; exact q2, ?_⟩
    unfold nbr
    rw [if_neg hf0, gX_I hx ht, gY_I hx hy ht, gZ_I hx hy ht, gSo_I ht, ← q1.1, ← q1.2.1, ← q1.2.2, gI_g]
  · rw [rk_eq hg hz hy] at hr
    obtain ⟨-, hx, -, -, -⟩ := g_lt hg
    unfold nbr at hnb
    rw [if_neg hf0, hr.1, hr.2.1, hr.2.2] at hnb
    have e : gI n (gX n g) y z (nxt t f) = g' := by omega
    cases hS : Se g'
    · have : poM n W Se (rw3 n (nxt t f) z y) v g' = true := by
        rw [poM_is, ← e]
        refine ⟨rk_at hnx hy hx, by rw [gX_I hx hnx]; exact hv, by rw [e]; exact hW, by rw [e]; exact hS⟩
      rw [this, Bool.or_true]
    · rfl
theorem nbr0_in {g x' y' z' : Nat} (ex : (x' : Int) = gX n g + stpC (gSo g) 0) (ey : (y' : Int) = gY n g + stpC (gSo g) 1) (ez : (z' : Int) = gZ n g + stpC (gSo g) 2) (hx : x' < n) (hy : y' < n) (hz : z' < n) : nbr n g 0 = ((gI n x' y' z' (nxt (gSo g) 0) : Nat) : Int) := by
  unfold nbr inRm
  rw [if_pos rfl, ← ex, ← ey, ← ez, tn, tn, tn]
  have h1 : decide ((x' : Int) < n) = true := decide_eq_true (by omega)
  have h2 : decide ((y' : Int) < n) = true := decide_eq_true (by omega)
  have h3 : decide ((z' : Int) < n) = true := decide_eq_true (by omega)
  have h4 : decide (0 ≤ (x' : Int)) = true := decide_eq_true (by omega)
  have h5 : decide (0 ≤ (y' : Int)) = true := decide_eq_true (by omega)
  have h6 : decide (0 ≤ (z' : Int)) = true := decide_eq_true (by omega)
  rw [h1, h2, h3, h4, h5, h6]; rfl
theorem nbr0_out {g : Nat} (ho : (gX n g : Int) + stpC (gSo g) 0 < 0 ∨ (gY n g : Int) + stpC (gSo g) 1 < 0 ∨ (gZ n g : Int) + stpC (gSo g) 2 < 0 ∨ (n : Int) ≤ gX n g + stpC (gSo g) 0 ∨ (n : Int) ≤ gY n g + stpC (gSo g) 1 ∨ (n : Int) ≤ gZ n g + stpC (gSo g) 2) : nbr n g 0 = -1 := by
  unfold nbr inRm
  rw [if_pos rfl, if_neg]
  simp only [Bool.and_eq_true, decide_eq_true_eq]
  omega
theorem pou_none {r : Nat} {v : Int} (e : ∀ g, g < gN n → rk n g = r → nbr n g 0 = -1) : PouOK n W Se r v 0 (fun _ => false) :=
  ⟨fun g' _ q => (by cases q), fun g g' hg _ hr _ hnb _ => (by rw [e g hg hr] at hnb; omega)⟩
/-- one step beyond, to row (z', y') with bits b: x' has what x had -/
theorem pou_out {t z y z' y' : Nat} {v b : Int} (ht : t < 24) (hz : z < n) (hy : y < n) (hz' : z' < n) (hy' : y' < n) (ey : (y' : Int) = y + stpC t 1) (ez : (z' : Int) = z + stpC t 2) (hb : ∀ x' : Nat, x' < n → (tb b x' = true ↔ ∃ x : Nat, x < n ∧ (x' : Int) = x + stpC t 0 ∧ tb v x = true)) : PouOK n W Se (rw3 n t z y) v 0 (poM n W Se (rw3 n (nxt t 0) z' y') b) := by
  have hnx : nxt t 0 < 24 := nxt_lt ⟨t, ht⟩ 0
  refine ⟨fun g' hg' q => ?_, fun g g' hg hg' hr hv hnb hW => ?_⟩
  · rw [poM_is] at q
    obtain ⟨q1, q2, q3, q4⟩ := q
    obtain ⟨-, hx', -, -, -⟩ := g_lt hg'
    rw [rk_eq hg' hz' hy'] at q1
    obtain ⟨x, hx, e1, e2⟩ := (hb _ hx').mp q2
    refine ⟨q3, q4, gI n x y z t, gI_lt hx hy hz ht, rk_at ht hy hx, by rw [gX_I hx ht]; exact e2, ?_⟩
    rw [nbr0_in (x' := gX n g') (y' := y') (z' := z') (by rw [gX_I hx ht, gSo_I ht]; exact e1) (by rw [gY_I hx hy ht, gSo_I ht]; exact ey) (by rw [gZ_I hx hy ht, gSo_I ht]; exact ez) hx' hy' hz', gSo_I ht, ← q1.1, ← q1.2.1, ← q1.2.2, gI_g]
  · rw [rk_eq hg hz hy] at hr
    obtain ⟨-, hx, -, -, -⟩ := g_lt hg
    have hin : 0 ≤ (gX n g : Int) + stpC t 0 ∧ (gX n g : Int) + stpC t 0 < n := by
      apply Classical.byContradiction
      intro q
      rw [nbr0_out (by rw [hr.1]; omega)] at hnb
      omega
    obtain ⟨x', e⟩ : ∃ x' : Nat, (x' : Int) = gX n g + stpC t 0 := ⟨((gX n g : Int) + stpC t 0).toNat, by omega⟩
    have hx' : x' < n := by omega
    rw [nbr0_in (x' := x') (y' := y') (z' := z') (by rw [hr.1]; exact e) (by rw [hr.1, hr.2.2]; exact ey) (by rw [hr.1, hr.2.1]; exact ez) hx' hy' hz', hr.1] at hnb
    have e' : gI n x' y' z' (nxt t 0) = g' := by omega
    cases hS : Se g'
    · have : poM n W Se (rw3 n (nxt t 0) z' y') b g' = true := by
        rw [poM_is, ← e']
        refine ⟨rk_at hnx hy' hx', ?_, by rw [e']; exact hW, by rw [e']; exact hS⟩
        rw [gX_I hx' hnx]
        exact (hb x' hx').mpr ⟨gX n g, hx, e, hv⟩
      rw [this, Bool.or_true]
    · rfl
set_option maxHeartbeats 2000000 in
theorem c_beyond (l : LX B n h) (hd : 11 ≤ d) (hn0 : 0 < n) (hn : n ≤ 52) (m : TbC B h) {se fs qu qd wi : Nat} (F : Flo B n h se fs qu qd wi W Se Fs) {t z y : Nat} (ht : t < 24) (hz : z < n) (hy : y < n) {v : Int} (hvn : ∀ x, n ≤ x → tb v x = false) :
    Vd (cll PP (ev PP (gsF gv) B) d 177 [(2, rf (B + 81)), (0, (t : Int)), (0, (z : Int)), (0, (y : Int)), (1, v)] h) (fun h' => Fr (flA B se fs qu qd) h h' ∧ ∃ M, Flo B n h' se fs qu qd wi W (fun g => Se g || M g) (fun g => Fs g || M g) ∧ PouOK n W Se (rw3 n t z y) v 0 M) := by
  obtain ⟨-, -, -, m4, -, m6, m7, -⟩ := m.1 t ht
  have mn : hv h (B + 44) (4 * t) = (nxt t 0 : Nat) := (m7 0 (by decide)).1
  have hnx : nxt t 0 < 24 := nxt_lt ⟨t, ht⟩ 0
  have hac : aC t < 3 := (ax_lt ⟨t, ht⟩).2.2
  have eby : cond (tst 0 (if hiC t then (1 : Int) else 0) 0) (-1) 1 = if hiC t then (1 : Int) else -1 := by cases hiC t <;> rfl
  have bby : (if hiC t then (1 : Int) else -1) = 1 ∨ (if hiC t then (1 : Int) else -1) = -1 := by cases hiC t <;> simp
  have same : Flo B n h se fs qu qd wi W (fun g => Se g || (fun _ => false) g) (fun g => Fs g || (fun _ => false) g) := by
    have e1 : (fun g => Se g || (fun _ => false) g) = Se := by funext g; simp
    have e2 : (fun g => Fs g || (fun _ => false) g) = Fs := by funext g; simp
    rw [e1, e2]; exact F
  refine Vd.into (D := 10) hd (Nat.le_of_ble_eq_true rfl) rfl (fun d hd => Ends.eq (b177_0 (by decide) l (by omega)) ?_)
  rw [show bop32 104 4 (t : Int) = ((4 * t : Nat) : Int) from mulNN (x := 4) (by omega), tn, tn, mn, m4, m6, eby]
  refine Ends.g ⟨by omega, by omega⟩ (Ends.g ⟨by omega, by omega⟩ (Ends.b1 (fun h0 => Ends.b1 (fun h1 => ?_) (fun h1 => ?_)) (fun h0 => ?_)))
  · -- across z
    have c2 : aC t = 2 := by omega
    have s0 : stpC t 0 = 0 := by unfold stpC; rw [c2]; rfl
    have s1 : stpC t 1 = 0 := by unfold stpC; rw [c2]; rfl
    have s2 : stpC t 2 = if hiC t then 1 else -1 := by unfold stpC; rw [c2]; rfl
    have none : (z : Int) + (if hiC t then (1 : Int) else -1) < 0 ∨ (n : Int) ≤ (z : Int) + (if hiC t then (1 : Int) else -1) → PouOK n W Se (rw3 n t z y) v 0 (fun _ => false) := fun ho => pou_none (fun g hg hr => by
      rw [rk_eq hg hz hy] at hr
      exact nbr0_out (by rw [hr.1, hr.2.1, s2]; omega))
    rw [add32 (by omega) (by omega)]
    refine Ends.b2 (fun q => ?_) (fun q => Ends.b3 (fun q2 => ?_) (fun q2 => ?_))
    · refine Ends.eq (b177_178 (n := n) (by (repeat' first | assumption | refine LX.setF _ _ ?_ (by decide +kernel) | refine LX.setS ?_ rfl | refine LX.setA ?_ (by first | assumption | omega))) (by first | assumption | omega)) ?_
      exact Ends.sm ⟨_, rfl, Fr.rf, _, same, none (Or.inl q)⟩
    · refine Ends.eq (b177_178 (n := n) (by (repeat' first | assumption | refine LX.setF _ _ ?_ (by decide +kernel) | refine LX.setS ?_ rfl | refine LX.setA ?_ (by first | assumption | omega))) (by first | assumption | omega)) ?_
      exact Ends.sm ⟨_, rfl, Fr.rf, _, same, none (Or.inr q2)⟩
    · obtain ⟨z', ez⟩ : ∃ z' : Nat, (z' : Int) = (z : Int) + (if hiC t then (1 : Int) else -1) := ⟨((z : Int) + (if hiC t then (1 : Int) else -1)).toNat, by omega⟩
      rw [← ez, row_eq hn hnx (show z' < n by omega) hy]
      refine Ends.cv l (by decide +kernel) (c_pour l (by omega) hn0 hn F hnx (show z' < n by omega) hy) (fun h5 l5 _ _ _ ⟨f5, F5⟩ => ?_)
      refine Ends.eq (b177_178 (n := n) (by (repeat' first | assumption | refine LX.setF _ _ ?_ (by decide +kernel) | refine LX.setS ?_ rfl | refine LX.setA ?_ (by first | assumption | omega))) (by first | assumption | omega)) ?_
      refine Ends.sm ⟨_, rfl, f5, _, F5, pou_out ht hz hy (by omega) hy (by rw [s1]; omega) (by rw [s2]; exact ez) (fun x' hx' => ?_)⟩
      rw [s0]
      exact ⟨fun q => ⟨x', hx', by omega, q⟩, fun ⟨x, h1, h2, h3⟩ => (by have e : x' = x := (by omega); rw [e]; exact h3)⟩
  · -- across y
    have c2 : aC t = 1 := by omega
    have s0 : stpC t 0 = 0 := by unfold stpC; rw [c2]; rfl
    have s1 : stpC t 1 = if hiC t then 1 else -1 := by unfold stpC; rw [c2]; rfl
    have s2 : stpC t 2 = 0 := by unfold stpC; rw [c2]; rfl
    have none : (y : Int) + (if hiC t then (1 : Int) else -1) < 0 ∨ (n : Int) ≤ (y : Int) + (if hiC t then (1 : Int) else -1) → PouOK n W Se (rw3 n t z y) v 0 (fun _ => false) := fun ho => pou_none (fun g hg hr => by
      rw [rk_eq hg hz hy] at hr
      exact nbr0_out (by rw [hr.1, hr.2.2, s1]; omega))
    rw [add32 (by omega) (by omega)]
    refine Ends.b2 (fun q => ?_) (fun q => Ends.b3 (fun q2 => ?_) (fun q2 => ?_))
    · refine Ends.eq (b177_178 (n := n) (by (repeat' first | assumption | refine LX.setF _ _ ?_ (by decide +kernel) | refine LX.setS ?_ rfl | refine LX.setA ?_ (by first | assumption | omega))) (by first | assumption | omega)) ?_
      exact Ends.sm ⟨_, rfl, Fr.rf, _, same, none (Or.inl q)⟩
    · refine Ends.eq (b177_178 (n := n) (by (repeat' first | assumption | refine LX.setF _ _ ?_ (by decide +kernel) | refine LX.setS ?_ rfl | refine LX.setA ?_ (by first | assumption | omega))) (by first | assumption | omega)) ?_
      exact Ends.sm ⟨_, rfl, Fr.rf, _, same, none (Or.inr q2)⟩
    · obtain ⟨y', ey⟩ : ∃ y' : Nat, (y' : Int) = (y : Int) + (if hiC t then (1 : Int) else -1) := ⟨((y : Int) + (if hiC t then (1 : Int) else -1)).toNat, by omega⟩
      rw [← ey, row_eq hn hnx hz (show y' < n by omega)]
      refine Ends.cv l (by decide +kernel) (c_pour l (by omega) hn0 hn F hnx hz (show y' < n by omega)) (fun h5 l5 _ _ _ ⟨f5, F5⟩ => ?_)
      refine Ends.eq (b177_137 (n := n) (by (repeat' first | assumption | refine LX.setF _ _ ?_ (by decide +kernel) | refine LX.setS ?_ rfl | refine LX.setA ?_ (by first | assumption | omega))) (by first | assumption | omega)) ?_
      refine Ends.eq (b177_178 (n := n) (by (repeat' first | assumption | refine LX.setF _ _ ?_ (by decide +kernel) | refine LX.setS ?_ rfl | refine LX.setA ?_ (by first | assumption | omega))) (by first | assumption | omega)) ?_
      refine Ends.sm ⟨_, rfl, f5, _, F5, pou_out ht hz hy hz (by omega) (by rw [s1]; exact ey) (by rw [s2]; omega) (fun x' hx' => ?_)⟩
      rw [s0]
      exact ⟨fun q => ⟨x', hx', by omega, q⟩, fun ⟨x, h1, h2, h3⟩ => (by have e : x' = x := (by omega); rw [e]; exact h3)⟩
  · -- across x
    have c2 : aC t = 0 := by omega
    have s0 : stpC t 0 = if hiC t then 1 else -1 := by unfold stpC; rw [c2]; rfl
    have s1 : stpC t 1 = 0 := by unfold stpC; rw [c2]; rfl
    have s2 : stpC t 2 = 0 := by unfold stpC; rw [c2]; rfl
    rw [row_eq hn hnx hz hy]
    refine Ends.cv l (by decide +kernel) (c_pour l (by omega) hn0 hn F hnx hz hy) (fun h5 l5 _ _ _ ⟨f5, F5⟩ => ?_)
    refine Ends.eq (b177_83 (n := n) (by (repeat' first | assumption | refine LX.setF _ _ ?_ (by decide +kernel) | refine LX.setS ?_ rfl | refine LX.setA ?_ (by first | assumption | omega))) (by first | assumption | omega)) ?_
    refine Ends.eq (b177_178 (n := n) (by (repeat' first | assumption | refine LX.setF _ _ ?_ (by decide +kernel) | refine LX.setS ?_ rfl | refine LX.setA ?_ (by first | assumption | omega))) (by first | assumption | omega)) ?_
    refine Ends.sm ⟨_, rfl, f5, _, F5, pou_out ht hz hy hz hy (by rw [s1]; omega) (by rw [s2]; omega) (fun x' hx' => ?_)⟩
    rw [s0]
    cases hiC t
    · have e : tb (cond (tst 5 (if false then (1 : Int) else -1) 0) (sop64 125 v 1) (bop64 127 (sop64 121 v 1) (2 ^ n - 1 : Int))) x' = tb v (1 + x') := tb_shr v (k := 1) (by decide)
      rw [e]
      constructor
      · intro q
        refine ⟨1 + x', ?_, by simp; omega, q⟩
        apply Classical.byContradiction
        intro q2
        rw [hvn _ (by omega)] at q; cases q
      · rintro ⟨x, h1, h2, h3⟩
        have : x = 1 + x' := by simp at h2; omega
        rw [← this]; exact h3
    · have e : tb (cond (tst 5 (if true then (1 : Int) else -1) 0) (sop64 125 v 1) (bop64 127 (sop64 121 v 1) (2 ^ n - 1 : Int))) x' = (decide (1 ≤ x') && tb v (x' - 1)) := by
        show tb (bop64 127 (sop64 121 v 1) (2 ^ n - 1 : Int)) x' = _
        rw [tb_and, tb_mask hn, show tb (sop64 121 v 1) x' = (decide (1 ≤ x') && tb v (x' - 1)) from tb_shl v (k := 1) (by decide) (by omega)]
        simp [hx']
      rw [e]
      simp only [Bool.and_eq_true, decide_eq_true_eq, if_true]
      constructor
      · rintro ⟨q1, q2⟩; exact ⟨x' - 1, by omega, by omega, q2⟩
      · rintro ⟨x, h1, h2, h3⟩
        have : x = x' - 1 := by omega
        exact ⟨by omega, by rw [← this]; exact h3⟩
end FLOOD2
