/-! L3: the model's hollows, clearance; bodies dropped -/
section HOLM
variable {gv : Nat → Int} {B n d s t : Nat} {h : AH} {S T U : Nat → Bool}
theorem MB.orw {q : AH} (m : MB B n q t S) (m2 : MB B n q s T) {k : Nat} (hk : k < wN n) : MB B n (hset q (B + 236) (wN n * t + k) (bop64 129 (hv q (B + 236) (wN n * t + k)) (hv q (B + 236) (wN n * s + k)))) t (fun x => S x || (T x && decide (x / 64 = k))) := by
  intro j hj
  by_cases e : j = k
  · subst e
    rw [hv_set_at]
    refine ⟨cn_bop64, fun x hx => ?_⟩
    rw [tb_or, (m j hj).2 x hx, (m2 j hj).2 x hx]
    have : (64 * j + x) / 64 = j := by omega
    simp only [this, decide_true, Bool.and_true]
    cases decide (64 * j + x < gN n) <;> simp
  · rw [hv_set_ne (by omega)]
    refine ⟨(m j hj).1, fun x hx => ?_⟩
    rw [(m j hj).2 x hx]
    have : ¬ (64 * j + x) / 64 = k := by omega
    simp [this]
/-- reached from the border -/
def bdR (n : Nat) (W : Nat → Bool) (x : Nat) : Prop := ∃ b, b < gN n ∧ W b = true ∧ brd n b ∧ Rch n W b x
def hoW (B n : Nat) : Nat → Nat → Prop := fun c k => tpW B n 13 14 15 c k ∨ wto B n 16 (wN n) c k
/-- the piece comes to row 16 -/
theorem e_unite {Q : Rs → Prop} {lo hi : Nat} {x1 x3 x4 x5 : Int} (hn : n ≤ 52) (hd : 9 ≤ d) (hlh : lo ≤ hi + 1) (hw : hi < wN n) (l : LX B n h) (m : MB B n h 16 U) (m2 : MB B n h 14 T) (f91 : hv h (B + 149) 91 = (hi : Int)) (hT : ∀ x, x < gN n → T x = true → lo ≤ x / 64 ∧ x / 64 ≤ hi) (K : ∀ q x6, LX B n q → Agr (wto B n 16 (wN n)) h q → MB B n q 16 (fun x => U x || T x) → Ends (ev PP (gsF gv) B d 674 128 [(2, rf (B + 149)), (0, x1), (0, ((16 : Nat) : Int)), (0, x3), (0, x4), (0, x5), x6] [] q) Q) :
    Ends (ev PP (gsF gv) B d 674 81 [(2, rf (B + 149)), (0, x1), (0, ((16 : Nat) : Int)), (0, x3), (0, x4), (0, x5), (0, (lo : Int))] [] h) Q := by
  have hG := wN_le hn
  have key : ∀ (r w : Nat) (q : AH), w + r = hi + 1 → lo ≤ w → LX B n q → Agr (wto B n 16 (wN n)) h q → MB B n q 16 (fun x => U x || (T x && decide (x / 64 < w))) → Ends (ev PP (gsF gv) B d 674 81 [(2, rf (B + 149)), (0, x1), (0, ((16 : Nat) : Int)), (0, x3), (0, x4), (0, x5), (0, (w : Int))] [] q) Q := by
    intro r
    induction r with
    | zero =>
      intro w q hwr hlw lq gq mq
      have f9 : hv q (B + 149) 91 = (hi : Int) := by rw [gq.at _ _ (by unfold wto; omega)]; exact f91
      refine Ends.eq (b674_81 (n := n) (by (repeat' first | assumption | refine LX.setF _ _ ?_ (by decide +kernel) | refine LX.setS ?_ rfl | refine LX.setA ?_ (by first | assumption | omega))) (by first | assumption | omega)) ?_
      rw [f9]
      refine Ends.b4 (fun _ => K q _ lq gq (mq.congr (fun x hx => ?_))) (fun z => by omega)
      cases e : T x
      · rfl
      · have := hT x hx e
        have e2 : x / 64 < w := by omega
        simp [e2]
    | succ r ih =>
      intro w q hwr hlw lq gq mq
      have f9 : hv q (B + 149) 91 = (hi : Int) := by rw [gq.at _ _ (by unfold wto; omega)]; exact f91
      have m2q : MB B n q 14 T := m2.row gq (by decide)
      refine Ends.eq (b674_81 (n := n) (by (repeat' first | assumption | refine LX.setF _ _ ?_ (by decide +kernel) | refine LX.setS ?_ rfl | refine LX.setA ?_ (by first | assumption | omega))) (by first | assumption | omega)) ?_
      rw [f9]
      refine Ends.b4 (fun z => by omega) (fun _ => ?_)
      rw [widx (s := 16) hn (by decide) (show w < wN n by omega), show bop32 96 (bop32 104 ((wN n : Nat) : Int) 14) (w : Int) = ((wN n * 14 + w : Nat) : Int) from widx (s := 14) hn (by decide) (show w < wN n by omega)]
      refine Ends.g (wok (by decide) (by omega)) (Ends.g (wok (by decide) (by omega)) ?_)
      rw [tn, tn, an1, w_succ (by omega)]
      refine ih (w + 1) _ (by omega) (by omega) (lx236 lq) (gq.set ⟨rfl, by omega, by omega⟩) ((mq.orw m2q (k := w) (by omega)).congr (fun x hx => ?_))
      by_cases e1 : x / 64 < w
      · have e2 : x / 64 < w + 1 := by omega
        have e3 : ¬ x / 64 = w := by omega
        simp [e1, e2, e3]
      · by_cases e3 : x / 64 = w
        · have e2 : x / 64 < w + 1 := by omega
          simp [e1, e2, e3]
        · have e2 : ¬ x / 64 < w + 1 := by omega
          simp [e1, e2, e3]
  refine key (hi + 1 - lo) lo h (by omega) (Nat.le_refl _) l Agr.rf (m.congr (fun x hx => ?_))
  cases e : T x
  · simp
  · have := hT x hx e
    have e2 : ¬ x / 64 < lo := by omega
    simp [e2]
set_option maxHeartbeats 4000000 in
theorem c_hollow (l : LX B n h) (hd : 14 ≤ d) (hn0 : 0 < n) (hn : n ≤ 52) (hs : s < 13) (m : TbM B h) (b : MB B n h s S) :
    Vt 0 (cll PP (ev PP (gsF gv) B) d 674 [(2, rf (B + 149)), (0, (s : Int)), (0, ((16 : Nat) : Int))] h) (fun v h' => Agr (hoW B n) h h' ∧ ∃ (k : Nat) (U : Nat → Bool), v = (k : Int) ∧ MB B n h' 16 U ∧ (∀ x, x < gN n → (U x = true ↔ S x = false ∧ ¬ bdR n (fun g => !S g) x)) ∧ NC n (fun g => !S g) U k) := by
  have hG := gN_le hn
  refine Vt.into (D := 13) hd (Nat.le_of_ble_eq_true rfl) rfl (fun d hd => Ends.eq (b674_0 l (by omega)) ?_)
  refine Ends.cv l (by decide +kernel) (c_opposite (t := 13) l (by omega) hn0 hn (by omega) (by decide) b) (fun h1 l1 _ _ _ ⟨g1, b1⟩ => ?_)
  refine Ends.eq (b674_9 (n := n) (by (repeat' first | assumption | refine LX.setF _ _ ?_ (by decide +kernel) | refine LX.setS ?_ rfl | refine LX.setA ?_ (by first | assumption | omega))) (by first | assumption | omega)) ?_
  refine Ends.cv l1 (by decide +kernel) (c_empty (s := 16) l1 (by omega) hn (by decide)) (fun h2 l2 _ _ _ ⟨g2, b2⟩ => ?_)
  refine Ends.eq (b674_14 (n := n) (by (repeat' first | assumption | refine LX.setF _ _ ?_ (by decide +kernel) | refine LX.setS ?_ rfl | refine LX.setA ?_ (by first | assumption | omega))) (by first | assumption | omega)) ?_
  refine Ends.cv l2 (by decide +kernel) (c_beginPieces (t := 14) (u := 15) l2 (by omega) hn (by decide) (by decide) (by decide)) (fun h3 l3 _ _ _ ⟨g3, b14, b15, f0, f1⟩ => ?_)
  refine Ends.eq (b674_22 (n := n) (by (repeat' first | assumption | refine LX.setF _ _ ?_ (by decide +kernel) | refine LX.setS ?_ rfl | refine LX.setA ?_ (by first | assumption | omega))) (by first | assumption | omega)) ?_
  have A3 : Agr (hoW B n) h h3 := ((g1.sub (fun c k z => Or.inl (Or.inl z))).tr g2 (fun c k z => Or.inr z)).tr g3 (fun c k z => by
    rcases z with z | z | z
    · exact Or.inl (Or.inr (Or.inl z))
    · exact Or.inl (Or.inr (Or.inr (Or.inl z)))
    · exact Or.inl (Or.inr (Or.inr (Or.inr ⟨z.1, z.2.1, by omega⟩))))
  have nr : ∀ {r k : Nat} {S : Nat → Bool}, k < wN n → r ≠ 14 → r ≠ 15 → ¬ (wto B n 14 (wN n) (B + 236) (wN n * r + k) ∨ wto B n 15 (wN n) (B + 236) (wN n * r + k) ∨ (B + 236 = B + 149 ∧ 90 ≤ wN n * r + k ∧ wN n * r + k ≤ 91)) := fun hk e1 e2 z => by
    rcases z with z | z | z
    · exact wto_row hk (Nat.le_refl _) e1 z
    · exact wto_row hk (Nat.le_refl _) e2 z
    · omega
  have b13 : MB B n h3 13 (fun g => !S g) := (b1.row g2 (by decide)).agr g3 (fun k hk z => nr (S := S) hk (by decide) (by decide) z)
  have b16 : MB B n h3 16 (fun _ => false) := b2.agr g3 (fun k hk z => nr (S := S) hk (by decide) (by decide) z)
  let V : Nat → Bool := fun g => !S g
  refine lp (gN n) (fun i L q => ∃ (c : Nat), ∃ (R : Nat → Bool), ∃ (T : Nat → Bool), ∃ (U : Nat → Bool), ∃ (rep : Nat → Nat), ∃ (lo : Nat), ∃ (hh : Int), ∃ u5 u6 : AV, L = [(2, rf (B + 149)), (0, ((s : Int))), (0, (((16 : Nat) : Int))), (0, ((c : Int))), (0, ((i : Int))), u5, u6] ∧ LX B n q ∧ i ≤ gN n ∧ Agr (hoW B n) h q ∧ c ≤ i ∧ MB B n q 13 R ∧ MB B n q 14 T ∧ MB B n q 15 (fun _ => false) ∧ MB B n q 16 U ∧ hv q (B + 149) 90 = (lo : Int) ∧ hv q (B + 149) 91 = hh ∧ (lo : Int) ≤ hh + 1 ∧ hh < (wN n : Nat) ∧ (∀ x, x < gN n → T x = true → lo ≤ x / 64 ∧ ((x / 64 : Nat) : Int) ≤ hh) ∧ (∀ x, x < gN n → R x = true → V x = true) ∧ (∀ x x' f, x < gN n → x' < gN n → f < 4 → R x = true → nbr n x f = (x' : Int) → V x' = true → R x' = true) ∧ (∀ x, x < i → x < gN n → R x = false) ∧ (∀ j, j < c → rep j < gN n ∧ V (rep j) = true ∧ R (rep j) = false ∧ ¬ bdR n V (rep j)) ∧ (∀ j k, j < c → k < c → Rch n V (rep j) (rep k) → j = k) ∧ (∀ x, x < gN n → V x = true → R x = false → bdR n V x ∨ ∃ j, j < c ∧ Rch n V (rep j) x) ∧ (∀ x, x < gN n → (U x = true ↔ ∃ j, j < c ∧ Rch n V (rep j) x))) ?_ ?_ (0) ⟨0, V, (fun _ => false), (fun _ => false), (fun _ => 0), 0, -1, _, _, rfl, (by (repeat' first | assumption | refine LX.setF _ _ ?_ (by decide +kernel) | refine LX.setS ?_ rfl | refine LX.setA ?_ (by assumption))), by omega, ?_, ?_⟩
  · rintro i _ q hi ⟨c, R, T, U, rep, lo, hh, uq0, uq1, rfl, lq, hiN, gq, ⟨hc, v1, v2, v3, v16, v4, v5, v6, v7, v8, v9, va, vb, vc, vd, ve, vu⟩⟩ ihi
    have mq : TbM B q := m.agr gq (fun c k h1 h2 h3 => by unfold hoW tpW wto; omega)
    obtain ⟨a1, a2⟩ := has_is v1 (by decide) hn hi
    have nx : ∀ (c2 : Nat) (R2 T2 U2 : Nat → Bool) (rep2 : Nat → Nat) (lo2 : Nat) (hi2 : Int) (u5 u6 : AV) (q2 : AH), LX B n q2 → Agr (hoW B n) h q2 → c2 ≤ i + 1 ∧ MB B n q2 13 R2 ∧ MB B n q2 14 T2 ∧ MB B n q2 15 (fun _ => false) ∧ MB B n q2 16 U2 ∧ hv q2 (B + 149) 90 = (lo2 : Int) ∧ hv q2 (B + 149) 91 = hi2 ∧ (lo2 : Int) ≤ hi2 + 1 ∧ hi2 < (wN n : Nat) ∧ (∀ x, x < gN n → T2 x = true → lo2 ≤ x / 64 ∧ ((x / 64 : Nat) : Int) ≤ hi2) ∧ (∀ x, x < gN n → R2 x = true → V x = true) ∧ (∀ x x' f, x < gN n → x' < gN n → f < 4 → R2 x = true → nbr n x f = (x' : Int) → V x' = true → R2 x' = true) ∧ (∀ x, x < i + 1 → x < gN n → R2 x = false) ∧ (∀ j, j < c2 → rep2 j < gN n ∧ V (rep2 j) = true ∧ R2 (rep2 j) = false ∧ ¬ bdR n V (rep2 j)) ∧ (∀ j k, j < c2 → k < c2 → Rch n V (rep2 j) (rep2 k) → j = k) ∧ (∀ x, x < gN n → V x = true → R2 x = false → bdR n V x ∨ ∃ j, j < c2 ∧ Rch n V (rep2 j) x) ∧ (∀ x, x < gN n → (U2 x = true ↔ ∃ j, j < c2 ∧ Rch n V (rep2 j) x)) → Ends (ev PP (gsF gv) B d 674 128 [(2, rf (B + 149)), (0, ((s : Int))), (0, (((16 : Nat) : Int))), (0, ((c2 : Int))), (0, ((i : Int))), u5, u6] [] q2) _ := fun c2 R2 T2 U2 rep2 lo2 hi2 u5 u6 q2 lq2 gq2 I => by
      refine Ends.eq (b674_128 (n := n) (by (repeat' first | assumption | refine LX.setF _ _ ?_ (by decide +kernel) | refine LX.setS ?_ rfl | refine LX.setA ?_ (by first | assumption | omega))) (by first | assumption | omega)) ?_
      rw [w_succ (by omega)]
      refine ihi _ _ ⟨c2,  R2,  T2,  U2,  rep2,  lo2,  hi2, _, _, rfl, (by (repeat' first | assumption | refine LX.setF _ _ ?_ (by decide +kernel) | refine LX.setS ?_ rfl | refine LX.setA ?_ (by assumption))), by omega, ?_, ?_⟩
      · exact gq2
      · exact I
    have a2' : v669 B n q 13 (i : Int) = if R i then 1 else 0 := a2
    refine Ends.eq (b674_25 (n := n) (by (repeat' first | assumption | refine LX.setF _ _ ?_ (by decide +kernel) | refine LX.setS ?_ rfl | refine LX.setA ?_ (by first | assumption | omega))) (by first | assumption | omega)) ?_
    rw [a2']
    refine Ends.b3 (fun _ => by omega) (fun _ => Ends.g a1 ?_)
    cases hR : R i
    · refine Ends.b1 (fun z => absurd rfl z) (fun _ => nx c R T U rep lo hh _ _ q lq gq ⟨by omega, v1, v2, v3, v16, v4, v5, v6, v7, v8, v9, va, fun x h1 h2 => ?_, vc, vd, ve, vu⟩)
      by_cases e : x = i
      · subst e; exact hR
      · exact vb x (by omega) h2
    · refine Ends.b1 (fun _ => ?_) (fun z => by rw [if_pos rfl] at z; exact absurd z (by decide))
      refine Ends.ct lq (by decide +kernel) (by decide) (c_takePiece (s := 13) (t := 14) (u := 15) lq (by omega) hn0 hn (by decide) (by decide) (by decide) (by decide) (by decide) (by decide) mq v1 v2 v3 v4 v5 v6 v7 v8 hi hR) (fun r h5 l5 _ _ _ ⟨g5, P, lo5, hi5, bd5, w1, w2, w3, w4, w5, w6, w7, w8, w9, wa, wb, wc, wd⟩ => ?_)
      have hSi := v9 i hi hR
      have rs : ∀ x, Rch n R i x ↔ Rch n V i x := fun x => Rch.sub va v9 hR
      have noR : ∀ j, j < c → ¬ Rch n V (rep j) i := fun j hj q => by
        obtain ⟨q1, q2, q3, q4⟩ := vc j hj
        have := (q.sym q1 q2) (fun y => R y = true) hR (fun y y' f h1 h2 h3 h4 h5 h6 => va y y' f h1 h2 h3 h4 h5 h6)
        rw [q3] at this; cases this
      have m16 : MB B n h5 16 U := v16.agr g5 (fun k hk z => by
        rcases z with z | z | z | z
        · exact wto_row hk (Nat.le_refl _) (by decide) z
        · exact wto_row hk (Nat.le_refl _) (by decide) z
        · exact wto_row hk (Nat.le_refl _) (by decide) z
        · omega)
      have G5 : Agr (hoW B n) h h5 := gq.tr g5 (fun c k z => Or.inl z)
      have cl1 : ∀ x, x < gN n → (R x && !P x) = true → V x = true := fun x h1 h2 => by simp at h2; exact v9 x h1 h2.1
      have cl2 : ∀ x x' f, x < gN n → x' < gN n → f < 4 → (R x && !P x) = true → nbr n x f = (x' : Int) → V x' = true → (R x' && !P x') = true := fun x x' f h1 h2 h3 h4 h6 h7 => by
        simp only [Bool.and_eq_true, Bool.not_eq_true'] at h4 ⊢
        refine ⟨va x x' f h1 h2 h3 h4.1 h6 h7, ?_⟩
        cases e : P x'
        · rfl
        · exfalso
          have e1 := (w4 x' h2).mp e
          obtain ⟨f', q1, q2⟩ := nbr_sym h1 h3 h6
          have e2 := e1.st h2 h1 q1 q2 h4.1
          rw [← w4 x h1] at e2
          rw [h4.2] at e2; cases e2
      have cl3 : ∀ x, x < i + 1 → x < gN n → (R x && !P x) = false := fun x h1 h2 => by
        by_cases e : x = i
        · subst e
          have : P x = true := (w4 x h2).mpr Rch.rf
          simp [this]
        · simp [vb x (by omega) h2]
      have pR : ∀ x, x < gN n → P x = true → Rch n V i x := fun x h1 h2 => (rs x).mp ((w4 x h1).mp h2)
      have Rp : ∀ x, x < gN n → Rch n V i x → P x = true := fun x h1 h2 => (w4 x h1).mpr ((rs x).mpr h2)
      have bdi : bd5 = 1 ↔ bdR n V i := by
        rw [wc]
        constructor
        · rintro ⟨x, h1, h2, h3⟩
          have e1 := pR x h1 h2
          exact ⟨x, h1, (e1.inW hi hSi).2, h3, e1.sym hi hSi⟩
        · rintro ⟨x, h1, h2, h3, h4⟩
          exact ⟨x, h1, Rp x h1 (h4.sym h1 h2), h3⟩
      refine Ends.eq (b674_60 (n := n) (by (repeat' first | assumption | refine LX.setF _ _ ?_ (by decide +kernel) | refine LX.setS ?_ rfl | refine LX.setA ?_ (by first | assumption | omega))) (by first | assumption | omega)) ?_
      rw [wa]
      refine Ends.b0 (fun z => ?_) (fun z => ?_)
      · rw [w_succ (by omega), w5]
        have nb : ¬ bdR n V i := fun y => by have := bdi.mpr y; omega
        refine e_unite hn (by omega) (by omega) w8 l5 m16 w2 w6 (fun x h1 h2 => w9 x h1 h2) (fun q2 x6 l6 g6 m6 => ?_)
        refine nx (c + 1) (fun x => R x && !P x) P (fun x => U x || P x) (fun j => if j = c then i else rep j) lo5 hi5 _ _ q2 l6 (G5.tr g6 (fun c k z => Or.inr z)) ⟨by omega, w1.row g6 (by decide), w2.row g6 (by decide), w3.row g6 (by decide), m6, ?_, ?_, by omega, by omega, fun x h1 h2 => ?_, cl1, cl2, cl3, fun j hj => ?_, fun j k hj hk hr => ?_, fun x h1 h2 h3 => ?_, fun x h1 => ?_⟩
        · rw [g6.at _ _ (by unfold wto; omega)]; exact w5
        · rw [g6.at _ _ (by unfold wto; omega)]; exact w6
        · have := w9 x h1 h2; exact ⟨this.1, by omega⟩
        · by_cases e : j = c
          · simp only [e, if_true]
            have : P i = true := (w4 i hi).mpr Rch.rf
            exact ⟨hi, hSi, by simp [this], nb⟩
          · simp only [e, if_false]
            obtain ⟨q1, q2, q3, q4⟩ := vc j (by omega)
            exact ⟨q1, q2, by simp [q3], q4⟩
        · by_cases e1 : j = c
          · by_cases e2 : k = c
            · omega
            · exfalso
              simp only [e1, e2, if_true, if_false] at hr
              exact noR k (by omega) (hr.sym hi hSi)
          · by_cases e2 : k = c
            · exfalso
              simp only [e1, e2, if_true, if_false] at hr
              exact noR j (by omega) hr
            · simp only [e1, e2, if_false] at hr
              exact vd j k (by omega) (by omega) hr
        · cases eR : R x
          · rcases ve x h1 h2 eR with y | ⟨j, q1, q2⟩
            · exact Or.inl y
            · refine Or.inr ⟨j, by omega, ?_⟩
              have : j ≠ c := by omega
              simp only [this, if_false]; exact q2
          · have hP : P x = true := by
              cases e : P x
              · simp [eR, e] at h3
              · rfl
            exact Or.inr ⟨c, by omega, by simp only [if_true]; exact pR x h1 hP⟩
        · rw [Bool.or_eq_true, vu x h1]
          constructor
          · rintro (⟨j, q1, q2⟩ | q)
            · refine ⟨j, by omega, ?_⟩
              have : j ≠ c := by omega
              simp only [this, if_false]; exact q2
            · exact ⟨c, by omega, by simp only [if_true]; exact pR x h1 q⟩
          · rintro ⟨j, q1, q2⟩
            by_cases e : j = c
            · simp only [e, if_true] at q2
              exact Or.inr (Rp x h1 q2)
            · simp only [e, if_false] at q2
              exact Or.inl ⟨j, by omega, q2⟩
      · have yb : bdR n V i := bdi.mp (by rcases wb with y | y; exact absurd y z; exact y)
        refine nx c (fun x => R x && !P x) P U rep lo5 hi5 _ _ h5 l5 G5 ⟨by omega, w1, w2, w3, m16, w5, w6, by omega, by omega, fun x h1 h2 => ?_, cl1, cl2, cl3, fun j hj => ?_, vd, fun x h1 h2 h3 => ?_, vu⟩
        · have := w9 x h1 h2; exact ⟨this.1, by omega⟩
        · obtain ⟨q1, q2, q3, q4⟩ := vc j hj
          exact ⟨q1, q2, by simp [q3], q4⟩
        · cases eR : R x
          · exact ve x h1 h2 eR
          · have hP : P x = true := by
              cases e : P x
              · simp [eR, e] at h3
              · rfl
            obtain ⟨b0, y1, y2, y3, y4⟩ := yb
            exact Or.inl ⟨b0, y1, y2, y3, y4.tr (pR x h1 hP)⟩
  · rintro i _ q hi ⟨c, R, T, U, rep, lo, hh, uq0, uq1, rfl, lq, hiN, gq, ⟨hc, v1, v2, v3, v16, v4, v5, v6, v7, v8, v9, va, vb, vc, vd, ve, vu⟩⟩
    refine Ends.eq (b674_25 (n := n) (by (repeat' first | assumption | refine LX.setF _ _ ?_ (by decide +kernel) | refine LX.setS ?_ rfl | refine LX.setA ?_ (by first | assumption | omega))) (by first | assumption | omega)) ?_
    refine Ends.b3 (fun _ => ?_) (fun _ => by omega)
    have all : ∀ x, x < gN n → R x = false := fun x hx => vb x (by omega) hx
    have sp : ∀ x, x < gN n → (U x = true ↔ S x = false ∧ ¬ bdR n V x) := fun x hx => by
      rw [vu x hx]
      constructor
      · rintro ⟨j, q1, q2⟩
        obtain ⟨p1, p2, p3, p4⟩ := vc j q1
        have := (q2.inW p1 p2).2
        refine ⟨by simpa [V] using this, ?_⟩
        rintro ⟨b0, y1, y2, y3, y4⟩
        exact p4 ⟨b0, y1, y2, y3, y4.tr (q2.sym p1 p2)⟩
      · rintro ⟨y1, y2⟩
        rcases ve x hx (by simp [V, y1]) (all x hx) with y | y
        · exact absurd y y2
        · exact y
    refine Ends.sm ⟨_, _, rfl, gq, c, U, rfl, v16, sp, rep, fun j hj => ?_, vd, fun x hx hu => (vu x hx).mp hu⟩
    obtain ⟨p1, p2, p3, p4⟩ := vc j hj
    exact ⟨p1, (vu _ p1).mpr ⟨j, hj, Rch.rf⟩, p2⟩
  · exact A3
  · refine ⟨Nat.le_refl _, b13, b14, b15, b16, f0, f1, by decide, by have := wN_le hn; omega, fun x _ z => absurd z Bool.false_ne_true, fun x _ z => z, fun x x' f _ _ _ _ _ z => z, fun x hx => absurd hx (by omega), fun j hj => absurd hj (by omega), fun j k hj => absurd hj (by omega), fun x hx hv hr => ?_, fun x hx => ⟨fun z => absurd z Bool.false_ne_true, fun ⟨j, hj, _⟩ => absurd hj (by omega)⟩⟩
    rw [hv] at hr
    exact absurd hr (by decide)
end HOLM
