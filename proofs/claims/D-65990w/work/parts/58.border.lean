/-! L3: Flood.fromBorder -/
section BORDER
variable {gv : Nat → Int} {B n d : Nat} {h : AH} {W Se Fs : Nat → Bool}
/-- a grain at the room's border, of sorts below t, or of sort t at a place below a -/
def brd (n g : Nat) : Prop := nbr n g 0 = -1
theorem brd_is {g : Nat} (hg : g < gN n) : brd n g ↔ gC n g (aC (gSo g)) = if hiC (gSo g) then n - 1 else 0 := by
  obtain ⟨hn0, hx, hy, hz, ht⟩ := g_lt hg
  have hac : aC (gSo g) < 3 := (ax_lt ⟨gSo g, ht⟩).2.2
  unfold brd
  have s : ∀ a, stpC (gSo g) a = if aC (gSo g) = a then (if hiC (gSo g) then 1 else -1) else 0 := fun a => rfl
  constructor
  · intro e
    apply Classical.byContradiction
    intro q
    have hb : gC n g (aC (gSo g)) < n := gC_lt hg
    have key : ∃ x' y' z' : Nat, (x' : Int) = gX n g + stpC (gSo g) 0 ∧ (y' : Int) = gY n g + stpC (gSo g) 1 ∧ (z' : Int) = gZ n g + stpC (gSo g) 2 ∧ x' < n ∧ y' < n ∧ z' < n := by
      rw [s, s, s]
      unfold gC at q hb
      obtain e0 | e0 | e0 : aC (gSo g) = 0 ∨ aC (gSo g) = 1 ∨ aC (gSo g) = 2 := by omega
      · rw [e0] at q hb ⊢
        cases hh : hiC (gSo g) <;> simp [hh] at q ⊢
        · exact ⟨gX n g - 1, by omega, gY n g, rfl, gZ n g, rfl, by omega, hy, hz⟩
        · exact ⟨gX n g + 1, by omega, gY n g, rfl, gZ n g, rfl, by omega, hy, hz⟩
      · rw [e0] at q hb ⊢
        cases hh : hiC (gSo g) <;> simp [hh] at q ⊢
        · exact ⟨gX n g, rfl, gY n g - 1, by omega, gZ n g, rfl, hx, by omega, hz⟩
        · exact ⟨gX n g, rfl, gY n g + 1, by omega, gZ n g, rfl, hx, by omega, hz⟩
      · rw [e0] at q hb ⊢
        cases hh : hiC (gSo g) <;> simp [hh] at q ⊢
        · exact ⟨gX n g, rfl, gY n g, rfl, gZ n g - 1, by omega, hx, hy, by omega⟩
        · exact ⟨gX n g, rfl, gY n g, rfl, gZ n g + 1, by omega, hx, hy, by omega⟩
    obtain ⟨x', y', z', ex, ey, ez, h1, h2, h3⟩ := key
    rw [nbr0_in ex ey ez h1 h2 h3] at e
    omega
  · intro q
    refine nbr0_out ?_
    rw [s, s, s]
    unfold gC at q
    obtain e0 | e0 | e0 : aC (gSo g) = 0 ∨ aC (gSo g) = 1 ∨ aC (gSo g) = 2 := by omega
    · rw [e0] at q ⊢
      cases hh : hiC (gSo g) <;> simp [hh] at q ⊢ <;> omega
    · rw [e0] at q ⊢
      cases hh : hiC (gSo g) <;> simp [hh] at q ⊢ <;> omega
    · rw [e0] at q ⊢
      cases hh : hiC (gSo g) <;> simp [hh] at q ⊢ <;> omega
def brA (n t g : Nat) : Nat := if aC t = 2 then gY n g else gZ n g
def brP (n t a : Nat) (g : Nat) : Prop := gSo g < t ∨ (gSo g = t ∧ brA n t g < a)
def BrS (n : Nat) (W S : Nat → Bool) (P : Nat → Prop) : Prop := ∀ g, g < gN n → (S g = true ↔ W g = true ∧ brd n g ∧ P g)
theorem BrS.add {S : Nat → Bool} {P P' : Nat → Prop} {r : Nat} {b : Int} (s : BrS n W S P) (e : ∀ g, g < gN n → (P' g ∧ brd n g ↔ (P g ∧ brd n g) ∨ (rk n g = r ∧ tb b (gX n g) = true))) : BrS n W (fun g => S g || poM n W S r b g) P' := by
  intro g hg
  have h1 := s g hg
  have h2 := e g hg
  have h3 : poM n W S r b g = true ↔ rk n g = r ∧ tb b (gX n g) = true ∧ W g = true ∧ S g = false := poM_is
  show (S g || poM n W S r b g) = true ↔ _
  rw [Bool.or_eq_true, h3]
  cases hS : S g
  · rw [hS] at h1
    grind
  · rw [hS] at h1
    grind
set_option maxHeartbeats 4000000 in
theorem c_fromBorder (l : LX B n h) (hd : 15 ≤ d) (hn0 : 0 < n) (hn : n ≤ 52) (m : TbC B h) {se fs qu qd wi : Nat} (F : Flo B n h se fs qu qd wi W (fun _ => false) (fun _ => false)) :
    Vd (cll PP (ev PP (gsF gv) B) d 178 [(2, rf (B + 81))] h) (fun h' => Fr (flA B se fs qu qd) h h' ∧ ∃ Se', Flo B n h' se fs qu qd wi W Se' (fun _ => false) ∧ Clo n W Se' (fun _ => false) (fun _ _ => False) ∧ ∀ g, g < gN n → (Se' g = true ↔ ∃ b, b < gN n ∧ W b = true ∧ brd n b ∧ Rch n W b g)) := by
  have flq : ∀ c, c ≤ B + 80 → ¬ flA B se fs qu qd c := fun c hc => by
    obtain ⟨⟨f2, f3, f4, f5, f8, kq, kd, b1, b2, b3, b4, b5, -⟩, -⟩ := F
    unfold flA; omega
  refine Vd.into (D := 14) hd (Nat.le_of_ble_eq_true rfl) rfl (fun d hd => Ends.eq (b178_0 l (by omega)) ?_)
  refine lp (24) (fun t L q => ∃ (S1 : Nat → Bool), ∃ u2 u3 u4 : AV, L = [(2, rf (B + 81)), (0, ((t : Int))), u2, u3, u4] ∧ LX B n q ∧ t ≤ 24 ∧ Fr (flA B se fs qu qd) h q ∧ Flo B n q se fs qu qd wi W S1 S1 ∧ BrS n W S1 (brP n t 0)) ?_ ?_ (0) ⟨(fun _ => false), _, _, _, rfl, (by (repeat' first | assumption | refine LX.setF _ _ ?_ (by decide +kernel) | refine LX.setS ?_ rfl | refine LX.setA ?_ (by assumption))), by omega, ?_⟩
  · rintro t _ q ht ⟨S1, uq0, uq1, uq2, rfl, lq, htN, ⟨f1, F1, s1⟩⟩ iht
    have mq : TbC B q := m.fr f1 (fun c h1 h2 => flq c (by omega))
    have mC := (mq.1 t ht).2.2.2.1
    have mH := (mq.1 t ht).2.2.2.2.2.1
    have hac : aC t < 3 := (ax_lt ⟨t, ht⟩).2.2
    refine Ends.eq (b178_2 (n := n) (by (repeat' first | assumption | refine LX.setF _ _ ?_ (by decide +kernel) | refine LX.setS ?_ rfl | refine LX.setA ?_ (by first | assumption | omega))) (by first | assumption | omega)) ?_
    rw [tn, mH]
    obtain ⟨at_, eat⟩ : ∃ k : Nat, k = if hiC t then n - 1 else 0 := ⟨_, rfl⟩
    have hat : at_ < n := by rw [eat]; split <;> omega
    have ea : cond (tst 0 (if hiC t then (1 : Int) else 0) 0) 0 (bop32 100 (n : Int) 1) = (at_ : Int) := by
      rw [show bop32 100 (n : Int) 1 = ((n - 1 : Nat) : Int) from subNN (y := 1) (by omega) (by omega), eat]
      cases hiC t <;> rfl
    rw [ea]
    have bi : ∀ g, g < gN n → gSo g = t → (brd n g ↔ gC n g (aC t) = at_) := fun g hg e => by rw [brd_is hg, e, eat]
    refine Ends.b3 (fun _ => by omega) (fun _ => Ends.g ⟨by omega, by omega⟩ ?_)
    refine lp (n) (fun a L q2 => ∃ (S2 : Nat → Bool), ∃ u4 : AV, L = [(2, rf (B + 81)), (0, ((t : Int))), (0, ((at_ : Int))), (0, ((a : Int))), u4] ∧ LX B n q2 ∧ a ≤ n ∧ Fr (flA B se fs qu qd) h q2 ∧ Flo B n q2 se fs qu qd wi W S2 S2 ∧ BrS n W S2 (brP n t a)) ?_ ?_ (0) ⟨S1, _, rfl, (by (repeat' first | assumption | refine LX.setF _ _ ?_ (by decide +kernel) | refine LX.setS ?_ rfl | refine LX.setA ?_ (by assumption))), by omega, ?_⟩
    · rintro a _ q2 ha ⟨S2, uq20, rfl, lq2, haN, ⟨f2, F2, s2⟩⟩ iha
      have mq2 : TbC B q2 := m.fr f2 (fun c h1 h2 => flq c (by omega))
      have mC2 := (mq2.1 t ht).2.2.2.1
      refine Ends.eq (b178_33 (n := n) (by (repeat' first | assumption | refine LX.setF _ _ ?_ (by decide +kernel) | refine LX.setS ?_ rfl | refine LX.setA ?_ (by first | assumption | omega))) (by first | assumption | omega)) ?_
      rw [tn, mC2]
      refine Ends.b3 (fun _ => by omega) (fun _ => Ends.g ⟨by omega, by omega⟩ (Ends.b1 (fun z0 => Ends.b1 (fun z1 => ?_) (fun z1 => ?_)) (fun z0 => ?_)))
      · have c2 : aC t = 2 := by omega
        rw [row_eq hn ht hat ha]
        refine Ends.cv lq2 (by decide +kernel) (c_pour lq2 (by omega) hn0 hn F2 ht hat ha) (fun h3 l3 _ _ _ ⟨f3, F3⟩ => ?_)
        refine Ends.eq (b178_150 (n := n) (by (repeat' first | assumption | refine LX.setF _ _ ?_ (by decide +kernel) | refine LX.setS ?_ rfl | refine LX.setA ?_ (by first | assumption | omega))) (by first | assumption | omega)) ?_
        rw [w_succ (by omega)]
        refine iha _ _ ⟨(fun g => S2 g || poM n W S2 (rw3 n t at_ a) (2 ^ n - 1 : Int) g), _, rfl, (by (repeat' first | assumption | refine LX.setF _ _ ?_ (by decide +kernel) | refine LX.setS ?_ rfl | refine LX.setA ?_ (by assumption))), by omega, ?_⟩
        refine ⟨f2.tr f3, F3, s2.add (fun g hg => ?_)⟩
        obtain ⟨-, hx, -, -, -⟩ := g_lt hg
        have hb := bi g hg
        rw [rk_eq hg hat ha, tb_mask hn]
        unfold brP brA
        rw [if_pos c2]
        have e0 : gC n g (aC t) = gZ n g := by rw [c2]; rfl
        rw [e0] at hb
        simp only [hx, decide_true, and_true]
        by_cases q : gSo g = t
        · rw [hb q]; omega
        · constructor
          · rintro ⟨h1, h2⟩; exact Or.inl ⟨by omega, h2⟩
          · rintro (⟨h1, h2⟩ | h1)
            · exact ⟨by omega, h2⟩
            · omega
      · have c2 : aC t = 1 := by omega
        rw [row_eq hn ht ha hat]
        refine Ends.cv lq2 (by decide +kernel) (c_pour lq2 (by omega) hn0 hn F2 ht ha hat) (fun h3 l3 _ _ _ ⟨f3, F3⟩ => ?_)
        refine Ends.eq (b178_126 (n := n) (by (repeat' first | assumption | refine LX.setF _ _ ?_ (by decide +kernel) | refine LX.setS ?_ rfl | refine LX.setA ?_ (by first | assumption | omega))) (by first | assumption | omega)) ?_
        refine Ends.eq (b178_150 (n := n) (by (repeat' first | assumption | refine LX.setF _ _ ?_ (by decide +kernel) | refine LX.setS ?_ rfl | refine LX.setA ?_ (by first | assumption | omega))) (by first | assumption | omega)) ?_
        rw [w_succ (by omega)]
        refine iha _ _ ⟨(fun g => S2 g || poM n W S2 (rw3 n t a at_) (2 ^ n - 1 : Int) g), _, rfl, (by (repeat' first | assumption | refine LX.setF _ _ ?_ (by decide +kernel) | refine LX.setS ?_ rfl | refine LX.setA ?_ (by assumption))), by omega, ?_⟩
        refine ⟨f2.tr f3, F3, s2.add (fun g hg => ?_)⟩
        obtain ⟨-, hx, -, -, -⟩ := g_lt hg
        have hb := bi g hg
        rw [rk_eq hg ha hat, tb_mask hn]
        unfold brP brA
        rw [if_neg (by omega)]
        have e0 : gC n g (aC t) = gY n g := by rw [c2]; rfl
        rw [e0] at hb
        simp only [hx, decide_true, and_true]
        by_cases q : gSo g = t
        · rw [hb q]; omega
        · constructor
          · rintro ⟨h1, h2⟩; exact Or.inl ⟨by omega, h2⟩
          · rintro (⟨h1, h2⟩ | h1)
            · exact ⟨by omega, h2⟩
            · omega
      · have c2 : aC t = 0 := by omega
        have hne : ¬ aC t = 2 := by omega
        refine lp (n) (fun y L q3 => ∃ (S3 : Nat → Bool), L = [(2, rf (B + 81)), (0, ((t : Int))), (0, ((at_ : Int))), (0, ((a : Int))), (0, ((y : Int)))] ∧ LX B n q3 ∧ y ≤ n ∧ Fr (flA B se fs qu qd) h q3 ∧ Flo B n q3 se fs qu qd wi W S3 S3 ∧ BrS n W S3 (fun g => brP n t a g ∨ (gSo g = t ∧ gZ n g = a ∧ gY n g < y))) ?_ ?_ (0) ⟨S2, rfl, (by (repeat' first | assumption | refine LX.setF _ _ ?_ (by decide +kernel) | refine LX.setS ?_ rfl | refine LX.setA ?_ (by assumption))), by omega, ?_⟩
        · rintro y _ q3 hy ⟨S3, rfl, lq3, hyN, ⟨f3, F3, s3⟩⟩ ihy
          refine Ends.eq (b178_56 (n := n) (by (repeat' first | assumption | refine LX.setF _ _ ?_ (by decide +kernel) | refine LX.setS ?_ rfl | refine LX.setA ?_ (by first | assumption | omega))) (by first | assumption | omega)) ?_
          rw [row_eq hn ht ha hy]
          refine Ends.b3 (fun _ => by omega) (fun _ => ?_)
          refine Ends.cv lq3 (by decide +kernel) (c_pour lq3 (by omega) hn0 hn F3 ht ha hy) (fun h4 l4 _ _ _ ⟨f4, F4⟩ => ?_)
          refine Ends.eq (b178_83 (n := n) (by (repeat' first | assumption | refine LX.setF _ _ ?_ (by decide +kernel) | refine LX.setS ?_ rfl | refine LX.setA ?_ (by first | assumption | omega))) (by first | assumption | omega)) ?_
          rw [w_succ (by omega)]
          refine ihy _ _ ⟨(fun g => S3 g || poM n W S3 (rw3 n t a y) (sop64 121 1 (at_ : Int)) g), rfl, (by (repeat' first | assumption | refine LX.setF _ _ ?_ (by decide +kernel) | refine LX.setS ?_ rfl | refine LX.setA ?_ (by assumption))), by omega, ?_⟩
          refine ⟨f3.tr f4, F4, s3.add (fun g hg => ?_)⟩
          obtain ⟨-, hx, -, -, -⟩ := g_lt hg
          have hb := bi g hg
          rw [rk_eq hg ha hy, one_bit (by omega) (by omega), decide_eq_true_eq]
          have e0 : gC n g (aC t) = gX n g := by rw [c2]; rfl
          rw [e0] at hb
          by_cases q : gSo g = t
          · rw [hb q]
            simp only [brP, brA, if_neg hne]
            omega
          · constructor
            · rintro ⟨h1 | h1, h2⟩
              · exact Or.inl ⟨Or.inl h1, h2⟩
              · omega
            · rintro (⟨h1, h2⟩ | h1)
              · exact ⟨by rcases h1 with h1 | h1
                          · exact Or.inl h1
                          · omega, h2⟩
              · omega
        · rintro y _ q3 hy ⟨S3, rfl, lq3, hyN, ⟨f3, F3, s3⟩⟩
          obtain rfl : n = y := by omega
          refine Ends.eq (b178_56 (n := n) (by (repeat' first | assumption | refine LX.setF _ _ ?_ (by decide +kernel) | refine LX.setS ?_ rfl | refine LX.setA ?_ (by first | assumption | omega))) (by first | assumption | omega)) ?_
          refine Ends.b3 (fun _ => ?_) (fun _ => by omega)
          refine Ends.eq (b178_150 (n := n) (by (repeat' first | assumption | refine LX.setF _ _ ?_ (by decide +kernel) | refine LX.setS ?_ rfl | refine LX.setA ?_ (by first | assumption | omega))) (by first | assumption | omega)) ?_
          rw [w_succ (by omega)]
          refine iha _ _ ⟨S3, _, rfl, (by (repeat' first | assumption | refine LX.setF _ _ ?_ (by decide +kernel) | refine LX.setS ?_ rfl | refine LX.setA ?_ (by assumption))), by omega, ?_⟩
          refine ⟨f3, F3, fun g hg => ?_⟩
          obtain ⟨-, hx, hyy, -, -⟩ := g_lt hg
          rw [s3 g hg]
          refine and_congr Iff.rfl (and_congr Iff.rfl ?_)
          simp only [brP, brA, if_neg hne]
          omega
        · exact ⟨f2, F2, fun g hg => by rw [s2 g hg]; refine and_congr Iff.rfl (and_congr Iff.rfl ?_); simp only [brP, brA, if_neg hne] <;> omega⟩
    · rintro a _ q2 ha ⟨S2, uq20, rfl, lq2, haN, ⟨f2, F2, s2⟩⟩
      obtain rfl : n = a := by omega
      refine Ends.eq (b178_33 (n := n) (by (repeat' first | assumption | refine LX.setF _ _ ?_ (by decide +kernel) | refine LX.setS ?_ rfl | refine LX.setA ?_ (by first | assumption | omega))) (by first | assumption | omega)) ?_
      refine Ends.b3 (fun _ => ?_) (fun _ => by omega)
      rw [w_succ (by omega)]
      refine iht _ _ ⟨S2, _, _, _, rfl, (by (repeat' first | assumption | refine LX.setF _ _ ?_ (by decide +kernel) | refine LX.setS ?_ rfl | refine LX.setA ?_ (by assumption))), by omega, ?_⟩
      refine ⟨f2, F2, fun g hg => ?_⟩
      obtain ⟨-, hx, hyy, hzz, -⟩ := g_lt hg
      rw [s2 g hg]
      refine and_congr Iff.rfl (and_congr Iff.rfl ?_)
      have : brA n t g < n := by unfold brA; split <;> assumption
      unfold brP
      omega
    · exact ⟨f1, F1, s1⟩
  · rintro t _ q ht ⟨S1, uq0, uq1, uq2, rfl, lq, htN, ⟨f1, F1, s1⟩⟩
    obtain rfl : t = 24 := by omega
    have mq : TbC B q := m.fr f1 (fun c h1 h2 => flq c (by omega))
    refine Ends.eq (b178_2 (n := n) (by (repeat' first | assumption | refine LX.setF _ _ ?_ (by decide +kernel) | refine LX.setS ?_ rfl | refine LX.setA ?_ (by first | assumption | omega))) (by first | assumption | omega)) ?_
    refine Ends.b3 (fun _ => ?_) (fun _ => by omega)
    refine Ends.ct lq (by decide +kernel) (by decide) (c_run lq (by omega) hn0 hn mq F1 (fun g g' f h1 h2 h3 h4 h5 => (by rw [h4] at h5; cases h5))) (fun v h3 l3 _ _ _ ⟨f3, S3, F3, u3, c3, g3, _⟩ => ?_)
    refine Ends.eq (b178_166 (n := n) (by (repeat' first | assumption | refine LX.setF _ _ ?_ (by decide +kernel) | refine LX.setS ?_ rfl | refine LX.setA ?_ (by first | assumption | omega))) (by first | assumption | omega)) ?_
    refine Ends.sm ⟨_, rfl, f1.tr f3, S3, F3, c3, fun g hg => ⟨fun q => ?_, fun ⟨b, h1, h2, h4, h5⟩ => ?_⟩⟩
    · exact g3 (fun g => ∃ b, b < gN n ∧ W b = true ∧ brd n b ∧ Rch n W b g) (fun g hg q => by
        rw [s1 g hg] at q
        exact ⟨g, hg, q.1, q.2.1, Rch.rf⟩) (fun g g' f h1 h2 h3 ⟨b, q1, q2, q3, q4⟩ h5 h6 => ⟨b, q1, q2, q3, q4.st h1 h2 h3 h5 h6⟩) g hg q
    · have hb : S3 b = true := u3 b h1 ((s1 b h1).mpr ⟨h2, h4, by
        obtain ⟨-, -, -, -, ht⟩ := g_lt h1
        exact Or.inl ht⟩)
      exact h5 (fun g => S3 g = true) hb (fun g g' f a1 a2 a3 a4 a5 a6 => c3 g g' f a1 a2 a3 a4 rfl (fun q => q) a5 a6)
  · exact ⟨Fr.rf, F, fun g hg => ⟨fun q => (by cases q), fun ⟨_, _, q⟩ => by unfold brP at q; omega⟩⟩
end BORDER
