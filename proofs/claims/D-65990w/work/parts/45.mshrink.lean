-- deps: 44
-- blocks: 3 4 5
/-! L3: the model's opposite of a solid; shrinking -/
section MSHR
variable {gv : Nat → Int} {B n d s t : Nat} {h : AH} {S T : Nat → Bool}
theorem tb_low : ∀ m : Fin 64, ∀ x : Fin 64, tb (bop64 101 (sop64 121 1 ((m : Nat) : Int)) 1) x = decide ((x : Nat) < m) := by decide +kernel
theorem c_opposite (l : LX B n h) (hd : 11 ≤ d) (hn0 : 0 < n) (hn : n ≤ 52) (hs : s < 19) (ht : t < 19) (b : MB B n h s S) :
    Vd (cll PP (ev PP (gsF gv) B) d 771 [(2, rf (B + 149)), (0, (s : Int)), (0, (t : Int))] h) (fun h' => Agr (wto B n t (wN n)) h h' ∧ MB B n h' t (fun g => !S g)) := by
  have hw := wsml hn ht
  have hN := gN_le hn
  refine Vd.into (D := 10) hd (Nat.le_of_ble_eq_true rfl) rfl (fun d hd => ?_)
  have main : ∀ (u3 : AV) (h1 : AH), LX B n h1 → Agr (wto B n t (wN n)) h h1 → MB B n h1 t S → Ends (ev PP (gsF gv) B d 771 11 [(2, rf (B + 149)), (0, ((s : Int))), (0, ((t : Int))), u3] [] h1) (fun r => ∃ h', r = ((0, (9, 0)), h') ∧ Agr (wto B n t (wN n)) h h' ∧ MB B n h' t (fun g => !S g)) := by
    intro u3 h1 l1 g1 b1
    refine Ends.eq (b771_11 l1 (by omega)) ?_
    rw [wid0 hn ht]
    refine lp (wN n) (fun i L q => L = [(2, rf (B + 149)), (0, ((s : Int))), (0, ((t : Int))), (0, (((wN n * t + i : Nat) : Int)))] ∧ LX B n q ∧ i ≤ wN n ∧ Wrt B n t h1 (fun k => bop64 131 (hv h1 (B + 236) (wN n * t + k)) (-1)) i q) ?_ ?_ 0 ⟨rfl, l1, Nat.zero_le _, Wrt.ini⟩
    · rintro i _ q hi ⟨rfl, lq, -, w⟩ ih
      refine Ends.eq (b771_18 lq (by omega)) ?_
      rw [wid1 hn ht]
      refine Ends.b3 (fun _ => by omega) (fun _ => Ends.g (wok ht hi) ?_)
      rw [w_succ (by omega), tn, w.at (s := t) hi (Nat.le_refl _)]
      exact ih _ _ ⟨rfl, lx236 lq, hi, w.put rfl⟩
    · rintro i _ q hi ⟨rfl, lq, hi2, w⟩
      obtain rfl : i = wN n := by omega
      have e64 : bop32 112 ((gN n : Nat) : Int) 64 = ((gN n % 64 : Nat) : Int) := modNN (y := 64) (by decide) (by decide)
      have hw0 : 0 < wN n := by
        have : 0 < gN n := gI_lt (x := 0) (y := 0) (z := 0) (t := 0) hn0 hn0 hn0 (by decide) |> Nat.lt_of_le_of_lt (Nat.zero_le _)
        unfold wN; omega
      have gq : Agr (wto B n t (wN n)) h q := g1.tr w.1 (fun c k z => z)
      have wd : ∀ k, k < wN n → ∀ x, x < 64 → tb (hv q (B + 236) (wN n * t + k)) x = !(decide (64 * k + x < gN n) && S (64 * k + x)) := fun k hk x hx => by
        rw [w.2 k hk, tb_not _ hx, (b1 k hk).2 x hx]
      refine Ends.eq (b771_18 lq (by omega)) ?_
      have es : bop32 100 ((wN n * t + wN n : Nat) : Int) 1 = ((wN n * t + (wN n - 1) : Nat) : Int) := by
        rw [sub32 (by omega) (by omega)]; omega
      rw [wid1 hn ht, e64, es]
      refine Ends.b3 (fun _ => ?_) (fun _ => by omega)
      refine Ends.b0 (fun z => ?_) (fun z => ?_)
      · refine Ends.eq (b771_97 lq (by omega)) ?_
        refine Ends.sm ⟨_, rfl, gq, fun k hk => ⟨?_, fun x hx => ?_⟩⟩
        · rw [w.2 k hk]; exact cn_bop64
        · rw [wd k hk x hx]
          have : 64 * k + x < gN n := by unfold wN at hk; omega
          simp [this]
      · refine Ends.g (wok ht (by omega)) ?_
        rw [tn, an1]
        refine Ends.eq (b771_97 (lx236 lq) (by omega)) ?_
        refine Ends.sm ⟨_, rfl, gq.set ⟨rfl, by omega, by omega⟩, fun k hk => ?_⟩
        by_cases e : k = wN n - 1
        · subst e
          rw [hv_set_at]
          refine ⟨cn_bop64, fun x hx => ?_⟩
          rw [tb_and, wd _ hk x hx, tb_low ⟨gN n % 64, Nat.mod_lt _ (by decide)⟩ ⟨x, hx⟩]
          have : (x < gN n % 64) ↔ 64 * (wN n - 1) + x < gN n := by unfold wN; omega
          by_cases c : x < gN n % 64
          · simp [c, this.mp c]
          · have c2 : ¬ 64 * (wN n - 1) + x < gN n := fun z => c (this.mpr z)
            simp [c, c2]
        · rw [hv_set_ne (by omega)]
          refine ⟨by rw [w.2 k hk]; exact cn_bop64, fun x hx => ?_⟩
          rw [wd k hk x hx]
          have : 64 * k + x < gN n := by unfold wN at hk e; omega
          simp [this]
  refine Ends.eq (b771_0 l (by omega)) ?_
  refine Ends.b0 (fun e => ?_) (fun e => ?_)
  · obtain rfl : t = s := by omega
    exact main _ h l Agr.rf b
  · refine Ends.cv l (by decide +kernel) (c_copyM l hd hn hs ht b) (fun h1 l1 _ _ _ ⟨g1, b1⟩ => main _ h1 l1 g1 b1)
theorem c_shrinkM (l : LX B n h) (hd : 13 ≤ d) (hn0 : 0 < n) (hn : n ≤ 52) (hs : s < 19) (ht : t + 3 < 19) (b : MB B n h s S) {r : Nat} (hr : r ≤ 100) :
    Vd (cll PP (ev PP (gsF gv) B) d 827 [(2, rf (B + 149)), (0, (s : Int)), (0, (r : Int)), (0, (t : Int))] h) (fun h' => Agr (fun c k => wto3 B n t c k ∨ wto B n (t + 3) (wN n) c k) h h' ∧ ∃ R, MB B n h' t R ∧ ∀ x, x < gN n → (R x = true ↔ ¬ nearS n r (fun g => !S g) x ∧ ∀ a, a < 3 → r ≤ gC n x a ∧ gC n x a + r < n)) := by
  have hN := gN_le hn
  refine Vd.into (D := 12) hd (Nat.le_of_ble_eq_true rfl) rfl (fun d hd => ?_)
  have p3 : bop32 96 (t : Int) 3 = ((t + 3 : Nat) : Int) := addNN (y := 3) (by omega)
  refine Ends.eq (b827_0 l (by omega)) ?_
  rw [p3]
  refine Ends.cv l (by decide +kernel) (c_opposite l (by omega) hn0 hn hs (by omega) b) (fun h1 l1 _ _ _ ⟨g1, b1⟩ => ?_)
  refine Ends.eq (b827_8 l1 (by omega)) ?_
  rw [p3]
  refine Ends.cv l1 (by decide +kernel) (c_growM l1 hd hn (by omega) (by omega) (by omega) b1 hr) (fun h2 l2 _ _ _ ⟨g2, R2, b2, e2⟩ => ?_)
  refine Ends.eq (b827_17 l2 (by omega)) ?_
  refine Ends.cv l2 (by decide +kernel) (c_opposite l2 (by omega) hn0 hn (by omega) (by omega) b2) (fun h3 l3 _ _ _ ⟨g3, b3⟩ => ?_)
  refine Ends.eq (b827_23 l3 (by omega)) ?_
  have g03 : Agr (fun c k => wto3 B n t c k ∨ wto B n (t + 3) (wN n) c k) h h3 := ((g1.sub (fun c k z => Or.inr z)).tr g2 (fun c k z => Or.inl z)).tr g3 (fun c k z => Or.inl (Or.inl z))
  refine lp (gN n) (fun i L q => ∃ u5 u6 u7 : AV, L = [(2, rf (B + 149)), (0, ((s : Int))), (0, ((r : Int))), (0, ((t : Int))), (0, ((i : Int))), u5, u6, u7] ∧ LX B n q ∧ i ≤ gN n ∧ Agr (wto B n t (wN n)) h3 q ∧ ∃ R, MB B n q t R ∧ ∀ x, x < gN n → (R x = true ↔ (!R2 x) = true ∧ (x < i → ∀ a, a < 3 → r ≤ gC n x a ∧ gC n x a + r < n))) ?_ ?_ 0 ⟨_, _, _, rfl, l3, Nat.zero_le _, Agr.rf, _, b3, fun x hx => ⟨fun z => ⟨z, fun z2 => by omega⟩, fun z => z.1⟩⟩
  · rintro i _ q hi ⟨u5, u6, u7, rfl, lq, -, gq, R, bR, eR⟩ ih
    obtain ⟨-, hx, hy, hz, -⟩ := g_lt hi
    have hn1 : (n : Int) ≠ 0 := by omega
    have fin : ∀ (q2 : AH) (R3 : Nat → Bool), LX B n q2 → Agr (wto B n t (wN n)) h3 q2 → MB B n q2 t R3 → (∀ x, x < gN n → (R3 x = true ↔ (!R2 x) = true ∧ (x < i + 1 → ∀ a, a < 3 → r ≤ gC n x a ∧ gC n x a + r < n))) → Ends (ev PP (gsF gv) B d 827 117 [(2, rf (B + 149)), (0, ((s : Int))), (0, ((r : Int))), (0, ((t : Int))), (0, ((i : Int))), (0, (((gX n i : Nat) : Int))), (0, (((gY n i : Nat) : Int))), (0, (((gZ n i : Nat) : Int)))] [] q2) _ := fun q2 R3 l2 g2 b2 e2 => by
      refine Ends.eq (b827_117 l2 (by omega)) ?_
      rw [w_succ (by omega)]
      exact ih _ _ ⟨_, _, _, rfl, l2, hi, g2, R3, b2, e2⟩
    have cut : ¬ (∀ a, a < 3 → r ≤ gC n i a ∧ gC n i a + r < n) → Ends (ev PP (gsF gv) B d 827 110 [(2, rf (B + 149)), (0, ((s : Int))), (0, ((r : Int))), (0, ((t : Int))), (0, ((i : Int))), (0, (((gX n i : Nat) : Int))), (0, (((gY n i : Nat) : Int))), (0, (((gZ n i : Nat) : Int)))] [] q) (fun r_1 => ∃ h', r_1 = ((0, (9, 0)), h') ∧ Agr (fun c k => wto3 B n t c k ∨ wto B n (t + 3) (wN n) c k) h h' ∧ ∃ R, MB B n h' t R ∧ ∀ x, x < gN n → (R x = true ↔ ¬ nearS n r (fun g => !S g) x ∧ ∀ a, a < 3 → r ≤ gC n x a ∧ gC n x a + r < n)) := fun hno => by
      refine Ends.eq (b827_110 lq (by omega)) ?_
      refine Ends.cv lq (by decide +kernel) (c_dropM lq (by omega) hn (by omega) bR hi) (fun h4 l4 _ _ _ ⟨_, g4, b4⟩ => ?_)
      refine fin h4 _ l4 (gq.tr g4 (fun c k z => z)) b4 (fun x hx => ?_)
      have eD : ((!decide (x = i)) = true) ↔ ¬ x = i := by simp
      rw [Bool.and_eq_true, eR x hx, eD]
      constructor
      · rintro ⟨⟨z1, z2⟩, z3⟩
        exact ⟨z1, fun z4 => z2 (by omega)⟩
      · rintro ⟨z1, z2⟩
        exact ⟨⟨z1, fun z4 => z2 (by omega)⟩, fun z => hno (by subst z; exact z2 (by omega))⟩
    refine Ends.eq (b827_26 lq (by omega)) ?_
    rw [cubeX_is hn0 hn (by omega), cubeY_is hn0 hn (by omega), cubeZ_is hn0 hn (by omega), sub32 (by omega) (by omega)]
    refine Ends.b3 (fun _ => by omega) (fun _ => Ends.g hn1 (Ends.g hn1 (Ends.g hn1 ?_)))
    refine Ends.b2 (fun z => cut (fun y => by have : r ≤ gX n i := (y 0 (by decide)).1; omega)) (fun _ => ?_)
    refine Ends.b2 (fun z => cut (fun y => by have : r ≤ gY n i := (y 1 (by decide)).1; omega)) (fun _ => ?_)
    refine Ends.b2 (fun z => cut (fun y => by have : r ≤ gZ n i := (y 2 (by decide)).1; omega)) (fun _ => ?_)
    refine Ends.b3 (fun z => cut (fun y => by have : gX n i + r < n := (y 0 (by decide)).2; omega)) (fun _ => ?_)
    refine Ends.b3 (fun z => cut (fun y => by have : gY n i + r < n := (y 1 (by decide)).2; omega)) (fun _ => ?_)
    refine Ends.b2 (fun z => ?_) (fun z => cut (fun y => by have : gZ n i + r < n := (y 2 (by decide)).2; omega))
    refine fin q R lq gq bR (fun x hx => ?_)
    rw [eR x hx]
    refine ⟨fun z => ⟨z.1, fun z4 a ha => ?_⟩, fun z => ⟨z.1, fun z4 => z.2 (by omega)⟩⟩
    by_cases e : x = i
    · subst e
      obtain rfl | rfl | rfl : a = 0 ∨ a = 1 ∨ a = 2 := by omega
      · exact ⟨(by omega : r ≤ gX n x), (by omega : gX n x + r < n)⟩
      · exact ⟨(by omega : r ≤ gY n x), (by omega : gY n x + r < n)⟩
      · exact ⟨(by omega : r ≤ gZ n x), (by omega : gZ n x + r < n)⟩
    · exact z.2 (by omega) a ha
  · rintro i _ q hi ⟨u5, u6, u7, rfl, lq, hi2, gq, R, bR, eR⟩
    obtain rfl : i = gN n := by omega
    refine Ends.eq (b827_26 lq (by omega)) ?_
    refine Ends.b3 (fun _ => Ends.sm ⟨_, rfl, g03.tr gq (fun c k z => Or.inl (Or.inl z)), R, bR, fun x hx => ?_⟩) (fun _ => by omega)
    rw [eR x hx, Bool.not_eq_true', ← Bool.not_eq_true, e2 x hx]
    exact ⟨fun z => ⟨z.1, z.2 hx⟩, fun z => ⟨z.1, fun _ => z.2⟩⟩
end MSHR
