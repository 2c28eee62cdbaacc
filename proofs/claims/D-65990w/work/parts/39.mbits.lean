-- deps: 38
-- blocks: 3 4 5
/-! L3: the model's solids: rows of bits in cell B + 236 -/
theorem gN_le {n : Nat} (hn : n ≤ 52) : gN n ≤ 3374592 := by
  unfold gN
  have h1 : n * n ≤ 52 * 52 := Nat.mul_le_mul hn hn
  have h2 : n * n * n ≤ 52 * 52 * 52 := Nat.mul_le_mul h1 hn
  rw [show 24 * n * n * n = 24 * (n * n * n) by simp [Nat.mul_assoc]]
  omega
theorem wN_le {n : Nat} (hn : n ≤ 52) : wN n ≤ 52728 := by
  have := gN_le hn
  unfold wN; omega
theorem wN_g {n g : Nat} (hg : g < gN n) : g / 64 < wN n := by unfold wN; omega
theorem wrow {w s k : Nat} (hs : s < 19) (hk : k < w) : w * s + k < w * 19 := by
  have : w * (s + 1) ≤ w * 19 := Nat.mul_le_mul_left w hs
  rw [Nat.mul_succ] at this; omega
theorem wrow2 {w s t k m : Nat} (hk : k < w) (hm : m < w) (e : w * s + k = w * t + m) : s = t := by
  rcases Nat.lt_trichotomy s t with q | q | q
  · have : w * (s + 1) ≤ w * t := Nat.mul_le_mul_left w q
    rw [Nat.mul_succ] at this; omega
  · exact q
  · have : w * (t + 1) ≤ w * s := Nat.mul_le_mul_left w q
    rw [Nat.mul_succ] at this; omega
/-- row s of the model has the grains of S -/
def MB (B n : Nat) (h : AH) (s : Nat) (S : Nat → Bool) : Prop := ∀ k, k < wN n → cn 1 (hv h (B + 236) (wN n * s + k)) ∧ ∀ x, x < 64 → tb (hv h (B + 236) (wN n * s + k)) x = (decide (64 * k + x < gN n) && S (64 * k + x))
/-- the places of row s -/
def inR (n s k : Nat) : Prop := wN n * s ≤ k ∧ k < wN n * s + wN n
theorem MB.agr {B n s : Nat} {h t : AH} {S : Nat → Bool} {W : Nat → Nat → Prop} (m : MB B n h s S) (g : Agr W h t) (hW : ∀ k, k < wN n → ¬ W (B + 236) (wN n * s + k)) : MB B n t s S := by
  intro k hk
  rw [g.at _ _ (hW k hk)]
  exact m k hk
theorem MB.congr {B n s : Nat} {h : AH} {S T : Nat → Bool} (m : MB B n h s S) (e : ∀ g, g < gN n → S g = T g) : MB B n h s T := by
  intro k hk
  refine ⟨(m k hk).1, fun x hx => ?_⟩
  rw [(m k hk).2 x hx]
  by_cases q : 64 * k + x < gN n
  · rw [e _ q]
  · simp [q]
theorem wmul {n s : Nat} (hn : n ≤ 52) (hs : s < 19) : wN n * s ≤ 949104 := Nat.le_trans (Nat.mul_le_mul (wN_le hn) (Nat.le_of_lt_succ hs)) (by decide)
theorem wid0 {n s : Nat} (hn : n ≤ 52) (hs : s < 19) : bop32 104 ((wN n : Nat) : Int) (s : Int) = ((wN n * s : Nat) : Int) := mulNN (by have := wmul hn hs; omega)
theorem widx {n s k : Nat} (hn : n ≤ 52) (hs : s < 19) (hk : k < wN n) : bop32 96 (bop32 104 ((wN n : Nat) : Int) (s : Int)) (k : Int) = ((wN n * s + k : Nat) : Int) := by
  rw [wid0 hn hs, addNN (by have := wmul hn hs; have := wN_le hn; omega)]
theorem wid1 {n s : Nat} (hn : n ≤ 52) (hs : s < 19) : bop32 96 (bop32 104 ((wN n : Nat) : Int) (s : Int)) ((wN n : Nat) : Int) = ((wN n * s + wN n : Nat) : Int) := by
  rw [wid0 hn hs, addNN (by have := wmul hn hs; have := wN_le hn; omega)]
theorem wok {n s k : Nat} (hs : s < 19) (hk : k < wN n) : 0 ≤ ((wN n * s + k : Nat) : Int) ∧ ((wN n * s + k : Nat) : Int) < ((wN n * 19 : Nat) : Int) := ⟨Int.natCast_nonneg _, Int.ofNat_lt.mpr (wrow hs hk)⟩
theorem wsml {n s : Nat} (hn : n ≤ 52) (hs : s < 19) : wN n * s + wN n ≤ 1054560 := by
  have h2 := wN_le hn
  have hm := wmul hn hs
  omega
/-- the first i places of row t -/
def wto (B n t i : Nat) : Nat → Nat → Prop := fun c k => c = B + 236 ∧ wN n * t ≤ k ∧ k < wN n * t + i
theorem wto_out {B n s t i k : Nat} (hk : k < wN n) (hi : i ≤ k) : ¬ wto B n t i (B + 236) (wN n * s + k) := by
  rintro ⟨-, h1, h2⟩
  have : s = t := wrow2 (k := k) (m := wN n * s + k - wN n * t) hk (by omega) (by omega)
  subst this; omega
theorem wto_row {B n s t i k : Nat} (hk : k < wN n) (hi : i ≤ wN n) (hst : s ≠ t) : ¬ wto B n t i (B + 236) (wN n * s + k) := by
  rintro ⟨-, h1, h2⟩
  exact hst (wrow2 (k := k) (m := wN n * s + k - wN n * t) hk (by omega) (by omega))
theorem MB.row {B n s t : Nat} {h q : AH} {S : Nat → Bool} (m : MB B n h s S) (g : Agr (wto B n t (wN n)) h q) (hst : s ≠ t) : MB B n q s S := m.agr g (fun k hk => wto_row hk (Nat.le_refl _) hst)
/-- words written so far -/
def Wrt (B n t : Nat) (h : AH) (F : Nat → Int) (i : Nat) (q : AH) : Prop := Agr (wto B n t i) h q ∧ ∀ k, k < i → hv q (B + 236) (wN n * t + k) = F k
theorem Wrt.ini {B n t : Nat} {h : AH} {F : Nat → Int} : Wrt B n t h F 0 h := ⟨Agr.rf, fun k hk => by omega⟩
theorem Wrt.at {B n s t i k : Nat} {h q : AH} {F : Nat → Int} (w : Wrt B n t h F i q) (hk : k < wN n) (hi : i ≤ k) : hv q (B + 236) (wN n * s + k) = hv h (B + 236) (wN n * s + k) := w.1.at _ _ (wto_out hk hi)
theorem Wrt.put {B n t i : Nat} {h q : AH} {F : Nat → Int} {v : Int} (w : Wrt B n t h F i q) (e : v = F i) : Wrt B n t h F (i + 1) (hset q (B + 236) (wN n * t + i) v) := by
  refine ⟨(w.1.sub (fun c k z => ⟨z.1, z.2.1, by have := z.2.2; omega⟩)).set ⟨rfl, by omega, by omega⟩, fun k hk => ?_⟩
  by_cases z : k = i
  · subst z; rw [hv_set_at]; exact e
  · rw [hv_set_ne (fun y => z (by omega))]; exact w.2 k (by omega)
theorem Wrt.fin {B n t : Nat} {h q : AH} {F : Nat → Int} {S : Nat → Bool} (w : Wrt B n t h F (wN n) q) (hF : ∀ k, k < wN n → cn 1 (F k) ∧ ∀ x, x < 64 → tb (F k) x = (decide (64 * k + x < gN n) && S (64 * k + x))) : Agr (wto B n t (wN n)) h q ∧ MB B n q t S :=
  ⟨w.1, fun k hk => by rw [w.2 k hk]; exact hF k hk⟩
section MBITS
variable {gv : Nat → Int} {B n d s t u : Nat} {h : AH} {S T : Nat → Bool}
theorem lx236 {q : AH} {k : Nat} {v : Int} (l : LX B n q) : LX B n (hset q (B + 236) k v) := LX.setA (t := 1) l (by rw [lk_236 l])
theorem has_is (m : MB B n h s S) (hs : s < 19) (hn : n ≤ 52) {g : Nat} (hg : g < gN n) : q669 B n h (s : Int) (g : Int) ∧ v669 B n h (s : Int) (g : Int) = if S g then 1 else 0 := by
  have h1 := gN_le hn
  have h3 := wN_g hg
  unfold q669 v669
  rw [shr6 (by omega), and63, widx hn hs h3]
  refine ⟨wok hs h3, ?_⟩
  rw [tn, bit_is _ (by omega), (m _ h3).2 _ (by omega)]
  have e5 : 64 * (g / 64) + g % 64 = g := by omega
  rw [e5]
  cases hS : S g
  · simp [tst0, cmp64_eq]
  · simp [hg, tst0, cmp64_gt]
theorem c_empty (l : LX B n h) (hd : 10 ≤ d) (hn : n ≤ 52) (hs : s < 19) :
    Vd (cll PP (ev PP (gsF gv) B) d 607 [(2, rf (B + 149)), (0, (s : Int))] h) (fun h' => Agr (wto B n s (wN n)) h h' ∧ MB B n h' s (fun _ => false)) := by
  have hw := wsml hn hs
  refine Vd.into (D := 9) hd (Nat.le_of_ble_eq_true rfl) rfl (fun d hd => ?_)
  refine Ends.eq (b607_0 (n := n) (by (repeat' first | assumption | refine LX.setF _ _ ?_ (by decide +kernel) | refine LX.setS ?_ rfl | refine LX.setA ?_ (by first | assumption | omega))) (by first | assumption | omega)) ?_
  rw [wid0 hn hs]
  refine lp (wN n) (fun i L q => L = [(2, rf (B + 149)), (0, ((s : Int))), (0, (((wN n * s + i : Nat) : Int)))] ∧ LX B n q ∧ i ≤ wN n ∧ Wrt B n s h (fun _ => 0) i q) ?_ ?_ 0 ⟨rfl, l, Nat.zero_le _, Wrt.ini⟩
  · rintro i _ q hi ⟨rfl, l, -, w⟩ ih
    refine Ends.eq (b607_7 (n := n) (by (repeat' first | assumption | refine LX.setF _ _ ?_ (by decide +kernel) | refine LX.setS ?_ rfl | refine LX.setA ?_ (by first | assumption | omega))) (by first | assumption | omega)) ?_
    rw [wid1 hn hs]
    refine Ends.b3 (fun _ => by omega) (fun _ => Ends.g (wok hs hi) ?_)
    rw [w_succ (by omega), tn]
    exact ih _ _ ⟨rfl, lx236 l, hi, w.put rfl⟩
  · rintro i _ q hi ⟨rfl, l, hi2, w⟩
    obtain rfl : i = wN n := by omega
    refine Ends.eq (b607_7 (n := n) (by (repeat' first | assumption | refine LX.setF _ _ ?_ (by decide +kernel) | refine LX.setS ?_ rfl | refine LX.setA ?_ (by first | assumption | omega))) (by first | assumption | omega)) ?_
    rw [wid1 hn hs]
    refine Ends.b3 (fun _ => ?_) (fun _ => by omega)
    exact Ends.sm ⟨_, rfl, w.fin (fun k hk => ⟨⟨by decide, by decide⟩, fun x _ => by rw [tb_0]; simp⟩)⟩
theorem c_copyM (l : LX B n h) (hd : 10 ≤ d) (hn : n ≤ 52) (hs : s < 19) (ht : t < 19) (m : MB B n h s S) :
    Vd (cll PP (ev PP (gsF gv) B) d 582 [(2, rf (B + 149)), (0, (s : Int)), (0, (t : Int))] h) (fun h' => Agr (wto B n t (wN n)) h h' ∧ MB B n h' t S) := by
  have hw := wN_le hn
  refine Vd.into (D := 9) hd (Nat.le_of_ble_eq_true rfl) rfl (fun d hd => ?_)
  refine Ends.eq (b582_0 (n := n) (by (repeat' first | assumption | refine LX.setF _ _ ?_ (by decide +kernel) | refine LX.setS ?_ rfl | refine LX.setA ?_ (by first | assumption | omega))) (by first | assumption | omega)) ?_
  refine lp (wN n) (fun i L q => L = [(2, rf (B + 149)), (0, ((s : Int))), (0, ((t : Int))), (0, ((i : Int)))] ∧ LX B n q ∧ i ≤ wN n ∧ Wrt B n t h (fun k => hv h (B + 236) (wN n * s + k)) i q) ?_ ?_ 0 ⟨rfl, l, Nat.zero_le _, Wrt.ini⟩
  · rintro i _ q hi ⟨rfl, l, -, w⟩ ih
    refine Ends.eq (b582_2 (n := n) (by (repeat' first | assumption | refine LX.setF _ _ ?_ (by decide +kernel) | refine LX.setS ?_ rfl | refine LX.setA ?_ (by first | assumption | omega))) (by first | assumption | omega)) ?_
    rw [widx hn hs hi, widx hn ht hi]
    refine Ends.b3 (fun _ => by omega) (fun _ => Ends.g (wok hs hi) (Ends.g (wok ht hi) ?_))
    rw [w_succ (by omega), tn, tn]
    exact ih _ _ ⟨rfl, lx236 l, hi, w.put (w.at hi (Nat.le_refl _))⟩
  · rintro i _ q hi ⟨rfl, l, hi2, w⟩
    obtain rfl : i = wN n := by omega
    refine Ends.eq (b582_2 (n := n) (by (repeat' first | assumption | refine LX.setF _ _ ?_ (by decide +kernel) | refine LX.setS ?_ rfl | refine LX.setA ?_ (by first | assumption | omega))) (by first | assumption | omega)) ?_
    refine Ends.b3 (fun _ => ?_) (fun _ => by omega)
    exact Ends.sm ⟨_, rfl, w.fin (fun k hk => m k hk)⟩
theorem c_isEmptyM (l : LX B n h) (hd : 10 ≤ d) (hn : n ≤ 52) (hs : s < 19) (m : MB B n h s S) :
    Vt 0 (cll PP (ev PP (gsF gv) B) d 687 [(2, rf (B + 149)), (0, (s : Int))] h) (fun v h' => h' = h ∧ ((v = 1 ∧ ∀ g, g < gN n → S g = false) ∨ (v = 0 ∧ ∃ g, g < gN n ∧ S g = true))) := by
  have hw := wsml hn hs
  refine Vt.into (D := 9) hd (Nat.le_of_ble_eq_true rfl) rfl (fun d hd => ?_)
  refine Ends.eq (b687_0 (n := n) (by (repeat' first | assumption | refine LX.setF _ _ ?_ (by decide +kernel) | refine LX.setS ?_ rfl | refine LX.setA ?_ (by first | assumption | omega))) (by first | assumption | omega)) ?_
  rw [wid0 hn hs]
  refine lp (wN n) (fun i L q => L = [(2, rf (B + 149)), (0, ((s : Int))), (0, (((wN n * s + i : Nat) : Int)))] ∧ q = h ∧ i ≤ wN n ∧ ∀ g, g < 64 * i → g < gN n → S g = false) ?_ ?_ 0 ⟨rfl, rfl, Nat.zero_le _, fun g hg => by omega⟩
  · rintro i _ q hi ⟨rfl, rfl, -, hz⟩ ih
    have hm := m i hi
    refine Ends.eq (b687_7 (n := n) (by (repeat' first | assumption | refine LX.setF _ _ ?_ (by decide +kernel) | refine LX.setS ?_ rfl | refine LX.setA ?_ (by first | assumption | omega))) (by first | assumption | omega)) ?_
    rw [wid1 hn hs]
    refine Ends.b3 (fun _ => by omega) (fun _ => Ends.g (wok hs hi) ?_)
    rw [w_succ (by omega), tn]
    refine Ends.b0 (fun e => ih _ _ ⟨rfl, rfl, hi, fun g hg hg2 => ?_⟩) (fun e => Ends.sm ⟨_, _, rfl, rfl, Or.inr ⟨rfl, ?_⟩⟩)
    · by_cases q : g < 64 * i
      · exact hz g q hg2
      · have := (tb_z hm.1).mp (cmp64_z.mp e) (g - 64 * i) (by omega)
        rw [hm.2 _ (by omega), show 64 * i + (g - 64 * i) = g by omega] at this
        simpa [hg2] using this
    · apply Classical.byContradiction
      intro hno
      refine e (cmp64_z.mpr ((tb_z hm.1).mpr (fun x hx => ?_)))
      rw [hm.2 x hx]
      by_cases q : 64 * i + x < gN n
      · cases hS : S (64 * i + x)
        · simp
        · exact absurd ⟨_, q, hS⟩ hno
      · simp [q]
  · rintro i _ q hi ⟨rfl, rfl, hi2, hz⟩
    refine Ends.eq (b687_7 (n := n) (by (repeat' first | assumption | refine LX.setF _ _ ?_ (by decide +kernel) | refine LX.setS ?_ rfl | refine LX.setA ?_ (by first | assumption | omega))) (by first | assumption | omega)) ?_
    rw [wid1 hn hs]
    refine Ends.b3 (fun _ => ?_) (fun _ => by omega)
    exact Ends.sm ⟨_, _, rfl, rfl, Or.inl ⟨rfl, fun g hg => hz g (by unfold wN at hi; omega) hg⟩⟩
theorem c_isSame (l : LX B n h) (hd : 10 ≤ d) (hn : n ≤ 52) (hs : s < 19) (ht : t < 19) (m : MB B n h s S) (m2 : MB B n h t T) :
    Vt 0 (cll PP (ev PP (gsF gv) B) d 715 [(2, rf (B + 149)), (0, (s : Int)), (0, (t : Int))] h) (fun v h' => h' = h ∧ ((v = 1 ∧ ∀ g, g < gN n → S g = T g) ∨ (v = 0 ∧ ¬ ∀ g, g < gN n → S g = T g))) := by
  have hw := wN_le hn
  refine Vt.into (D := 9) hd (Nat.le_of_ble_eq_true rfl) rfl (fun d hd => ?_)
  refine Ends.eq (b715_0 (n := n) (by (repeat' first | assumption | refine LX.setF _ _ ?_ (by decide +kernel) | refine LX.setS ?_ rfl | refine LX.setA ?_ (by first | assumption | omega))) (by first | assumption | omega)) ?_
  refine lp (wN n) (fun i L q => L = [(2, rf (B + 149)), (0, ((s : Int))), (0, ((t : Int))), (0, ((i : Int)))] ∧ q = h ∧ ∀ g, g < 64 * i → g < gN n → S g = T g) ?_ ?_ 0 ⟨rfl, rfl, fun g hg => by omega⟩
  · rintro i _ q hi ⟨rfl, rfl, hz⟩ ih
    have hm := m i hi
    have hm2 := m2 i hi
    refine Ends.eq (b715_2 (n := n) (by (repeat' first | assumption | refine LX.setF _ _ ?_ (by decide +kernel) | refine LX.setS ?_ rfl | refine LX.setA ?_ (by first | assumption | omega))) (by first | assumption | omega)) ?_
    rw [widx hn hs hi, widx hn ht hi]
    refine Ends.b3 (fun _ => by omega) (fun _ => Ends.g (wok hs hi) (Ends.g (wok ht hi) ?_))
    rw [w_succ (by omega), tn, tn]
    refine Ends.b0 (fun e => ih _ _ ⟨rfl, rfl, fun g hg hg2 => ?_⟩) (fun e => Ends.sm ⟨_, _, rfl, rfl, Or.inr ⟨rfl, fun hall => ?_⟩⟩)
    · by_cases q : g < 64 * i
      · exact hz g q hg2
      · have e1 := hm.2 (g - 64 * i) (by omega)
        have e2 := hm2.2 (g - 64 * i) (by omega)
        rw [cmp64_z.mp e, e2, show 64 * i + (g - 64 * i) = g by omega] at e1
        simpa [hg2] using e1.symm
    · refine e (cmp64_z.mpr (tb_ext hm.1 hm2.1 (fun x hx => ?_)))
      rw [hm.2 x hx, hm2.2 x hx]
      by_cases q : 64 * i + x < gN n
      · rw [hall _ q]
      · simp [q]
  · rintro i _ q hi ⟨rfl, rfl, hz⟩
    refine Ends.eq (b715_2 (n := n) (by (repeat' first | assumption | refine LX.setF _ _ ?_ (by decide +kernel) | refine LX.setS ?_ rfl | refine LX.setA ?_ (by first | assumption | omega))) (by first | assumption | omega)) ?_
    refine Ends.b3 (fun _ => ?_) (fun _ => by omega)
    exact Ends.sm ⟨_, _, rfl, rfl, Or.inl ⟨rfl, fun g hg => hz g (by unfold wN at hi; omega) hg⟩⟩
theorem c_touches (l : LX B n h) (hd : 10 ≤ d) (hn : n ≤ 52) (hs : s < 19) (ht : t < 19) (m : MB B n h s S) (m2 : MB B n h t T) :
    Vt 0 (cll PP (ev PP (gsF gv) B) d 853 [(2, rf (B + 149)), (0, (s : Int)), (0, (t : Int))] h) (fun v h' => h' = h ∧ ((v = 0 ∧ ∀ g, g < gN n → (S g && T g) = false) ∨ (v = 1 ∧ ∃ g, g < gN n ∧ (S g && T g) = true))) := by
  have hw := wN_le hn
  refine Vt.into (D := 9) hd (Nat.le_of_ble_eq_true rfl) rfl (fun d hd => ?_)
  refine Ends.eq (b853_0 (n := n) (by (repeat' first | assumption | refine LX.setF _ _ ?_ (by decide +kernel) | refine LX.setS ?_ rfl | refine LX.setA ?_ (by first | assumption | omega))) (by first | assumption | omega)) ?_
  refine lp (wN n) (fun i L q => L = [(2, rf (B + 149)), (0, ((s : Int))), (0, ((t : Int))), (0, ((i : Int)))] ∧ q = h ∧ ∀ g, g < 64 * i → g < gN n → (S g && T g) = false) ?_ ?_ 0 ⟨rfl, rfl, fun g hg => by omega⟩
  · rintro i _ q hi ⟨rfl, rfl, hz⟩ ih
    have hm : ∀ x, x < 64 → tb (bop64 127 (hv q (B + 236) (wN n * s + i)) (hv q (B + 236) (wN n * t + i))) x = (decide (64 * i + x < gN n) && (S (64 * i + x) && T (64 * i + x))) := fun x hx => by
      rw [tb_and, (m i hi).2 x hx, (m2 i hi).2 x hx]
      cases decide (64 * i + x < gN n) <;> rfl
    refine Ends.eq (b853_2 (n := n) (by (repeat' first | assumption | refine LX.setF _ _ ?_ (by decide +kernel) | refine LX.setS ?_ rfl | refine LX.setA ?_ (by first | assumption | omega))) (by first | assumption | omega)) ?_
    rw [widx hn hs hi, widx hn ht hi]
    refine Ends.b3 (fun _ => by omega) (fun _ => Ends.g (wok hs hi) (Ends.g (wok ht hi) ?_))
    rw [w_succ (by omega), tn, tn]
    refine Ends.b0 (fun e => ih _ _ ⟨rfl, rfl, fun g hg hg2 => ?_⟩) (fun e => Ends.sm ⟨_, _, rfl, rfl, Or.inr ⟨rfl, ?_⟩⟩)
    · by_cases q : g < 64 * i
      · exact hz g q hg2
      · have := (tb_z cn_bop64).mp (cmp64_z.mp e) (g - 64 * i) (by omega)
        rw [hm _ (by omega), show 64 * i + (g - 64 * i) = g by omega] at this
        simpa [hg2] using this
    · apply Classical.byContradiction
      intro hno
      refine e (cmp64_z.mpr ((tb_z cn_bop64).mpr (fun x hx => ?_)))
      rw [hm x hx]
      by_cases q : 64 * i + x < gN n
      · cases hS : (S (64 * i + x) && T (64 * i + x))
        · simp
        · exact absurd ⟨_, q, hS⟩ hno
      · simp [q]
  · rintro i _ q hi ⟨rfl, rfl, hz⟩
    refine Ends.eq (b853_2 (n := n) (by (repeat' first | assumption | refine LX.setF _ _ ?_ (by decide +kernel) | refine LX.setS ?_ rfl | refine LX.setA ?_ (by first | assumption | omega))) (by first | assumption | omega)) ?_
    refine Ends.b3 (fun _ => ?_) (fun _ => by omega)
    exact Ends.sm ⟨_, _, rfl, rfl, Or.inl ⟨rfl, fun g hg => hz g (by unfold wN at hi; omega) hg⟩⟩
theorem c_combineM (l : LX B n h) (hd : 10 ≤ d) (hn : n ≤ 52) (hs : s < 19) (ht : t < 19) (hu : u < 19) (m : MB B n h s S) (m2 : MB B n h t T) {op : Int} (ho : 0 ≤ op ∧ op ≤ 2) :
    Vd (cll PP (ev PP (gsF gv) B) d 575 [(2, rf (B + 149)), (0, (s : Int)), (0, (t : Int)), (0, op), (0, (u : Int))] h) (fun h' => Agr (wto B n u (wN n)) h h' ∧ MB B n h' u (fun g => jn op (S g) (T g))) := by
  have hw := wN_le hn
  refine Vd.into (D := 9) hd (Nat.le_of_ble_eq_true rfl) rfl (fun d hd => ?_)
  refine Ends.eq (b575_0 (n := n) (by (repeat' first | assumption | refine LX.setF _ _ ?_ (by decide +kernel) | refine LX.setS ?_ rfl | refine LX.setA ?_ (by first | assumption | omega))) (by first | assumption | omega)) ?_
  refine lp (wN n) (fun i L q => ∃ u6 u7 u8 u9 : AV, L = [(2, rf (B + 149)), (0, ((s : Int))), (0, ((t : Int))), (0, op), (0, ((u : Int))), (0, ((i : Int))), u6, u7, u8, u9] ∧ LX B n q ∧ i ≤ wN n ∧ Wrt B n u h (fun k => cond (tst 1 op 0) (cond (tst 1 op 1) (bop64 127 (hv h (B + 236) (wN n * s + k)) (hv h (B + 236) (wN n * t + k))) (bop64 127 (hv h (B + 236) (wN n * s + k)) (bop64 131 (hv h (B + 236) (wN n * t + k)) (-1)))) (bop64 129 (hv h (B + 236) (wN n * s + k)) (hv h (B + 236) (wN n * t + k)))) i q) ?_ ?_ 0 ⟨_, _, _, _, rfl, l, Nat.zero_le _, Wrt.ini⟩
  · rintro i _ q hi ⟨u6, u7, u8, u9, rfl, l, -, w⟩ ih
    refine Ends.eq (b575_3 (n := n) (by (repeat' first | assumption | refine LX.setF _ _ ?_ (by decide +kernel) | refine LX.setS ?_ rfl | refine LX.setA ?_ (by first | assumption | omega))) (by first | assumption | omega)) ?_
    rw [widx hn hs hi, widx hn ht hi, widx hn hu hi]
    refine Ends.b3 (fun _ => by omega) (fun _ => Ends.g (wok hs hi) (Ends.g (wok ht hi) (Ends.g (wok hu hi) ?_)))
    rw [w_succ (by omega), tn, tn, tn, w.at (s := s) hi (Nat.le_refl _), w.at (s := t) hi (Nat.le_refl _)]
    exact ih _ _ ⟨_, _, _, _, rfl, lx236 l, hi, w.put rfl⟩
  · rintro i _ q hi ⟨u6, u7, u8, u9, rfl, l, hi2, w⟩
    obtain rfl : i = wN n := by omega
    refine Ends.eq (b575_3 (n := n) (by (repeat' first | assumption | refine LX.setF _ _ ?_ (by decide +kernel) | refine LX.setS ?_ rfl | refine LX.setA ?_ (by first | assumption | omega))) (by first | assumption | omega)) ?_
    refine Ends.b3 (fun _ => ?_) (fun _ => by omega)
    refine Ends.sm ⟨_, rfl, w.fin (fun k hk => ?_)⟩
    have e1 := (m k hk).2
    have e2 := (m2 k hk).2
    rw [tst1, tst1]
    unfold jn
    obtain rfl | rfl | rfl : op = 0 ∨ op = 1 ∨ op = 2 := by omega
    · simp only [decide_true, Bool.not_true, cond_false, if_true]
      refine ⟨cn_bop64, fun x hx => ?_⟩
      rw [tb_or, e1 x hx, e2 x hx]; cases decide (64 * k + x < gN n) <;> rfl
    · simp only [show ¬ (1 : Int) = 0 by decide, decide_true, decide_false, Bool.not_true, Bool.not_false, cond_true, cond_false, if_true, if_false]
      refine ⟨cn_bop64, fun x hx => ?_⟩
      rw [tb_and, tb_not _ hx, e1 x hx, e2 x hx]; cases decide (64 * k + x < gN n) <;> simp
    · simp only [show ¬ (2 : Int) = 0 by decide, show ¬ (2 : Int) = 1 by decide, decide_false, Bool.not_false, cond_true, if_false]
      refine ⟨cn_bop64, fun x hx => ?_⟩
      rw [tb_and, e1 x hx, e2 x hx]; cases decide (64 * k + x < gN n) <;> simp
/-- grain g comes to row t -/
theorem MB.put {q : AH} (m : MB B n q t S) {g : Nat} (hg : g < gN n) : MB B n (hset q (B + 236) (wN n * t + g / 64) (bop64 129 (hv q (B + 236) (wN n * t + g / 64)) (sop64 121 1 ((g % 64 : Nat) : Int)))) t (fun x => S x || decide (x = g)) := by
  intro k hk
  by_cases e : k = g / 64
  · subst e
    rw [hv_set_at]
    refine ⟨cn_bop64, fun x hx => ?_⟩
    rw [tb_or, (m _ hk).2 x hx, one_bit (by omega) hx]
    by_cases z : x = g % 64
    · have z2 : 64 * (g / 64) + x = g := by omega
      simp [z, z2, hg]
      rw [show 64 * (g / 64) + g % 64 = g by omega]; simp [hg]
    · have z2 : ¬ 64 * (g / 64) + x = g := by omega
      simp [z, z2]
  · rw [hv_set_ne (by omega)]
    refine ⟨(m k hk).1, fun x hx => ?_⟩
    rw [(m k hk).2 x hx]
    have z2 : ¬ 64 * k + x = g := by omega
    simp [z2]
theorem MB.drop {q : AH} (m : MB B n q t S) {g : Nat} (hg : g < gN n) : MB B n (hset q (B + 236) (wN n * t + g / 64) (bop64 127 (hv q (B + 236) (wN n * t + g / 64)) (bop64 131 (sop64 121 1 ((g % 64 : Nat) : Int)) (-1)))) t (fun x => S x && !decide (x = g)) := by
  intro k hk
  by_cases e : k = g / 64
  · subst e
    rw [hv_set_at]
    refine ⟨cn_bop64, fun x hx => ?_⟩
    rw [tb_and, tb_not _ hx, (m _ hk).2 x hx, one_bit (by omega) hx]
    by_cases z : x = g % 64
    · have z2 : 64 * (g / 64) + x = g := by omega
      simp [z]
      intro _ _; omega
    · have z2 : ¬ 64 * (g / 64) + x = g := by omega
      simp [z, z2]
  · rw [hv_set_ne (by omega)]
    refine ⟨(m k hk).1, fun x hx => ?_⟩
    rw [(m k hk).2 x hx]
    have z2 : ¬ 64 * k + x = g := by omega
    simp [z2]
/-- one place of row t -/
def w1 (B n t : Nat) : Nat → Nat → Prop := wto B n t (wN n)
theorem c_putM (l : LX B n h) (hd : 10 ≤ d) (hn : n ≤ 52) (ht : t < 19) (m : MB B n h t S) {g : Nat} (hg : g < gN n) :
    Vd (cll PP (ev PP (gsF gv) B) d 787 [(2, rf (B + 149)), (0, (t : Int)), (0, (g : Int))] h) (fun h' => LX B n h' ∧ Agr (wto B n t (wN n)) h h' ∧ MB B n h' t (fun x => S x || decide (x = g))) := by
  have h1 := gN_le hn
  have h3 := wN_g hg
  refine Vd.into (D := 9) hd (Nat.le_of_ble_eq_true rfl) rfl (fun d hd => ?_)
  refine Ends.eq (b787_0 (n := n) (by (repeat' first | assumption | refine LX.setF _ _ ?_ (by decide +kernel) | refine LX.setS ?_ rfl | refine LX.setA ?_ (by first | assumption | omega))) (by first | assumption | omega)) ?_
  rw [shr6 (by omega), and63, widx hn ht h3, tn]
  exact Ends.g (wok ht h3) (Ends.sm ⟨_, rfl, lx236 l, Agr.rf.set ⟨rfl, by omega, by omega⟩, m.put hg⟩)
theorem c_dropM (l : LX B n h) (hd : 10 ≤ d) (hn : n ≤ 52) (ht : t < 19) (m : MB B n h t S) {g : Nat} (hg : g < gN n) :
    Vd (cll PP (ev PP (gsF gv) B) d 597 [(2, rf (B + 149)), (0, (t : Int)), (0, (g : Int))] h) (fun h' => LX B n h' ∧ Agr (wto B n t (wN n)) h h' ∧ MB B n h' t (fun x => S x && !decide (x = g))) := by
  have h1 := gN_le hn
  have h3 := wN_g hg
  refine Vd.into (D := 9) hd (Nat.le_of_ble_eq_true rfl) rfl (fun d hd => ?_)
  refine Ends.eq (b597_0 (n := n) (by (repeat' first | assumption | refine LX.setF _ _ ?_ (by decide +kernel) | refine LX.setS ?_ rfl | refine LX.setA ?_ (by first | assumption | omega))) (by first | assumption | omega)) ?_
  rw [shr6 (by omega), and63, widx hn ht h3, tn]
  exact Ends.g (wok ht h3) (Ends.sm ⟨_, rfl, lx236 l, Agr.rf.set ⟨rfl, by omega, by omega⟩, m.drop hg⟩)
/-- how many of the first i -/
def cntN (S : Nat → Bool) : Nat → Nat
  | 0 => 0
  | i + 1 => cntN S i + if S i then 1 else 0
theorem cntN_s (S : Nat → Bool) (i : Nat) : cntN S (i + 1) = cntN S i + if S i then 1 else 0 := rfl
theorem cntN_le (S : Nat → Bool) : ∀ i, cntN S i ≤ i
  | 0 => Nat.le_refl _
  | i + 1 => by unfold cntN; have := cntN_le S i; split <;> omega
theorem c_countOf (l : LX B n h) (hd : 10 ≤ d) (hn : n ≤ 52) (hs : s < 19) (m : MB B n h s S) :
    Vt 0 (cll PP (ev PP (gsF gv) B) d 586 [(2, rf (B + 149)), (0, (s : Int))] h) (fun v h' => h' = h ∧ v = ((cntN S (gN n) : Nat) : Int)) := by
  have h1 := gN_le hn
  refine Vt.into (D := 9) hd (Nat.le_of_ble_eq_true rfl) rfl (fun d hd => ?_)
  refine Ends.eq (b586_0 (n := n) (by (repeat' first | assumption | refine LX.setF _ _ ?_ (by decide +kernel) | refine LX.setS ?_ rfl | refine LX.setA ?_ (by first | assumption | omega))) (by first | assumption | omega)) ?_
  refine lp (gN n) (fun i L q => L = [(2, rf (B + 149)), (0, ((s : Int))), (0, (((cntN S i : Nat) : Int))), (0, ((i : Int)))] ∧ q = h ∧ i ≤ gN n) ?_ ?_ 0 ⟨rfl, rfl, Nat.zero_le _⟩
  · rintro i _ q hi ⟨rfl, rfl, -⟩ ih
    have := cntN_le S i
    obtain ⟨hq, e⟩ := has_is m hs hn hi
    refine Ends.eq (b586_4 (n := n) (by (repeat' first | assumption | refine LX.setF _ _ ?_ (by decide +kernel) | refine LX.setS ?_ rfl | refine LX.setA ?_ (by first | assumption | omega))) (by first | assumption | omega)) ?_
    refine Ends.b3 (fun _ => by omega) (fun _ => Ends.g hq ?_)
    rw [w_succ (by omega), w_succ (by omega), e]
    refine ih _ _ ⟨?_, rfl, hi⟩
    rw [cntN_s]
    cases S i <;> simp [tst0]
  · rintro i _ q hi ⟨rfl, rfl, hi2⟩
    obtain rfl : i = gN n := by omega
    refine Ends.eq (b586_4 (n := n) (by (repeat' first | assumption | refine LX.setF _ _ ?_ (by decide +kernel) | refine LX.setS ?_ rfl | refine LX.setA ?_ (by first | assumption | omega))) (by first | assumption | omega)) ?_
    exact Ends.b3 (fun _ => Ends.sm ⟨_, _, rfl, rfl, rfl⟩) (fun _ => by omega)
end MBITS
