/-! L3: mirrored, turned round a line (desk) -/
section TURNS
variable {gv : Nat → Int} {B n d a mo : Nat} {h : AH} {S T : Nat → Bool} {p q : Int}
theorem c_same304 (l : LX B n h) (hd : 10 ≤ d) : Vd (cll PP (ev PP (gsF gv) B) d 304 [(2, rf (B + 92))] h) (fun h' => Agr (wayW B) h h' ∧ ∀ k, k < 3 → hv h' (B + 106) k = (k : Int) ∧ hv h' (B + 108) k = 0 ∧ hv h' (B + 107) k = 0) := by
  refine Vd.inq (D := 9) hd (Nat.le_of_ble_eq_true rfl) rfl (fun d hd Q K => ?_)
  have key : ∀ (c i : Nat) (q : AH), i + c = 3 → LX B n q → Agr (wayW B) h q → (∀ k, k < i → hv q (B + 106) k = (k : Int) ∧ hv q (B + 108) k = 0 ∧ hv q (B + 107) k = 0) → Ends (ev PP (gsF gv) B d 304 2 [(2, rf (B + 92)), (0, (i : Int))] [] q) Q := by
    intro c
    induction c with
    | zero =>
      intro i q e lq g f
      obtain rfl : i = 3 := by omega
      exact Ends.eq (b304_2 lq (by omega)) (Ends.b3 (fun _ => Ends.sm (K _ ⟨g, f⟩)) (fun w => absurd w (by decide)))
    | succ c ih =>
      intro i q e lq g f
      refine Ends.eq (b304_2 lq (by omega)) (Ends.b3 (fun w => absurd w (by omega)) (fun _ => Ends.g ⟨by omega, by omega⟩ ?_))
      rw [tn, an0, an0, an3 (Or.inl rfl), w_succ (by omega)]
      refine ih (i + 1) _ (by omega) (((lq.setS rfl).setS rfl).setS rfl) (((g.set (Or.inl rfl)).set (Or.inr (Or.inr rfl))).set (Or.inr (Or.inl rfl))) (fun k hk => ?_)
      by_cases w : k = i
      · subst w
        refine ⟨?_, ?_, hv_set_at ..⟩
        · rw [hv_set_ne (by omega), hv_set_ne (by omega)]; exact hv_set_at ..
        · rw [hv_set_ne (by omega)]; exact hv_set_at ..
      · rw [hv_set_ne (by omega), hv_set_ne (by omega), hv_set_ne (by omega), hv_set_ne (by omega), hv_set_ne (by omega), hv_set_ne (by omega), hv_set_ne (by omega), hv_set_ne (by omega), hv_set_ne (by omega)]
        exact f k (by omega)
  refine Ends.eq (b304_0 (n := n) (by (repeat' first | assumption | refine LX.setF _ _ ?_ (by decide +kernel) | refine LX.setS ?_ rfl | refine LX.setA ?_ (by first | assumption | omega))) (by first | assumption | omega)) ?_
  exact key 3 0 h rfl l Agr.rf (fun k hk => absurd hk (by omega))
theorem c_mirror285 {ax : Nat} (l : LX B n h) (hd : 12 ≤ d) (hax : ax < 3) (bp : -1000 ≤ p ∧ p ≤ 1000) : Vd (cll PP (ev PP (gsF gv) B) d 285 [(2, rf (B + 92)), (0, (ax : Int)), (0, p)] h) (fun h' => Agr (wayW B) h h' ∧ TrA B h' (fun k => k) (fun k => decide (k = ax)) (fun k => if k = ax then p else 0)) := by
  refine Vd.inq (D := 11) hd (Nat.le_of_ble_eq_true rfl) rfl (fun d hd Q K => ?_)
  refine Ends.eq (b285_0 (n := n) (by (repeat' first | assumption | refine LX.setF _ _ ?_ (by decide +kernel) | refine LX.setS ?_ rfl | refine LX.setA ?_ (by first | assumption | omega))) (by first | assumption | omega)) ?_
  refine Ends.cv l (by decide +kernel) (c_same304 l (by omega)) (fun h1 l1 _ _ _ ⟨g1, f1⟩ => ?_)
  refine Ends.eq (b285_4 (n := n) (by (repeat' first | assumption | refine LX.setF _ _ ?_ (by decide +kernel) | refine LX.setS ?_ rfl | refine LX.setA ?_ (by first | assumption | omega))) (by first | assumption | omega)) ?_
  refine Ends.g ⟨by omega, by omega⟩ ?_
  rw [tn, an0, an3 (Or.inr rfl), mul32 (x := 8) (y := p) (by omega) (by omega)]
  refine Ends.sm (K _ ⟨(g1.set (Or.inr (Or.inr rfl))).set (Or.inr (Or.inl rfl)), fun k hk => ?_⟩)
  obtain ⟨a1, a2, a3⟩ := f1 k hk
  refine ⟨?_, hk, ?_, ?_, ?_⟩
  · rw [hv_set_ne (by omega), hv_set_ne (by omega)]; exact a1
  · rw [hv_set_ne (by omega)]
    by_cases w : k = ax
    · rw [w, hv_set_at]; exact (if_pos (show (fun k => decide (k = ax)) ax = true from decide_eq_true rfl)).symm
    · rw [hv_set_ne (by omega), a2]; exact (if_neg (show ¬ (fun k => decide (k = ax)) k = true from fun z => w (of_decide_eq_true z))).symm
  · by_cases w : k = ax
    · dsimp only; rw [w, hv_set_at, if_pos rfl]
    · dsimp only; rw [hv_set_ne (by omega), hv_set_ne (by omega), a3, if_neg w]; rfl
  · dsimp only; split <;> omega
def rgF (ax t k : Nat) : Nat := if t = 2 then k else if k = fA ax then sA ax else if k = sA ax then fA ax else k
def rgT (ax t k : Nat) : Bool := if t = 2 then decide (k = fA ax ∨ k = sA ax) else if t = 1 then decide (k = fA ax) else decide (k = sA ax)
def rgA (ax t : Nat) (p q : Int) (k : Nat) : Int := if k = fA ax then (if t = 2 then p else if t = 1 then (p + q) / 2 else (p - q) / 2) else if k = sA ax then (if t = 2 then q else if t = 1 then (q - p) / 2 else (p + q) / 2) else 0
theorem fs_A : ∀ ax : Fin 3, fA ax < 3 ∧ sA ax < 3 ∧ fA ax ≠ sA ax ∧ fA ax ≠ ax ∧ sA ax ≠ ax := by decide
theorem rg_per : ∀ ax : Fin 3, ∀ t : Fin 4, isPer (rgF ax t) := by
  unfold isPer; decide
def rgW (B a : Nat) : Nat → Nat → Prop := fun c _ => c = a ∨ c = B + 54 ∨ c = B + 55 ∨ c = B + 106 ∨ c = B + 107 ∨ c = B + 108
theorem c_ring303 {ax t : Nat} (l : LX B n h) (hd : 16 ≤ d) (hn0 : 0 < n) (hn : n ≤ 52) (m : TbC B h) (e13 : hv h (B + 92) 13 = rf mo) (sa : SG n h a S) (sm : SG n h mo T) (ham : a ≠ mo) (ha : B + 246 ≤ a) (hm : B + 246 ≤ mo) (hax : ax < 3) (ht : 1 ≤ t ∧ t ≤ 3) (bp : -200 ≤ p ∧ p ≤ 200) (bq : -200 ≤ q ∧ q ≤ 200) (even : (p + q) % 2 = 0) :
    Vd (cll PP (ev PP (gsF gv) B) d 303 [(2, rf (B + 92)), (2, rf a), (0, (ax : Int)), (0, p), (0, q), (0, (t : Int))] h) (fun h' => Agr (rgW B a) h h' ∧ ∃ R, SG n h' a R ∧ ∀ g, g < gN n → (R g = true ↔ S g = true ∨ taS n (rgF ax t) (rgT ax t) (rgA ax t p q) T (fun _ => True) g)) := by
  refine Vd.inq (D := 15) hd (Nat.le_of_ble_eq_true rfl) rfl (fun d hd Q K => ?_)
  obtain ⟨u3, v3, uv, ua, va⟩ := fs_A ⟨ax, hax⟩
  simp only at u3 v3 uv ua va
  have eu : cond (tst 1 (ax : Int) 0) (0 : Int) 1 = ((fA ax : Nat) : Int) := by rw [ct1]; unfold fA; split <;> split <;> first | rfl | omega
  have evv : cond (tst 1 (ax : Int) 2) (2 : Int) 1 = ((sA ax : Nat) : Int) := by rw [ct1]; unfold sA; split <;> split <;> first | rfl | omega
  refine Ends.eq (b303_0 (n := n) (by (repeat' first | assumption | refine LX.setF _ _ ?_ (by decide +kernel) | refine LX.setS ?_ rfl | refine LX.setA ?_ (by first | assumption | omega))) (by first | assumption | omega)) ?_
  rw [eu, evv]
  refine Ends.cv l (by decide +kernel) (c_same304 l (by omega)) (fun h1 l1 _ _ _ ⟨g1, f1⟩ => ?_)
  have G : ∀ {c : Nat} {k : Nat} {v : Int} {x : AH}, Agr (wayW B) h x → wayW B c k → Agr (wayW B) h (hset x c k v) := fun g w => g.set w
  have fin : ∀ (q2 : AH), LX B n q2 → Agr (wayW B) h q2 → TrA B q2 (rgF ax t) (rgT ax t) (rgA ax t p q) → Ends (ev PP (gsF gv) B d 303 185 [(2, rf (B + 92)), (2, rf a), (0, (ax : Int)), (0, p), (0, q), (0, (t : Int)), (0, ((fA ax : Nat) : Int)), (0, ((sA ax : Nat) : Int))] [] q2) Q := fun q2 l2 g2 tr => by
    have e13' : hv q2 (B + 92) 13 = rf mo := by rw [g2.at _ _ (fun w => by unfold wayW at w; omega)]; exact e13
    have wy : ∀ c k, B + 109 ≤ c → ¬ wayW B c k := fun c k h1 w => by unfold wayW at w; omega
    have m2 : TbC B q2 := m.ext l.2.2 g2.ext (fun c k h1 h2 w => by unfold wayW at w; omega)
    refine Ends.eq (b303_185 l2 (by omega)) ?_
    rw [e13']
    refine Ends.cv l2 (by decide +kernel) (c_uniteTurned l2 (by omega) hn0 hn m2 (sa.agr g2 (fun k => wy _ _ (by omega))) (sm.agr g2 (fun k => wy _ _ (by omega))) ham (by omega) (Or.inr ha) (Or.inr hm) tr (rg_per ⟨ax, hax⟩ ⟨t, by omega⟩)) (fun h3 l3 _ _ _ ⟨f3, R, s3, e3⟩ => ?_)
    refine Ends.eq (b303_209 l3 (by omega)) ?_
    exact Ends.sm (K _ ⟨(g2.sub (fun c k w => by unfold wayW at w; unfold rgW; omega)).tr f3.agr (fun c k w => by unfold rgW; omega), R, s3, e3⟩)
  have bA : ∀ k, -10000 ≤ rgA ax t p q k ∧ rgA ax t p q k ≤ 10000 := fun k => by unfold rgA; split <;> (try split) <;> (try split) <;> (try split) <;> omega
  have bF : ∀ k, k < 3 → rgF ax t k < 3 := fun k hk => by unfold rgF; split <;> (try split) <;> (try split) <;> omega
  refine Ends.eq (b303_27 l1 (by omega)) ?_
  refine Ends.b1 (fun w => Ends.g ⟨by omega, by omega⟩ (Ends.g ⟨by omega, by omega⟩ ?_)) (fun w => Ends.g ⟨by omega, by omega⟩ (Ends.g ⟨by omega, by omega⟩ ?_))
  · have t13 : t = 1 ∨ t = 3 := by omega
    have c1 : cond (tst 1 (t : Int) 1) (0 : Int) 1 = if rgT ax t (fA ax) = true then 1 else 0 := by
      rcases t13 with rfl | rfl
      · rw [show rgT ax 1 (fA ax) = true from by unfold rgT; simp]; rfl
      · rw [show rgT ax 3 (fA ax) = false from by unfold rgT; simp [uv]]; rfl
    have c3 : cond (tst 1 (t : Int) 3) (0 : Int) 1 = if rgT ax t (sA ax) = true then 1 else 0 := by
      rcases t13 with rfl | rfl
      · rw [show rgT ax 1 (sA ax) = false from by unfold rgT; simp [Ne.symm uv]]; rfl
      · rw [show rgT ax 3 (sA ax) = true from by unfold rgT; simp]; rfl
    have a1 : cond (tst 1 (t : Int) 1) (bop32 104 4 (bop32 100 p q)) (bop32 104 4 (bop32 96 p q)) = 8 * rgA ax t p q (fA ax) := by
      rw [sub32 (by omega) (by omega), add32 (by omega) (by omega), mul32 (by omega) (by omega), mul32 (by omega) (by omega)]
      unfold rgA
      rw [if_pos rfl]
      rcases t13 with rfl | rfl
      · show 4 * (p + q) = 8 * (if (1 : Nat) = 2 then p else if (1 : Nat) = 1 then (p + q) / 2 else (p - q) / 2)
        rw [if_neg (by decide), if_pos rfl]; omega
      · show 4 * (p - q) = 8 * (if (3 : Nat) = 2 then p else if (3 : Nat) = 1 then (p + q) / 2 else (p - q) / 2)
        rw [if_neg (by decide), if_neg (by decide)]; omega
    have a2 : cond (tst 1 (t : Int) 1) (bop32 104 4 (bop32 96 p q)) (bop32 104 4 (bop32 100 q p)) = 8 * rgA ax t p q (sA ax) := by
      rw [sub32 (by omega) (by omega), add32 (by omega) (by omega), mul32 (by omega) (by omega), mul32 (by omega) (by omega)]
      unfold rgA
      rw [if_neg (Ne.symm uv), if_pos rfl]
      rcases t13 with rfl | rfl
      · show 4 * (q - p) = 8 * (if (1 : Nat) = 2 then q else if (1 : Nat) = 1 then (q - p) / 2 else (p + q) / 2)
        rw [if_neg (by decide), if_pos rfl]; omega
      · show 4 * (p + q) = 8 * (if (3 : Nat) = 2 then q else if (3 : Nat) = 1 then (q - p) / 2 else (p + q) / 2)
        rw [if_neg (by decide), if_neg (by decide)]; omega
    have b1 : (if rgT ax t (fA ax) = true then (1 : Int) else 0) = 0 ∨ (if rgT ax t (fA ax) = true then (1 : Int) else 0) = 1 := by split <;> simp
    have b2 : (if rgT ax t (sA ax) = true then (1 : Int) else 0) = 0 ∨ (if rgT ax t (sA ax) = true then (1 : Int) else 0) = 1 := by split <;> simp
    rw [c1, c3, a1, a2, tn, tn, an0, an0, an0, an0, an3 b1, an3 b2]
    refine fin _ ((((((l1.setS rfl).setS rfl).setS rfl).setS rfl).setS rfl).setS rfl) (G (G (G (G (G (G g1 (Or.inl rfl)) (Or.inl rfl)) (Or.inr (Or.inr rfl))) (Or.inr (Or.inr rfl))) (Or.inr (Or.inl rfl))) (Or.inr (Or.inl rfl))) (fun k hk => ?_)
    obtain ⟨z1, z2, z3⟩ := f1 k hk
    have t2 : t ≠ 2 := by omega
    refine ⟨?_, bF k hk, ?_, ?_, bA k⟩
    · rw [hv_set_ne (by omega), hv_set_ne (by omega), hv_set_ne (by omega), hv_set_ne (by omega)]
      unfold rgF
      rw [if_neg t2]
      by_cases w1 : k = fA ax
      · rw [if_pos w1, w1, hv_set_ne (fun w => uv w.2), hv_set_at]
      · rw [if_neg w1]
        by_cases w2 : k = sA ax
        · rw [if_pos w2, w2, hv_set_at]
        · rw [if_neg w2, hv_set_ne (fun w => w2 w.2), hv_set_ne (fun w => w1 w.2)]; exact z1
    · rw [hv_set_ne (by omega), hv_set_ne (by omega)]
      by_cases w1 : k = fA ax
      · rw [w1, hv_set_ne (fun w => uv w.2), hv_set_at]
      · by_cases w2 : k = sA ax
        · rw [w2, hv_set_at]
        · rw [hv_set_ne (fun w => w2 w.2), hv_set_ne (fun w => w1 w.2), hv_set_ne (by omega), hv_set_ne (by omega), z2, show rgT ax t k = false from by unfold rgT; simp [w1, w2]]; rfl
    · by_cases w1 : k = fA ax
      · rw [w1, hv_set_ne (fun w => uv w.2), hv_set_at]
      · by_cases w2 : k = sA ax
        · rw [w2, hv_set_at]
        · rw [hv_set_ne (fun w => w2 w.2), hv_set_ne (fun w => w1 w.2), hv_set_ne (by omega), hv_set_ne (by omega), hv_set_ne (by omega), hv_set_ne (by omega), z3]
          unfold rgA
          rw [if_neg w1, if_neg w2]; rfl
  · have t2 : t = 2 := by omega
    subst t2
    rw [tn, tn, an0, an0, an3 (Or.inr rfl), mul32 (x := 8) (y := p) (by omega) (by omega), mul32 (x := 8) (y := q) (by omega) (by omega)]
    refine fin _ ((((l1.setS rfl).setS rfl).setS rfl).setS rfl) (G (G (G (G g1 (Or.inr (Or.inr rfl))) (Or.inr (Or.inr rfl))) (Or.inr (Or.inl rfl))) (Or.inr (Or.inl rfl))) (fun k hk => ?_)
    obtain ⟨z1, z2, z3⟩ := f1 k hk
    refine ⟨?_, bF k hk, ?_, ?_, bA k⟩
    · rw [hv_set_ne (by omega), hv_set_ne (by omega), hv_set_ne (by omega), hv_set_ne (by omega)]
      exact z1
    · rw [hv_set_ne (by omega), hv_set_ne (by omega)]
      by_cases w1 : k = fA ax
      · rw [w1, hv_set_ne (fun w => uv w.2), hv_set_at, show rgT ax 2 (fA ax) = true from by unfold rgT; simp]; rfl
      · by_cases w2 : k = sA ax
        · rw [w2, hv_set_at, show rgT ax 2 (sA ax) = true from by unfold rgT; simp]; rfl
        · rw [hv_set_ne (fun w => w2 w.2), hv_set_ne (fun w => w1 w.2), z2, show rgT ax 2 k = false from by unfold rgT; simp [w1, w2]]; rfl
    · unfold rgA
      by_cases w1 : k = fA ax
      · rw [w1, hv_set_ne (fun w => uv w.2), hv_set_at, if_pos rfl, if_pos rfl]
      · by_cases w2 : k = sA ax
        · rw [w2, hv_set_at, if_neg (Ne.symm uv), if_pos rfl, if_pos rfl]
        · rw [hv_set_ne (fun w => w2 w.2), hv_set_ne (fun w => w1 w.2), hv_set_ne (by omega), hv_set_ne (by omega), z3, if_neg w1, if_neg w2]; rfl
end TURNS
