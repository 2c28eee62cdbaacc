/-! L3: Flood.begin at its first use: four cells are made -/
section BEGIN2
variable {gv : Nat → Int} {B n d : Nat} {h : AH}
def beg4 (B N : Nat) (h : AH) : AH := hset (hnew (hset (hnew (hset (hnew (hset (hnew h (3, N) N) (B + 81) 2 (rf (hnx h))) (3, N) N) (B + 81) 3 (rf (hnx h + 1))) (2, N) N) (B + 81) 4 (rf (hnx h + 2))) (5, N) N) (B + 81) 5 (rf (hnx h + 3))
theorem beg4_k (B N : Nat) (h : AH) (c : Nat) : hk (beg4 B N h) c = if c = hnx h + 3 then (5, N) else if c = hnx h + 2 then (2, N) else if c = hnx h + 1 then (3, N) else if c = hnx h then (3, N) else hk h c := rfl
theorem beg4_2 {N : Nat} (hb : B + 246 ≤ hnx h) : hv (beg4 B N h) (B + 81) 2 = rf (hnx h) := by
  unfold beg4
  simp only [hv_set, hv_new, hnx_set, hnx_new]
  grind
theorem e_begin {Q} (l : LX B n h) (hd : 10 ≤ d) (hn : n ≤ 52) {se wi : Nat} (e2 : hv h (B + 81) 2 = rf se) (hs : hk h se = (3, 24 * n * n)) (sb : B + 246 ≤ se)
    (K : ∀ h', Fr (fun c => c = se ∨ c = B + 81) h h' → (∀ k, k < 24 * n * n → hv h' se k = 0) → hv h' (B + 81) 8 = rf wi → (∀ k, k ≠ 8 → hv h' (B + 81) k = hv h (B + 81) k) → Q ((0, (9, 0)), h')) :
    Ends (ev PP (gsF gv) B d 176 59 [(2, rf (B + 81)), (2, rf wi), (9, 0)] [] h) Q := by
  have hN := rows_le hn
  refine Ends.eq (b176_59 l (by omega)) ?_
  refine lp ((24*n*n)) (fun i L q => ∃ (z0 : Nat), L = [(2, rf (B + 81)), (2, (rf wi)), (0, ((i : Int)))] ∧ LX B n q ∧ i ≤ (24*n*n) ∧ Fr (fun c => c = se) h q ∧ ∀ k, k < i → hv q se k = 0) ?_ ?_ (0) ⟨0, rfl, (by (repeat' first | assumption | refine LX.setF _ _ ?_ (by decide +kernel) | refine LX.setS ?_ rfl | refine LX.setA ?_ (by assumption))), by omega, ?_⟩
  · rintro i _ q hi ⟨z0, rfl, lq, hiN, ⟨f1, s1⟩⟩ ihi
    have q2 : hv q (B + 81) 2 = rf se := (f1.1 (B + 81) (by omega) 2).trans e2
    have qk : hk q se = (3, 24 * n * n) := (f1.2.1 se).trans hs
    refine Ends.eq (b176_61 (n := n) (by (repeat' first | assumption | refine LX.setF _ _ ?_ (by decide +kernel) | refine LX.setS ?_ rfl | refine LX.setA ?_ (by first | assumption | omega))) (by first | assumption | omega)) ?_
    rw [q2, ad_rf, tn, qk]
    refine Ends.b3 (fun _ => by omega) (fun _ => Ends.g ⟨by unfold rf; omega, rfl, by omega, by omega, by omega⟩ ?_)
    rw [w_succ (by omega)]
    have l4 : LX B n (hset q se i (anar 1 (0 : Int))) := LX.setA (t := 1) lq (by rw [qk])
    refine ihi _ _ ⟨0, rfl, (by (repeat' first | assumption | refine LX.setF _ _ ?_ (by decide +kernel) | refine LX.setS ?_ rfl | refine LX.setA ?_ (by assumption))), by omega, ?_⟩
    refine ⟨f1.tr (Fr.set rfl), fun k hk => ?_⟩
    rw [hv_set, if_pos rfl]
    split
    · rfl
    · exact s1 k (by omega)
  · rintro i _ q hi ⟨z0, rfl, lq, hiN, ⟨f1, s1⟩⟩
    obtain rfl : i = 24 * n * n := by omega
    refine Ends.eq (b176_61 (n := n) (by (repeat' first | assumption | refine LX.setF _ _ ?_ (by decide +kernel) | refine LX.setS ?_ rfl | refine LX.setA ?_ (by first | assumption | omega))) (by first | assumption | omega)) ?_
    refine Ends.b3 (fun _ => ?_) (fun _ => by omega)
    refine Ends.sm (K _ ((f1.sub (fun c e => Or.inl e)).tr (Fr.set (Or.inr rfl))) (fun k hk => ?_) (hv_set_at _ _ _ _) (fun k hk => ?_))
    · rw [hv_na (by omega)]; exact s1 k hk
    · rw [hv_nk hk]; exact f1.1 (B + 81) (by omega) k
  · exact ⟨Fr.rf, fun k hk => absurd hk (by omega)⟩
theorem c_beginNew (l : LX B n h) (hd : 11 ≤ d) (hn : n ≤ 52) {wi : Nat} (e2 : hv h (B + 81) 2 = 0) :
    Vd (cll PP (ev PP (gsF gv) B) d 176 [(2, rf (B + 81)), (2, rf wi)] h) (fun h' => Fr (fun c => c = hnx h ∨ c = B + 81) (beg4 B (24 * n * n) h) h' ∧ (∀ k, k < 24 * n * n → hv h' (hnx h) k = 0) ∧ hv h' (B + 81) 8 = rf wi ∧ ∀ k, k ≠ 8 → hv h' (B + 81) k = hv (beg4 B (24 * n * n) h) (B + 81) k) := by
  have hN := rows_le hn
  have hb := l.2.2
  refine Vd.into (D := 10) hd (Nat.le_of_ble_eq_true rfl) rfl (fun d hd => Ends.eq (b176_0 (u2 := (9, 0)) l (by omega)) ?_)
  refine Ends.b0 (fun _ => Ends.g ⟨by omega, by omega⟩ ?_) (fun z => absurd e2 z)
  have l1 := l.new (kd := (3, 24 * n * n)) (sz := 24 * n * n)
  refine Ends.eq (b176_17 l1 (by omega)) (Ends.g ⟨by omega, by omega⟩ ?_)
  have l2 := (LX.setF 81 2 (v := rf (hnx h)) l1 (by decide +kernel)).new (kd := (3, 24 * n * n)) (sz := 24 * n * n)
  refine Ends.eq (b176_30 l2 (by omega)) (Ends.g ⟨by omega, by omega⟩ ?_)
  have l3 := (LX.setF 81 3 (v := rf (hnx h + 1)) l2 (by decide +kernel)).new (kd := (2, 24 * n * n)) (sz := 24 * n * n)
  refine Ends.eq (b176_43 l3 (by omega)) (Ends.g ⟨by omega, by omega⟩ ?_)
  have l4 := (LX.setF 81 4 (v := rf (hnx h + 2)) l3 (by decide +kernel)).new (kd := (5, 24 * n * n)) (sz := 24 * n * n)
  refine Ends.eq (b176_56 l4 (by omega)) ?_
  have l5 : LX B n (beg4 B (24 * n * n) h) := LX.setF 81 5 (v := rf (hnx h + 3)) l4 (by decide +kernel)
  exact e_begin l5 (by omega) hn (beg4_2 hb) (by rw [beg4_k]; simp) hb (fun h' a b c e => ⟨_, rfl, a, b, c, e⟩)
end BEGIN2
