/-! L3: the desk's text of a solid -/
section TELLROW
variable {gv : Nat → Int} {B n d : Nat} {h : AH} {a N t z y : Nat} {bs : List Int} {v : Int} {r : Nat → Bool}
theorem beg_run {p k m j : Nat} (hp : p = 0 ∨ n ≤ p ∨ r p = false) (hpk : p ≤ k) (hk : r k = true) (hkn : k < n) (lo : ∀ j, p ≤ j → j < k → r j = false) (hm : ∀ j, k ≤ j → j < k + m → r j = true) (h1 : p ≤ j) (h2 : j < k + m) : begB r j = decide (j = k) := by
  unfold begB
  by_cases e : j = k
  · rw [e, hk, decide_eq_true rfl]
    have : (decide (0 < k) && r (k - 1)) = false := by
      by_cases k0 : k = 0
      · rw [k0]; rfl
      · by_cases w : p = k
        · have : p ≠ 0 := by omega
          rcases hp with x | x | x
          · exact absurd x this
          · omega
          · rw [w, hk] at x; exact absurd x (by decide)
        · rw [lo (k - 1) (by omega) (by omega)]; simp
    rw [this]; rfl
  · rw [decide_eq_false e]
    by_cases w : j < k
    · rw [lo j h1 w]; rfl
    · rw [hm j (by omega) h2, hm (j - 1) (by omega) (by omega), decide_eq_true (show 0 < j by omega)]; rfl
/-- a row is told -/
theorem c_tell153 (l : LX B n h) (hd : 22 ≤ d) (hn : n ≤ 52) (T : TxO gv B h) (o : OutC B h a N bs) (ht : t < 24) (hz : z < n) (hy : y < n) (cv : cn 1 v) (hv : ∀ x, x < 64 → tb v x = (decide (x < n) && r x)) (hm : bs.length + (catN (rowX t z y n r) n).length ≤ 29900) :
    Vd (cll PP (ev PP (gsF gv) B) d 153 [(2, rf (B + 143)), (0, (t : Int)), (0, (z : Int)), (0, (y : Int)), (1, v)] h) (fun h' => ∃ a' N', OutC B h' a' N' (bs ++ catN (rowX t z y n r) n) ∧ Wrs (outW B) a N h h' a' N') := by
  have hb0 := l.2.2
  refine Vd.inq (D := 21) hd (Nat.le_of_ble_eq_true rfl) rfl (fun d hd P K => ?_)
  refine Ends.eq (b153_0 (n := n) (by decide) l (by omega)) ?_
  have key : ∀ (c p : Nat) (q : AH) (a' N' : Nat) (w : Int) (u8 u9 : AV), p + c = n → LX B n q → OutC B q a' N' (bs ++ catN (rowX t z y n r) p) → Wrs (outW B) a N h q a' N' → cn 1 w → (∀ j, j < 64 → tb w j = (decide (p ≤ j) && (decide (j < n) && r j))) → (p = 0 ∨ n ≤ p ∨ r p = false) → Ends (ev PP (gsF gv) B d 153 4 [(2, rf (B + 143)), (0, (t : Int)), (0, (z : Int)), (0, (y : Int)), (1, v), (9, 0), (1, w), (9, 0), u8, u9] [] q) P := by
    intro c
    induction c using Nat.strongRecOn with
    | _ c ihc =>
      intro p q a' N' w u8 u9 hp lq oq wq cw hw hb
      refine Ends.eq (b153_4 (n := n) (by (repeat' first | assumption | refine LX.setF _ _ ?_ (by decide +kernel) | refine LX.setS ?_ rfl | refine LX.setA ?_ (by first | assumption | omega))) (by first | assumption | omega)) ?_
      refine Ends.b0 (fun e => ?_) (fun e => ?_)
      · have w0 : w = 0 := cmp64_z.mp e
        refine Ends.sm (K _ ⟨a', N', ?_, wq⟩)
        have : catN (rowX t z y n r) n = catN (rowX t z y n r) p := by
          rw [show n = p + c by omega]
          refine catN_nil c (fun j h1 h2 => ?_)
          have := hw j (by omega)
          rw [w0, tb_0, decide_eq_true h1, decide_eq_true (show j < n by omega), Bool.true_and, Bool.true_and] at this
          unfold rowX begB
          rw [← this]; rfl
        rw [this]
        exact oq
      · have wne : w ≠ 0 := fun z => e (by rw [z]; rfl)
        obtain ⟨k, lk⟩ := Low.ex cw wne
        obtain ⟨k64, kb, klo⟩ := lk
        have kb' := hw k k64
        rw [kb] at kb'
        have kpn : p ≤ k ∧ k < n ∧ r k = true := by
          have := kb'.symm
          rw [Bool.and_eq_true, Bool.and_eq_true, decide_eq_true_eq, decide_eq_true_eq] at this
          exact this
        obtain ⟨hpk, hkn, hrk⟩ := kpn
        have lo : ∀ j, p ≤ j → j < k → r j = false := fun j h1 h2 => by
          have := klo j h2
          rw [hw j (by omega), decide_eq_true h1, decide_eq_true (show j < n by omega), Bool.true_and, Bool.true_and] at this
          exact this
        refine Ends.ct lq (by decide +kernel) (by decide) (c_ntz lq (by omega) ⟨k64, kb, klo⟩) (fun y0 q1 l1 _ _ _ ⟨e1, ey⟩ => ?_)
        subst e1
        rw [ey]
        refine Ends.eq (b153_16 (n := n) (by decide) l1 (by omega)) ?_
        obtain ⟨m, em⟩ : ∃ m, m = lnF r (n - k) k := ⟨_, rfl⟩
        obtain ⟨m1, m2⟩ := lnF_sp (r := r) (n - k) k
        have m3 := lnF_le (r := r) (n - k) k
        rw [← em] at m1 m2 m3
        have m0 : 0 < m := by
          rcases m2 with x | x
          · omega
          · by_cases m00 : m = 0
            · rw [m00, Nat.add_zero, hrk] at x; exact absurd x (by decide)
            · omega
        have lm : Low (bop64 131 (sop64 125 w (k : Int)) (-1)) m := by
          refine ⟨by omega, ?_, fun j hj => ?_⟩
          · rw [tb_not _ (by omega), tb_shr _ k64, hw _ (by omega)]
            rcases m2 with x | x
            · rw [decide_eq_false (show ¬ k + m < n by omega), Bool.false_and, Bool.and_false]; rfl
            · rw [x, Bool.and_false, Bool.and_false]; rfl
          · rw [tb_not _ (by omega), tb_shr _ k64, hw _ (by omega), decide_eq_true (show p ≤ k + j by omega), decide_eq_true (show k + j < n by omega), m1 (k + j) (by omega) (by omega)]; rfl
        refine Ends.ct l1 (by decide +kernel) (by decide) (c_ntz l1 (by omega) lm) (fun y1 q2 l2 _ _ _ ⟨e2, ey1⟩ => ?_)
        subst e2
        rw [ey1]
        have beg := fun j (h1 : p ≤ j) (h2 : j < k + m) => beg_run (n := n) (r := r) hb hpk hrk hkn lo m1 h1 h2
        -- the text up to the run's end
        have tx : catN (rowX t z y n r) (k + m) = catN (rowX t z y n r) p ++ runT t z y k m := by
          have e1 : catN (rowX t z y n r) k = catN (rowX t z y n r) p := by
            rw [show k = p + (k - p) by omega]
            refine catN_nil (k - p) (fun j h1 h2 => ?_)
            unfold rowX
            rw [beg j h1 (by omega), decide_eq_false (by omega), if_neg Bool.false_ne_true]
          have e2 : rowX t z y n r k = runT t z y k m := by
            unfold rowX
            rw [beg k hpk (by omega), decide_eq_true rfl, if_pos rfl, ← em]
          rw [show k + m = k + 1 + (m - 1) by omega, catN_nil (m - 1) (fun j h1 h2 => by
            unfold rowX
            rw [beg j (by omega) (by omega), decide_eq_false (by omega), if_neg Bool.false_ne_true])]
          show catN (rowX t z y n r) k ++ rowX t z y n r k = _
          rw [e1, e2]
        have len1 : (catN (rowX t z y n r) (k + m)).length ≤ (catN (rowX t z y n r) n).length := catN_mono n (by omega)
        have len2 := len1
        rw [tx, List.length_append] at len2
        have Tq := T.ext wq.2.2 hb0 (fun b k hb w => by have := o.2.2.1; unfold outW at w; omega)
        refine tell_run l2 (by omega) Tq oq (by rw [List.length_append]; omega) (by omega) (by omega) (by omega) (by omega) (by omega) (fun q3 a3 N3 l3 o3 w3 => ?_)
        refine Ends.eq (b153_101 (n := n) (by decide) l3 (by omega)) ?_
        rw [show bop32 96 (k : Int) (m : Int) = ((k + m : Nat) : Int) from addNN (by omega), ct2, if_pos (by omega)]
        refine ihc (n - (k + m)) (by omega) (k + m) q3 a3 N3 _ _ _ (by omega) l3 (by rw [tx, ← List.append_assoc]; exact o3) (wq.tr w3 outW_tr) (sop64_cn _ _ _) (fun j hj => ?_) (by rcases m2 with x | x; exact Or.inr (Or.inl (by omega)); exact Or.inr (Or.inr x))
        rw [tb_shl _ (by omega) hj, tb_shr _ (by omega)]
        by_cases ej : k + m ≤ j
        · rw [decide_eq_true ej, Bool.true_and, Bool.true_and, show k + m + (j - (k + m)) = j by omega, hw j hj, decide_eq_true (show p ≤ j by omega), Bool.true_and]
        · rw [decide_eq_false ej, Bool.false_and, Bool.false_and]
  exact key n 0 h a N v _ _ (by omega) l (by show OutC B h a N (bs ++ []); rw [List.append_nil]; exact o) Wrs.rf cv (fun j hj => by rw [hv j hj, decide_eq_true (Nat.zero_le j), Bool.true_and]) (Or.inl rfl)
end TELLROW
section RUNS149
variable {gv : Nat → Int} {B n d : Nat} {h : AH} {a N a0 : Nat} {bs : List Int} {R : Nat → Nat → Bool} {tl : Int}
theorem beg_cnt {v : Int} {r : Nat → Bool} (hn : n ≤ 52) (hv : ∀ x, x < 64 → tb v x = (decide (x < n) && r x)) : v880 (bop64 127 v (bop64 131 (sop64 121 v 1) (-1))) = ((cntN (begB r) n : Nat) : Int) := by
  refine rowCnt hn (fun x hx => ?_)
  rw [tb_and, tb_not _ hx, show (1 : Int) = ((1 : Nat) : Int) from rfl, tb_shl _ (by decide) hx, hv x hx]
  unfold begB
  by_cases e : x < n
  · rw [decide_eq_true e, Bool.true_and, Bool.true_and]
    congr 2
    by_cases e1 : 1 ≤ x
    · rw [hv (x - 1) (by omega), decide_eq_true (show x - 1 < n by omega), Bool.true_and, decide_eq_true e1, decide_eq_true (show 0 < x by omega)]
    · rw [decide_eq_false e1, decide_eq_false (show ¬ 0 < x by omega), Bool.false_and, Bool.false_and]
  · rw [decide_eq_false e, Bool.false_and, Bool.false_and, Bool.false_and]
/-- the loops over the rows -/
theorem runs_all {I : Nat → AH → Prop} {P : Rs → Prop} {u3 u4 u5 u6 u7 u8 : AV} (hd : 9 ≤ d) (hn : n ≤ 52)
    (row : ∀ (t z y : Nat) (q : AH) (u7 u8 : AV), t < 24 → z < n → y < n → LX B n q → I (rw3 n t z y) q → cntR n (fun k => begB (R k)) (rw3 n t z y) ≤ 1000 → (∀ q' v, LX B n q' → I (rw3 n t z y + 1) q' → Ends (ev PP (gsF gv) B d 149 86 [(2, rf (B + 143)), (2, rf a0), (0, tl), (0, ((cntR n (fun k => begB (R k)) (rw3 n t z y + 1) : Nat) : Int)), (0, (t : Int)), (0, (z : Int)), (0, (y : Int)), (1, v), (9, 0)] [] q') P) → Ends (ev PP (gsF gv) B d 149 27 [(2, rf (B + 143)), (2, rf a0), (0, tl), (0, ((cntR n (fun k => begB (R k)) (rw3 n t z y) : Nat) : Int)), (0, (t : Int)), (0, (z : Int)), (0, (y : Int)), u7, u8] [] q) P)
    (fin : ∀ q, LX B n q → I (24 * n * n) q → cntR n (fun k => begB (R k)) (24 * n * n) ≤ 1000 → P ((0, (0, ((cntR n (fun k => begB (R k)) (24 * n * n) : Nat) : Int))), q))
    (big : ∀ q k, LX B n q → I k q → k ≤ 24 * n * n → 1000 < cntR n (fun k => begB (R k)) k → P ((0, (0, ((cntR n (fun k => begB (R k)) k : Nat) : Int))), q))
    (l : LX B n h) (i0 : I 0 h) : Ends (ev PP (gsF gv) B d 149 0 [(2, rf (B + 143)), (2, rf a0), (0, tl), u3, u4, u5, u6, u7, u8] [] h) P := by
  have tloop : ∀ (c t : Nat) (q : AH) (u5 u6 u7 u8 : AV), t + c = 24 → LX B n q → I (rw3 n t 0 0) q → cntR n (fun k => begB (R k)) (rw3 n t 0 0) ≤ 1000 → Ends (ev PP (gsF gv) B d 149 5 [(2, rf (B + 143)), (2, rf a0), (0, tl), (0, ((cntR n (fun k => begB (R k)) (rw3 n t 0 0) : Nat) : Int)), (0, (t : Int)), u5, u6, u7, u8] [] q) P := by
    intro c
    induction c with
    | zero =>
      intro t q u5 u6 u7 u8 ht lq iq cq
      obtain rfl : t = 24 := by omega
      have e24 : rw3 n 24 0 0 = 24 * n * n := rfl
      refine Ends.eq (b149_5 (n := n) (by (repeat' first | assumption | refine LX.setF _ _ ?_ (by decide +kernel) | refine LX.setS ?_ rfl | refine LX.setA ?_ (by first | assumption | omega))) (by first | assumption | omega)) ?_
      rw [e24] at iq cq ⊢
      exact Ends.b3 (fun _ => Ends.sm (fin q lq iq cq)) (fun z => absurd z (by decide))
    | succ c iht =>
      intro t q u5 u6 u7 u8 ht lq iq cq
      refine Ends.eq (b149_5 (n := n) (by (repeat' first | assumption | refine LX.setF _ _ ?_ (by decide +kernel) | refine LX.setS ?_ rfl | refine LX.setA ?_ (by first | assumption | omega))) (by first | assumption | omega)) ?_
      refine Ends.b3 (fun z => by omega) (fun _ => ?_)
      have zloop : ∀ (cz z : Nat) (q : AH) (u6 u7 u8 : AV), z + cz = n → LX B n q → I (rw3 n t z 0) q → cntR n (fun k => begB (R k)) (rw3 n t z 0) ≤ 1000 → Ends (ev PP (gsF gv) B d 149 15 [(2, rf (B + 143)), (2, rf a0), (0, tl), (0, ((cntR n (fun k => begB (R k)) (rw3 n t z 0) : Nat) : Int)), (0, (t : Int)), (0, (z : Int)), u6, u7, u8] [] q) P := by
        intro cz
        induction cz with
        | zero =>
          intro z q u6 u7 u8 hz lq iq cq
          obtain rfl : n = z := by omega
          refine Ends.eq (b149_15 (n := n) (by (repeat' first | assumption | refine LX.setF _ _ ?_ (by decide +kernel) | refine LX.setS ?_ rfl | refine LX.setA ?_ (by first | assumption | omega))) (by first | assumption | omega)) ?_
          rw [w_succ (by omega)]
          rw [← rw3_t] at iq cq ⊢
          exact Ends.b3 (fun _ => iht (t + 1) q _ _ _ _ (by omega) lq iq cq) (fun z => by omega)
        | succ cz ihz =>
          intro z q u6 u7 u8 hz lq iq cq
          refine Ends.eq (b149_15 (n := n) (by (repeat' first | assumption | refine LX.setF _ _ ?_ (by decide +kernel) | refine LX.setS ?_ rfl | refine LX.setA ?_ (by first | assumption | omega))) (by first | assumption | omega)) ?_
          refine Ends.b3 (fun z => by omega) (fun _ => ?_)
          have yloop : ∀ (cy y : Nat) (q : AH) (u7 u8 : AV), y + cy = n → LX B n q → I (rw3 n t z y) q → cntR n (fun k => begB (R k)) (rw3 n t z y) ≤ 1000 → Ends (ev PP (gsF gv) B d 149 27 [(2, rf (B + 143)), (2, rf a0), (0, tl), (0, ((cntR n (fun k => begB (R k)) (rw3 n t z y) : Nat) : Int)), (0, (t : Int)), (0, (z : Int)), (0, (y : Int)), u7, u8] [] q) P := by
            intro cy
            induction cy with
            | zero =>
              intro y q u7 u8 hy lq iq cq
              obtain rfl : n = y := by omega
              refine Ends.eq (b149_27 (n := n) (by (repeat' first | assumption | refine LX.setF _ _ ?_ (by decide +kernel) | refine LX.setS ?_ rfl | refine LX.setA ?_ (by first | assumption | omega))) (by first | assumption | omega)) ?_
              rw [w_succ (by omega)]
              rw [← rw3_z] at iq cq ⊢
              exact Ends.b3 (fun _ => ihz (z + 1) q _ _ _ (by omega) lq iq cq) (fun z => by omega)
            | succ cy ihy =>
              intro y q u7 u8 hy lq iq cq
              refine row t z y q u7 u8 (by omega) (by omega) (by omega) lq iq cq (fun q' v l' i' => ?_)
              refine Ends.eq (b149_86 (n := n) (by (repeat' first | assumption | refine LX.setF _ _ ?_ (by decide +kernel) | refine LX.setS ?_ rfl | refine LX.setA ?_ (by first | assumption | omega))) (by first | assumption | omega)) ?_
              rw [w_succ (by omega)]
              have lt := rw3_lt (n := n) (t := t) (z := z) (y := y) (by omega) (by omega) (by omega)
              exact Ends.b5 (fun w => ihy (y + 1) q' _ _ (by omega) l' i' (by show cntR n (fun k => begB (R k)) (rw3 n t z y + 1) ≤ 1000; omega)) (fun w => Ends.sm (big q' _ l' i' (by omega) (by omega)))
          exact yloop n 0 q _ _ (by omega) lq iq cq
      exact zloop n 0 q _ _ _ (by omega) lq iq cq
  refine Ends.eq (b149_0 (n := n) (by (repeat' first | assumption | refine LX.setF _ _ ?_ (by decide +kernel) | refine LX.setS ?_ rfl | refine LX.setA ?_ (by first | assumption | omega))) (by first | assumption | omega)) ?_
  have e0 : rw3 n 0 0 0 = 0 := by unfold rw3; omega
  have := tloop 24 0 h u5 u6 u7 u8 rfl l (by rw [e0]; exact i0) (by rw [e0]; exact Nat.zero_le _)
  rw [e0] at this
  exact this
theorem cntR_mono {n i : Nat} (R : Nat → Nat → Bool) : ∀ {j : Nat}, i ≤ j → cntR n R i ≤ cntR n R j
  | 0, h => by rw [Nat.le_zero.mp h]; exact Nat.le_refl _
  | j + 1, h => by
    by_cases e : i = j + 1
    · rw [e]; exact Nat.le_refl _
    · have ih : cntR n R i ≤ cntR n R j := cntR_mono R (by omega)
      show cntR n R i ≤ cntR n R j + cntN (R j) n
      omega
/-- how many runs -/
theorem c_runs0 (l : LX B n h) (hd : 12 ≤ d) (hn : n ≤ 52) (sa : Sol n h a0 R) :
    Vt 0 (cll PP (ev PP (gsF gv) B) d 149 [(2, rf (B + 143)), (2, rf a0), (0, 0)] h) (fun v h' => h' = h ∧ ((v = ((cntR n (fun k => begB (R k)) (24 * n * n) : Nat) : Int) ∧ cntR n (fun k => begB (R k)) (24 * n * n) ≤ 1000) ∨ (1000 < v ∧ 1000 < cntR n (fun k => begB (R k)) (24 * n * n)))) := by
  refine Vt.inq (D := 11) hd (Nat.le_of_ble_eq_true rfl) rfl (fun d hd P K => ?_)
  refine runs_all (R := R) (I := fun _ q => q = h) (by omega) hn (fun t z y q u7 u8 ht hz hy lq iq cq nxt => ?_) (fun q lq iq cq => K _ _ ⟨iq, Or.inl ⟨rfl, cq⟩⟩) (fun q k lq iq hk cq => K _ _ ⟨iq, Or.inr ⟨by omega, Nat.lt_of_lt_of_le cq (cntR_mono _ hk)⟩⟩) l rfl
  subst iq
  have lt := rw3_lt (n := n) ht hz hy
  have n24' := n24 hn
  have c1 := cntN_le (begB (R (rw3 n t z y))) n
  refine Ends.eq (b149_27 (n := n) (by (repeat' first | assumption | refine LX.setF _ _ ?_ (by decide +kernel) | refine LX.setS ?_ rfl | refine LX.setA ?_ (by first | assumption | omega))) (by first | assumption | omega)) ?_
  rw [row_eq hn ht hz hy, ad_rf, sa.1, tn, beg_cnt hn (sa.2 _ lt).2, show bop32 96 ((cntR n (fun k => begB (R k)) (rw3 n t z y) : Nat) : Int) ((cntN (begB (R (rw3 n t z y))) n : Nat) : Int) = ((cntR n (fun k => begB (R k)) (rw3 n t z y + 1) : Nat) : Int) from addNN (by omega)]
  exact Ends.b3 (fun z => by omega) (fun _ => Ends.g ⟨rf_pos _, rfl, by omega, by show ((rw3 n t z y : Nat) : Int) < ((24 * n * n : Nat) : Int); omega⟩ (Ends.b0 (fun _ => nxt q _ lq rfl) (fun z => absurd rfl z)))
/-- all runs are told -/
theorem c_runs1 (l : LX B n h) (hd : 26 ≤ d) (hn : n ≤ 52) (T : TxO gv B h) (sa : Sol n h a0 R) (ha : a0 = B + 117 ∨ B + 246 ≤ a0) (hah : a0 < hnx h) (o : OutC B h a N bs) (few : cntR n (fun k => begB (R k)) (24 * n * n) ≤ 1000) (hm : bs.length + 24 * 1000 ≤ 29900) :
    Vt 0 (cll PP (ev PP (gsF gv) B) d 149 [(2, rf (B + 143)), (2, rf a0), (0, 1)] h) (fun v h' => v = ((cntR n (fun k => begB (R k)) (24 * n * n) : Nat) : Int) ∧ ∃ a' N', OutC B h' a' N' (bs ++ runsT n R (24 * n * n)) ∧ Wrs (outW B) a N h h' a' N') := by
  have hb0 := l.2.2
  have ne : a0 ≠ a := fun e => by
    have := sa.1
    rw [e, o.2.1] at this
    exact absurd (show (4 : Nat) = 3 from congrArg Prod.fst this) (by decide)
  refine Vt.inq (D := 25) hd (Nat.le_of_ble_eq_true rfl) rfl (fun d hd P K => ?_)
  refine runs_all (R := R) (I := fun k q => ∃ a' N', OutC B q a' N' (bs ++ runsT n R k) ∧ Wrs (outW B) a N h q a' N') (by omega) hn (fun t z y q u7 u8 ht hz hy lq iq cq nxt => ?_) (fun q lq iq cq => K _ _ ⟨rfl, iq⟩) (fun q k lq iq hk cq => by
    exfalso
    have hm2 : cntR n (fun k => begB (R k)) k ≤ cntR n (fun k => begB (R k)) (24 * n * n) := cntR_mono _ hk
    omega) l ⟨a, N, by show OutC B h a N (bs ++ []); rw [List.append_nil]; exact o, Wrs.rf⟩
  obtain ⟨a', N', oq, wq⟩ := iq
  have sq : Sol n q a0 R := by
    refine ⟨by rw [wq.2.2.hk hah]; exact sa.1, fun k hk => ?_⟩
    rw [wq.2.2.at _ hah (by unfold outW; omega)]
    exact sa.2 k hk
  have Tq := T.ext wq.2.2 hb0 (fun b k hb w => by have := o.2.2.1; unfold outW at w; omega)
  have lt := rw3_lt (n := n) ht hz hy
  have n24' := n24 hn
  have c1 := cntN_le (begB (R (rw3 n t z y))) n
  have rl := runsT_len (n := n) (R := R) (rw3 n t z y + 1)
  have cm : cntR n (fun k => begB (R k)) (rw3 n t z y + 1) ≤ cntR n (fun k => begB (R k)) (24 * n * n) := cntR_mono _ (by omega)
  have er : runsT n R (rw3 n t z y + 1) = runsT n R (rw3 n t z y) ++ catN (rowX t z y n (R (rw3 n t z y))) n := by
    show runsT n R (rw3 n t z y) ++ catN (rowX (rw3 n t z y / (n * n)) (rw3 n t z y / n % n) (rw3 n t z y % n) n (R (rw3 n t z y))) n = _
    rw [dec_t hz hy, dec_z hz hy, dec_y hy]
  rw [er, List.length_append] at rl
  refine Ends.eq (b149_27 (n := n) (by (repeat' first | assumption | refine LX.setF _ _ ?_ (by decide +kernel) | refine LX.setS ?_ rfl | refine LX.setA ?_ (by first | assumption | omega))) (by first | assumption | omega)) ?_
  rw [row_eq hn ht hz hy, ad_rf, sq.1, tn, beg_cnt hn (sq.2 _ lt).2, show bop32 96 ((cntR n (fun k => begB (R k)) (rw3 n t z y) : Nat) : Int) ((cntN (begB (R (rw3 n t z y))) n : Nat) : Int) = ((cntR n (fun k => begB (R k)) (rw3 n t z y + 1) : Nat) : Int) from addNN (by omega)]
  refine Ends.b3 (fun z => by omega) (fun _ => Ends.g ⟨rf_pos _, rfl, by omega, by show ((rw3 n t z y : Nat) : Int) < ((24 * n * n : Nat) : Int); omega⟩ (Ends.b0 (fun z => absurd z (by decide)) (fun _ => ?_)))
  refine Ends.cv lq (by decide +kernel) (c_tell153 lq (by omega) hn Tq oq ht hz hy (sq.2 _ lt).1 (sq.2 _ lt).2 (by rw [List.length_append]; omega)) (fun q2 l2 _ _ _ ⟨a2, N2, o2, w2⟩ => ?_)
  exact nxt q2 _ l2 ⟨a2, N2, by rw [er, ← List.append_assoc]; exact o2, wq.tr w2 outW_tr⟩
end RUNS149
