/-! L3: the model's sheet -/
section MEXP
variable {gv : Nat → Int} {B n d : Nat} {h : AH} {a N s t z y x : Nat} {bs : List Int} {S : Nat → Bool}
theorem rwG_at {t z y x : Nat} (hz : z < n) (hy : y < n) : rwG n S (rw3 n t z y) x = S (gI n x y z t) := onK_at hz hy
theorem c_sayRun811 (l : LX B n h) (hd : 20 ≤ d) (hn : n ≤ 52) (mb : MB B n h s S) (hs : s < 19) (T : TxO gv B h) (o : OutM B h a N bs) (ht : t < 24) (hz : z < n) (hy : y < n) (hx : x < n) (sx : S (gI n x y z t) = true) (hm : bs.length ≤ 29900) :
    Vd (cll PP (ev PP (gsF gv) B) d 811 [(2, rf (B + 149)), (0, (s : Int)), (0, (t : Int)), (0, (z : Int)), (0, (y : Int)), (0, (x : Int))] h) (fun h' => ∃ a' N', OutM B h' a' N' (bs ++ runT t z y x (lnF (rwG n S (rw3 n t z y)) (n - x) x)) ∧ Wrs (outV B) a N h h' a' N') := by
  refine Vd.inq (D := 19) hd (Nat.le_of_ble_eq_true rfl) rfl (fun d hd P K => ?_)
  refine Ends.eq (b811_0 (n := n) (by (repeat' first | assumption | refine LX.setF _ _ ?_ (by decide +kernel) | refine LX.setS ?_ rfl | refine LX.setA ?_ (by first | assumption | omega))) (by first | assumption | omega)) ?_
  have key : ∀ (c m : Nat), x + m + c = n → 1 ≤ m → (∀ j, x ≤ j → j < x + m → rwG n S (rw3 n t z y) j = true) → Ends (ev PP (gsF gv) B d 811 3 [(2, rf (B + 149)), (0, (s : Int)), (0, (t : Int)), (0, (z : Int)), (0, (y : Int)), (0, (x : Int)), (0, (m : Int))] [] h) P := by
    intro c
    induction c with
    | zero =>
      intro m hm' m1 lo
      refine Ends.eq (b811_3 (n := n) (by (repeat' first | assumption | refine LX.setF _ _ ?_ (by decide +kernel) | refine LX.setS ?_ rfl | refine LX.setA ?_ (by first | assumption | omega))) (by first | assumption | omega)) ?_
      rw [show bop32 96 (x : Int) (m : Int) = ((x + m : Nat) : Int) from addNN (by omega)]
      refine Ends.b3 (fun _ => ?_) (fun z => by omega)
      refine mtell_run l (by omega) T o hm (by omega) (by omega) (by omega) (by omega) (by omega) (fun q' a' N' o' w' => K _ ⟨a', N', ?_, w'⟩)
      rw [lnF_is (n - x) x m (by omega) lo (Or.inl (by omega))]
      exact o'
    | succ c ih =>
      intro m hm' m1 lo
      have hg := gI_lt (n := n) (x := x + m) (y := y) (z := z) (t := t) (by omega) hy hz ht
      obtain ⟨h1, h2⟩ := has_is mb hs hn hg
      refine Ends.eq (b811_3 (n := n) (by (repeat' first | assumption | refine LX.setF _ _ ?_ (by decide +kernel) | refine LX.setS ?_ rfl | refine LX.setA ?_ (by first | assumption | omega))) (by first | assumption | omega)) ?_
      rw [show bop32 96 (x : Int) (m : Int) = ((x + m : Nat) : Int) from addNN (by omega), grain_is hn (by omega) hy hz ht, h2]
      refine Ends.b3 (fun z => by omega) (fun _ => Ends.g h1 ?_)
      cases e : S (gI n (x + m) y z t)
      · refine Ends.b0 (fun _ => ?_) (fun z => absurd rfl z)
        refine mtell_run l (by omega) T o hm (by omega) (by omega) (by omega) (by omega) (by omega) (fun q' a' N' o' w' => K _ ⟨a', N', ?_, w'⟩)
        rw [lnF_is (n - x) x m (by omega) lo (Or.inr (by rw [rwG_at hz hy]; exact e))]
        exact o'
      · refine Ends.b0 (fun z => absurd z (by decide)) (fun _ => ?_)
        rw [w_succ (by omega)]
        refine ih (m + 1) (by omega) (by omega) (fun j h1 h2 => ?_)
        by_cases w : j = x + m
        · rw [w, rwG_at hz hy]; exact e
        · exact lo j h1 (by omega)
  exact key (n - x - 1) 1 (by omega) (Nat.le_refl _) (fun j h1 h2 => by rw [show j = x by omega, rwG_at hz hy]; exact sx)
/-- a run begins with grain g -/
def bgS (n : Nat) (S : Nat → Bool) (g : Nat) : Bool := S g && !(decide (0 < gX n g) && S (g - 24))
theorem cntR_congr {R R' : Nat → Nat → Bool} : ∀ K, (∀ k x, k < K → x < n → R k x = R' k x) → cntR n R K = cntR n R' K
  | 0, _ => rfl
  | K + 1, h => by
    show cntR n R K + cntN (R K) n = cntR n R' K + cntN (R' K) n
    rw [cntR_congr K (fun k x h1 h2 => h k x (by omega) h2), cntN_congr n (fun x hx => h K x (by omega) hx)]
theorem beg_at (hz : z < n) (hy : y < n) (hx : x < n) (ht : t < 24) : begB (rwG n S (rw3 n t z y)) x = bgS n S (gI n x y z t) := by
  unfold begB bgS
  rw [rwG_at hz hy, rwG_at hz hy, gX_I hx ht]
  by_cases e : 0 < x
  · rw [show gI n (x - 1) y z t = gI n x y z t - 24 from by unfold gI; omega]
  · rw [decide_eq_false e, Bool.false_and, Bool.false_and]
theorem beg_all (hn0 : 0 < n) : cntR n (fun k => begB (rwG n S k)) (24 * n * n) = cntN (bgS n S) (gN n) := by
  rw [← cntG hn0]
  refine cntR_congr _ (fun k x hk hx => ?_)
  obtain ⟨h1, h2, h3, h4⟩ := rw3_dec hn0 hk
  show begB (rwG n S k) x = bgS n S (gI n x (k % n) (k / n % n) (k / (n * n)))
  rw [← beg_at h2 h3 hx h1, h4]
def mexW (B a : Nat) : Nat → Nat → Prop := fun c k => (c = B + 149 ∧ (k = 0 ∨ k = 164 ∨ k = 165)) ∨ c = a
/-- the loops of the model's text -/
theorem mexp_rows {o x2 : Int} {P : Rs → Prop} {u4 u5 u6 : AV} (l : LX B n h) (hd : 22 ≤ d) (hn : n ≤ 52) (hr : s < 19) (ho : v806 o = (s : Int)) (T : TxO gv B h) (mb : MB B n h s S) (oq : OutM B h a N bs) (hm : bs.length ≤ 1000) (few : cntR n (fun k => begB (rwG n S k)) (24 * n * n) ≤ 1000)
    (K : ∀ q a' N', LX B n q → OutM B q a' N' (bs ++ runsT n (rwG n S) (24 * n * n)) → Wrs (outV B) a N h q a' N' → ∀ u4 u5 u6, Ends (aft PP 616 222 225 [(2, rf (B + 149)), (0, o), (0, x2), (0, (24 : Int)), u4, u5, u6] [] (ev PP (gsF gv) B d 616) (cll PP (ev PP (gsF gv) B) d 809 [(2, rf (B + 149)), (2, (gv 14))] q)) P) :
    Ends (ev PP (gsF gv) B d 616 119 [(2, rf (B + 149)), (0, o), (0, x2), (0, (0 : Int)), u4, u5, u6] [] h) P := by
  have hb0 := l.2.2
  have n24' := n24 hn
  have tloop : ∀ (c t : Nat) (q : AH) (a' N' : Nat) (u4 u5 u6 : AV), t + c = 24 → LX B n q → OutM B q a' N' (bs ++ runsT n (rwG n S) (rw3 n t 0 0)) → Wrs (outV B) a N h q a' N' → Ends (ev PP (gsF gv) B d 616 119 [(2, rf (B + 149)), (0, o), (0, x2), (0, (t : Int)), u4, u5, u6] [] q) P := by
    intro c
    induction c with
    | zero =>
      intro t q a' N' u4 u5 u6 ht lq o' w'
      obtain rfl : t = 24 := by omega
      have e24 : rw3 n 24 0 0 = 24 * n * n := rfl
      rw [e24] at o'
      refine Ends.eq (b616_119 (n := n) (by (repeat' first | assumption | refine LX.setF _ _ ?_ (by decide +kernel) | refine LX.setS ?_ rfl | refine LX.setA ?_ (by first | assumption | omega))) (by first | assumption | omega)) ?_
      exact Ends.b3 (fun _ => K q a' N' lq o' w' _ _ _) (fun z => absurd z (by decide))
    | succ c iht =>
      intro t q a' N' u4 u5 u6 ht lq o' w'
      have ht24 : t < 24 := by omega
      refine Ends.eq (b616_119 (n := n) (by (repeat' first | assumption | refine LX.setF _ _ ?_ (by decide +kernel) | refine LX.setS ?_ rfl | refine LX.setA ?_ (by first | assumption | omega))) (by first | assumption | omega)) ?_
      refine Ends.b3 (fun z => by omega) (fun _ => ?_)
      have zloop : ∀ (cz z : Nat) (q : AH) (a' N' : Nat) (u5 u6 : AV), z + cz = n → LX B n q → OutM B q a' N' (bs ++ runsT n (rwG n S) (rw3 n t z 0)) → Wrs (outV B) a N h q a' N' → Ends (ev PP (gsF gv) B d 616 128 [(2, rf (B + 149)), (0, o), (0, x2), (0, (t : Int)), (0, (z : Int)), u5, u6] [] q) P := by
        intro cz
        induction cz with
        | zero =>
          intro z q a' N' u5 u6 hz lq o' w'
          obtain rfl : n = z := by omega
          refine Ends.eq (b616_128 (n := n) (by (repeat' first | assumption | refine LX.setF _ _ ?_ (by decide +kernel) | refine LX.setS ?_ rfl | refine LX.setA ?_ (by first | assumption | omega))) (by first | assumption | omega)) ?_
          rw [w_succ (by omega)]
          rw [← rw3_t] at o'
          exact Ends.b3 (fun _ => iht (t + 1) q a' N' _ _ _ (by omega) lq o' w') (fun z => by omega)
        | succ cz ihz =>
          intro z q a' N' u5 u6 hz lq o' w'
          have hz1 : z < n := by omega
          refine Ends.eq (b616_128 (n := n) (by (repeat' first | assumption | refine LX.setF _ _ ?_ (by decide +kernel) | refine LX.setS ?_ rfl | refine LX.setA ?_ (by first | assumption | omega))) (by first | assumption | omega)) ?_
          refine Ends.b3 (fun z => by omega) (fun _ => ?_)
          have yloop : ∀ (cy y : Nat) (q : AH) (a' N' : Nat) (u6 : AV), y + cy = n → LX B n q → OutM B q a' N' (bs ++ runsT n (rwG n S) (rw3 n t z y)) → Wrs (outV B) a N h q a' N' → Ends (ev PP (gsF gv) B d 616 140 [(2, rf (B + 149)), (0, o), (0, x2), (0, (t : Int)), (0, (z : Int)), (0, (y : Int)), u6] [] q) P := by
            intro cy
            induction cy with
            | zero =>
              intro y q a' N' u6 hy lq o' w'
              obtain rfl : n = y := by omega
              refine Ends.eq (b616_140 (n := n) (by (repeat' first | assumption | refine LX.setF _ _ ?_ (by decide +kernel) | refine LX.setS ?_ rfl | refine LX.setA ?_ (by first | assumption | omega))) (by first | assumption | omega)) ?_
              rw [w_succ (by omega)]
              rw [← rw3_z] at o'
              exact Ends.b3 (fun _ => ihz (z + 1) q a' N' _ _ (by omega) lq o' w') (fun z => by omega)
            | succ cy ihy =>
              intro y q a' N' u6 hy lq o' w'
              have hy1 : y < n := by omega
              have lt := rw3_lt (n := n) ht24 hz1 hy1
              have er : runsT n (rwG n S) (rw3 n t z y + 1) = runsT n (rwG n S) (rw3 n t z y) ++ catN (rowX t z y n (rwG n S (rw3 n t z y))) n := by
                show runsT n (rwG n S) (rw3 n t z y) ++ catN (rowX (rw3 n t z y / (n * n)) (rw3 n t z y / n % n) (rw3 n t z y % n) n (rwG n S (rw3 n t z y))) n = _
                rw [dec_t hz1 hy1, dec_z hz1 hy1, dec_y hy1]
              have rl := runsT_len (n := n) (R := rwG n S) (rw3 n t z y + 1)
              have cm : cntR n (fun k => begB (rwG n S k)) (rw3 n t z y + 1) ≤ cntR n (fun k => begB (rwG n S k)) (24 * n * n) := cntR_mono _ (by omega)
              rw [er, List.length_append] at rl
              refine Ends.eq (b616_140 (n := n) (by (repeat' first | assumption | refine LX.setF _ _ ?_ (by decide +kernel) | refine LX.setS ?_ rfl | refine LX.setA ?_ (by first | assumption | omega))) (by first | assumption | omega)) ?_
              refine Ends.b3 (fun z => by omega) (fun _ => ?_)
              have xloop : ∀ (cx x : Nat) (q : AH) (a' N' : Nat), x + cx = n → LX B n q → OutM B q a' N' (bs ++ runsT n (rwG n S) (rw3 n t z y) ++ catN (rowX t z y n (rwG n S (rw3 n t z y))) x) → Wrs (outV B) a N h q a' N' → Ends (ev PP (gsF gv) B d 616 152 [(2, rf (B + 149)), (0, o), (0, x2), (0, (t : Int)), (0, (z : Int)), (0, (y : Int)), (0, (x : Int))] [] q) P := by
                intro cx
                induction cx with
                | zero =>
                  intro x q a' N' hx lq o' w'
                  obtain rfl : n = x := by omega
                  refine Ends.eq (b616_152 (n := n) (by (repeat' first | assumption | refine LX.setF _ _ ?_ (by decide +kernel) | refine LX.setS ?_ rfl | refine LX.setA ?_ (by first | assumption | omega))) (by first | assumption | omega)) ?_
                  rw [w_succ (by omega)]
                  exact Ends.b3 (fun _ => ihy (y + 1) q a' N' _ (by omega) lq (by rw [rw3_y, er, ← List.append_assoc]; exact o') w') (fun z => by omega)
                | succ cx ihx =>
                  intro x q a' N' hx lq o' w'
                  have hx1 : x < n := by omega
                  have mbq : MB B n q s S := mb.ext w'.2.2 hb0 (fun k hk w => by have := oq.2.2.1; unfold outV at w; omega)
                  have hg := gI_lt (n := n) hx1 hy1 hz1 ht24
                  have cml : (catN (rowX t z y n (rwG n S (rw3 n t z y))) x).length ≤ (catN (rowX t z y n (rwG n S (rw3 n t z y))) n).length := catN_mono n (by omega)
                  have bv : q557 B n q (v806 o) (t : Int) (z : Int) (y : Int) (x : Int) ∧ v557 B n q (v806 o) (t : Int) (z : Int) (y : Int) (x : Int) = if begB (rwG n S (rw3 n t z y)) x = true then 1 else 0 := by
                    rw [beg_at hz1 hy1 hx1 ht24, ho]
                    unfold q557 v557 bgS
                    rw [gX_I hx1 ht24, grain_is hn hx1 hy1 hz1 ht24]
                    obtain ⟨h1, h2⟩ := has_is mbq hr hn hg
                    rw [h2]
                    cases e : S (gI n x y z t)
                    · exact ⟨⟨h1, trivial⟩, rfl⟩
                    · by_cases x0 : x = 0
                      · subst x0
                        exact ⟨⟨h1, trivial⟩, rfl⟩
                      · have hg' := gI_lt (n := n) (x := x - 1) (by omega) hy1 hz1 ht24
                        obtain ⟨k1, k2⟩ := has_is mbq hr hn hg'
                        rw [show bop32 100 (x : Int) 1 = ((x - 1 : Nat) : Int) from subNN (y := 1) (by omega) (by omega), grain_is hn (by omega) hy1 hz1 ht24, k2, show gI n x y z t - 24 = gI n (x - 1) y z t from by unfold gI; omega, decide_eq_true (show 0 < x by omega)]
                        refine ⟨⟨h1, ?_⟩, ?_⟩
                        · rw [ct0, if_neg (by decide), ct0, if_neg (by omega)]; exact k1
                        · rw [ct0, if_neg (by decide), ct0, if_neg (by omega)]
                          cases S (gI n (x - 1) y z t) <;> rfl
                  refine Ends.eq (b616_152 (n := n) (by (repeat' first | assumption | refine LX.setF _ _ ?_ (by decide +kernel) | refine LX.setS ?_ rfl | refine LX.setA ?_ (by first | assumption | omega))) (by first | assumption | omega)) ?_
                  refine Ends.b3 (fun z => by omega) (fun _ => Ends.g bv.1 ?_)
                  rw [bv.2, ho]
                  have nxt : ∀ (q2 : AH) (a2 N2 : Nat), LX B n q2 → OutM B q2 a2 N2 (bs ++ runsT n (rwG n S) (rw3 n t z y) ++ catN (rowX t z y n (rwG n S (rw3 n t z y))) (x + 1)) → Wrs (outV B) a N h q2 a2 N2 → Ends (ev PP (gsF gv) B d 616 194 [(2, rf (B + 149)), (0, o), (0, x2), (0, (t : Int)), (0, (z : Int)), (0, (y : Int)), (0, (x : Int))] [] q2) P := fun q2 a2 N2 l2 o2 w2 => by
                    refine Ends.eq (b616_194 (n := n) (by (repeat' first | assumption | refine LX.setF _ _ ?_ (by decide +kernel) | refine LX.setS ?_ rfl | refine LX.setA ?_ (by first | assumption | omega))) (by first | assumption | omega)) ?_
                    rw [w_succ (by omega)]
                    exact ihx (x + 1) q2 a2 N2 (by omega) l2 o2 w2
                  by_cases eb : begB (rwG n S (rw3 n t z y)) x = true
                  · rw [if_pos eb]
                    have sx : S (gI n x y z t) = true := by
                      unfold begB at eb
                      rw [Bool.and_eq_true, rwG_at hz1 hy1] at eb
                      exact eb.1
                    have e1 : rowX t z y n (rwG n S (rw3 n t z y)) x = runT t z y x (lnF (rwG n S (rw3 n t z y)) (n - x) x) := by
                      unfold rowX; rw [if_pos eb]
                    have Tq := T.ext w'.2.2 hb0 (fun b k hb w => by have := oq.2.2.1; unfold outV at w; omega)
                    refine Ends.b0 (fun z => absurd z (by decide)) (fun _ => ?_)
                    refine Ends.cv lq (by decide +kernel) (c_sayRun811 lq (by omega) hn mbq hr Tq o' ht24 hz1 hy1 hx1 sx (by rw [List.length_append, List.length_append]; omega)) (fun q2 l2 _ _ _ ⟨a2, N2, o2, w2⟩ => ?_)
                    refine nxt q2 a2 N2 l2 ?_ (w'.tr w2 outV_tr)
                    show OutM B q2 a2 N2 (bs ++ runsT n (rwG n S) (rw3 n t z y) ++ (catN (rowX t z y n (rwG n S (rw3 n t z y))) x ++ rowX t z y n (rwG n S (rw3 n t z y)) x))
                    rw [e1, ← List.append_assoc]
                    exact o2
                  · rw [if_neg eb]
                    have e1 : rowX t z y n (rwG n S (rw3 n t z y)) x = [] := by
                      unfold rowX; rw [if_neg eb]
                    refine Ends.b0 (fun _ => nxt q a' N' lq ?_ w') (fun z => absurd rfl z)
                    show OutM B q a' N' (bs ++ runsT n (rwG n S) (rw3 n t z y) ++ (catN (rowX t z y n (rwG n S (rw3 n t z y))) x ++ rowX t z y n (rwG n S (rw3 n t z y)) x))
                    rw [e1, List.append_nil]
                    exact o'
              exact xloop n 0 q a' N' (by omega) lq (by show OutM B q a' N' (bs ++ runsT n (rwG n S) (rw3 n t z y) ++ []); rw [List.append_nil]; exact o') w'
          exact yloop n 0 q a' N' _ (by omega) lq o' w'
      exact zloop n 0 q a' N' _ _ (by omega) lq o' w'
  have e0 : rw3 n 0 0 0 = 0 := by unfold rw3; omega
  exact tloop 24 0 h a N _ _ _ rfl l (by rw [e0]; show OutM B h a N (bs ++ []); rw [List.append_nil]; exact oq) Wrs.rf
end MEXP
