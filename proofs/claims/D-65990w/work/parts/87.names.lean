/-! L3: Formulas: whose FORMULA counts; which VALUES a text names -/
def fo (v k : Nat) : Nat := 40 + 248 * v + 4 + 61 * k
theorem fo_is {v k : Nat} (h1 : v < 1000) (h2 : k < 1000) : v197 (v : Int) (k : Int) = ((fo v k : Nat) : Int) := by
  unfold v197 fo
  rw [cl_of h1, show bop32 96 ((40 + 248 * v : Nat) : Int) 4 = ((40 + 248 * v + 4 : Nat) : Int) from addNN (y := 4) (by omega), show bop32 104 (k : Int) 61 = ((k * 61 : Nat) : Int) from mulNN (y := 61) (by omega)]
  rw [show bop32 96 ((40 + 248 * v + 4 : Nat) : Int) ((k * 61 : Nat) : Int) = ((40 + 248 * v + 4 + k * 61 : Nat) : Int) from addNN (by omega), Nat.mul_comm k 61]
/-- a text lies in the cells from f on -/
def TX (c : Nat → Int) (f : Nat) : Prop := ∃ (m : Nat) (b : Nat → Int), TxAt c f b m ∧ m ≤ 240
/-- the texts of a design: cells c, nv VALUES, nc CONFIGURATIONS -/
def DW (c : Nat → Int) (nv nc : Nat) : Prop := c 0 = (nv : Int) ∧ nv ≤ 40 ∧ c 1 = (nc : Int) ∧ 1 ≤ nc ∧ nc ≤ 4 ∧ (∀ k, 1 ≤ k → k < nc → ∃ j : Nat, c (30 + k) = (j : Int) ∧ j < k) ∧ ∀ v, v < nv → ∀ k, k < 4 → (k = 0 ∨ c (fo v k) ≠ 0) → TX c (fo v k)
def efK (c : Nat → Int) (v : Nat) : Nat → Nat → Nat
  | 0, k => k
  | g + 1, k => if k = 0 ∨ c (fo v k) ≠ 0 then k else efK c v g (c (30 + k)).toNat
def efW (c : Nat → Int) (tl tof : Nat) : Nat → Nat → Nat
  | 0, k => k
  | g + 1, k => if k = 0 ∨ k = tof ∨ c (fo tl k) ≠ 0 then k else efW c tl tof g (c (30 + k)).toNat
theorem efK_le {c : Nat → Int} {v nv nc : Nat} (D : DW c nv nc) : ∀ (g k : Nat), k < nc → efK c v g k ≤ k
  | 0, k, _ => Nat.le_refl _
  | g + 1, k, hk => by
    unfold efK
    split
    · exact Nat.le_refl _
    · next q =>
      obtain ⟨j, e1, e2⟩ := D.2.2.2.2.2.1 k (by omega) hk
      rw [e1, tn]
      have := efK_le (v := v) D g j (by omega)
      omega
theorem efK_ok {c : Nat → Int} {v nv nc : Nat} (D : DW c nv nc) : ∀ (g k : Nat), k ≤ g → k < nc → efK c v g k = 0 ∨ c (fo v (efK c v g k)) ≠ 0
  | 0, k, h, _ => Or.inl (by unfold efK; omega)
  | g + 1, k, h, hk => by
    unfold efK
    split
    · next q => exact q
    · next q =>
      obtain ⟨j, e1, e2⟩ := D.2.2.2.2.2.1 k (by omega) hk
      rw [e1, tn]
      exact efK_ok D g j (by omega) (by omega)
section NAMES
variable {gv : Nat → Int} {B n d : Nat} {h : AH} {c : Nat → Int} {nv nc : Nat}
theorem e_eff (l : LX B n h) (hd : 9 ≤ d) (hc : ∀ z, z < 37368 → hv h (B + 2) z = c z) (D : DW c nv nc) {v : Nat} (hvn : v < 40) {Q : Rs → Prop} {x2 : Int} : ∀ (g k : Nat), k ≤ g → k < nc → Q ((0, (0, ((fo v (efK c v g k) : Nat) : Int))), h) →
    Ends (ev PP (gsF gv) B d 191 2 [(2, rf (B + 7)), (0, ((v : Int))), (0, x2), (0, ((k : Int)))] [] h) Q
  | 0, k, hk, hn, K => by
    have : 0 = k := by omega
    subst this
    refine Ends.eq (b191_2 (n := n) (by (repeat' first | assumption | refine LX.setF _ _ ?_ (by decide +kernel) | refine LX.setS ?_ rfl | refine LX.setA ?_ (by first | assumption | omega))) (by first | assumption | omega)) ?_
    refine Ends.b5 (fun _ => ?_) (fun z => absurd z (by decide))
    refine Ends.eq (b191_36 (n := n) (by (repeat' first | assumption | refine LX.setF _ _ ?_ (by decide +kernel) | refine LX.setS ?_ rfl | refine LX.setA ?_ (by first | assumption | omega))) (by first | assumption | omega)) ?_
    exact Ends.sm (by rw [fo_is (by omega) (by omega)]; exact K)
  | g + 1, k, hk, hn, K => by
    have hnc := D.2.2.2.2.1
    unfold efK at K
    refine Ends.eq (b191_2 (n := n) (by (repeat' first | assumption | refine LX.setF _ _ ?_ (by decide +kernel) | refine LX.setS ?_ rfl | refine LX.setA ?_ (by first | assumption | omega))) (by first | assumption | omega)) ?_
    by_cases k0 : k = 0
    · rw [if_pos (Or.inl k0)] at K
      refine Ends.b5 (fun _ => ?_) (fun z => by omega)
      refine Ends.eq (b191_36 (n := n) (by (repeat' first | assumption | refine LX.setF _ _ ?_ (by decide +kernel) | refine LX.setS ?_ rfl | refine LX.setA ?_ (by first | assumption | omega))) (by first | assumption | omega)) ?_
      exact Ends.sm (by rw [fo_is (by omega) (by omega)]; exact K)
    · refine Ends.b5 (fun z => by omega) (fun _ => ?_)
      have hf : fo v k < 37368 := by unfold fo; omega
      rw [fo_is (by omega) (by omega)]
      refine Ends.g (by unfold q447; omega) ?_
      rw [show v447 B h ((fo v k : Nat) : Int) = c (fo v k) from by unfold v447; rw [tn]; exact hc _ hf]
      refine Ends.b1 (fun ne => ?_) (fun eq => ?_)
      · rw [if_pos (Or.inr ne)] at K
        refine Ends.eq (b191_36 (n := n) (by (repeat' first | assumption | refine LX.setF _ _ ?_ (by decide +kernel) | refine LX.setS ?_ rfl | refine LX.setA ?_ (by first | assumption | omega))) (by first | assumption | omega)) ?_
        exact Ends.sm (by rw [fo_is (by omega) (by omega)]; exact K)
      · rw [if_neg (fun z => z.elim k0 (fun y => y eq))] at K
        obtain ⟨j, e1, e2⟩ := D.2.2.2.2.2.1 k (by omega) hn
        rw [e1, tn] at K
        rw [show bop32 96 (30 : Int) (k : Int) = ((30 + k : Nat) : Int) from addNN (x := 30) (by omega)]
        refine Ends.g (by unfold q447; omega) ?_
        rw [show v447 B h ((30 + k : Nat) : Int) = c (30 + k) from by unfold v447; rw [tn]; exact hc _ (by omega), e1]
        exact e_eff l hd hc D hvn g j (by omega) (by omega) K
theorem c_effective (l : LX B n h) (hd : 10 ≤ d) (hc : ∀ z, z < 37368 → hv h (B + 2) z = c z) (D : DW c nv nc) {v k : Nat} (hvn : v < 40) (hk : k < nc) : Vt 0 (cll PP (ev PP (gsF gv) B) d 191 [(2, rf (B + 7)), (0, (v : Int)), (0, (k : Int))] h) (fun x h' => x = ((fo v (efK c v 4 k) : Nat) : Int) ∧ h' = h) := by
  refine Vt.into (D := 9) hd (Nat.le_of_ble_eq_true rfl) rfl (fun d hd => ?_)
  refine Ends.eq (b191_0 (n := n) (by (repeat' first | assumption | refine LX.setF _ _ ?_ (by decide +kernel) | refine LX.setS ?_ rfl | refine LX.setA ?_ (by first | assumption | omega))) (by first | assumption | omega)) ?_
  exact e_eff l hd hc D hvn 4 k (by have := D.2.2.2.2.1; omega) hk ⟨_, _, rfl, rfl, rfl⟩
theorem e_effW (l : LX B n h) (hd : 9 ≤ d) (hc : ∀ z, z < 37368 → hv h (B + 2) z = c z) (D : DW c nv nc) {tl tof : Nat} (ht : tl < 40) (h12 : hv h (B + 7) 12 = (tl : Int)) (h13 : hv h (B + 7) 13 = (tof : Int)) {Q : Rs → Prop} {x1 : Int} : ∀ (g k : Nat), k ≤ g → k < nc → Q ((0, (0, ((efW c tl tof g k : Nat) : Int))), h) →
    Ends (ev PP (gsF gv) B d 192 2 [(2, rf (B + 7)), (0, x1), (0, ((k : Int)))] [] h) Q
  | 0, k, hk, hn, K => by
    have : 0 = k := by omega
    subst this
    refine Ends.eq (b192_2 (n := n) (by (repeat' first | assumption | refine LX.setF _ _ ?_ (by decide +kernel) | refine LX.setS ?_ rfl | refine LX.setA ?_ (by first | assumption | omega))) (by first | assumption | omega)) ?_
    refine Ends.b5 (fun _ => ?_) (fun z => absurd z (by decide))
    refine Ends.eq (b192_47 (n := n) (by (repeat' first | assumption | refine LX.setF _ _ ?_ (by decide +kernel) | refine LX.setS ?_ rfl | refine LX.setA ?_ (by first | assumption | omega))) (by first | assumption | omega)) ?_
    exact Ends.sm K
  | g + 1, k, hk, hn, K => by
    have hnc := D.2.2.2.2.1
    unfold efW at K
    refine Ends.eq (b192_2 (n := n) (by (repeat' first | assumption | refine LX.setF _ _ ?_ (by decide +kernel) | refine LX.setS ?_ rfl | refine LX.setA ?_ (by first | assumption | omega))) (by first | assumption | omega)) ?_
    rw [h12, h13]
    by_cases k0 : k = 0
    · rw [if_pos (Or.inl k0)] at K
      refine Ends.b5 (fun _ => ?_) (fun z => by omega)
      refine Ends.eq (b192_47 (n := n) (by (repeat' first | assumption | refine LX.setF _ _ ?_ (by decide +kernel) | refine LX.setS ?_ rfl | refine LX.setA ?_ (by first | assumption | omega))) (by first | assumption | omega)) ?_
      exact Ends.sm K
    · refine Ends.b5 (fun z => by omega) (fun _ => ?_)
      by_cases kt : k = tof
      · rw [if_pos (Or.inr (Or.inl kt))] at K
        refine Ends.b0 (fun _ => ?_) (fun z => by omega)
        refine Ends.eq (b192_47 (n := n) (by (repeat' first | assumption | refine LX.setF _ _ ?_ (by decide +kernel) | refine LX.setS ?_ rfl | refine LX.setA ?_ (by first | assumption | omega))) (by first | assumption | omega)) ?_
        exact Ends.sm K
      refine Ends.b0 (fun z => by omega) (fun _ => ?_)
      have hf : fo tl k < 37368 := by unfold fo; omega
      rw [fo_is (by omega) (by omega)]
      refine Ends.g (by unfold q447; omega) ?_
      rw [show v447 B h ((fo tl k : Nat) : Int) = c (fo tl k) from by unfold v447; rw [tn]; exact hc _ hf]
      refine Ends.b1 (fun ne => ?_) (fun eq => ?_)
      · rw [if_pos (Or.inr (Or.inr ne))] at K
        refine Ends.eq (b192_47 (n := n) (by (repeat' first | assumption | refine LX.setF _ _ ?_ (by decide +kernel) | refine LX.setS ?_ rfl | refine LX.setA ?_ (by first | assumption | omega))) (by first | assumption | omega)) ?_
        exact Ends.sm K
      · rw [if_neg (fun z => z.elim k0 (fun y => y.elim kt (fun w => w eq)))] at K
        obtain ⟨j, e1, e2⟩ := D.2.2.2.2.2.1 k (by omega) hn
        rw [e1, tn] at K
        rw [show bop32 96 (30 : Int) (k : Int) = ((30 + k : Nat) : Int) from addNN (x := 30) (by omega)]
        refine Ends.g (by unfold q447; omega) ?_
        rw [show v447 B h ((30 + k : Nat) : Int) = c (30 + k) from by unfold v447; rw [tn]; exact hc _ (by omega), e1]
        exact e_effW l hd hc D ht h12 h13 g j (by omega) (by omega) K
theorem c_effectiveWith (l : LX B n h) (hd : 10 ≤ d) (hc : ∀ z, z < 37368 → hv h (B + 2) z = c z) (D : DW c nv nc) {tl tof k : Nat} (ht : tl < 40) (h12 : hv h (B + 7) 12 = (tl : Int)) (h13 : hv h (B + 7) 13 = (tof : Int)) (hk : k < nc) : Vt 0 (cll PP (ev PP (gsF gv) B) d 192 [(2, rf (B + 7)), (0, (k : Int))] h) (fun x h' => x = ((efW c tl tof 4 k : Nat) : Int) ∧ h' = h) := by
  refine Vt.into (D := 9) hd (Nat.le_of_ble_eq_true rfl) rfl (fun d hd => ?_)
  refine Ends.eq (b192_0 (n := n) (by (repeat' first | assumption | refine LX.setF _ _ ?_ (by decide +kernel) | refine LX.setS ?_ rfl | refine LX.setA ?_ (by first | assumption | omega))) (by first | assumption | omega)) ?_
  exact e_effW l hd hc D ht h12 h13 4 k (by have := D.2.2.2.2.1; omega) hk ⟨_, _, rfl, rfl, rfl⟩
end NAMES
/-- the VALUES that a text names, from the sign at p on -/
noncomputable def nmB (u c b : Nat → Int) (m nv : Nat) : Nat → Nat → Nat → Bool
  | 0, _, _ => false
  | g + 1, p, w => if tkK u m p = 0 then false else (decide (tkK u m p = 1) && decide (fdN (nmP c b (tkF u m p) (tkT u m p - tkF u m p)) nv 0 = (w : Int))) || nmB u c b m nv g (tkT u m p) w
/-- what looking for names writes -/
def nmW (B : Nat) : Nat → Nat → Prop := fun c z => (c = B + 8 ∧ (z = 0 ∨ z = 2 ∨ z = 3 ∨ z = 4)) ∨ c = B + 21 ∨ c = B + 22
theorem nmP_cg {c b b' : Nat → Int} {f t v : Nat} (e : ∀ i, i < t → b (f + i) = b' (f + i)) : nmP c b f t v = nmP c b' f t v := by
  unfold nmP
  refine propext ⟨fun h => ⟨h.1, fun i hi => (h.2 i hi).trans (e i hi)⟩, fun h => ⟨h.1, fun i hi => (h.2 i hi).trans (e i hi).symm⟩⟩
section NAMES2
variable {gv : Nat → Int} {B n d m : Nat} {c b : Nat → Int} {nv nc : Nat}
set_option maxHeartbeats 1000000 in
theorem e_names (hd : 20 ≤ d) (D : DW c nv nc) (hm : m ≤ 240) {Q : Rs → Prop} {x1 x2 : Int} : ∀ (g p : Nat) (q : AH) (x3 : Int) (u4 u5 : AV), m - p < g → p ≤ m → ¬ u4.1 = 1 → LX B n q → (∀ z, z < 37368 → hv q (B + 2) z = c z) → StB gv B q (gv 47) oneL → SgP B q (B + 21) (B + 22) m (fun i => b i % 256) → SgT q (B + 21) (fun i => b i % 256) m p → (∀ i, i < m → hv q (B + 22) i = b i) → YO B (B + 8) q →
    (∀ x h', (∀ w, w < 64 → tb x w = (tb x3 w || nmB (fun i => b i % 256) c b m nv g p w)) → LX B n h' → Agr (nmW B) q h' → Q ((0, (1, x)), h')) →
    Ends (ev PP (gsF gv) B d 209 27 [(2, rf (B + 7)), (0, x1), (0, x2), (1, x3), u4, u5] [] q) Q
  | 0, p, q, x3, u4, u5, hg, _, _, _, _, _, _, _, _, _, _ => by omega
  | g + 1, p, q, x3, u4, u5, hg, hp, nu, l, hc, T, S, R, hbb, yo, K => by
    have hb := l.2.2
    obtain ⟨t1, t2, t3⟩ := tk_le (u := fun i => b i % 256) hp
    -- on to the next sign
    have step : ∀ (q1 : AH) (y : Int) (u4 u5 : AV), ¬ u4.1 = 1 → tkK (fun i => b i % 256) m p ≠ 0 → LX B n q1 → Agr (fun c z => c = B + 8 ∧ (z = 0 ∨ z = 2 ∨ z = 3 ∨ z = 4)) q q1 → (∀ w, w < 64 → tb y w = (tb x3 w || (decide (tkK (fun i => b i % 256) m p = 1) && decide (fdN (nmP c b (tkF (fun i => b i % 256) m p) (tkT (fun i => b i % 256) m p - tkF (fun i => b i % 256) m p)) nv 0 = (w : Int))))) → Ends (ev PP (gsF gv) B d 209 117 [(2, rf (B + 7)), (0, x1), (0, x2), (1, y), u4, u5] [] q1) Q := by
      intro q1 y u4 u5 nu k0 l1 G1 hy
      have t4 := tk_lt (u := fun i => b i % 256) (m := m) (p := p) k0
      have T1 := T.agr G1 (fun c k hk => by omega)
      have S1 : SgP B q1 (B + 21) (B + 22) m (fun i => b i % 256) := by
        obtain ⟨s1, s2, ⟨N, s3, s4⟩, s5, s6, s7⟩ := S
        exact ⟨⟨by rw [G1.hk]; exact s1.1, s1.2⟩, by rw [G1.at _ _ (by omega)]; exact s2, ⟨N, by rw [G1.hk]; exact s3, s4⟩, by rw [G1.at _ _ (by omega)]; exact s5, fun i hi => by rw [G1.at _ _ (by omega)]; exact s6 i hi, s7⟩
      refine Ends.eq (b209_117 (n := n) (by (repeat' first | assumption | refine LX.setF _ _ ?_ (by decide +kernel) | refine LX.setS ?_ rfl | refine LX.setA ?_ (by first | assumption | omega))) (by first | assumption | omega)) ?_
      refine Ends.cv l1 (by decide +kernel) (c_sgNext l1 (by omega) S1 T1.1 (by rw [G1.at _ _ (by omega)]; exact R.2.2.1) t2) (fun q2 l2 _ _ _ ⟨g2, R2⟩ => ?_)
      refine Ends.eq (b209_124 (n := n) (by (repeat' first | assumption | refine LX.setF _ _ ?_ (by decide +kernel) | refine LX.setS ?_ rfl | refine LX.setA ?_ (by first | assumption | omega))) (by first | assumption | omega)) ?_
      have G2 : Agr (nmW B) q q2 := (G1.sub (fun c z w => Or.inl w)).tr g2 (fun c z w => by unfold sgW at w; first | omega | (unfold nmW; omega))
      have S2 : SgP B q2 (B + 21) (B + 22) m (fun i => b i % 256) := by
        obtain ⟨s1, s2, ⟨N, s3, s4⟩, s5, s6, s7⟩ := S1
        exact ⟨⟨by rw [g2.hk]; exact s1.1, s1.2⟩, by rw [g2.at _ _ (by unfold sgW; omega)]; exact s2, ⟨N, by rw [g2.hk]; exact s3, s4⟩, by rw [g2.at _ _ (by unfold sgW; omega)]; exact s5, fun i hi => by rw [g2.at _ _ (by unfold sgW; omega)]; exact s6 i hi, s7⟩
      refine e_names hd D hm g (tkT (fun i => b i % 256) m p) q2 y u4 u5 (by omega) t2 nu l2 (fun z hz => by rw [G2.at _ _ (by unfold nmW; omega)]; exact hc z hz) (T.agr G2 (fun c k hk => by unfold nmW; omega)) S2 R2 (fun i hi => by rw [g2.at _ _ (by unfold sgW; omega), G1.at _ _ (by omega)]; exact hbb i hi) ⟨by rw [G2.hk]; exact yo.1, yo.2⟩ (fun x h' hx l' g' => K x h' (fun w hw => ?_) l' (G2.tr g' (fun _ _ z => z)))
      rw [hx w hw, hy w hw, Bool.or_assoc]
      congr 1
      conv => rhs; unfold nmB
      rw [if_neg k0]
    refine Ends.eq (b209_27 (n := n) (by (repeat' first | assumption | refine LX.setF _ _ ?_ (by decide +kernel) | refine LX.setS ?_ rfl | refine LX.setA ?_ (by first | assumption | omega))) (by first | assumption | omega)) ?_
    rw [R.1]
    by_cases k0 : tkK (fun i => b i % 256) m p = 0
    · refine Ends.b0 (fun _ => ?_) (fun z => by omega)
      refine Ends.sm (K x3 q (fun w hw => ?_) l Agr.rf)
      unfold nmB
      rw [if_pos k0, Bool.or_false]
    refine Ends.b0 (fun z => by omega) (fun _ => ?_)
    by_cases k1 : tkK (fun i => b i % 256) m p = 1
    · refine Ends.b1 (fun z => by omega) (fun _ => ?_)
      rw [R.2.1, R.2.2.1]
      generalize eq1 : hset (hset (hset (hset q (B + 8) 0 (rf (B + 22))) (B + 8) 3 (tkF (fun i => b i % 256) m p : Int)) (B + 8) 4 (tkT (fun i => b i % 256) m p : Int)) (B + 8) 2 1 = q1
      have G1 : Agr (fun c z => c = B + 8 ∧ (z = 0 ∨ z = 2 ∨ z = 3 ∨ z = 4)) q q1 := by
        rw [← eq1]
        exact (((Agr.rf.set ⟨rfl, Or.inl rfl⟩).set ⟨rfl, by omega⟩).set ⟨rfl, by omega⟩).set ⟨rfl, by omega⟩
      have l1 : LX B n q1 := by
        rw [← eq1]
        have k8 : hk q (B + 8) = (1, 12) := lk_8 l
        exact LX.setO (c := 12) (LX.setO (c := 12) (LX.setO (c := 12) (LX.setO (c := 12) l k8 (by decide +kernel)) k8 (by decide +kernel)) k8 (by decide +kernel)) k8 (by decide +kernel)
      have w12 := tk_w12 (u := fun i => b i % 256) (m := m) (p := p) k1
      have z3 : hv q1 (B + 8) 3 = (tkF (fun i => b i % 256) m p : Int) := by rw [← eq1, hv_set_ne (by omega), hv_set_ne (by omega)]; exact hv_set_at ..
      have z4 : hv q1 (B + 8) 4 = ((tkF (fun i => b i % 256) m p + (tkT (fun i => b i % 256) m p - tkF (fun i => b i % 256) m p) : Nat) : Int) := by rw [← eq1, hv_set_ne (by omega), hv_set_at, show tkF (fun i => b i % 256) m p + (tkT (fun i => b i % 256) m p - tkF (fun i => b i % 256) m p) = tkT (fun i => b i % 256) m p by omega]
      have z0 : hv q1 (B + 8) 0 = rf (B + 22) := by rw [← eq1, hv_set_ne (by omega), hv_set_ne (by omega), hv_set_ne (by omega)]; exact hv_set_at ..
      refine Ends.ct l1 (by decide +kernel) (by decide) (c_find (c := c) (nv := nv) (N := 260) l1 (by omega) z3 z4 z0 (lk_22 l1) (by omega) (by omega) w12 (fun z hz => by rw [G1.at _ _ (by omega)]; exact hc z hz) D.1 D.2.1) (fun v q2 l2 _ _ _ ⟨ev, eh⟩ => ?_)
      subst eh
      have ec : fdN (nmP c (hv q2 (B + 22)) (tkF (fun i => b i % 256) m p) (tkT (fun i => b i % 256) m p - tkF (fun i => b i % 256) m p)) nv 0 = fdN (nmP c b (tkF (fun i => b i % 256) m p) (tkT (fun i => b i % 256) m p - tkF (fun i => b i % 256) m p)) nv 0 := by
        congr 1
        funext v
        exact nmP_cg (fun i hi => by rw [G1.at _ _ (by omega)]; exact hbb _ (by omega))
      rw [ec] at ev
      subst ev
      have rg := fdN_r (nmP c b (tkF (fun i => b i % 256) m p) (tkT (fun i => b i % 256) m p - tkF (fun i => b i % 256) m p)) nv 0
      have n40 := D.2.1
      refine Ends.eq (b209_99 (n := n) (by first | assumption | omega) (by (repeat' first | assumption | refine LX.setF _ _ ?_ (by decide +kernel) | refine LX.setS ?_ rfl | refine LX.setA ?_ (by first | assumption | omega))) (by first | assumption | omega)) ?_
      generalize fdN (nmP c b (tkF (fun i => b i % 256) m p) (tkT (fun i => b i % 256) m p - tkF (fun i => b i % 256) m p)) nv 0 = Y at *
      refine step q2 _ (9, 0) (0, Y) (show ¬ (9 : Nat) = 1 by decide) k0 l1 G1 (fun w hw => ?_)
      rw [tb_or, decide_eq_true k1, Bool.true_and]
      congr 1
      rcases rg with e | ⟨e1, e2⟩
      · rw [e]
        rw [show tst 2 (-1 : Int) 0 = true from rfl]
        show tb 0 w = _
        rw [tb_0, decide_eq_false (by omega)]
      · obtain ⟨y, ey⟩ : ∃ y : Nat, Y = (y : Int) := ⟨Y.toNat, by omega⟩
        subst ey
        rw [show tst 2 (y : Int) 0 = false from by rw [tst2]; exact decide_eq_false (by omega)]
        show tb (sop64 121 1 (y : Int)) w = _
        rw [one_bit (by omega) hw]
        by_cases z : w = y
        · rw [decide_eq_true z, decide_eq_true (by omega)]
        · rw [decide_eq_false z, decide_eq_false (by omega)]
    · refine Ends.b1 (fun _ => ?_) (fun z => by omega)
      refine step q x3 u4 u5 nu k0 l Agr.rf (fun w hw => ?_)
      rw [decide_eq_false k1, Bool.false_and, Bool.or_false]
/-- the VALUES that a FORMULA names -/
theorem c_namesIn {h : AH} (l : LX B n h) (hd : 22 ≤ d) (hc : ∀ z, z < 37368 → hv h (B + 2) z = c z) (D : DW c nv nc) (T : StB gv B h (gv 47) oneL) (yo : YO B (B + 8) h) {f : Nat} (X : TxAt c f b m) (hm : m ≤ 240) (hf : f + 61 ≤ 37368) :
    Vt 1 (cll PP (ev PP (gsF gv) B) d 209 [(2, rf (B + 7)), (0, (f : Int))] h) (fun x h' => (∀ w, w < 64 → tb x w = nmB (fun i => b i % 256) c b m nv (m + 1) 0 w) ∧ Agr (nmW B) h h') := by
  have hb := l.2.2
  refine Vt.into (D := 21) hd (Nat.le_of_ble_eq_true rfl) rfl (fun d hd => ?_)
  refine Ends.eq (b209_0 (n := n) (by (repeat' first | assumption | refine LX.setF _ _ ?_ (by decide +kernel) | refine LX.setS ?_ rfl | refine LX.setA ?_ (by first | assumption | omega))) (by first | assumption | omega)) ?_
  refine Ends.ct l (by decide +kernel) (by decide) (c_stText (c := c) (b := b) l (by omega) hc hf (lk_22 l) (by omega) X hm (by omega)) (fun v h1 l1 _ _ _ ⟨ev, g1, hb1⟩ => ?_)
  subst ev
  refine Ends.eq (b209_12 (n := n) (by (repeat' first | assumption | refine LX.setF _ _ ?_ (by decide +kernel) | refine LX.setS ?_ rfl | refine LX.setA ?_ (by first | assumption | omega))) (by first | assumption | omega)) ?_
  have T1 := T.agr g1 (fun c k hk => by omega)
  refine Ends.cv l1 (by decide +kernel) (c_open (u := fun i => b i % 256) l1 (by omega) ⟨lk_21 l1, by omega⟩ T1.1 (lk_22 l1) (by omega) (by omega) (fun i hi => by rw [hb1 i hi])) (fun h2 l2 _ _ _ ⟨g2, S2, R2⟩ => ?_)
  refine Ends.eq (b209_25 (n := n) (by (repeat' first | assumption | refine LX.setF _ _ ?_ (by decide +kernel) | refine LX.setS ?_ rfl | refine LX.setA ?_ (by first | assumption | omega))) (by first | assumption | omega)) ?_
  have G2 : Agr (nmW B) h h2 := (g1.sub (fun c z w => Or.inr (Or.inr w.1))).tr g2 (fun c z w => Or.inr (Or.inl w))
  refine e_names (b := b) (by omega) D hm (m + 1) 0 h2 0 _ _ (by omega) (by omega) (by decide) l2 (fun z hz => by rw [G2.at _ _ (by unfold nmW; omega)]; exact hc z hz) (T.agr G2 (fun c k hk => by unfold nmW; omega)) S2 R2 (fun i hi => by rw [g2.at _ _ (by unfold oW; omega)]; exact hb1 i hi) ⟨by rw [G2.hk]; exact yo.1, yo.2⟩ (fun x h' hx _ g' => ⟨x, h', rfl, fun w hw => ?_, G2.tr g' (fun _ _ z => z)⟩)
  rw [hx w hw, tb_0, Bool.false_or]
end NAMES2
