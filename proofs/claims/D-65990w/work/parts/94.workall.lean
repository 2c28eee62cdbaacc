/-! L3: Formulas: what all VALUES come to -/
def rwA (B : Nat) (h : AH) (v : Nat) : Fq := (hv h (B + 15) v, hv h (B + 16) v, hv h (B + 17) v, hv h (B + 18) v)
def nmq (q : Fq) : Fq := (q.1, q.2.1, q.2.2.1, if q.2.2.2 = 0 then 0 else 4)
/-- what the text at f comes to -/
noncomputable def rdT (c : Nat → Int) (nv f : Nat) : PR := rdF c nv 0 (-1) 0 (txb c f) (fun i => txb c f i % 256) (txm c f) 0
theorem rdT_is {c : Nat → Int} {nv nc tof f : Nat} : rdF c nv nc (-1) tof (txb c f) (fun i => txb c f i % 256) (txm c f) 0 = rdT c nv f := by
  unfold rdT rdF
  rw [show bkI c nv nc (-1) tof = bkI c nv 0 (-1) 0 from funext (fun v => by unfold bkI; rw [if_pos (by decide), if_pos (by decide)])]
/-- the VALUES in CONFIGURATION k: each reads, none rests on itself -/
def OKc (c : Nat → Int) (nv k : Nat) : Prop := (∀ v, v < nv → ∃ X N p', rdT c nv (fo v (efK c v 4 k)) = .inr (X, N, p')) ∧ ∃ rk : Nat → Nat, ∀ v w, v < nv → nmE c nv k v w = true → rk w < rk v
def Vals (c : Nat → Int) (nv k : Nat) (V : Nat → Fq) : Prop := ∀ v, v < nv → ∃ X N p', rdT c nv (fo v (efK c v 4 k)) = .inr (X, N, p') ∧ V v = X (fun w => nmq (V w)) ∧ FOK (V v)
theorem nmq_ok {q : Fq} (ok : FOK q) : FOK (nmq q) := by
  rcases ok with ⟨h, r⟩ | ⟨f, e, h1, h2⟩
  · refine Or.inl ⟨?_, r⟩
    show (if q.2.2.2 = 0 then (0 : Int) else 4) = 0
    rw [if_pos h]
  · refine Or.inr ⟨4, ?_, by decide, by decide⟩
    rw [e]
    show ((0, 1, 0, if f = 0 then (0 : Int) else 4) : Fq) = flt 4
    rw [if_neg (by omega)]; rfl
theorem OKc.rk {c : Nat → Int} {nv k : Nat} (ok : OKc c nv k) : ∃ rk : Nat → Nat, (∀ v, v < nv → rk v < nv) ∧ ∀ v w, v < nv → nmE c nv k v w = true → rk w < rk v := by
  obtain ⟨_, r, hr⟩ := ok
  refine ⟨fun v => (List.range nv).countP (fun x => decide (r x < r v)), fun v hv => ?_, fun v w hv hw => ?_⟩
  · have h1 := cnt_lt (p := fun x => decide (r x < r v)) (q := fun _ => true) nv (fun _ _ _ => rfl) ⟨v, hv, rfl, decide_eq_false (by omega)⟩
    have h2 : (List.range nv).countP (fun _ => true) ≤ (List.range nv).length := List.countP_le_length
    rw [List.length_range] at h2
    exact Nat.lt_of_lt_of_le h1 h2
  · have h3 := hr v w hv hw
    exact cnt_lt nv (fun x _ h => by have := of_decide_eq_true h; exact decide_eq_true (by omega)) ⟨w, nmE_lt hw, decide_eq_true h3, decide_eq_false (by omega)⟩
/-- what reading comes to by signs, names -/
theorem tkK_0 {u : Nat → Int} {m p : Nat} (h : tkK u m p = 0) : chr u m (tkF u m p) < 0 := by
  unfold tkK at h
  split at h
  · assumption
  · exfalso
    split at h
    · split at h <;> omega
    · split at h
      · split at h <;> omega
      · omega
theorem tkK_end {u : Nat → Int} {m p : Nat} (h : tkK u m p = 0) : tkK u m (tkT u m p) = 0 := by
  have h1 := tkK_0 h
  have e1 : tkT u m p = tkF u m p := by unfold tkT; rw [if_pos h1]
  have e2 : tkF u m (tkF u m p) = tkF u m p := en_f (en_stop (P := isS) rfl)
  rw [e1]
  unfold tkK
  rw [e2, if_pos h1]
theorem nmB_reach {u c b : Nat → Int} {m nv w k : Nat} (h1 : tkK u m (tkI u m k) = 1) (hf : fdC c nv b u m (tkI u m k) = (w : Int)) : nmB u c b m nv (m + 1) 0 w = true := by
  have key : ∀ i, i ≤ k → nmB u c b m nv (i + 1) (tkI u m (k - i)) w = true := by
    intro i
    induction i with
    | zero =>
      intro _
      unfold nmB
      rw [Nat.sub_zero, if_neg (by omega), decide_eq_true h1, decide_eq_true (show fdN (nmP c b (tkF u m (tkI u m k)) (tkT u m (tkI u m k) - tkF u m (tkI u m k))) nv 0 = (w : Int) from hf)]
      rfl
    | succ i ih =>
      intro hi
      have e : tkT u m (tkI u m (k - (i + 1))) = tkI u m (k - i) := by
        rw [show k - i = (k - (i + 1)) + 1 by omega]; rfl
      have h0 : tkK u m (tkI u m (k - (i + 1))) ≠ 0 := by
        intro z
        have all : ∀ j, tkK u m (tkI u m (k - (i + 1) + j)) = 0 := by
          intro j
          induction j with
          | zero => exact z
          | succ j ihj => exact tkK_end ihj
        have := all (i + 1)
        rw [show k - (i + 1) + (i + 1) = k by omega] at this
        omega
      unfold nmB
      rw [if_neg h0, e, ih (by omega), Bool.or_true]
  have h2 := key k (Nat.le_refl _)
  rw [Nat.sub_self] at h2
  exact nmB_up (k + 1) 0 w h2 (Nat.zero_le _) (m + 1) (by omega)
/-- what works out all VALUES writes -/
def waW (B : Nat) : Nat → Nat → Prop := fun c z => wkW B c z ∨ (c = B + 7 ∧ z = 21) ∨ (B + 15 ≤ c ∧ c ≤ B + 20)
section WORKALL
variable {gv : Nat → Int} {B n d : Nat} {c : Nat → Int} {nv nc tof k : Nat} {tu : Int}
/-- VALUES of A are worked out -/
def WKS (B : Nat) (c : Nat → Int) (nv k : Nat) (tu : Int) (q : AH) (A : Int) : Prop := hv q (B + 7) 21 = tu ∧ (∀ v, v < nv → hv q (B + 20) v = if tb A v then 1 else 0) ∧ (∀ v, v < nv → ∀ w, w < 64 → tb (hv q (B + 19) v) w = nmE c nv k v w) ∧ ∀ v, v < nv → tb A v = true → (∃ X N p', rdT c nv (fo v (efK c v 4 k)) = .inr (X, N, p') ∧ rwA B q v = X (fun w => nmq (rwA B q w)) ∧ FOK (rwA B q v)) ∧ ∀ w, nmE c nv k v w = true → tb A w = true
theorem e_wround (hd : 390 ≤ d) (D : DW c nv nc) (hk : k < nc) (ok : OKc c nv k) {rk : Nat → Nat} (hrk : ∀ v w, v < nv → nmE c nv k v w = true → rk w < rk v) {h : AH} (l0 : LX B n h) (hc : ∀ z, z < 37368 → hv h (B + 2) z = c z) (T : FnB gv B h) (h13 : hv h (B + 7) 13 = (tof : Int)) {r : Nat} {Q : Rs → Prop} : ∀ (j v : Nat) (q : AH) (A : Int) (u4 : AV), v + j = nv → ¬ u4.1 = 1 → LX B n q → Agr (waW B) h q → WKS B c nv k tu q A → (∀ w, w < nv → rk w < r → tb A w = true) → (∀ w, w < v → rk w ≤ r → tb A w = true) →
    (∀ A' h' u4', ¬ (u4' : AV).1 = 1 → LX B n h' → Agr (waW B) h h' → WKS B c nv k tu h' A' → (∀ w, w < nv → rk w < r + 1 → tb A' w = true) → Ends (ev PP (gsF gv) B d 223 85 [(2, rf (B + 7)), (0, (nv : Int)), (0, (k : Int)), (1, A'), u4', (0, ((r + 1 : Nat) : Int)), (0, (nv : Int))] [] h') Q) →
    r < 1000 → Ends (ev PP (gsF gv) B d 223 94 [(2, rf (B + 7)), (0, (nv : Int)), (0, (k : Int)), (1, A), u4, (0, (r : Int)), (0, (v : Int))] [] q) Q
  | 0, v, q, A, u4, hv0, n4, l, G, W, hlt, hle, K, hr => by
    have : v = nv := by omega
    subst this
    refine Ends.eq (b223_94 (n := n) (by first | assumption | omega) (by (repeat' first | assumption | refine LX.setF _ _ ?_ (by decide +kernel) | refine LX.setS ?_ rfl | refine LX.setA ?_ (by first | assumption | omega))) (by first | assumption | omega)) ?_
    refine Ends.b3 (fun _ => ?_) (fun z => by omega)
    rw [w_succ (by omega)]
    exact K A q u4 n4 l G W (fun w hw h => hle w hw (by omega))
  | j + 1, v, q, A, u4, hv0, n4, l, G, W, hlt, hle, K, hr => by
    have n40 := D.2.1
    have hb := l.2.2
    obtain ⟨w1, w2, w3, w4⟩ := W
    have W : WKS B c nv k tu q A := ⟨w1, w2, w3, w4⟩
    have next : ∀ (q1 : AH) (A1 : Int) (u4 : AV), ¬ u4.1 = 1 → LX B n q1 → Agr (waW B) h q1 → WKS B c nv k tu q1 A1 → (∀ w, tb A w = true → tb A1 w = true) → (rk v ≤ r → tb A1 v = true) → Ends (ev PP (gsF gv) B d 223 209 [(2, rf (B + 7)), (0, (nv : Int)), (0, (k : Int)), (1, A1), u4, (0, (r : Int)), (0, (v : Int))] [] q1) Q := by
      intro q1 A1 u4 n4 l1 G1 W1 hA hv1
      refine Ends.eq (b223_209 (n := n) (by (repeat' first | assumption | refine LX.setF _ _ ?_ (by decide +kernel) | refine LX.setS ?_ rfl | refine LX.setA ?_ (by first | assumption | omega))) (by first | assumption | omega)) ?_
      rw [w_succ (by omega)]
      refine e_wround hd D hk ok hrk l0 hc T h13 j (v + 1) q1 A1 u4 (by omega) n4 l1 G1 W1 (fun w hw h => hA w (hlt w hw h)) (fun w hw h => ?_) K hr
      by_cases e : w = v
      · subst e; exact hv1 h
      · exact hA w (hle w (by omega) h)
    have cq : ∀ z, z < 37368 → hv q (B + 2) z = c z := fun z hz => by rw [G.at _ _ (by unfold waW wkW; omega)]; exact hc z hz
    refine Ends.eq (b223_94 (n := n) (by first | assumption | omega) (by (repeat' first | assumption | refine LX.setF _ _ ?_ (by decide +kernel) | refine LX.setS ?_ rfl | refine LX.setA ?_ (by first | assumption | omega))) (by first | assumption | omega)) ?_
    rw [tn, w2 v (by omega)]
    refine Ends.b3 (fun z => by omega) (fun _ => Ends.g ⟨by omega, by omega⟩ ?_)
    by_cases hA : tb A v = true
    · rw [if_pos hA]
      refine Ends.b1 (fun _ => ?_) (fun z => absurd z (by decide))
      exact next q A u4 n4 l G W (fun _ h => h) (fun _ => hA)
    rw [if_neg hA]
    refine Ends.b1 (fun z => absurd rfl z) (fun _ => ?_)
    have need : cmp64 (bop64 127 (hv q (B + 19) v) (bop64 131 A (-1))) 0 = 0 ↔ ∀ w, nmE c nv k v w = true → tb A w = true := by
      rw [cmp_0, tb_z cn_bop64]
      constructor
      · intro h w hw
        have hwn := nmE_lt hw
        have := h w (by omega)
        rw [tb_and, tb_not A (by omega), w3 v (by omega) w (by omega), hw] at this
        cases hAw : tb A w with
        | true => rfl
        | false => rw [hAw] at this; cases this
      · intro h w hw
        rw [tb_and, tb_not A hw, w3 v (by omega) w hw]
        cases hn : nmE c nv k v w with
        | false => rfl
        | true => rw [h w hn]; rfl
    refine Ends.b0 (fun z => ?_) (fun z => next q A u4 n4 l G W (fun _ h => h) (fun hle' => ?_))
    · have nd := need.mp z
      refine Ends.ct l (by decide +kernel) (by decide) (c_effective l (by omega) cq D (by omega) hk) (fun x q1 l1 _ _ _ ⟨ex, eq⟩ => ?_)
      subst ex eq
      refine Ends.eq (b223_139 (n := n) (by (repeat' first | assumption | refine LX.setF _ _ ?_ (by decide +kernel) | refine LX.setS ?_ rfl | refine LX.setA ?_ (by first | assumption | omega))) (by first | assumption | omega)) ?_
      have ek := efK_le (v := v) D 4 k hk
      have X9 := D.2.2.2.2.2.2 v (by omega) (efK c v 4 k) (by have := D.2.2.2.2.1; omega) (efK_ok D 4 k (by have := D.2.2.2.2.1; omega) hk)
      obtain ⟨XA, Xm⟩ := X9.at
      obtain ⟨X, N, p', eX⟩ := ok.1 v (by omega)
      have vok : ∀ w, nmE c nv k v w = true → FOK (nmq (rwA B q1 w)) := fun w hw => by
        obtain ⟨⟨_, _, _, _, _, o⟩, _⟩ := w4 w (nmE_lt hw) (nd w hw)
        exact nmq_ok o
      refine Ends.cv l (by decide +kernel) (c_work (m := txm c (fo v (efK c v 4 k))) (b := txb c (fo v (efK c v 4 k))) l (by omega) cq D (T.agr G (fun c k hk => by unfold waW wkW; omega)) ⟨lk_8 l, by omega⟩ (by rw [G.at _ _ (by unfold waW wkW; omega)]; exact h13) XA (fun w p ⟨i, ei⟩ k1 hf => vok w (nmB_reach (k := i) (by rw [ei]; exact k1) (by rw [ei]; exact hf))) Xm (by have := D.2.2.2.2.1; unfold fo; omega) (rdT_is.trans eX)) (fun q2 l2 _ _ _ ⟨g2, e0, o0⟩ => ?_)
      refine Ends.eq (b223_142 (n := n) (by (repeat' first | assumption | refine LX.setF _ _ ?_ (by decide +kernel) | refine LX.setS ?_ rfl | refine LX.setA ?_ (by first | assumption | omega))) (by first | assumption | omega)) ?_
      refine Ends.g ⟨by omega, by omega⟩ ?_
      rw [show Int.toNat 0 = 0 from rfl, tn, an1, an1, an0, an0, show anar 3 1 = 1 from rfl]
      generalize eq3 : hset (hset (hset (hset (hset q2 (B + 15) v (hv q2 (B + 11) 0)) (B + 16) v (hv q2 (B + 12) 0)) (B + 17) v (hv q2 (B + 13) 0)) (B + 18) v (hv q2 (B + 14) 0)) (B + 20) v 1 = q3
      have g3 : Agr (fun c z => B + 15 ≤ c ∧ c ≤ B + 20 ∧ c ≠ B + 19 ∧ z = v) q2 q3 := by
        rw [← eq3]
        exact ((((Agr.rf.set ⟨by omega, by omega, by omega, rfl⟩).set ⟨by omega, by omega, by omega, rfl⟩).set ⟨by omega, by omega, by omega, rfl⟩).set ⟨by omega, by omega, by omega, rfl⟩).set ⟨by omega, by omega, by omega, rfl⟩
      have l3 : LX B n q3 := by
        rw [← eq3]
        exact LX.setS (LX.setS (LX.setS (LX.setS (LX.setS l2 rfl) rfl) rfl) rfl) rfl
      have G3 : Agr (waW B) h q3 := (G.tr g2 (fun c z w => Or.inl w)).tr g3 (fun c z w => Or.inr (Or.inr ⟨w.1, w.2.1⟩))
      have ev : rwA B q3 v = frA B q2 0 := by
        unfold rwA frA
        rw [← eq3]
        rw [hv_set_ne (by omega), hv_set_ne (by omega), hv_set_ne (by omega), hv_set_ne (by omega), hv_set_at]
        rw [hv_set_ne (by omega), hv_set_ne (by omega), hv_set_ne (by omega), hv_set_at]
        rw [hv_set_ne (by omega), hv_set_ne (by omega), hv_set_at]
        rw [hv_set_ne (by omega), hv_set_at]
      have eo : ∀ w, w ≠ v → rwA B q3 w = rwA B q1 w := fun w hw => by
        unfold rwA
        rw [g3.at _ _ (by omega), g3.at _ _ (by omega), g3.at _ _ (by omega), g3.at _ _ (by omega), g2.at _ _ (by unfold wkW; omega), g2.at _ _ (by unfold wkW; omega), g2.at _ _ (by unfold wkW; omega), g2.at _ _ (by unfold wkW; omega)]
      have bt : ∀ w, w < 64 → tb (bop64 129 A (sop64 121 1 (v : Int))) w = (tb A w || decide (w = v)) := fun w hw => by rw [tb_or, one_bit (by omega) hw]
      have bA : ∀ w, tb A w = true → tb (bop64 129 A (sop64 121 1 (v : Int))) w = true := fun w hw => by
        by_cases h64 : w < 64
        · rw [bt w h64, hw]; rfl
        · rw [tb_big (by omega)] at hw; cases hw
      have nv' : ∀ w, tb A w = true → w ≠ v := fun w hw e => hA (by rw [← e]; exact hw)
      refine next q3 _ (9, 0) (by decide) l3 G3 ⟨?_, fun x hx => ?_, fun x hx w hw => ?_, fun x hx hb1 => ?_⟩ bA (fun _ => by rw [bt v (by omega), decide_eq_true rfl, Bool.or_true])
      · rw [g3.at _ _ (by omega), g2.at _ _ (by unfold wkW; omega)]; exact w1
      · by_cases e : x = v
        · subst e
          rw [bt x (by omega), decide_eq_true rfl, Bool.or_true, if_pos rfl, ← eq3, hv_set_at]
        · rw [g3.at _ _ (by omega), g2.at _ _ (by unfold wkW; omega), w2 x hx, bt x (by omega), decide_eq_false e, Bool.or_false]
      · rw [g3.at _ _ (by omega), g2.at _ _ (by unfold wkW; omega)]; exact w3 x hx w hw
      · by_cases e : x = v
        · subst e
          refine ⟨⟨X, N, p', eX, ?_, by rw [ev]; exact o0⟩, fun w hw => bA w (nd w hw)⟩
          rw [ev, e0]
          refine rdF_dep (Nat.zero_le _) eX _ _ (fun w hw => ?_)
          show nmq (rwA B q1 w) = nmq (rwA B q3 w)
          rw [eo w (nv' w (nd w (rdF_nm eX hw)))]
        · have hbx : tb A x = true := by
            rw [bt x (by omega), decide_eq_false e, Bool.or_false] at hb1
            exact hb1
          obtain ⟨⟨X', N', p2, e1, e2, e3⟩, e4⟩ := w4 x hx hbx
          refine ⟨⟨X', N', p2, e1, ?_, by rw [eo x e]; exact e3⟩, fun w hw => bA w (e4 w hw)⟩
          rw [eo x e, e2]
          refine rdF_dep (Nat.zero_le _) e1 _ _ (fun w hw => ?_)
          show nmq (rwA B q1 w) = nmq (rwA B q3 w)
          rw [eo w (nv' w (e4 w (rdF_nm e1 hw)))]
    · refine Classical.byContradiction (fun _ => z (need.mpr (fun w hw => ?_)))
      exact hlt w (nmE_lt hw) (by have := hrk v w (by omega) hw; omega)
theorem c_workAll {h : AH} (l : LX B n h) (hd : 400 ≤ d) (hc : ∀ z, z < 37368 → hv h (B + 2) z = c z) (D : DW c nv nc) (T : FnB gv B h) (h13 : hv h (B + 7) 13 = (tof : Int)) (ht : hv h (B + 1) 8 = tu) (hk2 : c 2 = (k : Int)) (hk : k < nc) (ok : OKc c nv k) (hC : hv h (B + 7) 21 = tu → Vals c nv k (rwA B h)) :
    Vd (cll PP (ev PP (gsF gv) B) d 223 [(2, rf (B + 7))] h) (fun h' => Agr (waW B) h h' ∧ hv h' (B + 7) 21 = tu ∧ Vals c nv k (rwA B h')) := by
  have hb := l.2.2
  have n40 := D.2.1
  obtain ⟨rk, hr1, hr2⟩ := ok.rk
  refine Vd.into (D := 399) hd (Nat.le_of_ble_eq_true rfl) rfl (fun d hd => ?_)
  refine Ends.eq (b223_0 (n := n) (by (repeat' first | assumption | refine LX.setF _ _ ?_ (by decide +kernel) | refine LX.setS ?_ rfl | refine LX.setA ?_ (by first | assumption | omega))) (by first | assumption | omega)) ?_
  rw [show v454 B h = tu from ht]
  refine Ends.b1 (fun _ => ?_) (fun e => Ends.sm ⟨_, rfl, Agr.rf, e, hC e⟩)
  have l1 : LX B n (hset h (B + 7) 21 tu) := LX.setF 7 21 l (by decide +kernel)
  have G1 : Agr (waW B) h (hset h (B + 7) 21 tu) := Agr.rf.set (Or.inr (Or.inl ⟨rfl, rfl⟩))
  have e1 : ∀ z : Nat, z < 37368 → v447 B (hset h (B + 7) 21 tu) (z : Int) = c z := fun z hz => by
    unfold v447
    rw [tn, G1.at _ _ (by unfold waW wkW; omega)]; exact hc z hz
  refine Ends.g (by unfold q447; omega) (Ends.g (by unfold q447; omega) ?_)
  rw [show v447 B (hset h (B + 7) 21 tu) 0 = (nv : Int) from (e1 0 (by omega)).trans D.1, show v447 B (hset h (B + 7) 21 tu) 2 = (k : Int) from (e1 2 (by omega)).trans hk2]
  refine lp (nv) (fun i L q => ∃ u4 u5 u6 : AV, L = [(2, rf (B + 7)), (0, ((nv : Int))), (0, ((k : Int))), (0, ((i : Int))), u4, u5, u6] ∧ LX B n q ∧ i ≤ nv ∧ Agr (waW B) h q ∧ hv q (B + 7) 21 = tu ∧ ∀ j, j < i → hv q (B + 20) j = 0 ∧ ∀ w, w < 64 → tb (hv q (B + 19) j) w = nmE c nv k j w) ?_ ?_ (0) ⟨_, _, _, rfl, (by (repeat' first | assumption | refine LX.setF _ _ ?_ (by decide +kernel) | refine LX.setS ?_ rfl | refine LX.setA ?_ (by assumption))), by omega, ?_, ?_⟩
  · rintro i _ q hi ⟨uq0, uq1, uq2, rfl, lq, hiN, gq, ⟨i1, i2⟩⟩ ihi
    have cq : ∀ z, z < 37368 → hv (hset q (B + 20) i 0) (B + 2) z = c z := fun z hz => by rw [hv_set_ne (by omega), gq.at _ _ (by unfold waW wkW; omega)]; exact hc z hz
    refine Ends.eq (b223_46 (n := n) (by (repeat' first | assumption | refine LX.setF _ _ ?_ (by decide +kernel) | refine LX.setS ?_ rfl | refine LX.setA ?_ (by first | assumption | omega))) (by first | assumption | omega)) ?_
    rw [tn, show anar 3 0 = 0 from rfl]
    refine Ends.b3 (fun z => by omega) (fun _ => Ends.g ⟨by omega, by omega⟩ ?_)
    have l2 : LX B n (hset q (B + 20) i 0) := LX.setS lq rfl
    have G2 : Agr (waW B) h (hset q (B + 20) i 0) := gq.set (Or.inr (Or.inr ⟨by omega, by omega⟩))
    refine Ends.ct l2 (by decide +kernel) (by decide) (c_effective l2 (by omega) cq D (by omega) hk) (fun x q1 l3 _ _ _ ⟨ex, eq⟩ => ?_)
    subst ex eq
    refine Ends.eq (b223_70 (n := n) (by (repeat' first | assumption | refine LX.setF _ _ ?_ (by decide +kernel) | refine LX.setS ?_ rfl | refine LX.setA ?_ (by first | assumption | omega))) (by first | assumption | omega)) ?_
    have ek := efK_le (v := i) D 4 k hk
    have X9 := D.2.2.2.2.2.2 i (by omega) (efK c i 4 k) (by have := D.2.2.2.2.1; omega) (efK_ok D 4 k (by have := D.2.2.2.2.1; omega) hk)
    obtain ⟨XA, Xm⟩ := X9.at
    refine Ends.ct l2 (by decide +kernel) (by decide) (c_namesIn (m := txm c (fo i (efK c i 4 k))) (b := txb c (fo i (efK c i 4 k))) l2 (by omega) cq D (T.agr G2 (fun c k hk => by unfold waW wkW; omega)).1 ⟨lk_8 l2, by omega⟩ XA Xm (by have := D.2.2.2.2.1; unfold fo; omega)) (fun Y q2 l3 _ _ _ ⟨hY, g3⟩ => ?_)
    refine Ends.eq (b223_73 (n := n) (by (repeat' first | assumption | refine LX.setF _ _ ?_ (by decide +kernel) | refine LX.setS ?_ rfl | refine LX.setA ?_ (by first | assumption | omega))) (by first | assumption | omega)) ?_
    rw [ad_rf, lk_19 l3, tn, an1]
    refine Ends.g ⟨rf_pos _, rfl, by omega, by show (i : Int) < ((40 : Nat) : Int); omega, by omega⟩ ?_
    rw [w_succ (by omega)]
    have l4 : LX B n (hset q2 (B + 19) i Y) := LX.setS l3 rfl
    refine ihi _ _ ⟨_, _, _, rfl, (by (repeat' first | assumption | refine LX.setF _ _ ?_ (by decide +kernel) | refine LX.setS ?_ rfl | refine LX.setA ?_ (by assumption))), by omega, ?_, ?_⟩
    · exact (G2.tr g3 (fun c z w => by unfold nmW at w; unfold waW wkW; omega)).set (Or.inr (Or.inr ⟨by omega, by omega⟩))
    · refine ⟨?_, fun j hj => ?_⟩
      · rw [hv_set_ne (by omega), g3.at _ _ (by unfold nmW; omega), hv_set_ne (by omega)]; exact i1
      · by_cases e : j = i
        · subst e
          refine ⟨?_, fun w hw => by rw [hv_set_at]; exact hY w hw⟩
          rw [hv_set_ne (by omega), g3.at _ _ (by unfold nmW; omega)]; exact hv_set_at ..
        · obtain ⟨a1, a2⟩ := i2 j (by omega)
          refine ⟨?_, fun w hw => ?_⟩
          · rw [hv_set_ne (by omega), g3.at _ _ (by unfold nmW; omega), hv_set_ne (by omega)]; exact a1
          · rw [hv_set_ne (by omega), g3.at _ _ (by unfold nmW; omega), hv_set_ne (by omega)]; exact a2 w hw
  · rintro i _ q hi ⟨uq0, uq1, uq2, rfl, lq, hiN, gq, ⟨i1, i2⟩⟩
    obtain rfl : i = nv := by omega
    refine Ends.eq (b223_46 (n := n) (by (repeat' first | assumption | refine LX.setF _ _ ?_ (by decide +kernel) | refine LX.setS ?_ rfl | refine LX.setA ?_ (by first | assumption | omega))) (by first | assumption | omega)) ?_
    refine Ends.b3 (fun _ => ?_) (fun z => by omega)
    have lq0 := l
    -- the rounds
    have key : ∀ (j r : Nat) (q : AH) (A : Int) (u4 u6 : AV), r + j = i → ¬ u4.1 = 1 → LX B n q → Agr (waW B) h q → WKS B c i k tu q A → (∀ w, w < i → rk w < r → tb A w = true) → Ends (ev PP (gsF gv) B d 223 85 [(2, rf (B + 7)), (0, (i : Int)), (0, (k : Int)), (1, A), u4, (0, (r : Int)), u6] [] q) (fun r => ∃ h', r = ((0, (9, 0)), h') ∧ Agr (waW B) h h' ∧ hv h' (B + 7) 21 = tu ∧ Vals c i k (rwA B h')) := by
      intro j
      induction j with
      | zero =>
        intro r q A u4 u6 hj nu l G W hlt
        obtain rfl : r = i := by omega
        refine Ends.eq (b223_85 (n := n) (by (repeat' first | assumption | refine LX.setF _ _ ?_ (by decide +kernel) | refine LX.setS ?_ rfl | refine LX.setA ?_ (by first | assumption | omega))) (by first | assumption | omega)) ?_
        refine Ends.b3 (fun _ => Ends.sm ⟨_, rfl, G, W.1, fun v hv1 => (W.2.2.2 v hv1 (hlt v hv1 (hr1 v hv1))).1⟩) (fun z => by omega)
      | succ j ih =>
        intro r q A u4 u6 hj nu l G W hlt
        refine Ends.eq (b223_85 (n := n) (by (repeat' first | assumption | refine LX.setF _ _ ?_ (by decide +kernel) | refine LX.setS ?_ rfl | refine LX.setA ?_ (by first | assumption | omega))) (by first | assumption | omega)) ?_
        refine Ends.b3 (fun z => by omega) (fun _ => ?_)
        exact e_wround (by omega) D hk ok hr2 lq0 hc T h13 (r := r) i 0 q A u4 (by omega) nu l G W hlt (fun w hw => absurd hw (by omega)) (fun A' h' u4' n' l' G' W' hlt' => ih (r + 1) h' A' u4' _ (by omega) n' l' G' W' hlt') (by omega)
    exact key i 0 q 0 (9, 0) _ (by omega) (by decide) lq gq ⟨i1, fun v hv1 => by rw [tb_0]; exact (i2 v hv1).1, fun v hv1 => (i2 v hv1).2, fun v _ h => by rw [tb_0] at h; cases h⟩ (fun w _ h => by omega)
  · exact G1
  · exact ⟨hv_set_at .., fun j hj => absurd hj (by omega)⟩
/-- whether a fraction gives a number -/
def gvs (q : Fq) : Bool := decide (q.2.2.2 = 0) && decide (0 ≤ q.2.2.1) && decide (q.2.2.1 ≤ 1) && decide (q.2.1 = 1) && decide (-200 ≤ q.1) && decide (q.1 ≤ 200)
/-- part w of a fraction -/
def fqW (q : Fq) (w : Int) : Int := if w = 3 then q.2.2.2 else if w = 0 then q.1 else if w = 1 then q.2.1 else q.2.2.1
theorem c_value {h : AH} (l : LX B n h) (hd : 402 ≤ d) (hc : ∀ z, z < 37368 → hv h (B + 2) z = c z) (D : DW c nv nc) (T : FnB gv B h) (h13 : hv h (B + 7) 13 = (tof : Int)) (ht : hv h (B + 1) 8 = tu) (hk2 : c 2 = (k : Int)) (hk : k < nc) (ok : OKc c nv k) (hC : hv h (B + 7) 21 = tu → Vals c nv k (rwA B h)) {v : Nat} (hv1 : v < nv) {w : Int} :
    Vt 0 (cll PP (ev PP (gsF gv) B) d 220 [(2, rf (B + 7)), (0, (v : Int)), (0, w)] h) (fun x h' => Agr (waW B) h h' ∧ hv h' (B + 7) 21 = tu ∧ Vals c nv k (rwA B h') ∧ x = fqW (rwA B h' v) w) := by
  have n40 := D.2.1
  refine Vt.into (D := 401) hd (Nat.le_of_ble_eq_true rfl) rfl (fun d hd => ?_)
  refine Ends.eq (b220_0 (n := n) (by (repeat' first | assumption | refine LX.setF _ _ ?_ (by decide +kernel) | refine LX.setS ?_ rfl | refine LX.setA ?_ (by first | assumption | omega))) (by first | assumption | omega)) ?_
  refine Ends.cv l (by decide +kernel) (c_workAll l (by omega) hc D T h13 ht hk2 hk ok hC) (fun h1 l1 _ _ _ ⟨g1, e21, V1⟩ => ?_)
  refine Ends.eq (b220_4 (n := n) (by (repeat' first | assumption | refine LX.setF _ _ ?_ (by decide +kernel) | refine LX.setS ?_ rfl | refine LX.setA ?_ (by first | assumption | omega))) (by first | assumption | omega)) ?_
  rw [tn]
  obtain ⟨_, _, _, _, _, o⟩ := V1 v hv1
  have e18 : hv h1 (B + 18) v = (rwA B h1 v).2.2.2 := rfl
  have e17 : hv h1 (B + 17) v = (rwA B h1 v).2.2.1 := rfl
  have e16 : hv h1 (B + 16) v = (rwA B h1 v).2.1 := rfl
  have e15 : hv h1 (B + 15) v = (rwA B h1 v).1 := rfl
  rw [e18, e17, e16, e15]
  refine Ends.b1 (fun w3 => Ends.g ⟨by omega, by omega⟩ ?_) (fun w3 => Ends.g ⟨by omega, by omega⟩ (Ends.sm ⟨_, _, rfl, g1, e21, V1, by unfold fqW; rw [if_pos w3]⟩))
  rcases o with ⟨f0, a1, a2, a3, a4, a5, a6, -⟩ | ⟨f, ef, f1, f2⟩
  · refine Ends.b0 (fun _ => ?_) (fun z => absurd f0 z)
    refine Ends.sm ⟨_, _, rfl, g1, e21, V1, ?_⟩
    unfold fqW
    rw [if_neg w3, tst1, tst1, uop3, uop3, w32_id ⟨by omega, by omega⟩, w32_id ⟨by omega, by omega⟩]
    by_cases w0 : w = 0
    · rw [if_pos w0, decide_eq_true w0]; rfl
    rw [if_neg w0, decide_eq_false w0]
    by_cases w1 : w = 1
    · rw [if_pos w1, decide_eq_true w1]; rfl
    · rw [if_neg w1, decide_eq_false w1]; rfl
  · rw [ef]
    refine Ends.b0 (fun z => absurd z (by show ¬ f = 0; omega)) (fun _ => ?_)
    refine Ends.sm ⟨_, _, rfl, g1, e21, V1, ?_⟩
    rw [ef]
    unfold fqW
    rw [if_neg w3, tst1]
    by_cases w1 : w = 1
    · rw [decide_eq_true w1, if_neg (by omega), if_pos w1]; rfl
    · rw [decide_eq_false w1, if_neg w1]
      by_cases w0 : w = 0
      · rw [if_pos w0]; rfl
      · rw [if_neg w0]; rfl
/-- whether the FORMULA at f gives a number -/
theorem c_gives {h : AH} (l : LX B n h) (hd : 402 ≤ d) (hc : ∀ z, z < 37368 → hv h (B + 2) z = c z) (D : DW c nv nc) (T : FnB gv B h) (h13 : hv h (B + 7) 13 = (tof : Int)) (ht : hv h (B + 1) 8 = tu) (hk2 : c 2 = (k : Int)) (hk : k < nc) (ok : OKc c nv k) (hC : hv h (B + 7) 21 = tu → Vals c nv k (rwA B h)) {f : Nat} (X9 : TX c f) (hf : f + 61 ≤ 37368) {X : Dn} {N : Nat → Bool} {p' : Nat} (eX : rdT c nv f = .inr (X, N, p')) :
    Vt 0 (cll PP (ev PP (gsF gv) B) d 201 [(2, rf (B + 7)), (0, (f : Int))] h) (fun x h' => Agr (fun a z => waW B a z ∨ (a = B + 7 ∧ z = 22)) h h' ∧ hv h' (B + 7) 21 = tu ∧ Vals c nv k (rwA B h') ∧ x = b2i (gvs (X (fun w => nmq (rwA B h' w)))) ∧ (gvs (X (fun w => nmq (rwA B h' w))) = true → hv h' (B + 7) 22 = (X (fun w => nmq (rwA B h' w))).1)) := by
  have n40 := D.2.1
  have hb := l.2.2
  obtain ⟨XA, Xm⟩ := X9.at
  refine Vt.into (D := 401) hd (Nat.le_of_ble_eq_true rfl) rfl (fun d hd => ?_)
  refine Ends.eq (b201_0 (n := n) (by (repeat' first | assumption | refine LX.setF _ _ ?_ (by decide +kernel) | refine LX.setS ?_ rfl | refine LX.setA ?_ (by first | assumption | omega))) (by first | assumption | omega)) ?_
  refine Ends.cv l (by decide +kernel) (c_workAll l (by omega) hc D T h13 ht hk2 hk ok hC) (fun h1 l1 _ _ _ ⟨g1, e21, V1⟩ => ?_)
  refine Ends.eq (b201_4 (n := n) (by (repeat' first | assumption | refine LX.setF _ _ ?_ (by decide +kernel) | refine LX.setS ?_ rfl | refine LX.setA ?_ (by first | assumption | omega))) (by first | assumption | omega)) ?_
  refine Ends.cv l1 (by decide +kernel) (c_work (m := txm c f) (b := txb c f) l1 (by omega) (fun z hz => by rw [g1.at _ _ (by unfold waW wkW; omega)]; exact hc z hz) D (T.agr g1 (fun c k hk => by unfold waW wkW; omega)) ⟨lk_8 l1, by omega⟩ (by rw [g1.at _ _ (by unfold waW wkW; omega)]; exact h13) XA (fun w p ⟨i, ei⟩ k1 hf => ?_) Xm hf (rdT_is.trans eX)) (fun h2 l2 _ _ _ ⟨g2, e0, o0⟩ => ?_)
  · have hwn : w < nv := nmB_lt _ _ _ (nmB_reach (k := i) (by rw [ei]; exact k1) (by rw [ei]; exact hf))
    obtain ⟨_, _, _, _, _, o⟩ := V1 w hwn
    exact nmq_ok o
  have er : ∀ q, Agr (wkW B) h1 q → rwA B q = rwA B h1 := fun q g => by
    funext w
    unfold rwA
    rw [g.at _ _ (by unfold wkW; omega), g.at _ _ (by unfold wkW; omega), g.at _ _ (by unfold wkW; omega), g.at _ _ (by unfold wkW; omega)]
  have e0 : frA B h2 0 = X (fun w => nmq (rwA B h2 w)) := by rw [e0, er h2 g2]; rfl
  have G2 : Agr (waW B) h h2 := g1.tr g2 (fun c z w => Or.inl w)
  have E21 : hv h2 (B + 7) 21 = tu := by rw [g2.at _ _ (by unfold wkW; omega)]; exact e21
  have V2 : Vals c nv k (rwA B h2) := by rw [er h2 g2]; exact V1
  generalize hq : X (fun w => nmq (rwA B h2 w)) = q at *
  have no : gvs q = false → Ends (ev PP (gsF gv) B d 201 74 [(2, rf (B + 7)), (0, (f : Int))] [] h2) (fun r => ∃ x h', r = ((0, (0, x)), h') ∧ Agr (fun a z => waW B a z ∨ (a = B + 7 ∧ z = 22)) h h' ∧ hv h' (B + 7) 21 = tu ∧ Vals c nv k (rwA B h') ∧ x = b2i (gvs (X (fun w => nmq (rwA B h' w)))) ∧ (gvs (X (fun w => nmq (rwA B h' w))) = true → hv h' (B + 7) 22 = (X (fun w => nmq (rwA B h' w))).1)) := by
    intro hg
    refine Ends.eq (b201_74 (n := n) (by (repeat' first | assumption | refine LX.setF _ _ ?_ (by decide +kernel) | refine LX.setS ?_ rfl | refine LX.setA ?_ (by first | assumption | omega))) (by first | assumption | omega)) ?_
    refine Ends.sm ⟨_, _, rfl, G2.sub (fun a z w => Or.inl w), E21, V2, ?_, ?_⟩
    · rw [hq, hg]; rfl
    · rw [hq, hg]; intro z; cases z
  refine Ends.eq (b201_9 (n := n) (by (repeat' first | assumption | refine LX.setF _ _ ?_ (by decide +kernel) | refine LX.setS ?_ rfl | refine LX.setA ?_ (by first | assumption | omega))) (by first | assumption | omega)) ?_
  rw [show Int.toNat 0 = 0 from rfl]
  rw [show hv h2 (B + 14) 0 = q.2.2.2 from congrArg (fun z => z.2.2.2) e0, show hv h2 (B + 13) 0 = q.2.2.1 from congrArg (fun z => z.2.2.1) e0, show hv h2 (B + 12) 0 = q.2.1 from congrArg (fun z => z.2.1) e0, show hv h2 (B + 11) 0 = q.1 from congrArg (fun z => z.1) e0]
  refine Ends.b1 (fun z => no (by unfold gvs; rw [decide_eq_false z]; rfl)) (fun z0 => ?_)
  refine Ends.b2 (fun z => no (by unfold gvs; rw [decide_eq_false (show ¬ 0 ≤ q.2.2.1 by omega)]; simp)) (fun z1 => ?_)
  refine Ends.b4 (fun z => no (by unfold gvs; rw [decide_eq_false (show ¬ q.2.2.1 ≤ 1 by omega)]; simp)) (fun z2 => ?_)
  refine Ends.b1 (fun z => no (by unfold gvs; rw [decide_eq_false (show ¬ q.2.1 = 1 from fun e => z (cmp_0.mpr e))]; simp)) (fun z3 => ?_)
  refine Ends.b2 (fun z => no (by
    have : q.1 < -200 := by
      unfold cmp64 at z
      by_cases e : q.1 < -200
      · exact e
      · rw [if_neg e] at z
        split at z <;> omega
    unfold gvs
    rw [decide_eq_false (show ¬ -200 ≤ q.1 by omega)]; simp)) (fun z4 => ?_)
  have y4 : -200 ≤ q.1 := by
    by_cases e : q.1 < -200
    · rw [cmp64_lt e] at z4; omega
    · omega
  refine Ends.b5 (fun z5 => ?_) (fun z => no (by
    have : 200 < q.1 := by
      unfold cmp64 at z
      split at z
      · omega
      split at z <;> omega
    unfold gvs
    rw [decide_eq_false (show ¬ q.1 ≤ 200 by omega)]; simp))
  have y5 : q.1 ≤ 200 := by
    by_cases e : 200 < q.1
    · rw [cmp64_gt e] at z5; omega
    · omega
  have y3 : q.2.1 = 1 := cmp_0.mp z3
  have hg : gvs q = true := by
    unfold gvs
    rw [decide_eq_true z0, decide_eq_true z1, decide_eq_true z2, decide_eq_true y3, decide_eq_true y4, decide_eq_true y5]; rfl
  have er2 : rwA B (hset h2 (B + 7) 22 (uop 3 q.1)) = rwA B h2 := by
    funext w
    unfold rwA
    rw [hv_set_ne (by omega), hv_set_ne (by omega), hv_set_ne (by omega), hv_set_ne (by omega)]
  refine Ends.sm ⟨_, _, rfl, (G2.sub (fun a z w => Or.inl w)).set (Or.inr ⟨rfl, rfl⟩), ?_, ?_, ?_, fun _ => ?_⟩
  · rw [hv_set_ne (by omega)]; exact E21
  · rw [er2]; exact V2
  · rw [er2, hq, hg]; rfl
  · rw [er2, hq, hv_set_at, uop3, w32_id ⟨by omega, by omega⟩]
end WORKALL
