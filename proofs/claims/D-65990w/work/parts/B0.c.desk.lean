/-! L3: the desk's bodies: kept, dropped, combined, turned, measured -/
section KEEP
variable {gv : Nat → Int} {B n d k a st : Nat} {h : AH} {is : Nat → Bool} {cl : Nat → Nat} {S : Nat → Nat → Bool} {T T2 : Nat → Bool} {o p : Int}
def kpW (B k b : Nat) : Nat → Nat → Prop := fun c j => (c = B + 27 ∧ j = k) ∨ (c = B + 28 ∧ j = k) ∨ (c = B + 29 ∧ j = k) ∨ (c = B + 0 ∧ j = 19) ∨ c = b
/-- T was kept as body k, in cell b -/
def KpR (B n k st : Nat) (T : Nat → Bool) (h h' : AH) (b : Nat) : Prop := ((hv h (B + 27) k = rf b ∧ hnx h' = hnx h ∧ hus h' = hus h) ∨ (hv h (B + 27) k = 0 ∧ b = hnx h ∧ hnx h' = hnx h + 1 ∧ hus h' = hus h + 24 * n * n)) ∧ B + 246 ≤ b ∧ hv h' (B + 27) k = rf b ∧ b < hnx h' ∧ SG n h' b T ∧ hv h' (B + 28) k = 1 ∧ hv h' (B + 29) k = ((st + 1 : Nat) : Int) ∧ hv h' (B + 0) 19 = ((st + 1 : Nat) : Int) ∧ Ext (kpW B k b) (if hv h (B + 27) k = 0 then 1 else 0) (if hv h (B + 27) k = 0 then 24 * n * n else 0) h h'
/-- where body k may come to -/
def bdOK (B n k : Nat) (h : AH) : Prop := hv h (B + 27) k = 0 ∨ ∃ b, hv h (B + 27) k = rf b ∧ B + 246 ≤ b ∧ b < hnx h ∧ hk h b = (3, 24 * n * n)
theorem c_keep52 (l : LX B n h) (hd : 20 ≤ d) (hn : n ≤ 52) (hk' : k < 10) (hc : bdOK B n k h) (sa : SG n h a T) (ha : a < hnx h) (ha2 : a = B + 117 ∨ B + 246 ≤ a) (hst : hv h (B + 0) 19 = (st : Int)) (hs2 : st < 1000000) :
    Vt 0 (cll PP (ev PP (gsF gv) B) d 52 [(2, rf (B + 0)), (0, (k : Int)), (2, (rf a))] h) (fun x h' => x = (k : Int) ∧ ∃ b, KpR B n k st T h h' b) := by
  have hb0 := l.2.2
  have k27 : hk h (B + 27) = (7, 10) := l.1 27 _ rfl
  refine Vt.into (D := 19) hd (Nat.le_of_ble_eq_true rfl) rfl (fun d hd => ?_)
  have fin : ∀ q b, LX B n q → hv q (B + 27) k = rf b → B + 246 ≤ b → b < hnx q → hk q b = (3, 24 * n * n) → SG n q a T → hv q (B + 0) 19 = (st : Int) → Ends (ev PP (gsF gv) B d 52 22 [(2, rf (B + 0)), (0, (k : Int)), (2, rf a)] [] q) (fun r => ∃ x h', r = ((0, (0, x)), h') ∧ x = (k : Int) ∧ hv h' (B + 27) k = rf b ∧ SG n h' b T ∧ hv h' (B + 28) k = 1 ∧ hv h' (B + 29) k = ((st + 1 : Nat) : Int) ∧ hv h' (B + 0) 19 = ((st + 1 : Nat) : Int) ∧ Agr (kpW B k b) q h') := by
    intro q b lq e1 e2 e3 e4 sq eq
    refine Ends.eq (b52_22 (n := n) (by (repeat' first | assumption | refine LX.setF _ _ ?_ (by decide +kernel) | refine LX.setS ?_ rfl | refine LX.setA ?_ (by first | assumption | omega))) (by first | assumption | omega)) ?_
    refine Ends.g ⟨by omega, by omega⟩ ?_
    rw [tn, e1]
    refine Ends.cv lq (by decide +kernel) (c_copy lq (by omega) sq e4 (by omega)) (fun q1 l1 _ _ _ ⟨f1, s1⟩ => ?_)
    have g1 := f1.agr
    refine Ends.eq (b52_36 (n := n) (by (repeat' first | assumption | refine LX.setF _ _ ?_ (by decide +kernel) | refine LX.setS ?_ rfl | refine LX.setA ?_ (by first | assumption | omega))) (by first | assumption | omega)) ?_
    refine Ends.g ⟨by omega, by omega⟩ ?_
    rw [g1.at _ _ (show ¬ B + 0 = b by omega), eq, b96_1 (by omega), tn]
    have G : Agr (kpW B k b) q (hset (hset (hset q1 (B + 28) k (anar 3 1)) (B + 0) 19 ((st + 1 : Nat) : Int)) (B + 29) k (anar 0 ((st + 1 : Nat) : Int))) := (((g1.sub (fun c j z => Or.inr (Or.inr (Or.inr (Or.inr z))))).set (Or.inr (Or.inl ⟨rfl, rfl⟩))).set (Or.inr (Or.inr (Or.inr (Or.inl ⟨rfl, rfl⟩))))).set (Or.inr (Or.inr (Or.inl ⟨rfl, rfl⟩)))
    refine Ends.sm ⟨_, _, rfl, rfl, ?_, ?_, ?_, ?_, ?_, G⟩
    · rw [hv_na (by omega), hv_na (by omega), hv_na (by omega), g1.at _ _ (show ¬ B + 27 = b by omega), e1]
    · exact SG.agr (W := fun c _ => c ≠ b) s1 ((((Agr.rf (W := fun c _ => c ≠ b)).set (show B + 28 ≠ b by omega)).set (show B + 0 ≠ b by omega)).set (show B + 29 ≠ b by omega)) (fun k z => z rfl)
    · rw [hv_na (by omega), hv_na (by omega), hv_set_at]; rfl
    · rw [hv_set_at]; rfl
    · rw [hv_na (by omega), hv_set_at]
  refine Ends.eq (b52_0 (n := n) (by (repeat' first | assumption | refine LX.setF _ _ ?_ (by decide +kernel) | refine LX.setS ?_ rfl | refine LX.setA ?_ (by first | assumption | omega))) (by first | assumption | omega)) ?_
  refine Ends.g ⟨by omega, by omega⟩ ?_
  rw [tn]
  rcases hc with e | ⟨b, e1, e2, e3, e4⟩
  · refine Ends.b0 (fun _ => ?_) (fun z => absurd e z)
    refine Ends.ct l (by decide +kernel) (by decide) (c_made l (by omega) hn) (fun x h1 l1 _ _ _ ⟨ex, e1⟩ => ?_)
    rw [ex]
    refine Ends.eq (b52_21 (n := n) (by (repeat' first | assumption | refine LX.setF _ _ ?_ (by decide +kernel) | refine LX.setS ?_ rfl | refine LX.setA ?_ (by first | assumption | omega))) (by first | assumption | omega)) ?_
    have k271 : hk h1 (B + 27) = (7, 10) := l1.1 27 _ rfl
    have kn : hk h1 (hnx h) = (3, 24 * n * n) := by rw [e1, hk_new, if_pos rfl]
    rw [ad_rf, ad_rf, k271, kn]
    refine Ends.g ⟨rf_pos _, rfl, by omega, by omega, by omega, Or.inr ⟨rf_pos _, rfl⟩⟩ ?_
    rw [tn]
    have X1 : Ext (kpW B k (hnx h)) 1 (24 * n * n) h (hset h1 (B + 27) k (rf (hnx h))) := by rw [e1]; exact Ext.set Ext.new (fun _ => Or.inl ⟨rfl, rfl⟩)
    have n1 : hnx h1 = hnx h + 1 := by rw [e1]; rfl
    have u1 : hus h1 = hus h + 24 * n * n := by rw [e1]; rfl
    refine Ends.mono (fin _ (hnx h) (LX.setS l1 rfl) (hv_set_at ..) (by omega) (by show hnx h < hnx h1; omega) kn (SG.ext (W := fun c _ => c = B + 27) (c := 1) (s := 24 * n * n) sa (by rw [e1]; exact Ext.set Ext.new (fun _ => rfl)) ha (fun _ => by omega)) (by rw [hv_na (by omega), e1, hv_new, if_neg (by omega)]; exact hst)) ?_
    rintro r ⟨x, h', rfl, rfl, a1, a2, a3, a4, a5, a6⟩
    have n2 := a6.nx
    have u2 := a6.us
    have n3 : hnx (hset h1 (B + 27) k (rf (hnx h))) = hnx h1 := rfl
    have u3 : hus (hset h1 (B + 27) k (rf (hnx h))) = hus h1 := rfl
    refine ⟨_, _, rfl, rfl, hnx h, Or.inr ⟨e, rfl, by omega, by omega⟩, by omega, a1, by omega, a2, a3, a4, a5, ?_⟩
    rw [if_pos e, if_pos e]
    exact X1.tr (c' := 0) (s' := 0) a6.ext (fun _ _ _ z => z)
  · refine Ends.b0 (fun z => absurd (e1.symm.trans z) (by have := rf_pos b; omega)) (fun _ => ?_)
    refine Ends.mono (fin h b l e1 e2 e3 e4 sa hst) ?_
    rintro r ⟨x, h', rfl, rfl, a1, a2, a3, a4, a5, a6⟩
    have n2 := a6.nx
    have z : ¬ hv h (B + 27) k = 0 := by rw [e1]; have := rf_pos b; omega
    refine ⟨_, _, rfl, rfl, b, Or.inl ⟨e1, n2, a6.us⟩, e2, a1, by omega, a2, a3, a4, a5, ?_⟩
    rw [if_neg z, if_neg z]
    exact a6.ext
theorem kp_c {x : Int} : cond (tst 2 (if frB is 10 < 10 then (frB is 10 : Int) else -1) 0) (0 : Int) 1 = if decide (frB is 10 < 10) = true then 1 else 0 := by
  by_cases e : frB is 10 < 10
  · rw [if_pos e, decide_eq_true e, tst2, decide_eq_false (by omega)]; rfl
  · rw [if_neg e, decide_eq_false e, tst2, decide_eq_true (by decide)]; rfl
theorem c_keep51 (l : LX B n h) (hd : 22 ≤ d) (hn : n ≤ 52) (b : BdC B n h is cl S) (hc : ∀ k, k < 10 → bdOK B n k h) (hst : hv h (B + 0) 19 = (st : Int)) (hs2 : st < 1000000) :
    Opx 0 (cll PP (ev PP (gsF gv) B) d 51 [(2, rf (B + 0))] h) (fun x h' => frB is 10 < 10 ∧ x = (frB is 10 : Int) ∧ ∃ c, KpR B n (frB is 10) st (S 10) h h' c) (fun c q => c = 28 ∧ ¬ frB is 10 < 10 ∧ q = h) := by
  have hb0 := l.2.2
  refine Vtx.into (D := 21) hd (Nat.le_of_ble_eq_true rfl) rfl (fun d hd => ?_)
  refine Ends.eq (b51_0 (n := n) (by (repeat' first | assumption | refine LX.setF _ _ ?_ (by decide +kernel) | refine LX.setS ?_ rfl | refine LX.setA ?_ (by first | assumption | omega))) (by first | assumption | omega)) ?_
  refine Ends.ct l (by decide +kernel) (by decide) (c_free36 l (by omega) (fun i hi => (b.1 i hi).1)) (fun x h1 l1 _ _ _ ⟨e1, ex⟩ => ?_)
  subst e1
  rw [ex]
  refine Ends.eq (b51_4 (n := n) (by (repeat' first | assumption | refine LX.setF _ _ ?_ (by decide +kernel) | refine LX.setS ?_ rfl | refine LX.setA ?_ (by first | assumption | omega))) (by first | assumption | omega)) ?_
  refine Ends.state l1 (by omega) (kp_c (x := 0)) (fun hs => ?_) (fun hs => Ends.thn rfl (Or.inr ⟨_, _, rfl, _, _, ⟨rfl, of_decide_eq_false hs, rfl⟩, rfl, rfl⟩))
  have hf := of_decide_eq_true hs
  rw [if_pos hf]
  refine Ends.eq (b51_17 (n := n) (by (repeat' first | assumption | refine LX.setF _ _ ?_ (by decide +kernel) | refine LX.setS ?_ rfl | refine LX.setA ?_ (by first | assumption | omega))) (by first | assumption | omega)) ?_
  refine Ends.ct l1 (by decide +kernel) (by decide) (c_keep52 l1 (by omega) hn hf (hc _ hf) b.2 (by omega) (Or.inl rfl) hst hs2) (fun y h2 l2 _ _ _ ⟨ey, c, K⟩ => ?_)
  refine Ends.eq (b51_29 (n := n) (by (repeat' first | assumption | refine LX.setF _ _ ?_ (by decide +kernel) | refine LX.setS ?_ rfl | refine LX.setA ?_ (by first | assumption | omega))) (by first | assumption | omega)) ?_
  exact Ends.sm (Or.inl ⟨_, _, rfl, hf, ey, c, K⟩)
theorem KpR.join {b : Nat} {h1 h2 : AH} (K : KpR B n k st T h h1 b) (hk' : k < 10) (g : Agr (fun c _ => c = b) h1 h2) (s : SG n h2 b T2) : KpR B n k st T2 h h2 b := by
  obtain ⟨k1, k2, k3, k4, k5, k6, k7, k8, k9⟩ := K
  refine ⟨?_, k2, ?_, by rw [g.nx]; exact k4, s, ?_, ?_, ?_, k9.tr (c' := 0) (s' := 0) g.ext (fun a j _ z => Or.inr (Or.inr (Or.inr (Or.inr z))))⟩
  · rw [g.nx, g.us]; exact k1
  · rw [g.at _ _ (by omega)]; exact k3
  · rw [g.at _ _ (by omega)]; exact k6
  · rw [g.at _ _ (by omega)]; exact k7
  · rw [g.at _ _ (by omega)]; exact k8
/-- what becomes a body is in another cell than those that are -/
def Apt (B n : Nat) (h : AH) (is : Nat → Bool) (cl : Nat → Nat) : Prop := ∀ i k, i < 10 → k < 10 → is i = true → k ≠ i → hv h (B + 27) k ≠ rf (cl i)
theorem KpR.ne {b : Nat} {h1 : AH} (l : LX B n h) (bd : BdC B n h is cl S) (ap : Apt B n h is cl) (K : KpR B n (frB is 10) st T h h1 b) (hf : frB is 10 < 10) (hk0 : is (frB is 10) = false) (hs : thS is o = true) : clS B cl o ≠ b := by
  have hb0 := l.2.2
  obtain ⟨s1, s2, s3⟩ := bd.sol l hs
  rcases K.1 with ⟨e, _⟩ | ⟨_, e, _⟩
  · rcases thS_c hs with rfl | ⟨i, hi, rfl, e2⟩
    · have := K.2.1
      show B + 117 ≠ b
      omega
    · intro z
      have e3 : clS B cl (i : Int) = cl i := by unfold clS; rw [if_neg (by omega)]; rfl
      rw [e3] at z
      refine ap i (frB is 10) hi hf e2 (fun q => ?_) (by rw [e, z])
      rw [q, e2] at hk0
      exact absurd hk0 (by decide)
  · omega
theorem frB_f : ∀ (i : Nat), i ≤ 10 → frB is i < 10 → is (frB is i) = false
  | 0, _, h => by unfold frB at h; omega
  | i + 1, hi, h => by
    unfold frB at h ⊢
    split at h
    · next e => rw [if_pos e]; exact frB_f i (by omega) h
    · next e => rw [if_neg e]; exact Bool.eq_false_iff.mpr e
theorem c_combine9 {op : Int} (l : LX B n h) (hd : 24 ≤ d) (hn : n ≤ 52) (b : BdC B n h is cl S) (ap : Apt B n h is cl) (hc : ∀ k, k < 10 → bdOK B n k h) (hst : hv h (B + 0) 19 = (st : Int)) (hs2 : st < 1000000) :
    Opx 0 (cll PP (ev PP (gsF gv) B) d 9 [(2, rf (B + 0)), (0, o), (0, p), (0, op)] h) (fun x h' => (thS is o = true ∧ thS is p = true ∧ (0 ≤ op ∧ op ≤ 2) ∧ frB is 10 < 10) ∧ x = (frB is 10 : Int) ∧ ∃ c, KpR B n (frB is 10) st (fun g => jn op (S (rwS o) g) (S (rwS p) g)) h h' c)
      (fun c q => q = h ∧ ((c = 31 ∧ ¬ (thS is o = true ∧ thS is p = true)) ∨ (c = 27 ∧ (thS is o = true ∧ thS is p = true) ∧ ¬ (0 ≤ op ∧ op ≤ 2)) ∨ (c = 28 ∧ (thS is o = true ∧ thS is p = true) ∧ (0 ≤ op ∧ op ≤ 2) ∧ ¬ frB is 10 < 10))) := by
  have hb0 := l.2.2
  refine Vtx.into (D := 23) hd (Nat.le_of_ble_eq_true rfl) rfl (fun d hd => ?_)
  refine Ends.eq (b9_0 (n := n) (by (repeat' first | assumption | refine LX.setF _ _ ?_ (by decide +kernel) | refine LX.setS ?_ rfl | refine LX.setA ?_ (by first | assumption | omega))) (by first | assumption | omega)) ?_
  refine Ends.sol l (by omega) b (fun ho => ?_) (fun ho => Ends.thn rfl (Or.inr ⟨_, _, rfl, _, _, ⟨rfl, Or.inl ⟨rfl, fun z => by rw [ho] at z; exact absurd z.1 (by decide)⟩⟩, rfl, rfl⟩))
  refine Ends.eq (b9_5 (n := n) (by (repeat' first | assumption | refine LX.setF _ _ ?_ (by decide +kernel) | refine LX.setS ?_ rfl | refine LX.setA ?_ (by first | assumption | omega))) (by first | assumption | omega)) ?_
  refine Ends.sol l (by omega) b (fun hp => ?_) (fun hp => Ends.thn rfl (Or.inr ⟨_, _, rfl, _, _, ⟨rfl, Or.inl ⟨rfl, fun z => by rw [hp] at z; exact absurd z.2 (by decide)⟩⟩, rfl, rfl⟩))
  refine Ends.eq (b9_12 (n := n) (by (repeat' first | assumption | refine LX.setF _ _ ?_ (by decide +kernel) | refine LX.setS ?_ rfl | refine LX.setA ?_ (by first | assumption | omega))) (by first | assumption | omega)) ?_
  refine Ends.need (p := decide (0 ≤ op ∧ op ≤ 2)) l (by omega) (by rw [v42_in]; by_cases e : 0 ≤ op ∧ op ≤ 2 <;> simp [e]) (fun h1 => ?_) (fun h1 => Ends.thn rfl (Or.inr ⟨_, _, rfl, _, _, ⟨rfl, Or.inr (Or.inl ⟨rfl, ⟨ho, hp⟩, of_decide_eq_false h1⟩)⟩, rfl, rfl⟩))
  refine Ends.eq (b9_23 (n := n) (by (repeat' first | assumption | refine LX.setF _ _ ?_ (by decide +kernel) | refine LX.setS ?_ rfl | refine LX.setA ?_ (by first | assumption | omega))) (by first | assumption | omega)) ?_
  refine Ends.ct l (by decide +kernel) (by decide) (c_free36 l (by omega) (fun i hi => (b.1 i hi).1)) (fun x q l1 _ _ _ ⟨e1, ex⟩ => ?_)
  rw [e1, ex]
  refine Ends.eq (b9_27 (n := n) (by (repeat' first | assumption | refine LX.setF _ _ ?_ (by decide +kernel) | refine LX.setS ?_ rfl | refine LX.setA ?_ (by first | assumption | omega))) (by first | assumption | omega)) ?_
  refine Ends.state l (by omega) (kp_c (x := 0)) (fun hs => ?_) (fun hs => Ends.thn rfl (Or.inr ⟨_, _, rfl, _, _, ⟨rfl, Or.inr (Or.inr ⟨rfl, ⟨ho, hp⟩, of_decide_eq_true h1, of_decide_eq_false hs⟩)⟩, rfl, rfl⟩))
  have hf := of_decide_eq_true hs
  rw [if_pos hf]
  refine Ends.eq (b9_42 (n := n) (by (repeat' first | assumption | refine LX.setF _ _ ?_ (by decide +kernel) | refine LX.setS ?_ rfl | refine LX.setA ?_ (by first | assumption | omega))) (by first | assumption | omega)) ?_
  obtain ⟨s1, s2, s3⟩ := b.sol l ho
  refine Ends.ct l (by decide +kernel) (by decide) (c_keep52 l (by omega) hn hf (hc _ hf) s1 s3 s2 hst hs2) (fun y h2 l2 _ _ _ ⟨ey, c, K⟩ => ?_)
  rw [ey]
  refine Ends.eq (b9_50 (n := n) (by (repeat' first | assumption | refine LX.setF _ _ ?_ (by decide +kernel) | refine LX.setS ?_ rfl | refine LX.setA ?_ (by first | assumption | omega))) (by first | assumption | omega)) ?_
  refine Ends.g ⟨by omega, by omega⟩ ?_
  have K' := K
  obtain ⟨k1, k2, k3, k4, k5, k6, k7, k8, k9⟩ := K'
  rw [tn, k3]
  obtain ⟨t1, t2, t3⟩ := b.sol l hp
  have ne := K.ne l b ap hf (frB_f 10 (Nat.le_refl _) hf) hp
  have t1' : SG n h2 (clS B cl p) (S (rwS p)) := t1.ext k9 t3 (fun j z => by unfold kpW at z; omega)
  refine Ends.cv l2 (by decide +kernel) (c_join (op := op) l2 (by omega) hn k5 t1' (by omega)) (fun h3 l3 _ _ _ ⟨f3, j3⟩ => ?_)
  refine Ends.eq (b9_69 (n := n) (by (repeat' first | assumption | refine LX.setF _ _ ?_ (by decide +kernel) | refine LX.setS ?_ rfl | refine LX.setA ?_ (by first | assumption | omega))) (by first | assumption | omega)) ?_
  exact Ends.sm (Or.inl ⟨_, _, rfl, ⟨ho, hp, of_decide_eq_true h1, hf⟩, rfl, c, K.join hf f3.fr.agr j3⟩)
theorem c_grains39 (l : LX B n h) (hd : 14 ≤ d) (hn0 : 0 < n) (hn : n ≤ 52) (b : BdC B n h is cl S) :
    Opx 0 (cll PP (ev PP (gsF gv) B) d 39 [(2, rf (B + 0)), (0, o)] h) (fun x h' => thS is o = true ∧ x = ((cntN (S (rwS o)) (gN n) : Nat) : Int) ∧ h' = h) (fun c q => c = 31 ∧ thS is o = false ∧ q = h) := by
  refine Vtx.into (D := 13) hd (Nat.le_of_ble_eq_true rfl) rfl (fun d hd => ?_)
  refine Ends.eq (b39_0 (n := n) (by (repeat' first | assumption | refine LX.setF _ _ ?_ (by decide +kernel) | refine LX.setS ?_ rfl | refine LX.setA ?_ (by first | assumption | omega))) (by first | assumption | omega)) ?_
  refine Ends.sol l (by omega) b (fun ho => ?_) (fun ho => Ends.thn rfl (Or.inr ⟨_, _, rfl, _, _, ⟨rfl, ho, rfl⟩, rfl, rfl⟩))
  refine Ends.eq (b39_9 (n := n) (by (repeat' first | assumption | refine LX.setF _ _ ?_ (by decide +kernel) | refine LX.setS ?_ rfl | refine LX.setA ?_ (by first | assumption | omega))) (by first | assumption | omega)) ?_
  obtain ⟨s1, s2, s3⟩ := b.sol l ho
  refine Ends.ct l (by decide +kernel) (by decide) (c_count l (by omega) hn s1) (fun y h2 l2 _ _ _ ⟨e2, ey⟩ => ?_)
  refine Ends.eq (b39_12 (n := n) (by (repeat' first | assumption | refine LX.setF _ _ ?_ (by decide +kernel) | refine LX.setS ?_ rfl | refine LX.setA ?_ (by first | assumption | omega))) (by first | assumption | omega)) ?_
  exact Ends.sm (Or.inl ⟨_, _, rfl, ho, by rw [ey, cntG hn0], e2⟩)
theorem sg_same {c1 c2 : Nat} (s1 : SG n h c1 T) (s2 : SG n h c2 T2) : (∀ k x, k < 24 * n * n → x < n → onK n (fun t z y x => T (gI n x y z t)) k x = onK n (fun t z y x => T2 (gI n x y z t)) k x) ↔ ∀ g, g < gN n → T g = T2 g := by
  constructor
  · intro e g hg
    obtain ⟨_, g1, g2, g3, g4⟩ := g_lt hg
    have := e (rw3 n (gSo g) (gZ n g) (gY n g)) (gX n g) (rw3_lt g4 g3 g2) g1
    rw [onK_at g3 g2, onK_at g3 g2, gI_g] at this
    exact this
  · intro e k x hk hx
    obtain ⟨k1, k2, k3, _⟩ := rw3_dec (by omega) hk
    exact e _ (gI_lt hx k3 k2 k1)
theorem c_equal27 (l : LX B n h) (hd : 14 ≤ d) (hn : n ≤ 52) (b : BdC B n h is cl S) :
    Opx 0 (cll PP (ev PP (gsF gv) B) d 27 [(2, rf (B + 0)), (0, o), (0, p)] h) (fun x h' => (thS is o = true ∧ thS is p = true) ∧ ((x = 1 ∧ ∀ g, g < gN n → S (rwS o) g = S (rwS p) g) ∨ (x = 0 ∧ ¬ ∀ g, g < gN n → S (rwS o) g = S (rwS p) g)) ∧ h' = h) (fun c q => c = 31 ∧ ¬ (thS is o = true ∧ thS is p = true) ∧ q = h) := by
  refine Vtx.into (D := 13) hd (Nat.le_of_ble_eq_true rfl) rfl (fun d hd => ?_)
  refine Ends.eq (b27_0 (n := n) (by (repeat' first | assumption | refine LX.setF _ _ ?_ (by decide +kernel) | refine LX.setS ?_ rfl | refine LX.setA ?_ (by first | assumption | omega))) (by first | assumption | omega)) ?_
  refine Ends.sol l (by omega) b (fun ho => ?_) (fun ho => Ends.thn rfl (Or.inr ⟨_, _, rfl, _, _, ⟨rfl, fun z => by rw [ho] at z; exact absurd z.1 (by decide), rfl⟩, rfl, rfl⟩))
  refine Ends.eq (b27_5 (n := n) (by (repeat' first | assumption | refine LX.setF _ _ ?_ (by decide +kernel) | refine LX.setS ?_ rfl | refine LX.setA ?_ (by first | assumption | omega))) (by first | assumption | omega)) ?_
  refine Ends.sol l (by omega) b (fun hp => ?_) (fun hp => Ends.thn rfl (Or.inr ⟨_, _, rfl, _, _, ⟨rfl, fun z => by rw [hp] at z; exact absurd z.2 (by decide), rfl⟩, rfl, rfl⟩))
  refine Ends.eq (b27_16 (n := n) (by (repeat' first | assumption | refine LX.setF _ _ ?_ (by decide +kernel) | refine LX.setS ?_ rfl | refine LX.setA ?_ (by first | assumption | omega))) (by first | assumption | omega)) ?_
  obtain ⟨s1, s2, s3⟩ := b.sol l ho
  obtain ⟨t1, t2, t3⟩ := b.sol l hp
  refine Ends.ct l (by decide +kernel) (by decide) (c_same l (by omega) hn s1 t1) (fun y h2 l2 _ _ _ ⟨e2, ey⟩ => ?_)
  refine Ends.eq (b27_19 (n := n) (by (repeat' first | assumption | refine LX.setF _ _ ?_ (by decide +kernel) | refine LX.setS ?_ rfl | refine LX.setA ?_ (by first | assumption | omega))) (by first | assumption | omega)) ?_
  rcases ey with ⟨ey, e⟩ | ⟨ey, k, x, hk, hx, e⟩
  · exact Ends.g (Or.inr ey) (Ends.sm (Or.inl ⟨_, _, rfl, ⟨ho, hp⟩, Or.inl ⟨ey, (sg_same s1 t1).mp e⟩, e2⟩))
  · exact Ends.g (Or.inl ey) (Ends.sm (Or.inl ⟨_, _, rfl, ⟨ho, hp⟩, Or.inr ⟨ey, fun z => e ((sg_same s1 t1).mpr z k x hk hx)⟩, e2⟩))
end KEEP
