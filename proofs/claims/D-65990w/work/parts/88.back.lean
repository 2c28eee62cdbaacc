/-! L3: Formulas.comesBack: whether a VALUE that is told would come to be needed for itself -/
/-- a text's bytes, out of its cells -/
def txb (c : Nat → Int) (f i : Nat) : Int := uop 4 (bop32 122 (c (f + 1 + i / 4)) ((24 - 8 * (i % 4) : Nat) : Int))
def txm (c : Nat → Int) (f : Nat) : Nat := (c f - 1).toNat
theorem TX.at {c : Nat → Int} {f : Nat} (X : TX c f) : TxAt c f (txb c f) (txm c f) ∧ txm c f ≤ 240 := by
  obtain ⟨m, b, ⟨e, h⟩, hm⟩ := X
  have em : txm c f = m := by unfold txm; rw [e]; omega
  rw [em]
  refine ⟨⟨e, fun i hi => ⟨rfl, ?_⟩⟩, hm⟩
  obtain ⟨h1, h2, h3⟩ := h i hi
  unfold txb
  rw [h1]; exact ⟨h2, h3⟩
/-- whether the text at f names w -/
noncomputable def nmT (c : Nat → Int) (nv f w : Nat) : Bool := nmB (fun i => txb c f i % 256) c (txb c f) (txm c f) nv (txm c f + 1) 0 w
/-- whether VALUE v needs w in CONFIGURATION k -/
noncomputable def nmE (c : Nat → Int) (nv k v w : Nat) : Bool := nmT c nv (fo v (efK c v 4 k)) w
theorem nmB_lt {u c b : Nat → Int} {m nv : Nat} : ∀ (g p w : Nat), nmB u c b m nv g p w = true → w < nv
  | 0, p, w, h => by unfold nmB at h; cases h
  | g + 1, p, w, h => by
    unfold nmB at h
    split at h
    · cases h
    · rw [Bool.or_eq_true, Bool.and_eq_true, decide_eq_true_eq, decide_eq_true_eq] at h
      rcases h with ⟨_, h⟩ | h
      · rcases fdN_r (nmP c b (tkF u m p) (tkT u m p - tkF u m p)) nv 0 with e | ⟨e1, e2⟩ <;> omega
      · exact nmB_lt g _ w h
theorem nmE_lt {c : Nat → Int} {nv k v w : Nat} (h : nmE c nv k v w = true) : w < nv := nmB_lt _ _ _ h
/-- closed under being needed, but for what the told one needs -/
def Cls (c : Nat → Int) (nv k tl : Nat) (S : Nat → Prop) : Prop := ∀ v w, S v → v ≠ tl → nmE c nv k v w = true → S w
/-- the told VALUE is needed for y in CONFIGURATION k -/
def Nee (c : Nat → Int) (nv k tl y : Nat) : Prop := ∀ S : Nat → Prop, S y → Cls c nv k tl S → S tl
def BkP (c : Nat → Int) (nv nc tl tof y : Nat) : Prop := y = tl ∨ ∃ k, k < nc ∧ efW c tl tof 4 k = tof ∧ Nee c nv k tl y
noncomputable def bkF (c : Nat → Int) (nv nc tl tof y : Nat) : Bool := @decide (BkP c nv nc tl tof y) (Classical.propDecidable _)
theorem cnt_lt {p q : Nat → Bool} : ∀ n : Nat, (∀ w, w < n → p w = true → q w = true) → (∃ w, w < n ∧ q w = true ∧ p w = false) → (List.range n).countP p < (List.range n).countP q
  | 0, _, ⟨w, h, _⟩ => by omega
  | n + 1, h, hx => by
    rw [List.range_succ, List.countP_append, List.countP_append]
    have le : (List.range n).countP p ≤ (List.range n).countP q := List.countP_mono_left (fun x hx h1 => h x (by have := List.mem_range.mp hx; omega) h1)
    by_cases hn : q n = true ∧ p n = false
    · have e1 : List.countP p [n] = 0 := by simp [hn.2]
      have e2 : List.countP q [n] = 1 := by simp [hn.1]
      omega
    · obtain ⟨w, w1, w2, w3⟩ := hx
      have hw : w < n := by
        by_cases e : w = n
        · subst e; exact absurd ⟨w2, w3⟩ hn
        · omega
      have := cnt_lt n (fun x hx => h x (by omega)) ⟨w, hw, w2, w3⟩
      have e3 : List.countP p [n] ≤ List.countP q [n] := by
        by_cases e : p n = true
        · have e9 := h n (by omega) e
          simp [e, e9]
        · simp [e]
      omega
/-- the reader's fields are laid back -/
theorem agr_back {B : Nat} {h h' : AH} (G : Agr (nmW B) h h') (h2 : hv h (B + 8) 2 = 1) : Agr (fun c _ => c = B + 21 ∨ c = B + 22) h (hset (hset (hset (hset h' (B + 8) 0 (hv h (B + 8) 0)) (B + 8) 3 (hv h (B + 8) 3)) (B + 8) 4 (hv h (B + 8) 4)) (B + 8) 2 1) := by
  have G2 : Agr (nmW B) h (hset (hset (hset (hset h' (B + 8) 0 (hv h (B + 8) 0)) (B + 8) 3 (hv h (B + 8) 3)) (B + 8) 4 (hv h (B + 8) 4)) (B + 8) 2 1) := (((G.set (by unfold nmW; omega)).set (by unfold nmW; omega)).set (by unfold nmW; omega)).set (by unfold nmW; omega)
  refine ⟨G2.1, G2.2.1, fun c k hk => ?_⟩
  by_cases e : c = B + 8 ∧ (k = 0 ∨ k = 2 ∨ k = 3 ∨ k = 4)
  · obtain ⟨rfl, e⟩ := e
    rcases e with rfl | rfl | rfl | rfl
    · rw [hv_set_ne (by omega), hv_set_ne (by omega), hv_set_ne (by omega), hv_set_at]
    · rw [hv_set_at, h2]
    · rw [hv_set_ne (by omega), hv_set_ne (by omega), hv_set_at]
    · rw [hv_set_ne (by omega), hv_set_at]
  · exact G2.at c k (by unfold nmW; omega)
section BACK
variable {gv : Nat → Int} {B n d : Nat} {c : Nat → Int} {nv nc tl tof y : Nat}
/-- the heap beside a search -/
def BI (gv : Nat → Int) (B n : Nat) (c : Nat → Int) (tl tof : Nat) (h : AH) : Prop := LX B n h ∧ (∀ z, z < 37368 → hv h (B + 2) z = c z) ∧ StB gv B h (gv 47) oneL ∧ YO B (B + 8) h ∧ hv h (B + 7) 12 = (tl : Int) ∧ hv h (B + 7) 13 = (tof : Int)
theorem BI.agr {h t : AH} (I : BI gv B n c tl tof h) (lt : LX B n t) (g : Agr (nmW B) h t) : BI gv B n c tl tof t := by
  obtain ⟨l, i1, i2, i3, i4, i5⟩ := I
  have hb := l.2.2
  exact ⟨lt, fun z hz => by rw [g.at _ _ (by unfold nmW; omega)]; exact i1 z hz, i2.agr g (fun c k hk => by unfold nmW; omega), ⟨by rw [g.hk]; exact i3.1, i3.2⟩, by rw [g.at _ _ (by unfold nmW; omega)]; exact i4, by rw [g.at _ _ (by unfold nmW; omega)]; exact i5⟩
/-- one round over the VALUES -/
theorem e_round (hd : 30 ≤ d) (D : DW c nv nc) (ht : tl < nv) {k : Nat} (hk : k < nc) {Q : Rs → Prop} {x1 x2 x3 x4 x5 : Int} {X : Int} : ∀ (r v : Nat) (q : AH) (A : Int) (u10 : AV), v + r = nv → ¬ u10.1 = 1 → BI gv B n c tl tof q →
    (∀ A' h' u10', ¬ (u10' : AV).1 = 1 → (∀ w, w < 64 → (tb A' w = true ↔ tb A w = true ∨ ∃ z, v ≤ z ∧ z < nv ∧ tb X z = true ∧ z ≠ tl ∧ nmE c nv k z w = true)) → cn 1 A' ∨ A' = A → BI gv B n c tl tof h' → Agr (nmW B) q h' → Ends (ev PP (gsF gv) B d 189 85 [(2, rf (B + 7)), (0, x1), (0, x2), (0, x3), (2, x4), (0, x5), (0, (k : Int)), (1, A'), (9, 0), (1, X), u10', (0, (nv : Int))] [] h') Q) →
    Ends (ev PP (gsF gv) B d 189 100 [(2, rf (B + 7)), (0, x1), (0, x2), (0, x3), (2, x4), (0, x5), (0, (k : Int)), (1, A), (9, 0), (1, X), u10, (0, (v : Int))] [] q) Q
  | 0, v, q, A, u10, hv0, n10, I, K => by
    have : v = nv := by omega
    subst this
    have n40 := D.2.1
    have l := I.1
    refine Ends.eq (b189_100 (n := n) (by (repeat' first | assumption | refine LX.setF _ _ ?_ (by decide +kernel) | refine LX.setS ?_ rfl | refine LX.setA ?_ (by first | assumption | omega))) (by first | assumption | omega)) ?_
    refine Ends.g (by unfold q447; omega) ?_
    rw [show v447 B q 0 = (v : Int) from by unfold v447; exact (I.2.1 0 (by omega)).trans D.1]
    refine Ends.b3 (fun _ => K A q _ n10 (fun w _ => ⟨Or.inl, fun z => z.elim id (fun ⟨z, z1, z2, _⟩ => by omega)⟩) (Or.inr rfl) I Agr.rf) (fun z => by omega)
  | r + 1, v, q, A, u10, hv0, n10, I, K => by
    have n40 := D.2.1
    obtain ⟨l, hc, T, yo, h12, h13⟩ := I
    have I : BI gv B n c tl tof q := ⟨l, hc, T, yo, h12, h13⟩
    -- on, with A1
    have on : ∀ (q1 : AH) (A1 : Int) (u10 : AV), ¬ u10.1 = 1 → BI gv B n c tl tof q1 → Agr (nmW B) q q1 → (cn 1 A1 ∨ A1 = A) → (∀ w, w < 64 → (tb A1 w = true ↔ tb A w = true ∨ (tb X v = true ∧ v ≠ tl ∧ nmE c nv k v w = true))) → Ends (ev PP (gsF gv) B d 189 151 [(2, rf (B + 7)), (0, x1), (0, x2), (0, x3), (2, x4), (0, x5), (0, (k : Int)), (1, A1), (9, 0), (1, X), u10, (0, (v : Int))] [] q1) Q := by
      intro q1 A1 u10 n10 I1 G1 hA1 hA
      have l1 := I1.1
      refine Ends.eq (b189_151 (n := n) (by first | assumption | omega) (by (repeat' first | assumption | refine LX.setF _ _ ?_ (by decide +kernel) | refine LX.setS ?_ rfl | refine LX.setA ?_ (by first | assumption | omega))) (by first | assumption | omega)) ?_
      rw [w_succ (by omega)]
      refine e_round hd D ht hk r (v + 1) q1 A1 u10 (by omega) n10 I1 (fun A' h' u' n' hw hA' I' G' => K A' h' u' n' (fun w hw64 => ?_) (hA'.elim Or.inl (fun e => by rw [e]; exact hA1)) I' (G1.tr G' (fun _ _ z => z)))
      rw [hw w hw64, hA w hw64]
      constructor
      · rintro ((z | z) | ⟨z, z1, z2, z3⟩)
        · exact Or.inl z
        · exact Or.inr ⟨v, Nat.le_refl _, by omega, z⟩
        · exact Or.inr ⟨z, by omega, z2, z3⟩
      · rintro (z | ⟨z, z1, z2, z3⟩)
        · exact Or.inl (Or.inl z)
        · by_cases e : z = v
          · subst e; exact Or.inl (Or.inr z3)
          · exact Or.inr ⟨z, by omega, z2, z3⟩
    refine Ends.eq (b189_100 (n := n) (by (repeat' first | assumption | refine LX.setF _ _ ?_ (by decide +kernel) | refine LX.setS ?_ rfl | refine LX.setA ?_ (by first | assumption | omega))) (by first | assumption | omega)) ?_
    refine Ends.g (by unfold q447; omega) ?_
    rw [show v447 B q 0 = (nv : Int) from by unfold v447; exact (hc 0 (by omega)).trans D.1]
    refine Ends.b3 (fun z => by omega) (fun _ => ?_)
    have ebit : cmp64 (bop64 127 (sop64 123 X (v : Int)) 1) 1 = 0 ↔ tb X v = true := by rw [bit_is X (by omega)]; cases tb X v <;> decide
    by_cases hx : tb X v = true
    · refine Ends.b1 (fun z => absurd (ebit.mpr hx) z) (fun _ => ?_)
      rw [h12]
      by_cases vt : v = tl
      · refine Ends.b0 (fun _ => ?_) (fun z => by omega)
        exact on q A u10 n10 I Agr.rf (Or.inr rfl) (fun w _ => ⟨Or.inl, fun z => z.elim id (fun z => absurd vt z.2.1)⟩)
      · refine Ends.b0 (fun z => by omega) (fun _ => ?_)
        refine Ends.ct l (by decide +kernel) (by decide) (c_effective l (by omega) hc D (by omega) hk) (fun x q1 l1 _ _ _ ⟨ex, eq⟩ => ?_)
        subst ex eq
        refine Ends.eq (b189_145 (n := n) (by (repeat' first | assumption | refine LX.setF _ _ ?_ (by decide +kernel) | refine LX.setS ?_ rfl | refine LX.setA ?_ (by first | assumption | omega))) (by first | assumption | omega)) ?_
        have ek := efK_le (v := v) D 4 k hk
        have X9 := D.2.2.2.2.2.2 v (by omega) (efK c v 4 k) (by have := D.2.2.2.2.1; omega) (efK_ok D 4 k (by have := D.2.2.2.2.1; omega) hk)
        obtain ⟨XA, Xm⟩ := X9.at
        refine Ends.ct l (by decide +kernel) (by decide) (c_namesIn (m := txm c (fo v (efK c v 4 k))) (b := txb c (fo v (efK c v 4 k))) l (by omega) hc D T yo XA Xm (by have := D.2.2.2.2.1; unfold fo; omega)) (fun Y q1 l1 _ _ _ ⟨hY, G1⟩ => ?_)
        refine Ends.eq (b189_148 (n := n) (by (repeat' first | assumption | refine LX.setF _ _ ?_ (by decide +kernel) | refine LX.setS ?_ rfl | refine LX.setA ?_ (by first | assumption | omega))) (by first | assumption | omega)) ?_
        refine on q1 _ u10 n10 (I.agr l1 G1) G1 (Or.inl (bop64_cn ..)) (fun w hw => ?_)
        rw [tb_or, Bool.or_eq_true, hY w hw]
        exact ⟨fun z => z.imp id (fun z => ⟨hx, vt, z⟩), fun z => z.imp id (fun z => z.2.2)⟩
    · refine Ends.b1 (fun _ => ?_) (fun z => absurd (ebit.mp z) hx)
      exact on q A u10 n10 I Agr.rf (Or.inr rfl) (fun w _ => ⟨Or.inl, fun z => z.elim id (fun z => absurd z.1 hx)⟩)
theorem cmp_0 {x z : Int} : cmp64 x z = 0 ↔ x = z := by
  unfold cmp64
  by_cases h1 : x < z
  · rw [if_pos h1]; exact ⟨fun h => absurd h (by decide), fun h => by omega⟩
  · rw [if_neg h1]
    by_cases h2 : x = z
    · rw [if_pos h2]; exact ⟨fun _ => h2, fun _ => rfl⟩
    · rw [if_neg h2]; exact ⟨fun h => absurd h (by decide), fun h => absurd h h2⟩
/-- A holds what X names, and nothing but what must be -/
def JA (c : Nat → Int) (nv k tl y : Nat) (A X : Int) : Prop := tb A y = true ∧ (∀ S : Nat → Prop, S y → Cls c nv k tl S → ∀ w, w < 64 → tb A w = true → S w) ∧ (∀ w, w < 64 → tb X w = true → tb A w = true) ∧ (∀ z, z < nv → tb X z = true → z ≠ tl → ∀ w, w < 64 → nmE c nv k z w = true → tb A w = true) ∧ cn 1 A ∧ cn 1 X
theorem JA.nee {k : Nat} {A : Int} (J : JA c nv k tl y A A) (hn : nv ≤ 40) (ht : tl < nv) (hy : y < nv) : tb A tl = true ↔ Nee c nv k tl y := by
  obtain ⟨j1, j2, -, j4, -⟩ := J
  refine ⟨fun h S hS hC => j2 S hS hC tl (by omega) h, fun N => ?_⟩
  refine (N (fun w => w < 64 ∧ tb A w = true) ⟨by omega, j1⟩ (fun v w hv1 vt hw => ?_)).2
  have hvn : v < nv := j2 (fun w => w < nv) hy (fun _ _ _ _ h => nmE_lt h) v hv1.1 hv1.2
  have hwn := nmE_lt hw
  exact ⟨by omega, j4 v hvn hv1.2 vt w (by omega) hw⟩
theorem e_while (hd : 30 ≤ d) (D : DW c nv nc) (ht : tl < nv) (hy : y < nv) {k : Nat} (hk : k < nc) {Q : Rs → Prop} {x1 x2 x3 x4 x5 : Int} : ∀ (mm : Nat) (q : AH) (A X : Int) (u10 u11 : AV), (List.range 64).countP (fun w => !tb X w) < mm → ¬ u10.1 = 1 → BI gv B n c tl tof q → JA c nv k tl y A X →
    (∀ A' h' u10' u11', ¬ (u10' : AV).1 = 1 → (tb A' tl = true ↔ Nee c nv k tl y) → BI gv B n c tl tof h' → Agr (nmW B) q h' → Ends (ev PP (gsF gv) B d 189 181 [(2, rf (B + 7)), (0, x1), (0, x2), (0, x3), (2, x4), (0, if tb A' tl then (1 : Int) else 0), (0, (k : Int)), (1, A'), (9, 0), (1, A'), u10', u11'] [] h') Q) →
    Ends (ev PP (gsF gv) B d 189 85 [(2, rf (B + 7)), (0, x1), (0, x2), (0, x3), (2, x4), (0, x5), (0, (k : Int)), (1, A), (9, 0), (1, X), u10, u11] [] q) Q
  | 0, q, A, X, u10, u11, hm, _, _, _, _ => absurd hm (Nat.not_lt_zero _)
  | mm + 1, q, A, X, u10, u11, hm, n10, I, J, K => by
    have n40 := D.2.1
    have l := I.1
    refine Ends.eq (b189_85 (n := n) (by first | assumption | omega) (by (repeat' first | assumption | refine LX.setF _ _ ?_ (by decide +kernel) | refine LX.setS ?_ rfl | refine LX.setA ?_ (by first | assumption | omega))) (by first | assumption | omega)) ?_
    rw [I.2.2.2.2.1]
    refine Ends.b0 (fun e => ?_) (fun ne => ?_)
    · have e : A = X := cmp_0.mp e
      subst e
      rw [show cond (tst 1 (cmp64 (bop64 127 (sop64 123 A (tl : Int)) 1) 1) 0) (0 : Int) 1 = if tb A tl then (1 : Int) else 0 from by rw [bit_is A (by omega)]; cases tb A tl <;> rfl]
      exact K A q u10 u11 n10 (J.nee n40 ht hy) I Agr.rf
    · obtain ⟨j1, j2, j3, j4, j5, j6⟩ := J
      have ne : A ≠ X := fun e => ne (cmp_0.mpr e)
      refine e_round hd D ht hk (X := A) nv 0 q A (9, 0) (by omega) (by decide) I (fun A' h' u' n' hw hA' I' G' => ?_)
      refine e_while hd D ht hy hk mm h' A' A u' _ ?_ n' I' ⟨?_, ?_, ?_, ?_, ?_, j5⟩ (fun A2 h2 v1 v2 m1 m2 m3 m4 => K A2 h2 v1 v2 m1 m2 m3 (G'.tr m4 (fun _ _ z => z)))
      · refine Nat.lt_of_lt_of_le (cnt_lt (p := fun w => !tb A w) (q := fun w => !tb X w) 64 (fun w hw1 h => ?_) ?_) (Nat.le_of_lt_succ hm)
        · cases hX : tb X w with
          | false => rfl
          | true => rw [j3 w hw1 hX] at h; cases h
        · refine Classical.byContradiction (fun hno => ne (tb_ext j5 j6 (fun w hw1 => ?_)))
          cases hA : tb A w with
          | false =>
            cases hX : tb X w with
            | false => rfl
            | true => rw [j3 w hw1 hX] at hA; cases hA
          | true =>
            cases hX : tb X w with
            | true => rfl
            | false => exact absurd ⟨w, hw1, by rw [hX]; rfl, by rw [hA]; rfl⟩ hno
      · exact (hw y (by omega)).mpr (Or.inl j1)
      · intro S hS hC w hw1 h
        rcases (hw w hw1).mp h with h | ⟨z, z1, z2, z3, z4, z5⟩
        · exact j2 S hS hC w hw1 h
        · exact hC z w (j2 S hS hC z (by omega) z3) z4 z5
      · exact fun w hw1 h => (hw w hw1).mpr (Or.inl h)
      · exact fun z hz h zt w hw1 hn => (hw w hw1).mpr (Or.inr ⟨z, by omega, hz, h, zt, hn⟩)
      · rcases hA' with h | h
        · exact h
        · rw [h]; exact j5
/-- the CONFIGURATIONS, one by one -/
theorem e_confs (hd : 30 ≤ d) (D : DW c nv nc) (ht : tl < nv) (hy : y < nv) {Q : Rs → Prop} {x2 x3 x4 : Int} : ∀ (r k : Nat) (q : AH) (z : Bool) (u7 u8 u9 u10 u11 : AV), k + r = nc → BI gv B n c tl tof q → (z = true → BkP c nv nc tl tof y) → (z = false → y ≠ tl ∧ ∀ j, j < k → efW c tl tof 4 j = tof → ¬ Nee c nv j tl y) →
    (∀ z h' k' u7 u8 u9 u10 u11, (z = true ↔ BkP c nv nc tl tof y) → BI gv B n c tl tof h' → Agr (nmW B) q h' → Ends (ev PP (gsF gv) B d 189 187 [(2, rf (B + 7)), (0, (y : Int)), (0, x2), (0, x3), (2, x4), (0, b2i z), (0, k'), u7, u8, u9, u10, u11] [] h') Q) →
    Ends (ev PP (gsF gv) B d 189 43 [(2, rf (B + 7)), (0, (y : Int)), (0, x2), (0, x3), (2, x4), (0, b2i z), (0, (k : Int)), u7, u8, u9, u10, u11] [] q) Q
  | 0, k, q, z, u7, u8, u9, u10, u11, hk, I, h1, h0, K => by
    have l := I.1
    have hnc := D.2.2.2.2.1
    have : nc = k := by omega
    subst this
    refine Ends.eq (b189_43 (n := n) (by (repeat' first | assumption | refine LX.setF _ _ ?_ (by decide +kernel) | refine LX.setS ?_ rfl | refine LX.setA ?_ (by first | assumption | omega))) (by first | assumption | omega)) ?_
    refine Ends.g (by unfold q447; omega) ?_
    rw [show v447 B q 1 = (nc : Int) from by unfold v447; exact (I.2.1 1 (by omega)).trans D.2.2.1]
    refine Ends.b3 (fun _ => K z q _ _ _ _ _ _ ⟨h1, fun hb => ?_⟩ I Agr.rf) (fun w => by omega)
    cases hz : z with
    | true => rfl
    | false =>
      obtain ⟨a1, a2⟩ := h0 hz
      rcases hb with hb | ⟨j, b1, b2, b3⟩
      · exact absurd hb a1
      · exact absurd b3 (a2 j b1 b2)
  | r + 1, k, q, z, u7, u8, u9, u10, u11, hk, I, h1, h0, K => by
    obtain ⟨l, hc, T, yo, h12, h13⟩ := I
    have I : BI gv B n c tl tof q := ⟨l, hc, T, yo, h12, h13⟩
    have hnc := D.2.2.2.2.1
    have n40 := D.2.1
    refine Ends.eq (b189_43 (n := n) (by (repeat' first | assumption | refine LX.setF _ _ ?_ (by decide +kernel) | refine LX.setS ?_ rfl | refine LX.setA ?_ (by first | assumption | omega))) (by first | assumption | omega)) ?_
    refine Ends.g (by unfold q447; omega) ?_
    rw [show v447 B q 1 = (nc : Int) from by unfold v447; exact (hc 1 (by omega)).trans D.2.2.1]
    refine Ends.b3 (fun w => by omega) (fun _ => ?_)
    cases hz : z with
    | true => exact Ends.b1 (fun _ => K true q _ _ _ _ _ _ ⟨fun _ => h1 hz, fun _ => rfl⟩ I Agr.rf) (fun w => absurd w (by decide))
    | false =>
    refine Ends.b1 (fun w => absurd rfl w) (fun _ => ?_)
    obtain ⟨a1, a2⟩ := h0 hz
    refine Ends.ct l (by decide +kernel) (by decide) (c_effectiveWith l (by omega) hc D (by omega) h12 h13 (by omega)) (fun x q1 l1 _ _ _ ⟨ex, eq⟩ => ?_)
    subst ex eq
    refine Ends.eq (b189_67 (n := n) (by (repeat' first | assumption | refine LX.setF _ _ ?_ (by decide +kernel) | refine LX.setS ?_ rfl | refine LX.setA ?_ (by first | assumption | omega))) (by first | assumption | omega)) ?_
    rw [h13]
    by_cases et : efW c tl tof 4 k = tof
    · refine Ends.b0 (fun _ => ?_) (fun w => absurd (by rw [et]) w)
      refine e_while (y := y) hd D ht hy (by omega) 65 q1 (sop64 121 1 (y : Int)) 0 (9, 0) u11 (Nat.lt_succ_of_le (Nat.le_trans List.countP_le_length (by simp))) (by decide) I ⟨?_, ?_, ?_, ?_, sop64_cn .., ⟨by decide, by decide⟩⟩ (fun A' h' v1 v2 m1 m2 I' G' => ?_)
      · rw [one_bit (by omega) (by omega)]; exact decide_eq_true rfl
      · intro S hS _ w hw h
        rw [one_bit (by omega) hw] at h
        have := of_decide_eq_true h
        rw [this]; exact hS
      · intro w _ h; rw [tb_0] at h; cases h
      · intro z _ h; rw [tb_0] at h; cases h
      · have l' := I'.1
        refine Ends.eq (b189_181 (n := n) (by (repeat' first | assumption | refine LX.setF _ _ ?_ (by decide +kernel) | refine LX.setS ?_ rfl | refine LX.setA ?_ (by first | assumption | omega))) (by first | assumption | omega)) ?_
        rw [w_succ (by omega)]
        rw [show (if tb A' tl then (1 : Int) else 0) = b2i (tb A' tl) from by unfold b2i; rfl]
        refine e_confs hd D ht hy r (k + 1) h' (tb A' tl) _ _ _ _ _ (by omega) I' (fun w => Or.inr ⟨k, by omega, et, m2.mp w⟩) (fun w => ⟨a1, fun j hj ej => ?_⟩) (fun z h2 k' w1 w2 w3 w4 w5 e1 e2 e3 => K z h2 k' w1 w2 w3 w4 w5 e1 e2 (G'.tr e3 (fun _ _ z => z)))
        by_cases e : j = k
        · subst e
          exact fun N => by rw [m2.mpr N] at w; cases w
        · exact a2 j (by omega) ej
    · refine Ends.b0 (fun w => absurd (by omega) et) (fun _ => ?_)
      refine Ends.eq (b189_181 (n := n) (by (repeat' first | assumption | refine LX.setF _ _ ?_ (by decide +kernel) | refine LX.setS ?_ rfl | refine LX.setA ?_ (by first | assumption | omega))) (by first | assumption | omega)) ?_
      rw [w_succ (by omega)]
      refine e_confs hd D ht hy r (k + 1) q1 false _ _ _ _ _ (by omega) I (fun w => by cases w) (fun _ => ⟨a1, fun j hj ej => ?_⟩) K
      by_cases e : j = k
      · subst e; exact absurd ej et
      · exact a2 j (by omega) ej
/-- the whole: nothing of the reader but its inner one is touched -/
theorem c_comesBack {h : AH} (hd : 32 ≤ d) (D : DW c nv nc) (ht : tl < nv) (hy : y < nv) (I : BI gv B n c tl tof h) (h2 : hv h (B + 8) 2 = 1) : Vt 0 (cll PP (ev PP (gsF gv) B) d 189 [(2, rf (B + 7)), (0, (y : Int))] h) (fun x h' => x = b2i (bkF c nv nc tl tof y) ∧ Agr (fun c _ => c = B + 21 ∨ c = B + 22) h h') := by
  have l := I.1
  refine Vt.into (D := 31) hd (Nat.le_of_ble_eq_true rfl) rfl (fun d hd => ?_)
  refine Ends.eq (b189_0 (n := n) (by (repeat' first | assumption | refine LX.setF _ _ ?_ (by decide +kernel) | refine LX.setS ?_ rfl | refine LX.setA ?_ (by first | assumption | omega))) (by first | assumption | omega)) ?_
  rw [I.2.2.2.2.1]
  rw [show cond (tst 1 (y : Int) (tl : Int)) (0 : Int) 1 = b2i (decide (y = tl)) from by
    rw [tst1]
    by_cases e : y = tl
    · rw [decide_eq_true (show (y : Int) = (tl : Int) by omega), decide_eq_true e]; rfl
    · rw [decide_eq_false (show ¬ (y : Int) = (tl : Int) by omega), decide_eq_false e]; rfl]
  refine e_confs (by omega) D ht hy nc 0 h (decide (y = tl)) _ _ _ _ _ (by omega) I (fun w => Or.inl (of_decide_eq_true w)) (fun w => ⟨of_decide_eq_false w, fun j hj => by omega⟩) (fun z h' k' u7 u8 u9 u10 u11 hz I' G => ?_)
  have l' := I'.1
  have eb : b2i z = b2i (bkF c nv nc tl tof y) := by
    congr 1
    cases hq : z with
    | true => exact (@decide_eq_true _ (Classical.propDecidable _) (hz.mp hq)).symm
    | false => exact (@decide_eq_false _ (Classical.propDecidable _) (fun w => by rw [hz.mpr w] at hq; cases hq)).symm
  refine Ends.eq (b189_187 (n := n) (by (repeat' first | assumption | refine LX.setF _ _ ?_ (by decide +kernel) | refine LX.setS ?_ rfl | refine LX.setA ?_ (by first | assumption | omega))) (by first | assumption | omega)) ?_
  refine Ends.g (by cases z <;> decide) (Ends.sm ⟨_, _, rfl, eb, ?_⟩)
  exact agr_back G h2
end BACK
