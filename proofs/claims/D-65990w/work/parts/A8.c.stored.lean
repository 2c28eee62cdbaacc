/-! L3: what a stored text reads as -/
def keptL : List (List Int) := fnS ++ [[109, 109], [99, 109], [105, 110]]
theorem fdN_ex {P : Nat → Prop} : ∀ (k v : Nat), 0 ≤ fdN P k v → ∃ w, v ≤ w ∧ w < v + k ∧ P w ∧ fdN P k v = (w : Int) ∧ ∀ x, v ≤ x → x < w → ¬ P x
  | 0, v, h => absurd h (by show ¬ (0 : Int) ≤ -1; decide)
  | k + 1, v, h => by
    by_cases p : P v
    · exact ⟨v, Nat.le_refl _, by omega, p, itP_t p, fun x h1 h2 => by omega⟩
    · have e : fdN P (k + 1) v = fdN P k (v + 1) := itP_f p
      rw [e] at h ⊢
      obtain ⟨w, w1, w2, w3, w4, w5⟩ := fdN_ex k (v + 1) h
      refine ⟨w, by omega, by omega, w3, w4, fun x h1 h2 => ?_⟩
      by_cases z : x = v
      · rw [z]; exact p
      · exact w5 x (by omega) h2
theorem fdN_of {P : Nat → Prop} : ∀ (k v w : Nat), v ≤ w → w < v + k → P w → (∀ x, v ≤ x → x < w → ¬ P x) → fdN P k v = (w : Int)
  | 0, v, w, h1, h2, _, _ => by omega
  | k + 1, v, w, h1, h2, p, hn => by
    by_cases z : w = v
    · rw [z] at p ⊢; exact itP_t p
    · have e : fdN P (k + 1) v = fdN P k (v + 1) := itP_f (hn v (Nat.le_refl _) (by omega))
      rw [e]
      exact fdN_of k (v + 1) w (by omega) (by omega) p (fun x h1 h2 => hn x (by omega) h2)
theorem fdN_more {P P' : Nat → Prop} {nv nv' : Nat} (h : ∀ v, v < nv → (P v ↔ P' v)) (h0 : 0 ≤ fdN P nv 0) (hn : nv ≤ nv') : fdN P' nv' 0 = fdN P nv 0 := by
  obtain ⟨w, w1, w2, w3, w4, w5⟩ := fdN_ex nv 0 h0
  rw [w4]
  exact fdN_of nv' 0 w w1 (by omega) ((h w (by omega)).mp w3) (fun x h1 h2 z => w5 x h1 h2 ((h x (by omega)).mpr z))
theorem fdN_P {P : Nat → Prop} {k : Nat} (h : 0 ≤ fdN P k 0) : ∃ w, w < k ∧ P w := by
  obtain ⟨w, w1, w2, w3, _⟩ := fdN_ex k 0 h
  exact ⟨w, by omega, w3⟩
/-- the names of VALUES: words, none kept -/
def NmI (c : Nat → Int) (nv : Nat) : Prop := (∀ v, v < nv → ∃ s : Nat, 1 ≤ s ∧ s ≤ 12 ∧ c (40 + 248 * v) = (s : Int)) ∧ ∀ v, v < nv → ∀ w : List Int, w ∈ keptL → ¬ (c (40 + 248 * v) = (w.length : Int) ∧ ∀ i x, w[i]? = some x → nbt c v i = x)
theorem fnI_mem {u : Nat → Int} {m p : Nat} : ∀ (L : List (List Int)) (k : Int), 0 ≤ fnI u m p L k → (∃ s, s ∈ L ∧ isWd u m p s) := by
  intro L
  induction L with
  | nil => intro k h; exact absurd h (by show ¬ (0 : Int) ≤ -1; decide)
  | cons s L ih =>
    intro k h
    by_cases w : isWd u m p s
    · exact ⟨s, List.mem_cons_self, w⟩
    · have h2 : 0 ≤ fnI u m p L (k + 1) := by
        unfold fnI at h
        rw [itP_f w] at h
        exact h
      obtain ⟨s', h3, h4⟩ := ih (k + 1) h2
      exact ⟨s', List.mem_cons_of_mem _ h3, h4⟩
theorem kept_neg {c : Nat → Int} {nv m q : Nat} {b u : Nat → Int} (I : NmI c nv) (hb : ∀ i, i < m → u i < 128 → b i = u i) (k1 : tkK u m q = 1) (h : 0 ≤ fnW u m q ∨ isWd u m q [109, 109] ∨ isWd u m q [99, 109] ∨ isWd u m q [105, 110]) : fdC c nv b u m q < 0 := by
  have key : ∀ s, s ∈ keptL → isWd u m q s → fdC c nv b u m q < 0 := fun s hs w => by
    by_cases z : fdC c nv b u m q < 0
    · exact z
    · exfalso
      have z : 0 ≤ fdC c nv b u m q := Int.not_lt.mp z
      obtain ⟨v, hv, hP⟩ := fdN_P z
      refine I.2 v hv s hs ⟨?_, fun i x hi => ?_⟩
      · rw [hP.1, w.2.1]
      · have hil : i < s.length := by
          by_cases z : i < s.length
          · exact z
          · rw [List.getElem?_eq_none (by omega)] at hi; cases hi
        have hw := wd_lt (j := tkF u m q + i) k1 (by omega) (by have := w.2.1; omega)
        have e1 := hP.2 i (by rw [w.2.1]; exact hil)
        have e2 := w.2.2 i x hi
        rw [← e2, ← hb _ hw.2.2 hw.2.1]
        exact e1
  rcases h with h | h | h | h
  · obtain ⟨s, h1, h2⟩ := fnI_mem fnS 0 h
    exact key s (List.mem_append_left _ h1) h2
  · exact key _ (by decide) h
  · exact key _ (by decide) h
  · exact key _ (by decide) h
section STORED
variable {c c' b u : Nat → Int} {nv nv' nc m : Nat} {tl : Int} {tof : Nat}
theorem tk0_all : ∀ (j k : Nat), tkK u m (tkI u m k) = 0 → tkK u m (tkI u m (k + j)) = 0
  | 0, _, h => h
  | j + 1, k, h => tkK_end (tk0_all j k h)
theorem tk0_ge {P q : Nat} (hP : TkR u m P) (hq : TkR u m q) (k0 : tkK u m P = 0) (h : P ≤ q) : tkK u m q = 0 := by
  obtain ⟨i, rfl⟩ := hP
  obtain ⟨j, rfl⟩ := hq
  by_cases e : i ≤ j
  · have := tk0_all (j - i) i k0
    rw [show i + (j - i) = j by omega] at this
    exact this
  · have := tkI_le (u := u) (m := m) (i := j) (i - j)
    rw [show j + (i - j) = i by omega] at this
    rw [show tkI u m j = tkI u m i by omega]; exact k0
theorem nmB_seen : ∀ (g p w : Nat), TkR u m p → nmB u c b m nv g p w = true → ∃ q, TkR u m q ∧ p ≤ q ∧ tkK u m q = 1 ∧ fdC c nv b u m q = (w : Int)
  | 0, _, _, _, h => by unfold nmB at h; cases h
  | g + 1, p, w, hT, h => by
    unfold nmB at h
    split at h
    · cases h
    · rw [Bool.or_eq_true, Bool.and_eq_true, decide_eq_true_eq, decide_eq_true_eq] at h
      rcases h with ⟨h1, h2⟩ | h
      · exact ⟨p, hT, Nat.le_refl _, h1, h2⟩
      · obtain ⟨q, q1, q2, q3, q4⟩ := nmB_seen g _ w hT.s h
        exact ⟨q, q1, Nat.le_trans tkT_ge q2, q3, q4⟩
theorem named_all {D : Dn} {N : Nat → Bool} {P : Nat} (I : NmI c nv) (hb : ∀ i, i < m → u i < 128 → b i = u i) (h : rdF c nv nc tl tof b u m 0 = .inr (D, N, P)) (k0 : tkK u m P = 0) (w : Nat) : N w = nmB u c b m nv (m + 1) 0 w := by
  have e := (rdF_is (nc := nc) (tl := tl) (tof := tof) (c := c) (nv := nv) (b := b) (u := u) (Nat.zero_le m)).1
  rw [h] at e
  cases hn : nmB u c b m nv (m + 1) 0 w with
  | false =>
    cases hN : N w with
    | false => rfl
    | true => rw [rdF_nm h hN] at hn; cases hn
  | true =>
    obtain ⟨q, q1, q2, q3, q4⟩ := nmB_seen _ _ _ TkR.z hn
    have hP : TkR u m P := (pS_rc _).1 _ _ accZ TkR.z D N P e
    have hlt : q < P := by
      by_cases z : q < P
      · exact z
      · rw [tk0_ge hP q1 k0 (by omega)] at q3; cases q3
    have := (pS_all (fun q k1 hk => kept_neg I hb k1 hk) _ _ _ _ _ _ _ _ _ e (by decide) (Nat.zero_le m) (fun z => absurd z (by decide)) TkR.z).2 q q1 (Nat.zero_le _) hlt q3 (by rw [q4]; omega)
    rw [q4, Int.toNat_natCast] at this
    exact this
/-- the names stay -/
def NmK (c c' : Nat → Int) (nv : Nat) : Prop := ∀ v, v < nv → c' (40 + 248 * v) = c (40 + 248 * v) ∧ ∀ i, i < 12 → nbt c' v i = nbt c v i
theorem rd_stored {D : Dn} {N : Nat → Bool} {P s e f : Nat} (hB : ∀ i, i < m → -128 ≤ b i ∧ b i < 128) (hs : s ≤ m) (h : rdF c nv nc tl tof b (fun i => b i % 256) m s = .inr (D, N, P)) (he : tkF (fun i => b i % 256) m P = e) (hend : e = m ∨ b e = 59) (T : TxAt c' f (fun z => b (s + z)) (e - s)) (K : NmK c c' nv) (I : NmI c nv) (hn : nv ≤ nv') :
    rdT c' nv' f = .inr (D, N, P - s) ∧ tkK (fun i => txb c' f i % 256) (txm c' f) (P - s) = 0 := by
  generalize hu : (fun i => b i % 256) = u at *
  have hu' : ∀ i, u i = b i % 256 := fun i => by rw [← hu]
  obtain ⟨e0, r0⟩ := rdF_is (nc := nc) (tl := tl) (tof := tof) (c := c) (nv := nv) (b := b) (u := u) hs
  obtain ⟨p1, p2⟩ := r0 D N P h
  rw [h] at e0
  have hPe : P ≤ e := by rw [← he]; exact en_ge
  have hem : e ≤ m := by rw [← he]; exact en_le p2
  obtain ⟨T1, T2⟩ := T
  have em : txm c' f = e - s := by unfold txm; rw [T1]; omega
  have eb : ∀ i, i < e - s → txb c' f i = b (s + i) := fun i hi => (T2 i hi).1
  have S : SubT u m (fun i => txb c' f i % 256) (e - s) s e := by
    refine ⟨by omega, hem, rfl, fun i hi => ?_, hend.imp id (fun z => ?_), fun i hi => by rw [hu']; omega⟩
    · show txb c' f i % 256 = u (s + i)
      rw [eb i (by omega), hu']
    · rw [hu', z]; rfl
  have L : LastT u m P := pS_last _ _ _ _ _ _ _ _ _ e0 (fun z => absurd z (by decide))
  have fdk : ∀ q, s ≤ q → q < P → tkK u m q = 1 → 0 ≤ fdC c nv b u m q → fdC c' nv' (txb c' f) (fun i => txb c' f i % 256) (e - s) (q - s) = fdC c nv b u m q := fun q h1 h2 k1 h0 => by
    obtain ⟨l1, l2⟩ := last_ns S.2.2.2.2.2 L
    have hF : tkF u m q ≤ P - 1 := en_stop_at (P := isS) rfl (by omega) l2
    obtain ⟨a1, a2, a3, a4, a5, a6, a7, a8⟩ := sub_tok S h1 (by omega) (by omega)
    have ln := (wd_ch k1).2.2.1
    refine fdN_more (fun v hv => ?_) h0 hn
    obtain ⟨K1, K2⟩ := K v hv
    rw [a1, a5, show tkT u m q - s - (tkF u m q - s) = tkT u m q - tkF u m q by omega]
    unfold nmP
    rw [K1]
    refine and_congr_right (fun _ => forall_congr' (fun i => imp_congr_right (fun hi => ?_)))
    rw [show uop 4 (bop32 122 (c' (40 + 248 * v + 1 + i / 4)) ((24 - 8 * (i % 4) : Nat) : Int)) = uop 4 (bop32 122 (c (40 + 248 * v + 1 + i / 4)) ((24 - 8 * (i % 4) : Nat) : Int)) from K2 i (by omega), eb (tkF u m q - s + i) (by omega), show s + (tkF u m q - s + i) = tkF u m q + i by omega]
  have ta := ta_of S L hPe fdk
  have e1 := pS_mv ta (bk' := bkI c' nv' 0 (-1) 0) (fun v => by unfold bkI; rw [if_pos (by decide)]) _ _ _ _ _ _ _ _ _ e0 (Nat.le_refl _) (by decide) hs (Nat.le_refl _) (fun z => absurd z (by decide))
  rw [Nat.sub_self] at e1
  have e2 := (rdF_is (nc := 0) (tl := -1) (tof := 0) (c := c') (nv := nv') (b := txb c' f) (u := fun i => txb c' f i % 256) (Nat.zero_le (e - s))).1
  refine ⟨?_, ?_⟩
  · unfold rdT
    rw [em]
    exact pS_same e2 e1
  · rw [em]
    obtain ⟨f1, _, _⟩ := sub_en (P := isS) S rfl rfl _ P rfl (by omega) hPe
    have f1 : tkF (fun i => txb c' f i % 256) (e - s) (P - s) = tkF u m P - s := f1
    unfold tkK
    rw [f1, he, (sub_e S).1, if_pos (by decide)]
theorem tkK0_e {P : Nat} (hu : ∀ i, i < m → 0 ≤ u i) (hP : P ≤ m) (k0 : tkK u m P = 0) : tkF u m P = m := by
  have h1 := tkK_0 k0
  have h2 : tkF u m P ≤ m := en_le hP
  unfold chr at h1
  split at h1
  · next z => have := hu _ z; omega
  · omega
/-- a text that stays reads as before -/
theorem rd_keep {D : Dn} {N : Nat → Bool} {P f : Nat} (X : TX c f) (h : rdT c nv f = .inr (D, N, P)) (k0 : tkK (fun i => txb c f i % 256) (txm c f) P = 0) (hf : ∀ z, f ≤ z → z < f + 61 → c' z = c z) (K : NmK c c' nv) (I : NmI c nv) (hn : nv ≤ nv') : rdT c' nv' f = .inr (D, N, P) ∧ tkK (fun i => txb c' f i % 256) (txm c' f) P = 0 := by
  obtain ⟨⟨T1, T2⟩, hm⟩ := X.at
  have hP : P ≤ txm c f := ((rdF_is (Nat.zero_le _)).2 D N P h).2
  have he := tkK0_e (u := fun i => txb c f i % 256) (fun i _ => by show 0 ≤ txb c f i % 256; omega) hP k0
  have T' : TxAt c' f (fun z => txb c f (0 + z)) (txm c f - 0) := by
    refine ⟨by rw [hf f (by omega) (by omega)]; exact T1, fun i hi => ?_⟩
    have := T2 i hi
    rw [hf (f + 1 + i / 4) (by omega) (by omega)]
    show _ = txb c f (0 + i) ∧ -128 ≤ txb c f (0 + i) ∧ txb c f (0 + i) < 128
    rw [Nat.zero_add]
    exact this
  have := rd_stored (c := c) (c' := c') (nv := nv) (nv' := nv') (s := 0) (f := f) (fun i hi => (T2 i hi).2) (Nat.zero_le _) h he (Or.inl rfl) T' K I hn
  exact this
end STORED
