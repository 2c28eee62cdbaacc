/-! L3: what a told VALUE's text reads as; the design's texts then -/
section PAT
variable {u : Nat → Int} {m p q : Nat} {fd : Nat → Int} {bk : Nat → Bool}
theorem tkT_at (h : tkF u m p = tkF u m q) : tkT u m p = tkT u m q := by unfold tkT; rw [h]
theorem tkK_at (h : tkF u m p = tkF u m q) : tkK u m p = tkK u m q := by unfold tkK; rw [h]
theorem tkS_at (h : tkF u m p = tkF u m q) : tkS u m p = tkS u m q := by unfold tkS; rw [h]
theorem isWd_at (h : tkF u m p = tkF u m q) (s : List Int) : isWd u m p s = isWd u m q s := by unfold isWd; rw [h, tkT_at h, tkK_at h]
theorem fnI_at (h : tkF u m p = tkF u m q) : ∀ (L : List (List Int)) (i : Int), fnI u m p L i = fnI u m q L i
  | [], _ => rfl
  | s :: r, i => by
    unfold fnI
    rw [isWd_at h s, fnI_at h r (i + 1)]
theorem pS_at3 (h : tkF u m p = tkF u m q) (hf : fd p = fd q) {g dp : Nat} {lst : Int} {acc : Dn × (Nat → Bool)} : pS u m fd bk g 3 lst dp p acc = pS u m fd bk g 3 lst dp q acc := by
  cases g with
  | zero => rfl
  | succ g =>
    have e1 : ∀ x, isSg u m p x = isSg u m q x := fun x => by unfold isSg; rw [tkK_at h, tkS_at h]
    have e2 : numD u m p = numD u m q := by unfold numD; rw [tkT_at h, h]
    have e3 : fnW u m p = fnW u m q := fnI_at h fnS 0
    unfold pS
    rw [if_neg (show ¬ 3 = 0 by decide), if_neg (show ¬ 3 = 1 by decide), if_neg (show ¬ 3 = 2 by decide), if_neg (show ¬ 3 = 0 by decide), if_neg (show ¬ 3 = 1 by decide), if_neg (show ¬ 3 = 2 by decide)]
    simp only [e1, e2, e3, tkT_at h, tkK_at h, h, hf]
theorem pS_at1 (h : tkF u m p = tkF u m q) (hf : fd p = fd q) {g dp : Nat} {lst : Int} {acc : Dn × (Nat → Bool)} : pS u m fd bk g 1 lst dp p acc = pS u m fd bk g 1 lst dp q acc := by
  cases g with
  | zero => rfl
  | succ g =>
    unfold pS
    rw [if_neg (show ¬ 1 = 0 by decide), if_pos (show 1 = 1 from rfl), if_neg (show ¬ 1 = 0 by decide), if_pos (show 1 = 1 from rfl), pS_at3 h hf]
theorem pS_at0 (h : tkF u m p = tkF u m q) (hf : fd p = fd q) {g dp : Nat} {lst : Int} {acc : Dn × (Nat → Bool)} : pS u m fd bk g 0 lst dp p acc = pS u m fd bk g 0 lst dp q acc := by
  cases g with
  | zero => rfl
  | succ g =>
    unfold pS
    rw [if_pos (show 0 = 0 from rfl), if_pos (show 0 = 0 from rfl), pS_at1 h hf]
theorem fdC_at {c b : Nat → Int} {nv : Nat} (h : tkF u m p = tkF u m q) : fdC c nv b u m p = fdC c nv b u m q := by unfold fdC; rw [h, tkT_at h]
theorem rdF_at {c b : Nat → Int} {nv nc tof : Nat} {tl : Int} (h : tkF u m p = tkF u m q) : rdF c nv nc tl tof b u m p = rdF c nv nc tl tof b u m q := by
  unfold rdF
  rw [pS_at0 h (fdC_at h)]
theorem tkF_F : tkF u m (tkF u m p) = tkF u m p := en_f (en_stop (P := isS) rfl)
theorem fnI_nn : ∀ (L : List (List Int)) (i : Int) (s : List Int), 0 ≤ i → s ∈ L → isWd u m p s → 0 ≤ fnI u m p L i
  | [], _, _, _, h, _ => by cases h
  | r :: L, i, s, hi, h, w => by
    unfold fnI
    by_cases e : isWd u m p r
    · rw [itP_t e]; exact hi
    · rw [itP_f e]
      refine fnI_nn L (i + 1) s (by omega) ?_ w
      rcases List.mem_cons.mp h with y | y
      · rw [y] at w; exact absurd w e
      · exact y
theorem kept_mem {s : List Int} (h : s ∈ keptL) (w : isWd u m p s) : kept u m p := by
  rcases List.mem_append.mp h with y | y
  · exact Or.inl (fnI_nn fnS 0 s (by decide) y w)
  · rcases List.mem_cons.mp y with rfl | y
    · exact Or.inr (Or.inl w)
    rcases List.mem_cons.mp y with rfl | y
    · exact Or.inr (Or.inr (Or.inl w))
    rcases List.mem_cons.mp y with rfl | y
    · exact Or.inr (Or.inr (Or.inr w))
    · cases y
end PAT
section TOLD2
variable {c c' b u : Nat → Int} {nv nc k v nv' st m : Nat}
theorem Told.nmk (T : Told c c' nv nc k v nv' st m b) : NmK c c' nv := fun w hw => ⟨T.nm w _ hw (by omega) (by omega), fun i hi => by unfold nbt; rw [T.nm w _ hw (by omega) (by omega)]⟩
theorem TX.of {f : Nat} (X : TX c f) (h : ∀ z, f ≤ z → z < f + 61 → c' z = c z) : TX c' f := by
  obtain ⟨m, b, ⟨e1, e2⟩, hm⟩ := X
  exact ⟨m, b, ⟨by rw [h f (by omega) (by omega)]; exact e1, fun i hi => by rw [h (f + 1 + i / 4) (by omega) (by omega)]; exact e2 i hi⟩, hm⟩
theorem Told.txt (T : Told c c' nv nc k v nv' st m b) (W : DW c nv nc) (hm : m ≤ 240) (w j : Nat) (hw : w < nv') (hj : j < 4) (h : j = 0 ∨ c' (fo w j) ≠ 0) : TX c' (fo w j) := by
  by_cases e : w = v ∧ j = k
  · rw [e.1, e.2]; exact ⟨m - st, _, T.tx, by omega⟩
  have nle := T.nle
  by_cases hn : w < nv
  · have same := fun z => T.fm w j z hn hj e
    refine (W.2.2.2.2.2.2 w hn j hj (h.imp id (fun z => ?_))).of same
    rw [← same _ (Nat.le_refl _) (by omega)]; exact z
  · rcases T.own with ⟨o1, o2⟩ | ⟨o1, o2, o3⟩
    · omega
    · have ew : w = v := by omega
      rcases h with h | h
      · exact absurd ⟨ew, by omega⟩ e
      · by_cases j0 : j = 0
        · exact absurd ⟨ew, by omega⟩ e
        · rw [ew, o1] at h
          exact absurd (T.fz o1 j (by omega) hj) h
theorem Told.dw (T : Told c c' nv nc k v nv' st m b) (W : DW c nv nc) (hm : m ≤ 240) : DW c' nv' nc := by
  have W0 := W
  obtain ⟨w0, w1, w2, w3, w4, w5, w6⟩ := W
  refine ⟨T.c0, T.n40, by rw [T.cs 1 (by decide) (by decide)]; exact w2, w3, w4, fun j h1 h2 => ?_, fun w hw j hj h => T.txt W0 hm w j hw hj h⟩
  rw [T.cs _ (by omega) (by omega)]
  exact w5 j h1 h2
/-- the names stay words that are not kept -/
theorem Told.nmi (T : Told c c' nv nc k v nv' st m b) (I : NmI c nv) (hb : ∀ i, i < m → u i < 128 → b i = u i) (k1 : tkK u m 0 = 1) (nk : ¬ kept u m 0) (hname : v = nv → c' (40 + 248 * nv) = ((tkT u m 0 - tkF u m 0 : Nat) : Int) ∧ ∀ i, i < tkT u m 0 - tkF u m 0 → nbt c' nv i = b (tkF u m 0 + i)) : NmI c' nv' := by
  have K := T.nmk
  have nle := T.nle
  have ln := (wd_ch k1).2.2.1
  have lp := wd_pos k1
  have cases : ∀ w, w < nv' → w < nv ∨ (w = nv ∧ v = nv) := fun w hw => by
    rcases T.own with ⟨o1, o2⟩ | ⟨o1, o2, o3⟩ <;> omega
  refine ⟨fun w hw => ?_, fun w hw s hs ⟨h1, h2⟩ => ?_⟩
  · rcases cases w hw with z | ⟨z1, z2⟩
    · obtain ⟨s, s1, s2, s3⟩ := I.1 w z
      exact ⟨s, s1, s2, by rw [(K w z).1]; exact s3⟩
    · rw [z1]
      exact ⟨_, by omega, ln, (hname z2).1⟩
  · rcases cases w hw with z | ⟨z1, z2⟩
    · obtain ⟨s0, s1, s2, s3⟩ := I.1 w z
      rw [(K w z).1] at h1
      refine I.2 w z s hs ⟨h1, fun i x hi => ?_⟩
      have hil : i < s.length := by
        by_cases y : i < s.length
        · exact y
        · rw [List.getElem?_eq_none (by omega)] at hi; cases hi
      rw [← (K w z).2 i (by omega)]
      exact h2 i x hi
    · rw [z1] at h1 h2
      obtain ⟨n1, n2⟩ := hname z2
      rw [n1] at h1
      have hl : tkT u m 0 - tkF u m 0 = s.length := by omega
      refine nk (kept_mem hs ⟨k1, hl, fun i x hi => ?_⟩)
      have hil : i < s.length := by
        by_cases y : i < s.length
        · exact y
        · rw [List.getElem?_eq_none (by omega)] at hi; cases hi
      have hw' := wd_lt (j := tkF u m 0 + i) k1 (by omega) (by omega)
      have e := h2 i x hi
      rw [n2 i (by omega), hb _ hw'.2.2 hw'.2.1] at e
      exact e
theorem txb_u {f : Nat} (X : TX c f) : ∀ i, i < txm c f → (fun i => txb c f i % 256) i < 128 → txb c f i = (fun i => txb c f i % 256) i := fun i hi h => by
  have := X.at.1.2 i hi
  show txb c f i = txb c f i % 256
  have h : txb c f i % 256 < 128 := h
  omega
/-- a formula that stays -/
theorem FmT.told {B : Nat} {h h' : AH} {x : Int} {w j : Nat} (T : Told c c' nv nc k v nv' st m b) (W : DW c nv nc) (hm : m ≤ 240) (I : NmI c nv) (I' : NmI c' nv') (hw : w < nv) (hj : j < 4) (e : ¬ (w = v ∧ j = k)) (F : FmT B h c nv (fo w j) x) (ast : ∀ X N, AstI (B + 246) 240 h x X N → AstI (B + 246) 240 h' x X N) : FmT B h' c' nv' (fo w j) x := by
  have same := fun z => T.fm w j z hw hj e
  have s0 := same (fo w j) (Nat.le_refl _) (by omega)
  rcases F with ⟨f1, f2⟩ | ⟨f1, X, N, P, r1, r2, r3, r4⟩
  · exact Or.inl ⟨by rw [s0]; exact f1, f2⟩
  · have tx := W.2.2.2.2.2.2 w hw j hj (Or.inr f1)
    obtain ⟨q1, q2⟩ := rd_keep tx r1 r4 same T.nmk I T.nle
    exact Or.inr ⟨by rw [s0]; exact f1, X, N, P, q1, ast X N r2, fun z => named_all I' (txb_u (tx.of same)) q1 q2 z, q2⟩
/-- the formula that is told -/
theorem FmT.new {B : Nat} {h' : AH} {x : Int} {X : Dn} {N : Nat → Bool} {P p nc' tof : Nat} {tl : Int} (T : Told c c' nv nc k v nv' st m b) (hm : m ≤ 240) (hb : ∀ i, i < m → -128 ≤ b i ∧ b i < 128) (hu : ∀ i, u i = b i % 256) (I : NmI c nv) (I' : NmI c' nv') (hp : p ≤ m) (hst : tkF u m p = st) (r : rdF c nv nc' tl tof b u m p = .inr (X, N, P)) (k0 : tkK u m P = 0) (A : AstI (B + 246) 240 h' x X N) : FmT B h' c' nv' (fo v k) x := by
  have eu : u = fun i => b i % 256 := funext hu
  have hs : st ≤ m := by rw [← hst]; exact en_le hp
  have r' : rdF c nv nc' tl tof b u m st = .inr (X, N, P) := by
    rw [← r]
    exact rdF_at (by rw [← hst]; exact tkF_F)
  have hP : P ≤ m := ((rdF_is hs).2 X N P r').2
  have he := tkK0_e (u := u) (fun i _ => by rw [hu]; omega) hP k0
  rw [eu] at r' he
  obtain ⟨q1, q2⟩ := rd_stored hb hs r' he (Or.inl rfl) T.tx T.nmk I T.nle
  have tx : TX c' (fo v k) := ⟨m - st, _, T.tx, by omega⟩
  have nz := T.tx.1
  exact Or.inr ⟨by omega, X, N, _, q1, A, fun z => named_all I' (txb_u tx) q1 q2 z, q2⟩
end TOLD2
