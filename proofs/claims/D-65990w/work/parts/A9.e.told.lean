/-! L3: the cells of a design with a VALUE told -/
section TOLD
variable {c b u : Nat → Int} {nv nc k m : Nat}
theorem upc_ne {f : Nat → Int} {j z : Nat} {v : Int} (h : z ≠ j) : upc f j v z = f z := if_neg h
theorem upc_at {f : Nat → Int} {j : Nat} {v : Int} : upc f j v j = v := if_pos rfl
theorem fo_v {v k : Nat} : fo v k = 44 + 248 * v + 61 * k := by unfold fo; omega
/-- the cells of a new VALUE's name -/
theorem nmd_out {t : Nat} {g : Nat → Int} {z : Nat} (h0 : z ≠ 0) (h : z < 40 + 248 * nv ∨ 44 + 248 * nv ≤ z) (h1 : z ≠ fo nv 1) (h2 : z ≠ fo nv 2) (h3 : z ≠ fo nv 3) : nmd c nv t g z = c z := by
  unfold nmd
  rw [upc_ne h3, upc_ne h2, upc_ne h1, upc_ne (by omega), upc_ne (by omega), upc_ne (by omega), upc_ne (by omega), upc_ne h0]
theorem nmd_0 {t : Nat} {g : Nat → Int} : nmd c nv t g 0 = ((nv + 1 : Nat) : Int) := by
  unfold nmd
  rw [upc_ne (by unfold fo; omega), upc_ne (by unfold fo; omega), upc_ne (by unfold fo; omega), upc_ne (by omega), upc_ne (by omega), upc_ne (by omega), upc_ne (by omega), upc_at]
theorem nmd_n {t : Nat} {g : Nat → Int} : nmd c nv t g (40 + 248 * nv) = (t : Int) := by
  unfold nmd
  rw [upc_ne (by unfold fo; omega), upc_ne (by unfold fo; omega), upc_ne (by unfold fo; omega), upc_ne (by omega), upc_ne (by omega), upc_ne (by omega), upc_at]
theorem nmd_w {t i : Nat} {g : Nat → Int} (hi : i < 3) : nmd c nv t g (40 + 248 * nv + 1 + i) = nmW3 g t i := by
  unfold nmd
  rw [upc_ne (by unfold fo; omega), upc_ne (by unfold fo; omega), upc_ne (by unfold fo; omega)]
  have : i = 0 ∨ i = 1 ∨ i = 2 := by omega
  rcases this with rfl | rfl | rfl
  · rw [upc_ne (by omega), upc_ne (by omega), upc_at]
  · rw [upc_ne (by omega), upc_at]
  · rw [upc_at]
theorem nmd_z {t j : Nat} {g : Nat → Int} (h1 : 1 ≤ j) (h2 : j < 4) : nmd c nv t g (fo nv j) = 0 := by
  unfold nmd
  have : j = 1 ∨ j = 2 ∨ j = 3 := by omega
  rcases this with rfl | rfl | rfl
  · rw [upc_ne (by unfold fo; omega), upc_ne (by unfold fo; omega), upc_at]
  · rw [upc_ne (by unfold fo; omega), upc_at]
  · rw [upc_at]
theorem nmd_b {t i : Nat} {g : Nat → Int} (hg : ∀ i, i < t → -128 ≤ g i ∧ g i < 128) (hi : i < t) (ht : t ≤ 12) : nbt (nmd c nv t g) nv i = g i := by
  unfold nbt
  rw [nmd_w (i := i / 4) (by omega)]
  unfold nmW3
  have r := fun j => bz_r (b := g) (m := t) (j := j) hg
  obtain ⟨p1, p2, p3, p4⟩ := pk4_at (r (4 * (i / 4))) (r (4 * (i / 4) + 1)) (r (4 * (i / 4) + 2)) (r (4 * (i / 4) + 3))
  have : i % 4 = 0 ∨ i % 4 = 1 ∨ i % 4 = 2 ∨ i % 4 = 3 := by omega
  have fin : bz g t i = g i := if_pos hi
  rcases this with e | e | e | e
  · rw [e, show ((24 - 8 * 0 : Nat) : Int) = 24 from rfl, p1, show 4 * (i / 4) = i by omega, fin]
  · rw [e, show ((24 - 8 * 1 : Nat) : Int) = 16 from rfl, p2, show 4 * (i / 4) + 1 = i by omega, fin]
  · rw [e, show ((24 - 8 * 2 : Nat) : Int) = 8 from rfl, p3, show 4 * (i / 4) + 2 = i by omega, fin]
  · rw [e, show ((24 - 8 * 3 : Nat) : Int) = 0 from rfl, p4, show 4 * (i / 4) + 3 = i by omega, fin]
/-- which VALUE is told; how many there are then -/
noncomputable def toV (c : Nat → Int) (nv : Nat) (b u : Nat → Int) (m : Nat) : Nat := if fdC c nv b u m 0 < 0 then nv else (fdC c nv b u m 0).toNat
noncomputable def toN (c : Nat → Int) (nv : Nat) (b u : Nat → Int) (m : Nat) : Nat := if fdC c nv b u m 0 < 0 then nv + 1 else nv
/-- what telling leaves -/
def Told (c c' : Nat → Int) (nv nc k v nv' st m : Nat) (b : Nat → Int) : Prop := (v < nv') ∧ (nv ≤ nv') ∧ (nv' ≤ 40) ∧ ((v < nv ∧ nv' = nv) ∨ (v = nv ∧ nv' = nv + 1 ∧ k = 0)) ∧ (k < nc) ∧ (c' 0 = (nv' : Int)) ∧ (∀ z, z < 40 → z ≠ 0 → c' z = c z) ∧ (TxAt c' (fo v k) (fun z => b (st + z)) (m - st)) ∧ (∀ w z, w < nv → 40 + 248 * w ≤ z → z < 44 + 248 * w → c' z = c z) ∧ (∀ w j z, w < nv → j < 4 → ¬ (w = v ∧ j = k) → fo w j ≤ z → z < fo w j + 61 → c' z = c z) ∧ (v = nv → ∀ j, 1 ≤ j → j < 4 → c' (fo nv j) = 0) ∧ (∀ z, 40 + 248 * nv' ≤ z → c' z = c z)
theorem Told.vlt {c c' : Nat → Int} {nv nc k v nv' st m : Nat} {b : Nat → Int} (T : Told c c' nv nc k v nv' st m b) : v < nv' := T.1
theorem Told.nle {c c' : Nat → Int} {nv nc k v nv' st m : Nat} {b : Nat → Int} (T : Told c c' nv nc k v nv' st m b) : nv ≤ nv' := T.2.1
theorem Told.n40 {c c' : Nat → Int} {nv nc k v nv' st m : Nat} {b : Nat → Int} (T : Told c c' nv nc k v nv' st m b) : nv' ≤ 40 := T.2.2.1
theorem Told.own {c c' : Nat → Int} {nv nc k v nv' st m : Nat} {b : Nat → Int} (T : Told c c' nv nc k v nv' st m b) : (v < nv ∧ nv' = nv) ∨ (v = nv ∧ nv' = nv + 1 ∧ k = 0) := T.2.2.2.1
theorem Told.klt {c c' : Nat → Int} {nv nc k v nv' st m : Nat} {b : Nat → Int} (T : Told c c' nv nc k v nv' st m b) : k < nc := T.2.2.2.2.1
theorem Told.c0 {c c' : Nat → Int} {nv nc k v nv' st m : Nat} {b : Nat → Int} (T : Told c c' nv nc k v nv' st m b) : c' 0 = (nv' : Int) := T.2.2.2.2.2.1
theorem Told.cs {c c' : Nat → Int} {nv nc k v nv' st m : Nat} {b : Nat → Int} (T : Told c c' nv nc k v nv' st m b) : ∀ z, z < 40 → z ≠ 0 → c' z = c z := T.2.2.2.2.2.2.1
theorem Told.tx {c c' : Nat → Int} {nv nc k v nv' st m : Nat} {b : Nat → Int} (T : Told c c' nv nc k v nv' st m b) : TxAt c' (fo v k) (fun z => b (st + z)) (m - st) := T.2.2.2.2.2.2.2.1
theorem Told.nm {c c' : Nat → Int} {nv nc k v nv' st m : Nat} {b : Nat → Int} (T : Told c c' nv nc k v nv' st m b) : ∀ w z, w < nv → 40 + 248 * w ≤ z → z < 44 + 248 * w → c' z = c z := T.2.2.2.2.2.2.2.2.1
theorem Told.fm {c c' : Nat → Int} {nv nc k v nv' st m : Nat} {b : Nat → Int} (T : Told c c' nv nc k v nv' st m b) : ∀ w j z, w < nv → j < 4 → ¬ (w = v ∧ j = k) → fo w j ≤ z → z < fo w j + 61 → c' z = c z := T.2.2.2.2.2.2.2.2.2.1
theorem Told.fz {c c' : Nat → Int} {nv nc k v nv' st m : Nat} {b : Nat → Int} (T : Told c c' nv nc k v nv' st m b) : v = nv → ∀ j, 1 ≤ j → j < 4 → c' (fo nv j) = 0 := T.2.2.2.2.2.2.2.2.2.2.1
theorem Told.hi {c c' : Nat → Int} {nv nc k v nv' st m : Nat} {b : Nat → Int} (T : Told c c' nv nc k v nv' st m b) : ∀ z, 40 + 248 * nv' ≤ z → c' z = c z := T.2.2.2.2.2.2.2.2.2.2.2
theorem txt_out {f g : Nat → Int} {k z m : Nat} (hm : m ≤ 240) (h : z < k ∨ k + 61 ≤ z) : txt f k g m z = f z := txt_ne (by omega)
theorem told_of (W : DW c nv nc) (hk : k < nc) (hbad : ¬ (fdC c nv b u m 0 < 0 ∧ 0 < k)) (hfull : ¬ (fdC c nv b u m 0 < 0 ∧ nv = 40)) (hm : m ≤ 240) (hb : ∀ i, i < m → -128 ≤ b i ∧ b i < 128) : Told c (dfC c nv k b u m) nv nc k (toV c nv b u m) (toN c nv b u m) (tkF u m (tkT u m (tkT u m 0))) m b := by
  have hn := W.2.1
  have hnc := W.2.2.2.2.1
  have fdr := fdN_r (nmP c b (tkF u m 0) (tkT u m 0 - tkF u m 0)) nv 0
  have fdr : -1 ≤ fdC c nv b u m 0 ∧ fdC c nv b u m 0 < (nv : Int) := by
    unfold fdC
    rcases fdr with e | ⟨e1, e2⟩
    · rw [e]; omega
    · omega
  generalize hst : tkF u m (tkT u m (tkT u m 0)) = st
  have htx : ∀ i, i < m - st → -128 ≤ (fun z => b (st + z)) i ∧ (fun z => b (st + z)) i < 128 := fun i hi => hb _ (by omega)
  unfold toV toN dfC
  rw [hst]
  by_cases hneg : fdC c nv b u m 0 < 0
  · obtain rfl : k = 0 := by omega
    rw [if_pos hneg, if_pos hneg, if_pos hneg]
    generalize tkT u m 0 - tkF u m 0 = t
    generalize (fun z => b (tkF u m 0 + z)) = g
    have out : ∀ z, z < 44 + 248 * nv ∨ 105 + 248 * nv ≤ z → txt (nmd c nv t g) (fo nv 0) (fun z => b (st + z)) (m - st) z = nmd c nv t g z := fun z hz => txt_out (by omega) (by rw [fo_v]; omega)
    refine ⟨by omega, by omega, by omega, Or.inr ⟨rfl, rfl, rfl⟩, hk, by rw [out 0 (by omega)]; exact nmd_0, fun z h1 h2 => ?_, txt_at htx, fun w z hw h1 h2 => ?_, fun w j z hw hj hne h1 h2 => ?_, fun _ j h1 h2 => ?_, fun z hz => ?_⟩
    · rw [out z (by omega)]; exact nmd_out h2 (by omega) (by rw [fo_v]; omega) (by rw [fo_v]; omega) (by rw [fo_v]; omega)
    · rw [out z (by omega)]; exact nmd_out (by omega) (by omega) (by rw [fo_v]; omega) (by rw [fo_v]; omega) (by rw [fo_v]; omega)
    · rw [fo_v] at h1 h2
      rw [out z (by omega)]; exact nmd_out (by omega) (by omega) (by rw [fo_v]; omega) (by rw [fo_v]; omega) (by rw [fo_v]; omega)
    · rw [out _ (by rw [fo_v]; omega)]; exact nmd_z h1 h2
    · rw [out z (by omega)]; exact nmd_out (by omega) (by omega) (by rw [fo_v]; omega) (by rw [fo_v]; omega) (by rw [fo_v]; omega)
  · rw [if_neg hneg, if_neg hneg, if_neg hneg]
    obtain ⟨v, ev⟩ : ∃ v : Nat, fdC c nv b u m 0 = (v : Int) := ⟨(fdC c nv b u m 0).toNat, by omega⟩
    rw [ev, Int.toNat_natCast]
    have hv : v < nv := by omega
    have out : ∀ z, z < fo v k ∨ fo v k + 61 ≤ z → txt c (fo v k) (fun z => b (st + z)) (m - st) z = c z := fun z hz => txt_out (by omega) hz
    refine ⟨hv, Nat.le_refl _, hn, Or.inl ⟨hv, rfl⟩, hk, by rw [out 0 (by rw [fo_v]; omega)]; exact W.1, fun z h1 h2 => out z (by rw [fo_v]; omega), txt_at htx, fun w z hw h1 h2 => out z ?_, fun w j z hw hj hne h1 h2 => out z ?_, fun e => absurd e (by omega), fun z hz => out z (by rw [fo_v]; omega)⟩
    · rw [fo_v]
      rcases Nat.lt_trichotomy w v with q | q | q <;> omega
    · rw [fo_v] at h1 h2 ⊢
      rcases Nat.lt_trichotomy w v with q | q | q
      · omega
      · subst q
        rcases Nat.lt_trichotomy j k with y | y | y
        · omega
        · exact absurd ⟨rfl, y⟩ hne
        · omega
      · omega
/-- the name of a new VALUE -/
theorem told_name (hneg : fdC c nv b u m 0 < 0) (ht : tkT u m 0 ≤ m) (hl : tkT u m 0 - tkF u m 0 ≤ 12) (hm : m ≤ 240) (hb : ∀ i, i < m → -128 ≤ b i ∧ b i < 128) : dfC c nv 0 b u m (40 + 248 * nv) = ((tkT u m 0 - tkF u m 0 : Nat) : Int) ∧ ∀ i, i < tkT u m 0 - tkF u m 0 → nbt (dfC c nv 0 b u m) nv i = b (tkF u m 0 + i) := by
  unfold dfC
  rw [if_pos hneg]
  have hg : ∀ i, i < tkT u m 0 - tkF u m 0 → -128 ≤ (fun z => b (tkF u m 0 + z)) i ∧ (fun z => b (tkF u m 0 + z)) i < 128 := fun i hi => hb _ (by omega)
  generalize tkT u m 0 - tkF u m 0 = t at *
  have out : ∀ z, z < 44 + 248 * nv → txt (nmd c nv t (fun z => b (tkF u m 0 + z))) (fo nv 0) (fun z => b (tkF u m (tkT u m (tkT u m 0)) + z)) (m - tkF u m (tkT u m (tkT u m 0))) z = nmd c nv t (fun z => b (tkF u m 0 + z)) z := fun z hz => txt_out (by omega) (by rw [fo_v]; omega)
  refine ⟨by rw [out _ (by omega)]; exact nmd_n, fun i hi => ?_⟩
  have := nmd_b (c := c) (nv := nv) hg hi hl
  unfold nbt at this ⊢
  rw [out _ (by omega)]
  exact this
end TOLD
