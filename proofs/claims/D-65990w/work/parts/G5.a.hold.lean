/-! L3: what edits of sketches, features leave as it was: values, their texts; texts of sketches -/
section HOLD
variable {c c' b u : Nat → Int} {B nv nc k m f q p e s : Nat} {h h' : AH} {x y : Int} {ord : Nat → Nat}
/-- the cells of the values are as they were -/
def HiE (c c' : Nat → Int) : Prop := ∀ z, z < 9960 → ¬ (3 ≤ z ∧ z < 30) → c' z = c z
theorem HiE.rf : HiE c c := fun _ _ _ => rfl
theorem HiE.up {z0 : Nat} {v : Int} (H : HiE c c') (hz : (3 ≤ z0 ∧ z0 < 30) ∨ 9960 ≤ z0) : HiE c (upc c' z0 v) := fun z h1 h2 => by
  unfold upc
  rw [if_neg (by omega)]
  exact H z h1 h2
theorem HiE.tx {z0 : Nat} (H : HiE c c') (hz : 9960 ≤ z0) : HiE c (txt c' z0 b m) := fun z h1 h2 => by
  rw [txt_ne (by omega)]
  exact H z h1 h2
theorem HiE.nmk (H : HiE c c') (n40 : nv ≤ 40) : NmK c c' nv := fun w hw => ⟨H _ (by omega) (by omega), fun i hi => by unfold nbt; rw [H _ (by omega) (by omega)]⟩
theorem HiE.nmi (H : HiE c c') (n40 : nv ≤ 40) (I : NmI c nv) : NmI c' nv := by
  refine ⟨fun v hv => ?_, fun v hv w hw z => ?_⟩
  · obtain ⟨s, h1, h2, h3⟩ := I.1 v hv
    exact ⟨s, h1, h2, by rw [H _ (by omega) (by omega)]; exact h3⟩
  · refine I.2 v hv w hw ⟨by rw [← H _ (by omega) (by omega)]; exact z.1, fun i x hi => ?_⟩
    have := z.2 i x hi
    have l12 : i < 12 := by
      have h1 := z.1
      rw [H _ (by omega) (by omega)] at h1
      obtain ⟨s, _, s2, s3⟩ := I.1 v hv
      have : i < w.length := by
        rcases Nat.lt_or_ge i w.length with y | y
        · exact y
        · rw [List.getElem?_eq_none y] at hi; cases hi
      omega
    rw [← ((H.nmk n40) v hv).2 i l12]
    exact this
theorem HiE.fmc (H : HiE c c') (n40 : nv ≤ 40) {v j : Nat} (hv : v < nv) (hj : j < 4) : ∀ z, fo v j ≤ z → z < fo v j + 61 → c' z = c z := fun z h1 h2 => H z (by unfold fo at h1 h2; omega) (by unfold fo at h1; omega)
theorem HiE.dw (H : HiE c c') (W : DW c nv nc) : DW c' nv nc := by
  obtain ⟨w1, w2, w3, w4, w5, w6, w7⟩ := W
  refine ⟨by rw [H _ (by omega) (by omega)]; exact w1, w2, by rw [H _ (by omega) (by omega)]; exact w3, w4, w5, fun k h1 h2 => ?_, fun v hv k hk z => ?_⟩
  · rw [H _ (by omega) (by omega)]; exact w6 k h1 h2
  · have e := H.fmc w2 hv hk
    rw [e _ (Nat.le_refl _) (by omega)] at z
    exact (w7 v hv k hk z).of e
/-- a formula whose text stays -/
theorem FmT.keep (tx : c f ≠ 0 → TX c f) (K : NmK c c' nv) (I : NmI c nv) (I' : NmI c' nv) (same : ∀ z, f ≤ z → z < f + 61 → c' z = c z) (F : FmT B h c nv f x) (ast : ∀ X N, AstI (B + 246) 240 h x X N → AstI (B + 246) 240 h' x X N) : FmT B h' c' nv f x := by
  have s0 := same f (Nat.le_refl _) (by omega)
  rcases F with ⟨f1, f2⟩ | ⟨f1, X, N, P, r1, r2, r3, r4⟩
  · exact Or.inl ⟨by rw [s0]; exact f1, f2⟩
  · have tx := tx f1
    obtain ⟨q1, q2⟩ := rd_keep tx r1 r4 same K I (Nat.le_refl nv)
    exact Or.inr ⟨by rw [s0]; exact f1, X, N, P, q1, ast X N r2, fun z => named_all I' (txb_u (tx.of same)) q1 q2 z, q2⟩
/-- a formula whose text is put -/
theorem FmT.put {X : Dn} {N : Nat → Bool} {P : Nat} (hm : m ≤ 240) (hb : ∀ i, i < m → -128 ≤ b i ∧ b i < 128) (hu : ∀ i, u i = b i % 256) (K : NmK c c' nv) (I : NmI c nv) (I' : NmI c' nv) (T : TxAt c' f b m) (r : txW c nv nc b u m = .inr (X, N, P)) (A : AstI (B + 246) 240 h' x X N) : FmT B h' c' nv f x := by
  have eu : u = fun i => b i % 256 := funext hu
  unfold txW at r
  rw [if_pos hm] at r
  obtain ⟨r', k0⟩ := whR_inr r
  have hP : P ≤ m := ((rdF_is (Nat.zero_le m)).2 X N P r').2
  have he := tkK0_e (u := u) (fun i _ => by rw [hu]; omega) hP k0
  rw [eu] at r' he
  have T' : TxAt c' f (fun z => b (0 + z)) (m - 0) := by
    rw [Nat.sub_zero, show (fun z => b (0 + z)) = b from funext (fun z => by rw [Nat.zero_add])]
    exact T
  obtain ⟨q1, q2⟩ := rd_stored hb (Nat.zero_le m) r' he (Or.inl rfl) T' K I (Nat.le_refl nv)
  have tx : TX c' f := ⟨m, b, T, hm⟩
  have nz := T.1
  exact Or.inr ⟨by omega, X, N, _, q1, A, fun z => named_all I' (txb_u tx) q1 q2 z, q2⟩
/-- the values of the model stand for the new cells, too -/
theorem DV.hi (V : DV B h c q nv nc) (W : DW c nv nc) (I : NmI c nv) (H : HiE c c') : DV B h c' q nv nc := by
  have n40 := W.2.1
  obtain ⟨⟨a1, a2, a3⟩, v1, v2, v3, v4⟩ := V
  refine ⟨⟨a1, a2, by rw [H _ (by omega) (by omega)]; exact a3⟩, fun v hv => ?_, fun k h1 h2 => ?_, fun v k hv hk => ?_, fun v k h1 h2 hk => ?_⟩
  · obtain ⟨s, s1, s2, s3, s4, s5⟩ := v1 v hv
    refine ⟨s, s1, s2, by rw [H _ (by omega) (by omega)]; exact s3, s4, fun i hi => ?_⟩
    rw [((H.nmk n40) v hv).2 i (by omega)]
    exact s5 i hi
  · have := W.2.2.2.2.1
    rw [H _ (by omega) (by omega)]; exact v2 k h1 h2
  · exact (v3 v k hv hk).keep (fun z => W.2.2.2.2.2.2 v hv k hk (Or.inr z)) (H.nmk n40) I (H.nmi n40 I) (H.fmc n40 hv hk) (fun _ _ a => a)
  · obtain ⟨e1, e2⟩ := v4 v k h1 h2 hk
    exact ⟨by rw [H.fmc (nv := 40) (Nat.le_refl 40) h2 hk _ (Nat.le_refl _) (by omega)]; exact e1, e2⟩
-- the edits
theorem skA_lo : 9960 ≤ skA s := by unfold skA; omega
theorem liA_lo : 9960 ≤ liA s k := by unfold liA skA; omega
theorem diA_lo : 9960 ≤ diA s k := by unfold diA skA; omega
theorem coA_lo : 9960 ≤ coA s k := by unfold coA skA; omega
theorem feA_lo : 9960 ≤ feA f := by unfold feA; omega
theorem hi_sk : HiE c (skC c s x y) := by
  have := skA_lo (s := s)
  exact (((((((HiE.rf.up (by omega)).up (by omega)).up (by omega)).up (by omega)).up (by omega)).up (by omega)).up (by omega))
theorem hi_pt : HiE c (ptC c s p x y) := by
  have := skA_lo (s := s)
  exact ((HiE.rf.up (by omega)).up (by omega)).up (by omega)
theorem hi_dg : HiE c (dgC c s p x y) := by
  have := skA_lo (s := s)
  exact (HiE.rf.up (by omega)).up (by omega)
theorem hi_ln : HiE c (lnC c s k x y) := by
  have := skA_lo (s := s)
  have := liA_lo (s := s) (k := k)
  exact (((HiE.rf.up (by omega)).up (by omega)).up (by omega)).up (by omega)
theorem hi_dc : HiE c (dcC c s k x b m) := by
  have := skA_lo (s := s)
  have := diA_lo (s := s) (k := k)
  exact (((HiE.rf.up (by omega)).up (by omega)).up (by omega)).tx (by omega)
theorem hi_cn {kd a e' f' : Int} : HiE c (cnC c s k kd a e' f') := by
  have := skA_lo (s := s)
  have := coA_lo (s := s) (k := k)
  exact (((((HiE.rf.up (by omega)).up (by omega)).up (by omega)).up (by omega)).up (by omega)).up (by omega)
theorem hi_cnt {kd a e' f' : Int} : HiE c (txt (cnC c s k kd a e' f') (coA s k + 5) b m) := hi_cn.tx (by have := coA_lo (s := s) (k := k); omega)
theorem hi_dr {what : Int} : HiE c (upc c (drA s k what) 0) := by
  refine HiE.rf.up (Or.inr ?_)
  have := liA_lo (s := s) (k := k)
  have := diA_lo (s := s) (k := k)
  have := coA_lo (s := s) (k := k)
  unfold drA
  split
  · omega
  · split <;> omega
theorem hi_su : HiE c (upc c (feA f + 4) x) := HiE.rf.up (Or.inr (by have := feA_lo (f := f); omega))
theorem hi_drF (k24 : k ≤ 24) : HiE c (drF c k p f) := by
  have fl := feA_lo (f := f)
  refine HiE.up (c' := drI c p f (k - 1)) (fun z h1 h2 => ?_) (Or.inl ⟨by decide, by decide⟩)
  unfold drI
  rw [if_neg (by omega), if_neg (by omega)]
theorem hi_orF (hp : p < 24) (he : e < 24) : HiE c (orF c p e f) := by
  refine HiE.up (fun z h1 h2 => ?_) (Or.inl ⟨by omega, by omega⟩)
  by_cases w : p ≤ e
  · rw [if_pos w]; unfold upI; rw [if_neg (by omega)]
  · rw [if_neg w]; unfold dnI; rw [if_neg (by omega)]
end HOLD
