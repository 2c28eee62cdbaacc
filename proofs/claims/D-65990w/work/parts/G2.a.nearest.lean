/-! L3: fills (model): how near the solid comes, column by column -/
noncomputable section NEAR
variable {gv : Nat → Int} {B n d ax f1 q w1 k F g C : Nat} {h : AH} {S T : Nat → Bool} {o : Int} {dn : Bool}
/-- the column of a grain; how far it is above (below) -/
def colG (n ax g : Nat) : Nat := 4 * (gC n g (sA ax) * n + gC n g (fA ax)) + quT ax (gSo g)
def dsZ (n ax : Nat) (o : Int) (dn : Bool) (g : Nat) : Int := if dn = true then 8 * o - ((g8 n g ax : Nat) : Int) else ((g8 n g ax : Nat) : Int) - 8 * o
theorem sh7 : ∀ c : Fin 53, ∀ r : Fin 8, bop32 126 (((8 * (c : Nat) + (r : Nat) : Nat)) : Int) 7 = ((r : Nat) : Int) ∧ bop32 122 (((8 * (c : Nat) + (r : Nat) : Nat)) : Int) 3 = ((c : Nat) : Int) := by decide +kernel
theorem qu_788 : ∀ ax : Fin 3, ∀ t : Fin 24, (cond (tst 3 ((rT t (sA ax) : Nat) : Int) ((rT t (fA ax) : Nat) : Int)) (cond (tst 3 ((rT t (sA ax) : Nat) : Int) (bop32 100 (8 : Int) ((rT t (fA ax) : Nat) : Int))) (2 : Int) 3) (cond (tst 3 ((rT t (sA ax) : Nat) : Int) (bop32 100 (8 : Int) ((rT t (fA ax) : Nat) : Int))) (1 : Int) 0)) = ((quT ax t : Nat) : Int) := by decide +kernel
theorem qz_ax : ∀ ax : Fin 3, ∀ t : Fin 24, quT ax t < 4 := by decide +kernel
theorem cl_lt (hg : g < gN n) (hax : ax < 3) : colG n ax g < 4 * n * n := by
  have hfA : fA ax < 3 := by have := fA_2 (ax := ax); omega
  have hsA : sA ax < 3 := by have := sA_2 (ax := ax); omega
  obtain ⟨_, _, _, _, ht⟩ := g_lt hg
  have a1 := gC_lt (a := fA ax) hg
  have a2 := gC_lt (a := sA ax) hg
  have a3 := qz_ax ⟨ax, hax⟩ ⟨gSo g, ht⟩
  simp only at a3
  have a4 := Nat.mul_le_mul_right n (show gC n g (sA ax) + 1 ≤ n by omega)
  rw [Nat.succ_mul] at a4
  unfold colG
  rw [Nat.mul_assoc]
  omega
theorem v573_is (hn : n ≤ 52) (hg : g < gN n) (hax : ax < 3) : v573 n ((g8 n g (fA ax) : Nat) : Int) ((g8 n g (sA ax) : Nat) : Int) = ((colG n ax g : Nat) : Int) := by
  have hfA : fA ax < 3 := by have := fA_2 (ax := ax); omega
  have hsA : sA ax < 3 := by have := sA_2 (ax := ax); omega
  obtain ⟨_, _, _, _, ht⟩ := g_lt hg
  have a1 := gC_lt (a := fA ax) hg
  have a2 := gC_lt (a := sA ax) hg
  have r1 := rT_b hg hfA
  have r2 := rT_b hg hsA
  obtain ⟨b1, b2⟩ := sh7 ⟨gC n g (fA ax), by omega⟩ ⟨rT (gSo g) (fA ax), by omega⟩
  obtain ⟨b3, b4⟩ := sh7 ⟨gC n g (sA ax), by omega⟩ ⟨rT (gSo g) (sA ax), by omega⟩
  have b5 := qu_788 ⟨ax, hax⟩ ⟨gSo g, ht⟩
  have a3 := qz_ax ⟨ax, hax⟩ ⟨gSo g, ht⟩
  simp only at b1 b2 b3 b4 b5 a3
  have e : v788 ((g8 n g (fA ax) : Nat) : Int) ((g8 n g (sA ax) : Nat) : Int) = ((quT ax (gSo g) : Nat) : Int) := by
    unfold v788
    rw [g8_C hfA, g8_C hsA, b1, b3]
    exact b5
  unfold v573
  rw [e, g8_C hfA, g8_C hsA, b2, b4]
  have a4 := Nat.mul_le_mul (show gC n g (sA ax) ≤ 52 by omega) hn
  unfold colG
  rw [show bop32 104 ((gC n g (sA ax) : Nat) : Int) ((n : Nat) : Int) = ((gC n g (sA ax) * n : Nat) : Int) from mulNN (by omega), show bop32 96 ((gC n g (sA ax) * n : Nat) : Int) ((gC n g (fA ax) : Nat) : Int) = ((gC n g (sA ax) * n + gC n g (fA ax) : Nat) : Int) from addNN (by omega), show bop32 104 4 ((gC n g (sA ax) * n + gC n g (fA ax) : Nat) : Int) = ((4 * (gC n g (sA ax) * n + gC n g (fA ax)) : Nat) : Int) from mulNN (x := 4) (by omega)]
  exact addNN (by omega)
theorem v544_is (hn : n ≤ 52) (m : TbM B h) (hg : g < gN n) (hax : ax < 3) (e0 : hv h w1 0 = (ax : Int)) (e1 : hv h w1 1 = o) (ob : 0 ≤ o ∧ o ≤ n) (ed : (hv h (B + 198) 0 = 1 ∧ dn = true) ∨ (hv h (B + 198) 0 ≠ 1 ∧ dn = false)) : q544 B n w1 h (g : Int) ∧ v544 B n w1 h (g : Int) = dsZ n ax o dn g := by
  obtain ⟨p0, p1⟩ := coord_is m hn hg hax
  have gw := g8_b hg hn hax
  have m8 : bop32 104 8 o = 8 * o := mul32 (by omega) (by omega)
  unfold q544 v544 dsZ
  simp only [show Int.toNat 0 = 0 from rfl]
  rw [e0, e1, ct1, ct1, p1, m8]
  rcases ed with ⟨z, e⟩ | ⟨z, e⟩
  · rw [if_pos z, if_pos z, e, if_pos rfl]
    exact ⟨p0, sub32 (by omega) (by omega)⟩
  · rw [if_neg z, if_neg z, e, if_neg Bool.false_ne_true]
    exact ⟨p0, sub32 (by omega) (by omega)⟩
theorem ds_b (hn : n ≤ 52) (hg : g < gN n) (hax : ax < 3) (ob : 0 ≤ o ∧ o ≤ n) : -(8 * (n : Int)) ≤ dsZ n ax o dn g ∧ dsZ n ax o dn g ≤ 8 * n ∧ dsZ n ax o dn g ≠ 0 := by
  have gw := g8_b hg hn hax
  unfold dsZ
  split <;> omega
/-- the array of what came nearest -/
def FiM (B n : Nat) (q : AH) (F : Nat) : Prop := hv q (B + 149) 104 = rf F ∧ hk q F = (2, 4 * n * n * 24) ∧ B + 246 ≤ F
/-- how near the grains of S below N come in a column -/
def NrV (n ax : Nat) (o : Int) (dn : Bool) (S : Nat → Bool) (N C : Nat) (m : Int) : Prop := (∀ g, g < N → S g = true → colG n ax g = C → 0 ≤ dsZ n ax o dn g → m ≤ dsZ n ax o dn g) ∧ m ≤ 16 * n ∧ (m = 16 * n ∨ ∃ g, g < N ∧ S g = true ∧ colG n ax g = C ∧ 0 ≤ dsZ n ax o dn g ∧ m = dsZ n ax o dn g)
theorem n4_b (hn : n ≤ 52) : 4 * n * n ≤ 10816 := by
  have := Nat.mul_le_mul hn hn
  rw [Nat.mul_assoc]
  omega
theorem fi_ix {k C : Nat} (hn : n ≤ 52) (hk : k < 24) (hC : C < 4 * n * n) : bop32 96 (bop32 104 ((4 * n * n : Nat) : Int) (k : Int)) (C : Int) = ((4 * n * n * k + C : Nat) : Int) ∧ 4 * n * n * k + C < 4 * n * n * 24 := by
  have b := n4_b hn
  have h1 := Nat.mul_le_mul_left (4 * n * n) (show k + 1 ≤ 24 by omega)
  rw [Nat.mul_succ] at h1
  rw [show bop32 104 ((4 * n * n : Nat) : Int) (k : Int) = ((4 * n * n * k : Nat) : Int) from mulNN (by omega)]
  exact ⟨addNN (by omega), by omega⟩
set_option maxHeartbeats 2000000 in
theorem e_nearest {Q : Rs → Prop} (l : LX B n h) (hd : 9 ≤ d) (hn : n ≤ 52) (m : TbM B h) (b : MB B n h 11 S) (S3 : YS B w1 h) (e0 : hv h w1 0 = (ax : Int)) (e1 : hv h w1 1 = o) (hax : ax < 3) (ob : 0 ≤ o ∧ o ≤ n) (ed : (hv h (B + 198) 0 = 1 ∧ dn = true) ∨ (hv h (B + 198) 0 ≠ 1 ∧ dn = false)) (Fi : FiM B n h F) (hF : F < w1 ∨ w1 + 14 ≤ F) (k24 : k < 24)
    (K : ∀ h', LX B n h' → Agr (fun c j => c = F ∧ 4 * n * n * k ≤ j ∧ j < 4 * n * n * k + 4 * n * n) h h' → (∀ C, C < 4 * n * n → NrV n ax o dn S (gN n) C (hv h' F (4 * n * n * k + C))) → Q ((0, (9, 0)), h')) (u5 u6 u7 : AV) :
    Ends (ev PP (gsF gv) B d 632 46 [(2, rf (B + 149)), (0, (k : Int)), (2, rf f1), (2, rf w1), (0, ((4 * n * n : Nat) : Int)), u5, u6, u7] [] h) Q := by
  obtain ⟨f1', f2', f3'⟩ := Fi
  have lo := S3.lo
  have n4 := n4_b hn
  have hfA : fA ax < 3 := by have := fA_2 (ax := ax); omega
  have hsA : sA ax < 3 := by have := sA_2 (ax := ax); omega
  obtain ⟨W, eW⟩ : ∃ W : Nat → Nat → Prop, W = fun c j => c = F ∧ 4 * n * n * k ≤ j ∧ j < 4 * n * n * k + 4 * n * n := ⟨_, rfl⟩
  rw [← eW] at K
  have at_ : ∀ {q : AH}, Agr W h q → ∀ c j, c ≠ F → hv q c j = hv h c j := fun {q} g c j hc => g.at _ _ (fun z => by rw [eW] at z; exact hc z.1)
  have gnb : gN n < 2147483647 := by
    have := Nat.mul_le_mul (Nat.mul_le_mul (Nat.mul_le_mul_left 24 hn) hn) hn
    unfold gN
    omega
  have m16 : bop32 104 16 (n : Int) = 16 * (n : Int) := mul32 (by omega) (by omega)
  -- grain by grain
  have grains : ∀ (r i : Nat) (q : AH) (u6 u7 : AV), i + r = gN n → LX B n q → Agr W h q → (∀ C, C < 4 * n * n → NrV n ax o dn S i C (hv q F (4 * n * n * k + C))) → Ends (ev PP (gsF gv) B d 632 84 [(2, rf (B + 149)), (0, (k : Int)), (2, rf f1), (2, rf w1), (0, ((4 * n * n : Nat) : Int)), (0, (i : Int)), u6, u7] [] q) Q := by
    intro r
    induction r with
    | zero =>
      intro i q u6 u7 ei lq g ok
      obtain rfl : i = gN n := by omega
      have Sq : YS B w1 q := S3.agr g (fun j _ z => by rw [eW] at z; omega)
      refine Ends.eq (b632_84 lq hd Sq) (Ends.b3 (fun _ => Ends.sm (K q lq g ok)) (fun z => absurd z (Int.lt_irrefl _)))
    | succ r ih =>
      intro i q u6 u7 ei lq g ok
      have hg : i < gN n := by omega
      have Sq : YS B w1 q := S3.agr g (fun j _ z => by rw [eW] at z; omega)
      have mq : TbM B q := m.agr g (fun c j h1 h2 h3 z => by rw [eW] at z; omega)
      have bq : MB B n q 11 S := b.agr g (fun j hj z => by rw [eW] at z; omega)
      obtain ⟨a1, a2⟩ := v544_is (g := i) (w1 := w1) (ax := ax) (o := o) (dn := dn) hn mq hg hax (by rw [at_ g _ _ (by omega)]; exact e0) (by rw [at_ g _ _ (by omega)]; exact e1) ob (by rw [at_ g _ _ (by omega)]; exact ed)
      have db := ds_b (n := n) (ax := ax) (o := o) (dn := dn) hn hg hax ob
      have cl := cl_lt (n := n) (ax := ax) hg hax
      have next : ∀ (q' : AH) (x6 : Int) (u7 : AV), LX B n q' → Agr W h q' → (∀ C, C < 4 * n * n → NrV n ax o dn S (i + 1) C (hv q' F (4 * n * n * k + C))) → Ends (ev PP (gsF gv) B d 632 179 [(2, rf (B + 149)), (0, (k : Int)), (2, rf f1), (2, rf w1), (0, ((4 * n * n : Nat) : Int)), (0, (i : Int)), (0, x6), u7] [] q') Q := fun q' x6 u7 l' g' ok' => by
        refine Ends.eq (b632_179 l' hd) ?_
        rw [w_succ (by omega)]
        exact ih (i + 1) q' _ _ (by omega) l' g' ok'
      have same : (S i = true → 0 ≤ dsZ n ax o dn i → hv q F (4 * n * n * k + colG n ax i) ≤ dsZ n ax o dn i) → ∀ C, C < 4 * n * n → NrV n ax o dn S (i + 1) C (hv q F (4 * n * n * k + C)) := fun z C hC => by
        obtain ⟨o1, o2, o3⟩ := ok C hC
        refine ⟨fun g' h1 h2 h3 h4 => ?_, o2, o3.imp id (fun ⟨g', h1, h2⟩ => ⟨g', by omega, h2⟩)⟩
        rcases (by omega : g' < i ∨ g' = i) with y | y
        · exact o1 g' y h2 h3 h4
        · rw [y] at h2 h3 h4 ⊢
          rw [← h3]; exact z h2 h4
      obtain ⟨s1, s2⟩ := has_is bq (by decide) hn hg
      obtain ⟨p0, p1⟩ := coord_is mq hn hg hfA
      obtain ⟨r0, r1⟩ := coord_is mq hn hg hsA
      obtain ⟨i1', i2⟩ := fi_ix (k := k) (C := colG n ax i) hn k24 cl
      have i1 := fun _ : Unit => i1'
      clear i1'
      have e104 : hv q (B + 149) 104 = rf F := by rw [at_ g _ _ (by omega)]; exact f1'
      have kF : hk q F = (2, 4 * n * n * 24) := by rw [g.hk]; exact f2'
      have eax : hv q w1 0 = (ax : Int) := by rw [at_ g _ _ (by omega)]; exact e0
      refine Ends.eq (b632_84 lq hd Sq) ?_
      rw [a2, show v669 B n q 11 (i : Int) = v669 B n q ((11 : Nat) : Int) (i : Int) from rfl, s2, eax, (f635_is hax).1, (f635_is hax).2, p1, r1, v573_is hn hg hax, i1 (), e104, ad_rf, tn]
      refine Ends.b3 (fun z => absurd z (by omega)) (fun _ => Ends.g a1 (Ends.b2 (fun neg => next q _ _ lq g (same (fun _ y => by omega))) (fun pos => Ends.g s1 ?_)))
      cases si : S i
      · rw [if_neg Bool.false_ne_true]
        exact Ends.b1 (fun z => absurd rfl z) (fun _ => next q _ _ lq g (same (fun y => by rw [si] at y; cases y)))
      · rw [if_pos rfl]
        have rdF : 0 < rf F ∧ (hk q F).1 = 0 + 2 ∧ 0 ≤ ((4 * n * n * k + colG n ax i : Nat) : Int) ∧ ((4 * n * n * k + colG n ax i : Nat) : Int) < (hk q F).2 := ⟨rf_pos _, by rw [kF], by omega, by rw [kF]; show ((4 * n * n * k + colG n ax i : Nat) : Int) < ((4 * n * n * 24 : Nat) : Int); omega⟩
        refine Ends.b1 (fun _ => Ends.g p0 (Ends.g r0 (Ends.g rdF (Ends.b3 (fun z => next q _ _ lq g (same (fun _ _ => z))) (fun z => Ends.g ⟨rdF.1, rdF.2.1, rdF.2.2.1, rdF.2.2.2, by omega⟩ ?_))))) (fun z => absurd z (by decide))
        rw [an0]
        refine next _ _ _ (lq.setA (t := 0) (by rw [kF])) (g.set (by rw [eW]; exact ⟨rfl, by omega, by omega⟩)) (fun C hC => ?_)
        obtain ⟨o1, o2, o3⟩ := ok C hC
        by_cases eC : C = colG n ax i
        · rw [eC, hv_set_at]
          rw [eC] at o1 o2
          refine ⟨fun g' h1 h2 h3 h4 => ?_, by omega, Or.inr ⟨i, by omega, si, rfl, by omega, rfl⟩⟩
          rcases (by omega : g' < i ∨ g' = i) with y | y
          · have := o1 g' y h2 h3 h4; omega
          · rw [y]; exact Int.le_refl _
        · rw [hv_set_ne (by omega)]
          refine ⟨fun g' h1 h2 h3 h4 => ?_, o2, o3.imp id (fun ⟨g', h1, h2⟩ => ⟨g', by omega, h2⟩)⟩
          rcases (by omega : g' < i ∨ g' = i) with y | y
          · exact o1 g' y h2 h3 h4
          · rw [y] at h3; exact absurd h3.symm eC
  -- all are far at first
  have clr : ∀ (r j : Nat) (q : AH) (u6 u7 : AV), j + r = 4 * n * n → LX B n q → Agr W h q → (∀ C, C < j → hv q F (4 * n * n * k + C) = 16 * (n : Int)) → Ends (ev PP (gsF gv) B d 632 49 [(2, rf (B + 149)), (0, (k : Int)), (2, rf f1), (2, rf w1), (0, ((4 * n * n : Nat) : Int)), (0, (j : Int)), u6, u7] [] q) Q := by
    intro r
    induction r with
    | zero =>
      intro j q u6 u7 ej lq g ok
      obtain rfl : j = 4 * n * n := by omega
      refine Ends.eq (b632_49 lq hd) (Ends.b3 (fun _ => ?_) (fun z => absurd z (Int.lt_irrefl _)))
      refine grains (gN n) 0 q _ _ (by omega) lq g (fun C hC => ?_)
      rw [ok C hC]
      exact ⟨fun g' h1 => absurd h1 (Nat.not_lt_zero _), Int.le_refl _, Or.inl rfl⟩
    | succ r ih =>
      intro j q u6 u7 ej lq g ok
      obtain ⟨i1', i2⟩ := fi_ix (k := k) (C := j) hn k24 (by omega)
      have i1 := fun _ : Unit => i1'
      clear i1'
      have e104 : hv q (B + 149) 104 = rf F := by rw [at_ g _ _ (by omega)]; exact f1'
      have kF : hk q F = (2, 4 * n * n * 24) := by rw [g.hk]; exact f2'
      refine Ends.eq (b632_49 lq hd) ?_
      rw [i1 (), e104, ad_rf, tn, an0, m16, w_succ (by omega)]
      refine Ends.b3 (fun z => absurd z (by omega)) (fun _ => Ends.g ⟨rf_pos _, by rw [kF], by omega, by rw [kF]; show ((4 * n * n * k + j : Nat) : Int) < ((4 * n * n * 24 : Nat) : Int); omega, by omega⟩ ?_)
      refine ih (j + 1) _ _ _ (by omega) (lq.setA (t := 0) (by rw [kF])) (g.set (by rw [eW]; exact ⟨rfl, by omega, by omega⟩)) (fun C hC => ?_)
      rcases (by omega : C < j ∨ C = j) with y | y
      · rw [hv_set_ne (by omega)]; exact ok C y
      · rw [y]; exact hv_set_at _ _ _ _
  refine Ends.eq (b632_46 l hd) ?_
  exact clr (4 * n * n) 0 h _ _ (by omega) l Agr.rf (fun C hC => absurd hC (Nat.not_lt_zero C))
end NEAR
