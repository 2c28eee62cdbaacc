/-! L3: facets (model): DIRECTION, corners, rows of facets -/
section MFC
variable {gv : Nat → Int} {B n d : Nat} {h : AH}
/-- the cube of a grain along an axis -/
def gCu (n g a : Nat) : Nat := if a = 0 then gX n g else if a = 1 then gY n g else gZ n g
theorem gCu_8 {g a : Nat} (hg : g < gN n) (ha : a < 3) : g8 n g a / 8 = gCu n g a ∧ gCu n g a < n := by
  obtain ⟨-, g1, g2, g3, g4⟩ := g_lt hg
  have r0 := rT_lt ⟨gSo g, g4⟩ 0
  have r1 := rT_lt ⟨gSo g, g4⟩ 1
  have r2 := rT_lt ⟨gSo g, g4⟩ 2
  simp only [Fin.val_zero, Fin.val_one, Fin.val_two] at r0 r1 r2
  rcases (by omega : a = 0 ∨ a = 1 ∨ a = 2) with rfl | rfl | rfl
  · show (8 * gX n g + rT (gSo g) 0) / 8 = gX n g ∧ gX n g < n; omega
  · show (8 * gY n g + rT (gSo g) 1) / 8 = gY n g ∧ gY n g < n; omega
  · show (8 * gZ n g + rT (gSo g) 2) / 8 = gZ n g ∧ gZ n g < n; omega
theorem ax_perm : ∀ t : Fin 24, (aA t = 0 ∧ aB t = 1 ∧ aC t = 2) ∨ (aA t = 0 ∧ aB t = 2 ∧ aC t = 1) ∨ (aA t = 1 ∧ aB t = 0 ∧ aC t = 2) ∨ (aA t = 1 ∧ aB t = 2 ∧ aC t = 0) ∨ (aA t = 2 ∧ aB t = 0 ∧ aC t = 1) ∨ (aA t = 2 ∧ aB t = 1 ∧ aC t = 0) := by decide +kernel
theorem ax_sum {t : Nat} (ht : t < 24) (φ : Nat → Int) : φ 0 + φ 1 + φ 2 = φ (aA t) + φ (aB t) + φ (aC t) := by
  have := ax_perm ⟨t, ht⟩
  simp only at this
  rcases this with ⟨e1, e2, e3⟩ | ⟨e1, e2, e3⟩ | ⟨e1, e2, e3⟩ | ⟨e1, e2, e3⟩ | ⟨e1, e2, e3⟩ | ⟨e1, e2, e3⟩ <;> rw [e1, e2, e3] <;> omega
theorem ax_ne {t : Nat} (ht : t < 24) : aA t ≠ aB t ∧ aA t ≠ aC t ∧ aB t ≠ aC t ∧ aA t < 3 ∧ aB t < 3 ∧ aC t < 3 ∧ ∀ a, a < 3 → a = aA t ∨ a = aB t ∨ a = aC t := by
  have := ax_perm ⟨t, ht⟩
  simp only at this
  refine ⟨by omega, by omega, by omega, by omega, by omega, by omega, fun a ha => by omega⟩
theorem rBC : ∀ t : Fin 24, rT t (aB t) = (if hiB t = true then 6 else 2) ∧ rT t (aC t) = (if hiC t = true then 7 else 1) := by decide +kernel
theorem dir_0 : ∀ t : Fin 24, nvI (drT (4 * t + 0)) (aA t) = 0 ∧ nvI (drT (4 * t + 0)) (aB t) = 0 ∧ nvI (drT (4 * t + 0)) (aC t) = (if hiC t = true then 1 else -1) ∧ fcC (4 * t + 0) (aC t) / 2 = (if hiC t = true then 1 else 0) := by decide +kernel
theorem dir_1 : ∀ t : Fin 24, nvI (drT (4 * t + 1)) (aA t) = 0 ∧ nvI (drT (4 * t + 1)) (aB t) = (if hiB t = true then 1 else -1) ∧ nvI (drT (4 * t + 1)) (aC t) = (if hiC t = true then -1 else 1) ∧ fcC (4 * t + 1) (aC t) / 2 = (if hiC t = true then 1 else 0) ∧ fcC (4 * t + 1) (aB t) / 2 = (if hiB t = true then 1 else 0) := by decide +kernel
theorem dir_2 : ∀ t : Fin 24, nvI (drT (4 * t + 2)) (aA t) = -1 ∧ nvI (drT (4 * t + 2)) (aB t) = (if hiB t = true then -1 else 1) ∧ nvI (drT (4 * t + 2)) (aC t) = 0 ∧ fcC (4 * t + 2) (aA t) / 2 = 0 ∧ fcC (4 * t + 2) (aB t) / 2 = (if hiB t = true then 1 else 0) := by decide +kernel
theorem dir_3 : ∀ t : Fin 24, nvI (drT (4 * t + 3)) (aA t) = 1 ∧ nvI (drT (4 * t + 3)) (aB t) = (if hiB t = true then -1 else 1) ∧ nvI (drT (4 * t + 3)) (aC t) = 0 ∧ fcC (4 * t + 3) (aA t) / 2 = 1 ∧ fcC (4 * t + 3) (aB t) / 2 = (if hiB t = true then 1 else 0) := by decide +kernel
theorem ofF_ax {K : Nat} (hK : K < 4 * gN n) : ofF n K = nvI (drT (K % 96)) (aA (gSo (K / 4))) * ((gCu n (K / 4) (aA (gSo (K / 4))) + fcC (K % 96) (aA (gSo (K / 4))) / 2 : Nat) : Int) + nvI (drT (K % 96)) (aB (gSo (K / 4))) * ((gCu n (K / 4) (aB (gSo (K / 4))) + fcC (K % 96) (aB (gSo (K / 4))) / 2 : Nat) : Int) + nvI (drT (K % 96)) (aC (gSo (K / 4))) * ((gCu n (K / 4) (aC (gSo (K / 4))) + fcC (K % 96) (aC (gSo (K / 4))) / 2 : Nat) : Int) := by
  obtain ⟨-, -, -, -, g4⟩ := g_lt (K4_lt hK)
  exact ax_sum g4 (fun a => nvI (drT (K % 96)) a * ((gCu n (K / 4) a + fcC (K % 96) a / 2 : Nat) : Int))
theorem add3 {a b c : Int} (h1 : -100000 ≤ a ∧ a ≤ 100000) (h2 : -100000 ≤ b ∧ b ≤ 100000) (h3 : -100000 ≤ c ∧ c ≤ 100000) : bop32 96 (bop32 96 a b) c = a + b + c := by
  rw [show bop32 96 a b = a + b from add32 (by omega) (by omega)]
  exact add32 (by omega) (by omega)
theorem sml {N : Int} {x : Nat} (hN : N = 1 ∨ N = -1) (hx : x ≤ 1000) : bop32 104 N (x : Int) = N * (x : Int) ∧ -1000 ≤ N * (x : Int) ∧ N * (x : Int) ≤ 1000 := by
  rcases hN with rfl | rfl
  · refine ⟨?_, by omega⟩; rw [mul32 (by omega) (by omega)]
  · refine ⟨?_, by omega⟩; rw [mul32 (by omega) (by omega)]
set_option maxHeartbeats 4000000 in
theorem c_direction593 {K : Nat} (l : LX B n h) (hd : 12 ≤ d) (hn : n ≤ 52) (m : TbM B h) (hK : K < 4 * gN n) :
    Vt 0 (cll PP (ev PP (gsF gv) B) d 593 [(2, rf (B + 149)), (0, (K : Int))] h) (fun v h' => v = ofF n K ∧ (∀ a, a < 3 → hv h' (B + 188) a = nvI (drT (K % 96)) a) ∧ Agr (fun c k => c = B + 188 ∧ k < 3) h h') := by
  have hG := gN_le hn
  obtain ⟨g, eg⟩ : ∃ g, g = K / 4 := ⟨_, rfl⟩
  have hg : g < gN n := by omega
  obtain ⟨hn0, g1, g2, g3, g4⟩ := g_lt hg
  obtain ⟨t, et⟩ : ∃ t, t = gSo g := ⟨_, rfl⟩
  rw [← et] at g4
  obtain ⟨n1, n2, n3, n4, n5, n6, n7⟩ := ax_ne g4
  obtain ⟨m1, m2, m3, m4, m5, m6, m7⟩ := m.1 t g4
  have k96 : K % 96 = 4 * t + K % 4 := by rw [et, eg]; exact K96
  have f4 : K % 4 < 4 := Nat.mod_lt _ (by decide)
  obtain ⟨rB, rC⟩ := rBC ⟨t, g4⟩
  simp only at rB rC
  have of := ofF_ax hK
  rw [← eg, ← et] at of
  refine Vt.inq (D := 11) hd (Nat.le_of_ble_eq_true rfl) rfl (fun d hd Q KK => ?_)
  refine Ends.eq (b593_0 l (by omega)) ?_
  rw [show bop32 108 (K : Int) 4 = ((g : Nat) : Int) from by rw [eg]; exact divNN (y := 4) (by omega) (by decide), gSo_is, ← et, tn, m4, m5, m6]
  obtain ⟨qB, vB⟩ := rest_is m g4 n5
  obtain ⟨qC, vC⟩ := rest_is m g4 n6
  rw [vB, vC, rB, rC]
  refine Ends.g ⟨by omega, by omega⟩ (Ends.g qB (Ends.g qC ?_))
  have x7 : cond (tst 1 (((if hiB t = true then 6 else 2 : Nat)) : Int) 2) (0 : Int) 1 = if hiB t = true then 0 else 1 := by cases hiB t <;> rfl
  have x8 : cond (tst 1 (((if hiC t = true then 7 else 1 : Nat)) : Int) 1) (0 : Int) 1 = if hiC t = true then 0 else 1 := by cases hiC t <;> rfl
  rw [x7, x8]
  clear x7 x8 qB qC vB vC rB rC
  have loop : ∀ (r j : Nat) (q : AH) (u10 u11 : AV), j + r = 3 → LX B n q → Agr (fun c k => c = B + 188 ∧ k < 3) h q → (∀ i, i < j → hv q (B + 188) i = 0) → (∀ (q : AH) (u10 u11 : AV), LX B n q → Agr (fun c k => c = B + 188 ∧ k < 3) h q → (∀ i, i < 3 → hv q (B + 188) i = 0) → Ends (ev PP (gsF gv) B d 593 72 [(2, rf (B + 149)), (0, (K : Int)), (0, (g : Int)), (0, (t : Int)), (0, ((aA t : Nat) : Int)), (0, ((aB t : Nat) : Int)), (0, ((aC t : Nat) : Int)), (0, if hiB t = true then 0 else 1), (0, if hiC t = true then 0 else 1), (0, ((3 : Nat) : Int)), u10, u11] [] q) Q) → Ends (ev PP (gsF gv) B d 593 72 [(2, rf (B + 149)), (0, (K : Int)), (0, (g : Int)), (0, (t : Int)), (0, ((aA t : Nat) : Int)), (0, ((aB t : Nat) : Int)), (0, ((aC t : Nat) : Int)), (0, if hiB t = true then 0 else 1), (0, if hiC t = true then 0 else 1), (0, (j : Int)), u10, u11] [] q) Q := by
    intro r
    induction r with
    | zero =>
      intro j q u10 u11 e lq g I k
      obtain rfl : j = 3 := by omega
      exact k q _ _ lq g I
    | succ r ih =>
      intro j q u10 u11 e lq g I k
      refine Ends.eq (b593_72 lq (by omega)) (Ends.b3 (fun z => absurd z (by omega)) (fun _ => Ends.g ⟨by omega, by omega⟩ ?_))
      rw [w_succ (by omega), tn, an0]
      refine ih (j + 1) _ _ _ (by omega) (LX.setS lq rfl) (g.set ⟨rfl, by omega⟩) (fun i hi => ?_) k
      by_cases z : i = j
      · rw [z, hv_set_at]
      · rw [hv_set_ne (by omega)]; exact I i (by omega)
  refine loop 3 0 h _ _ rfl l Agr.rf (fun i hi => absurd hi (Nat.not_lt_zero i)) (fun q u10 u11 lq G I => ?_)
  have mq : TbM B q := m.agr G (fun c k h1 h2 _ z => by omega)
  obtain ⟨qA, vA⟩ := coord_is mq hn hg n4
  obtain ⟨qB, vB⟩ := coord_is mq hn hg n5
  obtain ⟨qC, vC⟩ := coord_is mq hn hg n6
  obtain ⟨cA, lA⟩ := gCu_8 hg n4
  obtain ⟨cB, lB⟩ := gCu_8 hg n5
  obtain ⟨cC, lC⟩ := gCu_8 hg n6
  have b8 := fun a => (g8_lt hg a).2
  have b8A := b8 (aA t)
  have b8B := b8 (aB t)
  have b8C := b8 (aC t)
  refine Ends.eq (b593_72 lq (by omega)) (Ends.b3 (fun _ => Ends.g qA (Ends.g qB (Ends.g qC ?_))) (fun z => absurd z (by decide)))
  rw [vA, vB, vC, shr3 (by omega), shr3 (by omega), shr3 (by omega), cA, cB, cC, show bop32 112 (K : Int) 4 = ((K % 4 : Nat) : Int) from modNN (y := 4) (by decide) (by decide)]
  clear vA vB vC qA qB qC b8 b8A b8B b8C cA cB cC
  generalize gCu n g (aA t) = xA at *
  generalize gCu n g (aB t) = xB at *
  generalize gCu n g (aC t) = xC at *
  have eB : bop32 96 (xB : Int) (cond (tst 0 (if hiB t = true then (0 : Int) else 1) 0) 1 0) = ((xB + (if hiB t = true then 1 else 0) : Nat) : Int) := by
    cases hiB t
    · exact addNN (y := 0) (by omega)
    · exact addNN (y := 1) (by omega)
  have eC : bop32 96 (xC : Int) (cond (tst 0 (if hiC t = true then (0 : Int) else 1) 0) 1 0) = ((xC + (if hiC t = true then 1 else 0) : Nat) : Int) := by
    cases hiC t
    · exact addNN (y := 0) (by omega)
    · exact addNN (y := 1) (by omega)
  rw [eB, eC]
  clear eB eC
  have yB : xB + (if hiB t = true then 1 else 0) ≤ 1000 := by split <;> omega
  have yC : xC + (if hiC t = true then 1 else 0) ≤ 1000 := by split <;> omega
  have s8 : ∀ {x y : Int}, cond (tst 0 (if hiC t = true then (0 : Int) else 1) 0) x y = if hiC t = true then x else y := fun {x y} => by cases hiC t <;> rfl
  have s7 : ∀ {x y : Int}, cond (tst 0 (if hiB t = true then (0 : Int) else 1) 0) x y = if hiB t = true then x else y := fun {x y} => by cases hiB t <;> rfl
  have pm : ∀ {b : Bool}, ((if b = true then (1 : Int) else -1) = 1 ∨ (if b = true then (1 : Int) else -1) = -1) ∧ ((if b = true then (-1 : Int) else 1) = 1 ∨ (if b = true then (-1 : Int) else 1) = -1) := fun {b} => by cases b <;> decide
  rcases (by omega : K % 4 = 0 ∨ K % 4 = 1 ∨ K % 4 = 2 ∨ K % 4 = 3) with f0 | f1 | f2 | f3
  · rw [f0, show sw593_150 ((0 : Nat) : Int) = 176 from rfl]
    obtain ⟨d1, d2, d3, d4⟩ := dir_0 ⟨t, g4⟩
    simp only at d1 d2 d3 d4
    rw [f0] at k96
    rw [k96, d1, d2, d3, d4] at of
    refine Ends.eq (b593_176 lq (by omega)) ?_
    simp only [tn, an0, s8]
    rw [hv_set_at, (sml pm.1 yC).1]
    refine Ends.g ⟨by omega, by omega⟩ (Ends.sm (KK _ _ ⟨by rw [of]; omega, fun a ha => ?_, G.set ⟨rfl, n6⟩⟩))
    rw [k96]
    by_cases z : a = aC t
    · rw [z, hv_set_at, d3]
    · rw [hv_set_ne (by omega), I a ha]
      rcases n7 a ha with y | y | y
      · rw [y, d1]
      · rw [y, d2]
      · exact absurd y z
  · rw [f1, show sw593_150 ((1 : Nat) : Int) = 204 from rfl]
    obtain ⟨d1, d2, d3, d4, d5⟩ := dir_1 ⟨t, g4⟩
    simp only at d1 d2 d3 d4 d5
    rw [f1] at k96
    rw [k96, d1, d2, d3, d4, d5] at of
    refine Ends.eq (b593_204 lq (by omega)) ?_
    simp only [tn, an0, s8, s7]
    rw [hv_set_at, hv_set_ne (a := B + 188) (by omega), hv_set_at, (sml pm.2 yC).1, (sml pm.1 yB).1]
    have z1 := (sml (pm (b := hiC t)).2 yC).2
    have z2 := (sml (pm (b := hiB t)).1 yB).2
    rw [add32 (by omega) (by omega)]
    refine Ends.g ⟨by omega, by omega⟩ (Ends.g ⟨by omega, by omega⟩ (Ends.sm (KK _ _ ⟨by rw [of]; omega, fun a ha => ?_, (G.set ⟨rfl, n6⟩).set ⟨rfl, n5⟩⟩)))
    rw [k96]
    by_cases z : a = aB t
    · rw [z, hv_set_at, d2]
    · rw [hv_set_ne (by omega)]
      by_cases z' : a = aC t
      · rw [z', hv_set_at, d3]
      · rw [hv_set_ne (by omega), I a ha]
        rcases n7 a ha with y | y | y
        · rw [y, d1]
        · exact absurd y z
        · exact absurd y z'
  · rw [f2, show sw593_150 ((2 : Nat) : Int) = 260 from rfl]
    obtain ⟨d1, d2, d3, d4, d5⟩ := dir_2 ⟨t, g4⟩
    simp only at d1 d2 d3 d4 d5
    rw [f2] at k96
    rw [k96, d1, d2, d3, d4, d5] at of
    refine Ends.eq (b593_260 lq (by omega)) ?_
    simp only [tn, an0, s8, s7]
    rw [hv_set_ne (a := B + 188) (by omega), hv_set_at, (sml pm.2 yB).1]
    have z2 := (sml (pm (b := hiB t)).2 yB).2
    rw [sub32 (by omega) (by omega)]
    refine Ends.g ⟨by omega, by omega⟩ (Ends.g ⟨by omega, by omega⟩ (Ends.sm (KK _ _ ⟨by rw [of]; omega, fun a ha => ?_, (G.set ⟨rfl, n5⟩).set ⟨rfl, n4⟩⟩)))
    rw [k96]
    by_cases z : a = aA t
    · rw [z, hv_set_at, d1]
    · rw [hv_set_ne (by omega)]
      by_cases z' : a = aB t
      · rw [z', hv_set_at, d2]
      · rw [hv_set_ne (by omega), I a ha]
        rcases n7 a ha with y | y | y
        · exact absurd y z
        · exact absurd y z'
        · rw [y, d3]
  · rw [f3, show sw593_150 ((3 : Nat) : Int) = 299 from rfl]
    obtain ⟨d1, d2, d3, d4, d5⟩ := dir_3 ⟨t, g4⟩
    simp only at d1 d2 d3 d4 d5
    rw [f3] at k96
    rw [k96, d1, d2, d3, d4, d5] at of
    refine Ends.eq (b593_299 lq (by omega)) ?_
    simp only [tn, an0, s8, s7]
    rw [hv_set_ne (a := B + 188) (by omega), hv_set_at, (sml pm.2 yB).1]
    have z2 := (sml (pm (b := hiB t)).2 yB).2
    rw [add3 (by omega) (by omega) (by omega)]
    refine Ends.g ⟨by omega, by omega⟩ (Ends.g ⟨by omega, by omega⟩ (Ends.sm (KK _ _ ⟨by rw [of]; omega, fun a ha => ?_, (G.set ⟨rfl, n5⟩).set ⟨rfl, n4⟩⟩)))
    rw [k96]
    by_cases z : a = aA t
    · rw [z, hv_set_at, d1]
    · rw [hv_set_ne (by omega)]
      by_cases z' : a = aB t
      · rw [z', hv_set_at, d2]
      · rw [hv_set_ne (by omega), I a ha]
        rcases n7 a ha with y | y | y
        · exact absurd y z
        · exact absurd y z'
        · rw [y, d3]
/-- the model's code of the DIRECTION told last -/
theorem code_is {k : Nat} (hk : k < 27) (I : ∀ a, a < 3 → hv h (B + 188) a = nvI k a) : v572 B h = (k : Int) := by
  unfold v572
  rw [show Int.toNat 0 = 0 from rfl, show Int.toNat 1 = 1 from rfl, show Int.toNat 2 = 2 from rfl, I 0 (by decide), I 1 (by decide), I 2 (by decide), show nvI k 0 = ((k / 9 : Nat) : Int) - 1 from rfl, show nvI k 1 = ((k / 3 % 3 : Nat) : Int) - 1 from rfl, show nvI k 2 = ((k % 3 : Nat) : Int) - 1 from rfl]
  rw [add32 (x := ((k / 9 : Nat) : Int) - 1) (by omega) (by omega), add32 (x := ((k / 3 % 3 : Nat) : Int) - 1) (by omega) (by omega), mul32 (by omega) (by omega), mul32 (by omega) (by omega), add32 (x := 9 * (((k / 9 : Nat) : Int) - 1 + 1)) (by omega) (by omega), add32 (y := ((k % 3 : Nat) : Int) - 1) (by omega) (by omega), add32 (by omega) (by omega)]
  omega
/-- a row of bits over facets -/
def BtM (n : Nat) (h : AH) (c : Nat) (V : Nat → Bool) : Prop := ∀ w, w < 4 * gN n / 64 + 1 → cn 1 (hv h c w) ∧ ∀ x, x < 64 → tb (hv h c w) x = (decide (64 * w + x < 4 * gN n) && V (64 * w + x))
variable {c K : Nat} {V V' : Nat → Bool}
theorem BtM.congr (b : BtM n h c V) (e : ∀ k, k < 4 * gN n → V k = V' k) : BtM n h c V' := fun w hw => ⟨(b w hw).1, fun x hx => by
  rw [(b w hw).2 x hx]
  by_cases z : 64 * w + x < 4 * gN n
  · rw [e _ z]
  · rw [decide_eq_false z]; rfl⟩
theorem BtM.agr {W : Nat → Nat → Prop} {t : AH} (b : BtM n h c V) (g : Agr W h t) (hW : ∀ k, ¬ W c k) : BtM n t c V := fun w hw => by
  rw [g.at _ _ (hW w)]; exact b w hw
theorem BtM.at (b : BtM n h c V) (hK : K < 4 * gN n) : tb (hv h c (K / 64)) (K % 64) = V K := by
  rw [(b (K / 64) (by omega)).2 _ (Nat.mod_lt _ (by decide)), show 64 * (K / 64) + K % 64 = K by omega, decide_eq_true hK, Bool.true_and]
theorem isOn_is (hn : n ≤ 52) (k : hk h c = (3, 4 * gN n / 64 + 1)) (b : BtM n h c V) (hK : K < 4 * gN n) : q709 h (rf c) (K : Int) ∧ v709 h (rf c) (K : Int) = if V K = true then 1 else 0 := by
  have hG := gN_le hn
  unfold q709 v709
  rw [ad_rf, k, shr6 (by omega), and63, tn, bit_is _ (Nat.mod_lt _ (by decide)), b.at hK]
  refine ⟨⟨rf_pos _, rfl, by omega, by show _ < ((4 * gN n / 64 + 1 : Nat) : Int); omega⟩, ?_⟩
  cases V K <;> rfl
theorem c_on769 (l : LX B n h) (hd : 10 ≤ d) (hn : n ≤ 52) (k : hk h c = (3, 4 * gN n / 64 + 1)) (hc : B ≤ c) (b : BtM n h c V) (hK : K < 4 * gN n) :
    Vd (cll PP (ev PP (gsF gv) B) d 769 [(2, (rf c)), (0, (K : Int))] h) (fun h' => Agr (fun a _ => a = c) h h' ∧ BtM n h' c (fun x => V x || decide (x = K))) := by
  have hG := gN_le hn
  refine Vd.inq (D := 9) hd (Nat.le_of_ble_eq_true rfl) rfl (fun d hd Q KK => ?_)
  refine Ends.eq (b769_0 l (by omega)) ?_
  rw [ad_rf, k, shr6 (by omega), and63, tn, an1]
  refine Ends.g ⟨rf_pos _, rfl, by omega, by show _ < ((4 * gN n / 64 + 1 : Nat) : Int); omega⟩ (Ends.g ⟨rf_pos _, rfl, by omega, by show _ < ((4 * gN n / 64 + 1 : Nat) : Int); omega, hc⟩ (Ends.sm (KK _ ⟨Agr.rf.set rfl, fun w hw => ?_⟩)))
  by_cases e : w = K / 64
  · subst e
    rw [hv_set_at]
    refine ⟨cn_bop64, fun x hx => ?_⟩
    rw [tb_or, (b _ hw).2 x hx, one_bit (Nat.mod_lt _ (by decide)) hx]
    by_cases z : x = K % 64
    · rw [z, show 64 * (K / 64) + K % 64 = K by omega]; simp [hK]
    · have z2 : ¬ 64 * (K / 64) + x = K := by omega
      simp [z, z2]
  · rw [hv_set_ne (by omega)]
    refine ⟨(b w hw).1, fun x hx => ?_⟩
    rw [(b w hw).2 x hx]
    have z2 : ¬ 64 * w + x = K := by omega
    simp [z2]
theorem c_off768 (l : LX B n h) (hd : 10 ≤ d) (hn : n ≤ 52) (k : hk h c = (3, 4 * gN n / 64 + 1)) (hc : B ≤ c) (b : BtM n h c V) (hK : K < 4 * gN n) :
    Vd (cll PP (ev PP (gsF gv) B) d 768 [(2, (rf c)), (0, (K : Int))] h) (fun h' => Agr (fun a _ => a = c) h h' ∧ BtM n h' c (fun x => V x && !decide (x = K))) := by
  have hG := gN_le hn
  refine Vd.inq (D := 9) hd (Nat.le_of_ble_eq_true rfl) rfl (fun d hd Q KK => ?_)
  refine Ends.eq (b768_0 l (by omega)) ?_
  rw [ad_rf, k, shr6 (by omega), and63, tn, an1]
  refine Ends.g ⟨rf_pos _, rfl, by omega, by show _ < ((4 * gN n / 64 + 1 : Nat) : Int); omega⟩ (Ends.g ⟨rf_pos _, rfl, by omega, by show _ < ((4 * gN n / 64 + 1 : Nat) : Int); omega, hc⟩ (Ends.sm (KK _ ⟨Agr.rf.set rfl, fun w hw => ?_⟩)))
  by_cases e : w = K / 64
  · subst e
    rw [hv_set_at]
    refine ⟨cn_bop64, fun x hx => ?_⟩
    rw [off_bit (Nat.mod_lt _ (by decide)) hx, (b _ hw).2 x hx]
    by_cases z : x = K % 64
    · rw [z, show 64 * (K / 64) + K % 64 = K by omega]; simp
    · have z2 : ¬ 64 * (K / 64) + x = K := by omega
      simp [z, z2]
  · rw [hv_set_ne (by omega)]
    refine ⟨(b w hw).1, fun x hx => ?_⟩
    rw [(b w hw).2 x hx]
    have z2 : ¬ 64 * w + x = K := by omega
    simp [z2]
/-- corners of a grain, in halves -/
def mcC (n g k a : Nat) : Nat := 2 * gCu n g a + coT (gSo g) k a
theorem c_corners584f {g : Nat} (l : LX B n h) (hd : 10 ≤ d) (hn : n ≤ 52) (m : TbM B h) (hg : g < gN n) :
    Vd (cll PP (ev PP (gsF gv) B) d 584 [(2, rf (B + 149)), (0, (g : Int))] h) (fun h' => Agr (fun c k => c = B + 189 ∧ k < 12) h h' ∧ ∀ k a, k < 4 → a < 3 → hv h' (B + 189) (3 * k + a) = ((mcC n g k a : Nat) : Int)) := by
  have hG := gN_le hn
  obtain ⟨hn0, g1, g2, g3, g4⟩ := g_lt hg
  obtain ⟨t, et⟩ : ∃ t, t = gSo g := ⟨_, rfl⟩
  rw [← et] at g4
  obtain ⟨n1, n2, n3, n4, n5, n6, n7⟩ := ax_ne g4
  obtain ⟨m1, m2, m3, m4, m5, m6, m7⟩ := m.1 t g4
  obtain ⟨rB, rC⟩ := rBC ⟨t, g4⟩
  simp only at rB rC
  obtain ⟨qA, vA⟩ := coord_is m hn hg n4
  obtain ⟨qB, vB⟩ := coord_is m hn hg n5
  obtain ⟨qC, vC⟩ := coord_is m hn hg n6
  obtain ⟨pB, wB⟩ := rest_is m g4 n5
  obtain ⟨pC, wC⟩ := rest_is m g4 n6
  obtain ⟨cA, lA⟩ := gCu_8 hg n4
  obtain ⟨cB, lB⟩ := gCu_8 hg n5
  obtain ⟨cC, lC⟩ := gCu_8 hg n6
  have b8A := (g8_lt hg (aA t)).2
  have b8B := (g8_lt hg (aB t)).2
  have b8C := (g8_lt hg (aC t)).2
  refine Vd.inq (D := 9) hd (Nat.le_of_ble_eq_true rfl) rfl (fun d hd Q KK => ?_)
  refine Ends.eq (b584_0 l (by omega)) ?_
  rw [gSo_is, ← et, tn, m4, m5, m6, vA, vB, vC, wB, wC, rB, rC, shr3 (by omega), shr3 (by omega), shr3 (by omega), cA, cB, cC]
  refine Ends.g ⟨by omega, by omega⟩ (Ends.g qA (Ends.g qB (Ends.g qC (Ends.g pB (Ends.g pC ?_)))))
  have mc : ∀ k a, mcC n g k a = 2 * gCu n g a + coT t k a := fun k a => by rw [et]; rfl
  clear qA qB qC pB pC vA vB vC wB wC rB rC b8A b8B b8C cA cB cC
  generalize hxA : gCu n g (aA t) = xA at *
  generalize hxB : gCu n g (aB t) = xB at *
  generalize hxC : gCu n g (aC t) = xC at *
  rw [show bop32 104 (2 : Int) (xA : Int) = ((2 * xA : Nat) : Int) from mulNN (x := 2) (by omega), show bop32 104 (2 : Int) (xB : Int) = ((2 * xB : Nat) : Int) from mulNN (x := 2) (by omega), show bop32 104 (2 : Int) (xC : Int) = ((2 * xC : Nat) : Int) from mulNN (x := 2) (by omega),
    show bop32 96 ((2 * xB : Nat) : Int) (cond (tst 1 (((if hiB t = true then 6 else 2 : Nat)) : Int) 2) (2 : Int) 0) = ((2 * xB + (if hiB t = true then 2 else 0) : Nat) : Int) from by
      cases hiB t
      · exact addNN (y := 0) (by omega)
      · exact addNN (y := 2) (by omega),
    show bop32 96 ((2 * xC : Nat) : Int) (cond (tst 1 (((if hiC t = true then 7 else 1 : Nat)) : Int) 1) (2 : Int) 0) = ((2 * xC + (if hiC t = true then 2 else 0) : Nat) : Int) from by
      cases hiC t
      · exact addNN (y := 0) (by omega)
      · exact addNN (y := 2) (by omega)]
  have key : ∀ (r j : Nat) (q : AH), j + r = 4 → LX B n q → Agr (fun c k => c = B + 189 ∧ k < 12) h q → (∀ k a, k < j → a < 3 → hv q (B + 189) (3 * k + a) = ((mcC n g k a : Nat) : Int)) → Ends (ev PP (gsF gv) B d 584 111 [(2, rf (B + 149)), (0, (g : Int)), (0, (t : Int)), (0, ((aA t : Nat) : Int)), (0, ((aB t : Nat) : Int)), (0, ((aC t : Nat) : Int)), (0, ((2 * xA : Nat) : Int)), (0, ((2 * xB : Nat) : Int)), (0, ((2 * xC : Nat) : Int)), (0, ((2 * xB + (if hiB t = true then 2 else 0) : Nat) : Int)), (0, ((2 * xC + (if hiC t = true then 2 else 0) : Nat) : Int)), (0, (j : Int))] [] q) Q := by
    intro r
    induction r with
    | zero =>
      intro j q e lq G I
      obtain rfl : j = 4 := by omega
      exact Ends.eq (b584_111 lq (by omega)) (Ends.b3 (fun _ => Ends.sm (KK _ ⟨G, I⟩)) (fun z => absurd z (by decide)))
    | succ r ih =>
      intro j q e lq G I
      have hj : j < 4 := by omega
      refine Ends.eq (b584_111 lq (by omega)) (Ends.b3 (fun z => absurd z (by omega)) (fun _ => ?_))
      rw [show bop32 104 (3 : Int) (j : Int) = ((3 * j : Nat) : Int) from mulNN (x := 3) (by omega), addNN (by omega), addNN (by omega), addNN (by omega), tn, tn, tn, an0, an0, an0, w_succ (by omega)]
      have va : cond (tst 1 (j : Int) 0) (cond (tst 1 (j : Int) 1) (bop32 96 ((2 * xA : Nat) : Int) 1) (bop32 96 ((2 * xA : Nat) : Int) 2)) ((2 * xA : Nat) : Int) = ((mcC n g j (aA t) : Nat) : Int) := by
        rw [mc, hxA]
        rw [show bop32 96 ((2 * xA : Nat) : Int) 1 = ((2 * xA + 1 : Nat) : Int) from addNN (y := 1) (by omega), show bop32 96 ((2 * xA : Nat) : Int) 2 = ((2 * xA + 2 : Nat) : Int) from addNN (y := 2) (by omega)]
        unfold coT
        rw [if_neg n2, if_neg n1]
        rcases (by omega : j = 0 ∨ j = 1 ∨ j = 2 ∨ j = 3) with rfl | rfl | rfl | rfl <;> rfl
      have vb : cond (tst 3 (j : Int) 2) (bop32 96 ((2 * xB : Nat) : Int) 1) ((2 * xB + (if hiB t = true then 2 else 0) : Nat) : Int) = ((mcC n g j (aB t) : Nat) : Int) := by
        rw [mc, hxB]
        rw [show bop32 96 ((2 * xB : Nat) : Int) 1 = ((2 * xB + 1 : Nat) : Int) from addNN (y := 1) (by omega)]
        unfold coT
        rw [if_neg n3, if_pos rfl]
        rcases (by omega : j = 0 ∨ j = 1 ∨ j = 2 ∨ j = 3) with rfl | rfl | rfl | rfl <;> rfl
      have vc : cond (tst 3 (j : Int) 3) (bop32 96 ((2 * xC : Nat) : Int) 1) ((2 * xC + (if hiC t = true then 2 else 0) : Nat) : Int) = ((mcC n g j (aC t) : Nat) : Int) := by
        rw [mc, hxC]
        rw [show bop32 96 ((2 * xC : Nat) : Int) 1 = ((2 * xC + 1 : Nat) : Int) from addNN (y := 1) (by omega)]
        unfold coT
        rw [if_pos rfl]
        rcases (by omega : j = 0 ∨ j = 1 ∨ j = 2 ∨ j = 3) with rfl | rfl | rfl | rfl <;> rfl
      rw [va, vb, vc]
      clear va vb vc
      refine Ends.g ⟨by omega, by omega⟩ (Ends.g ⟨by omega, by omega⟩ (Ends.g ⟨by omega, by omega⟩ ?_))
      refine ih (j + 1) _ (by omega) (LX.setS (LX.setS (LX.setS lq rfl) rfl) rfl) (((G.set ⟨rfl, by omega⟩).set ⟨rfl, by omega⟩).set ⟨rfl, by omega⟩) (fun k a hk ha => ?_)
      by_cases z : k = j
      · subst z
        rcases n7 a ha with y | y | y
        · rw [y, hv_set_ne (by omega), hv_set_ne (by omega), hv_set_at]
        · rw [y, hv_set_ne (by omega), hv_set_at]
        · rw [y, hv_set_at]
      · rw [hv_set_ne (by omega), hv_set_ne (by omega), hv_set_ne (by omega)]
        exact I k a (by omega) ha
  exact key 4 0 h rfl l Agr.rf (fun k a hk => absurd hk (Nat.not_lt_zero k))
/-- a facet is noted -/
def ntW (B : Nat) : Nat → Nat → Prop := fun c k => (c = B + 188 ∧ k < 3) ∨ c = B + 238 ∨ c = B + 239 ∨ (c = B + 149 ∧ (k = 88 ∨ k = 89))
/-- the facets seen, those still to be looked at, how many, where they begin at least -/
def MFl (B n : Nat) (h : AH) (V D : Nat → Bool) (lo : Nat) : Prop := BtM n h (B + 238) V ∧ BtM n h (B + 239) D ∧ hv h (B + 149) 89 = ((cntN D (4 * gN n) : Nat) : Int) ∧ hv h (B + 149) 88 = (lo : Int)
set_option maxHeartbeats 1000000 in
theorem c_note766 {s lo dd : Nat} {S V D : Nat → Bool} {K : Nat} (l : LX B n h) (hd : 15 ≤ d) (hn : n ≤ 52) (m : TbM B h) (hs : s < 19) (b : MB B n h s S) (hK : K < 4 * gN n) (hdd : dd < 27) (fl : MFl B n h V D lo) (hVD : D K = true → V K = true) :
    Vd (cll PP (ev PP (gsF gv) B) d 766 [(2, rf (B + 149)), (0, (s : Int)), (0, (K : Int)), (0, (nvI dd 0)), (0, (nvI dd 1)), (0, (nvI dd 2))] h) (fun h' => Agr (ntW B) h h' ∧ ((¬ (V K = false ∧ bdr n S K = true ∧ drT (K % 96) = dd) ∧ MFl B n h' V D lo) ∨ ((V K = false ∧ bdr n S K = true ∧ drT (K % 96) = dd) ∧ MFl B n h' (fun x => V x || decide (x = K)) (fun x => D x || decide (x = K)) (min lo (K / 64))))) := by
  have hG := gN_le hn
  obtain ⟨f1, f2, f3, f4⟩ := fl
  have k8 : hk h (B + 238) = (3, 4 * gN n / 64 + 1) := lk_238 l
  refine Vd.inq (D := 14) hd (Nat.le_of_ble_eq_true rfl) rfl (fun d hd Q KK => ?_)
  obtain ⟨q1, v1⟩ := isOn_is hn k8 f1 hK
  obtain ⟨q2, v2⟩ := bdr_is m hn hs b hK
  refine Ends.eq (b766_0 l (by omega)) (Ends.g q1 ?_)
  rw [v1, v2]
  have stay : ¬ (V K = false ∧ bdr n S K = true ∧ drT (K % 96) = dd) → Ends (ev PP (gsF gv) B d 766 20 [(2, rf (B + 149)), (0, (s : Int)), (0, (K : Int)), (0, nvI dd 0), (0, nvI dd 1), (0, nvI dd 2), (9, 0)] [] h) Q := fun z => Ends.eq (b766_20 l (by omega)) (Ends.sm (KK _ ⟨Agr.rf, Or.inl ⟨z, f1, f2, f3, f4⟩⟩))
  cases hV : V K
  case true =>
    exact Ends.b1 (fun _ => stay (fun z => by rw [hV] at z; exact absurd z.1 (by decide))) (fun z => absurd z (by decide))
  refine Ends.b1 (fun z => absurd rfl z) (fun _ => Ends.g q2 ?_)
  cases hE : bdr n S K
  · exact Ends.b1 (fun z => absurd rfl z) (fun _ => stay (fun z => by rw [hE] at z; exact absurd z.2.1 (by decide)))
  refine Ends.b1 (fun _ => ?_) (fun z => absurd z (by decide))
  refine Ends.ct l (by decide +kernel) (by decide) (c_direction593 l (by omega) hn m hK) (fun y h1 l1 _ _ _ ⟨ey, I1, g1⟩ => ?_)
  refine Ends.eq (b766_26 l1 (by omega)) ?_
  rw [show Int.toNat 0 = 0 from rfl, show Int.toNat 1 = 1 from rfl, show Int.toNat 2 = 2 from rfl, I1 0 (by decide), I1 1 (by decide), I1 2 (by decide)]
  have kd := (fcC_le (K96_lt (K := K)) (show 0 < 9 by decide)).2
  have G1 : Agr (ntW B) h h1 := g1.sub (fun c k z => Or.inl z)
  have fl1 : MFl B n h1 V D lo := ⟨f1.agr g1 (fun k z => by omega), f2.agr g1 (fun k z => by omega), by rw [g1.at _ _ (by omega)]; exact f3, by rw [g1.at _ _ (by omega)]; exact f4⟩
  have out : drT (K % 96) ≠ dd → Ends (ev PP (gsF gv) B d 766 60 [(2, rf (B + 149)), (0, (s : Int)), (0, (K : Int)), (0, nvI dd 0), (0, nvI dd 1), (0, nvI dd 2), (0, y)] [] h1) Q := fun z => Ends.eq (b766_60 l1 (by omega)) (Ends.sm (KK _ ⟨G1, Or.inl ⟨fun w => z w.2.2, fl1⟩⟩))
  have cod : ∀ a b, a < 27 → b < 27 → nvI a 0 = nvI b 0 → nvI a 1 = nvI b 1 → nvI a 2 = nvI b 2 → a = b := fun a b ha hb e0 e1 e2 => by
    have e0 : ((a / 9 : Nat) : Int) - 1 = ((b / 9 : Nat) : Int) - 1 := e0
    have e1 : ((a / 3 % 3 : Nat) : Int) - 1 = ((b / 3 % 3 : Nat) : Int) - 1 := e1
    have e2 : ((a % 3 : Nat) : Int) - 1 = ((b % 3 : Nat) : Int) - 1 := e2
    omega
  refine Ends.b1 (fun z => out (fun e => z (by rw [e]))) (fun z0 => Ends.b1 (fun z => out (fun e => z (by rw [e]))) (fun z1 => Ends.b0 (fun z2 => ?_) (fun z => out (fun e => z (by rw [e])))))
  have ed : drT (K % 96) = dd := cod _ _ kd hdd z0 z1 z2
  have k81 : hk h1 (B + 238) = (3, 4 * gN n / 64 + 1) := lk_238 l1
  refine Ends.cv l1 (by decide +kernel) (c_on769 l1 (by omega) hn k81 (by omega) fl1.1 hK) (fun h2 l2 _ _ _ ⟨g2, b2⟩ => ?_)
  refine Ends.eq (b766_69 l2 (by omega)) ?_
  have k92 : hk h2 (B + 239) = (3, 4 * gN n / 64 + 1) := lk_239 l2
  have t2 : BtM n h2 (B + 239) D := fl1.2.1.agr g2 (fun k z => by omega)
  refine Ends.cv l2 (by decide +kernel) (c_on769 l2 (by omega) hn k92 (by omega) t2 hK) (fun h3 l3 _ _ _ ⟨g3, b3⟩ => ?_)
  refine Ends.eq (b766_77 l3 (by omega)) ?_
  have G3 : Agr (ntW B) h h3 := (G1.tr g2 (fun c k z => Or.inr (Or.inl z))).tr g3 (fun c k z => Or.inr (Or.inr (Or.inl z)))
  have s3 : BtM n h3 (B + 238) (fun x => V x || decide (x = K)) := b2.agr g3 (fun k z => by omega)
  have e89 : hv h3 (B + 149) 89 = ((cntN D (4 * gN n) : Nat) : Int) := by rw [g3.at _ _ (by omega), g2.at _ _ (by omega)]; exact fl1.2.2.1
  have e88 : hv h3 (B + 149) 88 = (lo : Int) := by rw [g3.at _ _ (by omega), g2.at _ _ (by omega)]; exact fl1.2.2.2
  have nD : D K = false := by
    cases w : D K
    · rfl
    · rw [hVD w] at hV; exact absurd hV (by decide)
  have cD := cntN_set nD (4 * gN n)
  rw [if_pos hK] at cD
  have cle := cntN_le D (4 * gN n)
  rw [shr6 (by omega), e88, e89, show bop32 96 ((cntN D (4 * gN n) : Nat) : Int) 1 = ((cntN D (4 * gN n) + 1 : Nat) : Int) from addNN (y := 1) (by omega), ← cD]
  clear cD
  refine Ends.b3 (fun z => ?_) (fun z => ?_)
  · have l4 : LX B n (hset h3 (B + 149) 89 ((cntN (fun i => D i || decide (i = K)) (4 * gN n) : Nat) : Int)) := LX.setF 149 89 l3 (by decide +kernel)
    refine Ends.eq (b766_106 l4 (by omega)) (Ends.sm (KK _ ⟨G3.set (Or.inr (Or.inr (Or.inr ⟨rfl, Or.inr rfl⟩))), Or.inr ⟨⟨hV, hE, ed⟩, ?_⟩⟩))
    have g4 : Agr (fun c k => c = B + 149) h3 (hset h3 (B + 149) 89 ((cntN (fun i => D i || decide (i = K)) (4 * gN n) : Nat) : Int)) := Agr.rf.set rfl
    refine ⟨s3.agr g4 (fun k z => by omega), b3.agr g4 (fun k z => by omega), hv_set_at .., ?_⟩
    rw [hv_set_ne (by omega), e88, Nat.min_eq_left (by omega)]
  · have l4 : LX B n (hset (hset h3 (B + 149) 89 ((cntN (fun i => D i || decide (i = K)) (4 * gN n) : Nat) : Int)) (B + 149) 88 ((K / 64 : Nat) : Int)) := LX.setF 149 88 (LX.setF 149 89 l3 (by decide +kernel)) (by decide +kernel)
    refine Ends.eq (b766_106 l4 (by omega)) (Ends.sm (KK _ ⟨(G3.set (Or.inr (Or.inr (Or.inr ⟨rfl, Or.inr rfl⟩)))).set (Or.inr (Or.inr (Or.inr ⟨rfl, Or.inl rfl⟩))), Or.inr ⟨⟨hV, hE, ed⟩, ?_⟩⟩))
    have g4 : Agr (fun c k => c = B + 149) h3 (hset (hset h3 (B + 149) 89 ((cntN (fun i => D i || decide (i = K)) (4 * gN n) : Nat) : Int)) (B + 149) 88 ((K / 64 : Nat) : Int)) := ((Agr.rf : Agr (fun c _ => c = B + 149) h3 h3).set rfl).set rfl
    refine ⟨s3.agr g4 (fun k z => by omega), b3.agr g4 (fun k z => by omega), ?_, ?_⟩
    · rw [hv_set_ne (by omega)]; exact hv_set_at ..
    · rw [hv_set_at, Nat.min_eq_right (by omega)]
end MFC
