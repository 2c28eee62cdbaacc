-- deps: 41
-- blocks: 3 4 5
/-! L3: the model turns and moves solids -/
theorem lxA {B n : Nat} {h : AH} {a t m k : Nat} {v : Int} (l : LX B n h) (e : hk h a = (t + 2, m)) : LX B n (hset h a k v) := LX.setA (t := t) l (by rw [e])
section MTURN
variable {gv : Nat → Int} {B n d s t : Nat} {h : AH} {S T : Nat → Bool}
def perL : List Nat := [0, 1, 2, 1, 2, 0, 2, 0, 1, 0, 2, 1, 2, 1, 0, 1, 0, 2]
/-- number k of grain g's middle, turned by way w -/
def tu8 (n w g k : Nat) : Int := if w / 2 ^ k % 2 = 1 then 8 * (n : Int) - (g8 n g (perL.getD (3 * (w / 8) + k) 0) : Nat) else (g8 n g (perL.getD (3 * (w / 8) + k) 0) : Nat)
def tuG (n w g : Nat) (dx dy dz : Int) : Int := gAt n (tu8 n w g 0 + 8 * dx) (tu8 n w g 1 + 8 * dy) (tu8 n w g 2 + 8 * dz)
theorem per_lt : ∀ k : Fin 18, perL.getD k 0 < 3 := by decide +kernel
theorem per_3 : ∀ w : Fin 6, ∀ x : Fin 3, ∃ k : Fin 3, perL.getD (3 * w + k) 0 = x := by decide +kernel
theorem bit32 {w k : Nat} (hw : w < 2147483648) (hk : k < 31) : bop32 126 (bop32 122 (w : Int) (k : Int)) 1 = ((w / 2 ^ k % 2 : Nat) : Int) := by
  rw [shrN hw (by omega)]; exact andN (k := 1) (by omega)
theorem tu8_rng (hn : n ≤ 52) {w g k : Nat} (hg : g < gN n) (hw : w < 48) (hk : k < 3) : 0 < tu8 n w g k ∧ tu8 n w g k < 8 * n := by
  have := g8_lt hg (perL.getD (3 * (w / 8) + k) 0)
  unfold tu8
  split <;> omega
/-- what of the first i grains came to where -/
def tuS (n w : Nat) (S : Nat → Bool) (dx dy dz : Int) (i : Nat) (x : Nat) : Prop := ∃ g, g < i ∧ S g = true ∧ tuG n w g dx dy dz = (x : Int)
theorem rests_turned : ∀ t : Fin 24, ∀ w : Fin 48, tyN ((if (w : Nat) / 1 % 2 = 1 then 8 - rT t (perL.getD (3 * ((w : Nat) / 8)) 0) else rT t (perL.getD (3 * ((w : Nat) / 8)) 0)) % 8) ((if (w : Nat) / 2 % 2 = 1 then 8 - rT t (perL.getD (3 * ((w : Nat) / 8) + 1) 0) else rT t (perL.getD (3 * ((w : Nat) / 8) + 1) 0)) % 8) ((if (w : Nat) / 4 % 2 = 1 then 8 - rT t (perL.getD (3 * ((w : Nat) / 8) + 2) 0) else rT t (perL.getD (3 * ((w : Nat) / 8) + 2) 0)) % 8) < 24 := by decide +kernel
theorem g8_mod {g a : Nat} (ha : a < 3) : ∃ c, g8 n g a = 8 * c + rT (gSo g) a := by
  unfold g8
  obtain rfl | rfl | rfl : a = 0 ∨ a = 1 ∨ a = 2 := by omega
  · exact ⟨_, rfl⟩
  · exact ⟨_, rfl⟩
  · exact ⟨_, rfl⟩
theorem tu8_mod (hn : n ≤ 52) {w g k : Nat} (hg : g < gN n) (hw : w < 48) (hk : k < 3) (dx : Int) (h0 : 0 ≤ tu8 n w g k + 8 * dx) : (tu8 n w g k + 8 * dx).toNat % 8 = (if w / 2 ^ k % 2 = 1 then 8 - rT (gSo g) (perL.getD (3 * (w / 8) + k) 0) else rT (gSo g) (perL.getD (3 * (w / 8) + k) 0)) % 8 := by
  obtain ⟨-, -, -, -, ht⟩ := g_lt hg
  have ha : perL.getD (3 * (w / 8) + k) 0 < 3 := per_lt ⟨3 * (w / 8) + k, by omega⟩
  have hr : 1 ≤ rT (gSo g) (perL.getD (3 * (w / 8) + k) 0) ∧ rT (gSo g) (perL.getD (3 * (w / 8) + k) 0) < 8 := rT_lt ⟨gSo g, ht⟩ ⟨_, ha⟩
  obtain ⟨c, hc⟩ := @g8_mod n g _ ha
  unfold tu8 at h0 ⊢
  rw [hc] at h0 ⊢
  split <;> rename_i hq <;> simp only [hq, if_true, if_false] at h0 <;> omega
theorem tu_ty (hn : n ≤ 52) {w g : Nat} (hg : g < gN n) (hw : w < 48) (dx dy dz : Int) (h0 : 0 ≤ tu8 n w g 0 + 8 * dx) (h1 : 0 ≤ tu8 n w g 1 + 8 * dy) (h2 : 0 ≤ tu8 n w g 2 + 8 * dz) : tyN ((tu8 n w g 0 + 8 * dx).toNat % 8) ((tu8 n w g 1 + 8 * dy).toNat % 8) ((tu8 n w g 2 + 8 * dz).toNat % 8) < 24 := by
  obtain ⟨-, -, -, -, ht⟩ := g_lt hg
  rw [tu8_mod hn hg hw (by decide) dx h0, tu8_mod hn hg hw (by decide) dy h1, tu8_mod hn hg hw (by decide) dz h2]
  exact rests_turned ⟨gSo g, ht⟩ ⟨w, hw⟩
/-- the places that turn writes -/
def wTurn (B n t : Nat) : Nat → Nat → Prop := fun c k => wto B n t (wN n) c k ∨ c = B + 186 ∨ (c = B + 149 ∧ k = 78)
theorem c_turnM (l : LX B n h) (hd : 11 ≤ d) (hn : n ≤ 52) (hs : s < 19) (ht : t < 19) (hst : s ≠ t) (m : TbM B h) (b : MB B n h s S) {w : Nat} (hw : w < 48) {dx dy dz : Int} (bx : -10000 ≤ dx ∧ dx ≤ 10000) (by_ : -10000 ≤ dy ∧ dy ≤ 10000) (bz : -10000 ≤ dz ∧ dz ≤ 10000) :
    Vd (cll PP (ev PP (gsF gv) B) d 855 [(2, rf (B + 149)), (0, (s : Int)), (0, (w : Int)), (0, dx), (0, dy), (0, dz), (0, (t : Int))] h) (fun h' => Agr (wTurn B n t) h h' ∧ (∃ R, MB B n h' t R ∧ ∀ x, x < gN n → (R x = true ↔ tuS n w S dx dy dz (gN n) x)) ∧ (hv h' (B + 149) 78 = 0 ∨ hv h' (B + 149) 78 = 1) ∧ (hv h' (B + 149) 78 = 1 ↔ ∃ g, g < gN n ∧ S g = true ∧ tuG n w g dx dy dz = -1)) := by
  have hN := gN_le hn
  refine Vd.into (D := 10) hd (Nat.le_of_ble_eq_true rfl) rfl (fun d hd => ?_)
  refine Ends.eq (b855_0 l (by omega)) ?_
  refine Ends.cv l (by decide +kernel) (c_empty l hd hn ht) (fun h1 l1 _ _ _ ⟨g1, e1⟩ => ?_)
  refine Ends.eq (b855_6 l1 (by omega)) ?_
  have b1 := b.row g1 hst
  have m1 := m.agr g1 (fun c k _ _ _ z => by have := z.1; omega)
  refine lp (gN n) (fun i L q => ∃ u8 u9 : AV, L = [(2, rf (B + 149)), (0, ((s : Int))), (0, ((w : Int))), (0, dx), (0, dy), (0, dz), (0, ((t : Int))), (0, ((i : Int))), u8, u9] ∧ LX B n q ∧ i ≤ gN n ∧ Agr (wTurn B n t) h q ∧ (∃ R, MB B n q t R ∧ ∀ x, x < gN n → (R x = true ↔ tuS n w S dx dy dz i x)) ∧ (hv q (B + 149) 78 = 0 ∨ hv q (B + 149) 78 = 1) ∧ (hv q (B + 149) 78 = 1 ↔ ∃ g, g < i ∧ S g = true ∧ tuG n w g dx dy dz = -1)) ?_ ?_ 0 ⟨_, _, rfl, LX.setF 149 78 l1 (by decide +kernel), Nat.zero_le _, (g1.sub (fun c k z => Or.inl z)).set (Or.inr (Or.inr ⟨rfl, rfl⟩)), ⟨_, e1.agr (W := fun c k => c = B + 149) (Agr.rf.set rfl) (fun k hk z => by omega), fun x hx => ⟨fun z => (by cases z), fun ⟨g, z, _⟩ => by omega⟩⟩, Or.inl hv_eq, by rw [hv_eq]; exact ⟨fun z => (by omega), fun ⟨g, z, _⟩ => by omega⟩⟩
  · rintro i _ q hi ⟨u8, u9, rfl, lq, -, gq, ⟨R, bR, eR⟩, hb, hl⟩ ih
    have bq := b.agr gq (fun k hk z => by
      rcases z with z | z | z
      · exact wto_row hk (Nat.le_refl _) hst z
      · omega
      · omega)
    have mq := m.agr gq (fun c k _ _ _ z => by
      rcases z with z | z | z
      · have := z.1; omega
      · omega
      · omega)
    obtain ⟨a1, a2⟩ := has_is bq hs hn hi
    refine Ends.eq (b855_14 lq (by omega)) ?_
    refine Ends.b3 (fun _ => by omega) (fun _ => Ends.g a1 ?_)
    rw [a2]
    have skip : ∀ (u8 u9 : AV) (q2 : AH) (R2 : Nat → Bool), LX B n q2 → Agr (wTurn B n t) h q2 → MB B n q2 t R2 → (∀ x, x < gN n → (R2 x = true ↔ tuS n w S dx dy dz (i + 1) x)) → (hv q2 (B + 149) 78 = 0 ∨ hv q2 (B + 149) 78 = 1) → (hv q2 (B + 149) 78 = 1 ↔ ∃ g, g < i + 1 ∧ S g = true ∧ tuG n w g dx dy dz = -1) → Ends (ev PP (gsF gv) B d 855 166 [(2, rf (B + 149)), (0, ((s : Int))), (0, ((w : Int))), (0, dx), (0, dy), (0, dz), (0, ((t : Int))), (0, ((i : Int))), u8, u9] [] q2) _ := fun u8 u9 q2 R2 l2 g2 b2 e2 h2 f2 => by
      refine Ends.eq (b855_166 l2 (by omega)) ?_
      rw [w_succ (by omega)]
      exact ih _ _ ⟨u8, u9, rfl, l2, hi, g2, ⟨R2, b2, e2⟩, h2, f2⟩
    cases hS : S i
    · refine Ends.b1 (fun z => absurd rfl z) (fun _ => skip u8 u9 q R lq gq bR (fun x hx => ?_) hb ?_)
      · rw [eR x hx]
        exact ⟨fun ⟨g, z1, z2, z3⟩ => ⟨g, by omega, z2, z3⟩, fun ⟨g, z1, z2, z3⟩ => ⟨g, by
          have : g ≠ i := fun z => by rw [z, hS] at z2; cases z2
          omega, z2, z3⟩⟩
      · rw [hl]
        exact ⟨fun ⟨g, z1, z2, z3⟩ => ⟨g, by omega, z2, z3⟩, fun ⟨g, z1, z2, z3⟩ => ⟨g, by
          have : g ≠ i := fun z => by rw [z, hS] at z2; cases z2
          omega, z2, z3⟩⟩
    refine Ends.b1 (fun _ => ?_) (fun z => by rw [if_pos rfl] at z; exact absurd z (by decide))
    have r0 := tu8_rng hn hi hw (k := 0) (by decide)
    have r1 := tu8_rng hn hi hw (k := 1) (by decide)
    have r2 := tu8_rng hn hi hw (k := 2) (by decide)
    refine lp 3 (fun k L q2 => ∃ u9 : AV, L = [(2, rf (B + 149)), (0, ((s : Int))), (0, ((w : Int))), (0, dx), (0, dy), (0, dz), (0, ((t : Int))), (0, ((i : Int))), (0, ((k : Int))), u9] ∧ LX B n q2 ∧ k ≤ 3 ∧ Agr (fun c _ => c = B + 186) q q2 ∧ ∀ k', k' < k → hv q2 (B + 186) k' = tu8 n w i k') ?_ ?_ 0 ⟨_, rfl, lq, by omega, Agr.rf, fun k' z => by omega⟩
    · rintro k _ q2 hk ⟨u9, rfl, l2, -, g2, hw2⟩ ihk
      have m2 := mq.agr g2 (fun c k _ _ _ z => by omega)
      have ix : 3 * (w / 8) + k < 18 := by omega
      have pl : perL.getD (3 * (w / 8) + k) 0 < 3 := per_lt ⟨_, ix⟩
      obtain ⟨c1, c2⟩ := coord_is m2 hn hi pl
      have rg := g8_lt hi (perL.getD (3 * (w / 8) + k) 0)
      refine Ends.eq (b855_39 l2 (by omega)) ?_
      rw [show (8 : Int) = ((8 : Nat) : Int) from rfl, divNN (by omega) (by decide), show (3 : Int) = ((3 : Nat) : Int) from rfl, mulNN (by omega), addNN (by omega), tn, tn, m2.2.2 _ ix, bit32 (by omega) (by omega), w_succ (by omega), mulNN (by omega)]
      rw [show ([0, 1, 2, 1, 2, 0, 2, 0, 1, 0, 2, 1, 2, 1, 0, 1, 0, 2] : List Nat) = perL from rfl, c2, sub32 (by omega) (by omega), tst0]
      refine Ends.b3 (fun _ => by omega) (fun _ => Ends.g ⟨by omega, by omega⟩ (Ends.g c1 (Ends.g ⟨by omega, by omega⟩ ?_)))
      refine ihk _ _ ⟨_, rfl, lxA l2 (lk_186 l2), hk, g2.set rfl, fun k' z => ?_⟩
      by_cases e : k' = k
      · subst e
        rw [hv_set_at]
        unfold tu8
        have : w / 2 ^ k' % 2 = 0 ∨ w / 2 ^ k' % 2 = 1 := by omega
        rcases this with z | z
        · rw [z]; rfl
        · rw [z]; rfl
      · rw [hv_set_ne (by omega)]; exact hw2 k' (by omega)
    · rintro k _ q2 hk ⟨u9, rfl, l2, hk2, g2, hw2⟩
      obtain rfl : k = 3 := by omega
      have m2 := mq.agr g2 (fun c k _ _ _ z => by omega)
      have b2 := bR.agr g2 (fun k hk z => by omega)
      have gq2 : Agr (wTurn B n t) h q2 := gq.tr g2 (fun c k z => Or.inr (Or.inl z))
      have f2 : hv q2 (B + 149) 78 = hv q (B + 149) 78 := g2.at _ _ (by omega)
      obtain ⟨k1, k2⟩ := gAt_is (x := tu8 n w i 0 + 8 * dx) (y := tu8 n w i 1 + 8 * dy) (z := tu8 n w i 2 + 8 * dz) m2 hn (fun z0 z1 z2 => tu_ty hn hi hw dx dy dz z0 z1 z2)
      refine Ends.eq (b855_39 l2 (by omega)) ?_
      rw [show Int.toNat 0 = 0 from rfl, show Int.toNat 1 = 1 from rfl, show Int.toNat 2 = 2 from rfl, hw2 0 (by decide), hw2 1 (by decide), hw2 2 (by decide), mul32 (x := 8) (y := dx) (by omega) (by omega), mul32 (x := 8) (y := dy) (by omega) (by omega), mul32 (x := 8) (y := dz) (by omega) (by omega), add32 (x := tu8 n w i 0) (by omega) (by omega), add32 (x := tu8 n w i 1) (by omega) (by omega), add32 (x := tu8 n w i 2) (by omega) (by omega), k2]
      refine Ends.b3 (fun _ => Ends.g k1 ?_) (fun _ => by omega)
      have hG : tuG n w i dx dy dz = gAt n (tu8 n w i 0 + 8 * dx) (tu8 n w i 1 + 8 * dy) (tu8 n w i 2 + 8 * dz) := rfl
      rw [← hG]
      refine Ends.b2 (fun z => ?_) (fun z => ?_)
      · have z1 : tuG n w i dx dy dz = -1 := by rw [hG] at z ⊢; unfold gAt at z ⊢; split <;> rename_i c <;> simp only [c, if_false] at z <;> omega
        refine skip _ _ _ R (LX.setF 149 78 l2 (by decide +kernel)) (gq2.set (Or.inr (Or.inr ⟨rfl, rfl⟩))) (b2.agr (W := fun c k => c = B + 149) (Agr.rf.set rfl) (fun k hk z => by omega)) (fun x hx => ?_) (Or.inr hv_eq) ?_
        · rw [eR x hx]
          exact ⟨fun ⟨g, z1, z2, z3⟩ => ⟨g, by omega, z2, z3⟩, fun ⟨g, y1, z2, z3⟩ => ⟨g, by
            have : g ≠ i := fun y => by rw [y, z1] at z3; omega
            omega, z2, z3⟩⟩
        · rw [hv_eq]; exact ⟨fun _ => ⟨i, by omega, hS, z1⟩, fun _ => rfl⟩
      · obtain ⟨g', hg', eg⟩ : ∃ g' : Nat, g' < gN n ∧ tuG n w i dx dy dz = (g' : Int) := by
          rw [hG] at z ⊢
          unfold gAt at z ⊢
          split
          · rename_i c; simp only [c, if_true] at z; exact absurd z (by decide)
          · rename_i c
            exact ⟨_, gI_lt (by omega) (by omega) (by omega) (tu_ty hn hi hw dx dy dz (by omega) (by omega) (by omega)), rfl⟩
        rw [eg]
        refine Ends.cv l2 (by decide +kernel) (c_putM l2 (by omega) hn ht b2 hg') (fun h3 l3 _ _ _ ⟨_, g3, b3⟩ => ?_)
        refine Ends.eq (b855_158 l3 (by omega)) ?_
        refine skip _ _ _ _ l3 (gq2.tr g3 (fun c k z => Or.inl z)) b3 (fun x hx => ?_) (by rw [g3.at _ _ (fun z => by have := z.1; omega), f2]; exact hb) ?_
        · rw [Bool.or_eq_true, eR x hx, decide_eq_true_eq]
          constructor
          · rintro (⟨g, z1, z2, z3⟩ | rfl)
            · exact ⟨g, by omega, z2, z3⟩
            · exact ⟨i, by omega, hS, eg⟩
          · rintro ⟨g, z1, z2, z3⟩
            by_cases e : g = i
            · subst e; rw [eg] at z3; exact Or.inr (by omega)
            · exact Or.inl ⟨g, by omega, z2, z3⟩
        · rw [g3.at _ _ (fun z => by have := z.1; omega), f2, hl]
          exact ⟨fun ⟨g, z1, z2, z3⟩ => ⟨g, by omega, z2, z3⟩, fun ⟨g, z1, z2, z3⟩ => ⟨g, by
            have : g ≠ i := fun y => by rw [y, eg] at z3; omega
            omega, z2, z3⟩⟩
  · rintro i _ q hi ⟨u8, u9, rfl, lq, hi2, gq, hR, hb, hl⟩
    obtain rfl : i = gN n := by omega
    refine Ends.eq (b855_14 lq (by omega)) ?_
    exact Ends.b3 (fun _ => Ends.sm ⟨_, rfl, gq, hR, hb, hl⟩) (fun _ => by omega)
end MTURN
