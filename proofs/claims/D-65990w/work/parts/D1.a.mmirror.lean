/-! L3: the model mirrors solids -/
section MMIR
variable {gv : Nat → Int} {B n d s t : Nat} {h : AH} {S T : Nat → Bool}
/-- number k of grain g's middle, mirrored -/
def mi8 (n a : Nat) (p : Int) (g k : Nat) : Int := if k = a then 8 * p - (g8 n g k : Nat) else (g8 n g k : Nat)
def miG (n a : Nat) (p : Int) (g : Nat) : Int := gAt n (mi8 n a p g 0) (mi8 n a p g 1) (mi8 n a p g 2)
def miS (n a : Nat) (p : Int) (S : Nat → Bool) (i x : Nat) : Prop := ∃ g, g < i ∧ S g = true ∧ miG n a p g = (x : Int)
theorem rests_mir : ∀ t : Fin 24, ∀ a : Fin 3, tyN ((if 0 = (a : Nat) then 8 - rT t 0 else rT t 0) % 8) ((if 1 = (a : Nat) then 8 - rT t 1 else rT t 1) % 8) ((if 2 = (a : Nat) then 8 - rT t 2 else rT t 2) % 8) < 24 := by decide +kernel
theorem mi8_mod {g a k : Nat} {p : Int} (hg : g < gN n) (hk : k < 3) (h0 : 0 ≤ mi8 n a p g k) : (mi8 n a p g k).toNat % 8 = (if k = a then 8 - rT (gSo g) k else rT (gSo g) k) % 8 := by
  obtain ⟨-, -, -, -, ht⟩ := g_lt hg
  have hr : 1 ≤ rT (gSo g) k ∧ rT (gSo g) k < 8 := rT_lt ⟨gSo g, ht⟩ ⟨k, hk⟩
  obtain ⟨c, hc⟩ := @g8_mod n g _ hk
  unfold mi8 at h0 ⊢
  rw [hc] at h0 ⊢
  generalize rT (gSo g) k = r at *
  by_cases e : k = a
  · rw [if_pos e] at h0 ⊢
    rw [if_pos e]
    omega
  · rw [if_neg e] at h0 ⊢
    rw [if_neg e]
    omega
theorem mi_ty {g a : Nat} {p : Int} (hg : g < gN n) (ha : a < 3) (h0 : 0 ≤ mi8 n a p g 0) (h1 : 0 ≤ mi8 n a p g 1) (h2 : 0 ≤ mi8 n a p g 2) : tyN ((mi8 n a p g 0).toNat % 8) ((mi8 n a p g 1).toNat % 8) ((mi8 n a p g 2).toNat % 8) < 24 := by
  obtain ⟨-, -, -, -, ht⟩ := g_lt hg
  rw [mi8_mod hg (by decide) h0, mi8_mod hg (by decide) h1, mi8_mod hg (by decide) h2]
  exact rests_mir ⟨gSo g, ht⟩ ⟨a, ha⟩
theorem gAt_cs {x y z : Int} (hty : 0 ≤ x → 0 ≤ y → 0 ≤ z → tyN (x.toNat % 8) (y.toNat % 8) (z.toNat % 8) < 24) : gAt n x y z = -1 ∨ ∃ g : Nat, g < gN n ∧ gAt n x y z = (g : Int) := by
  unfold gAt
  split
  · exact Or.inl rfl
  · next c => exact Or.inr ⟨_, gI_lt (by omega) (by omega) (by omega) (hty (by omega) (by omega) (by omega)), rfl⟩
theorem c_mirrorM (l : LX B n h) (hd : 11 ≤ d) (hn : n ≤ 52) (hs : s < 19) (ht : t < 19) (hst : s ≠ t) (m : TbM B h) (b : MB B n h s S) {a : Nat} (ha : a < 3) {p : Int} (bp : -10000 ≤ p ∧ p ≤ 10000) :
    Vd (cll PP (ev PP (gsF gv) B) d 752 [(2, rf (B + 149)), (0, (s : Int)), (0, (a : Int)), (0, p), (0, (t : Int))] h) (fun h' => Agr (fun c k => wto B n t (wN n) c k ∨ c = B + 186) h h' ∧ ∃ R, MB B n h' t R ∧ ∀ x, x < gN n → (R x = true ↔ miS n a p S (gN n) x)) := by
  have hN := gN_le hn
  refine Vd.into (D := 10) hd (Nat.le_of_ble_eq_true rfl) rfl (fun d hd => ?_)
  refine Ends.eq (b752_0 l (by omega)) ?_
  refine Ends.cv l (by decide +kernel) (c_empty l hd hn ht) (fun h1 l1 _ _ _ ⟨g1, e1⟩ => ?_)
  refine Ends.eq (b752_6 l1 (by omega)) ?_
  refine lp (gN n) (fun i L q => ∃ u6 : AV, L = [(2, rf (B + 149)), (0, ((s : Int))), (0, ((a : Int))), (0, p), (0, ((t : Int))), (0, ((i : Int))), u6] ∧ LX B n q ∧ i ≤ gN n ∧ Agr (fun c k => wto B n t (wN n) c k ∨ c = B + 186) h q ∧ ∃ R, MB B n q t R ∧ ∀ x, x < gN n → (R x = true ↔ miS n a p S i x)) ?_ ?_ 0 ⟨_, rfl, l1, Nat.zero_le _, g1.sub (fun c k z => Or.inl z), _, e1, fun x hx => ⟨fun z => (by cases z), fun ⟨g, z, _⟩ => by omega⟩⟩
  · rintro i _ q hi ⟨u6, rfl, lq, -, gq, R, bR, eR⟩ ih
    have bq := b.agr gq (fun k hk z => by
      rcases z with z | z
      · exact wto_row hk (Nat.le_refl _) hst z
      · omega)
    have mq := m.agr gq (fun c k _ _ _ z => by
      rcases z with z | z
      · have := z.1; omega
      · omega)
    obtain ⟨a1, a2⟩ := has_is bq hs hn hi
    refine Ends.eq (b752_9 lq (by omega)) ?_
    refine Ends.b3 (fun _ => by omega) (fun _ => Ends.g a1 ?_)
    rw [a2]
    have skip : ∀ (u6 : AV) (q2 : AH) (R2 : Nat → Bool), LX B n q2 → Agr (fun c k => wto B n t (wN n) c k ∨ c = B + 186) h q2 → MB B n q2 t R2 → (∀ x, x < gN n → (R2 x = true ↔ miS n a p S (i + 1) x)) → Ends (ev PP (gsF gv) B d 752 115 [(2, rf (B + 149)), (0, ((s : Int))), (0, ((a : Int))), (0, p), (0, ((t : Int))), (0, ((i : Int))), u6] [] q2) _ := fun u6 q2 R2 l2 g2 b2 e2 => by
      refine Ends.eq (b752_115 l2 (by omega)) ?_
      rw [w_succ (by omega)]
      exact ih _ _ ⟨u6, rfl, l2, hi, g2, R2, b2, e2⟩
    cases hS : S i
    · refine Ends.b1 (fun z => absurd rfl z) (fun _ => skip u6 q R lq gq bR (fun x hx => ?_))
      rw [eR x hx]
      exact ⟨fun ⟨g, z1, z2, z3⟩ => ⟨g, by omega, z2, z3⟩, fun ⟨g, z1, z2, z3⟩ => ⟨g, by
        have : g ≠ i := fun z => by rw [z, hS] at z2; cases z2
        omega, z2, z3⟩⟩
    refine Ends.b1 (fun _ => ?_) (fun z => by rw [if_pos rfl] at z; exact absurd z (by decide))
    have r0 := g8_lt hi 0
    have r1 := g8_lt hi 1
    have r2 := g8_lt hi 2
    refine lp 3 (fun k L q2 => L = [(2, rf (B + 149)), (0, ((s : Int))), (0, ((a : Int))), (0, p), (0, ((t : Int))), (0, ((i : Int))), (0, ((k : Int)))] ∧ LX B n q2 ∧ k ≤ 3 ∧ Agr (fun c _ => c = B + 186) q q2 ∧ ∀ k', k' < k → hv q2 (B + 186) k' = ((g8 n i k' : Nat) : Int)) ?_ ?_ 0 ⟨rfl, lq, by omega, Agr.rf, fun k' z => by omega⟩
    · rintro k _ q2 hk ⟨rfl, l2, -, g2, hw2⟩ ihk
      have m2 := mq.agr g2 (fun c k _ _ _ z => by omega)
      obtain ⟨c1, c2⟩ := coord_is m2 hn hi hk
      refine Ends.eq (b752_34 l2 (by omega)) ?_
      rw [w_succ (by omega), tn, c2]
      refine Ends.b3 (fun _ => by omega) (fun _ => Ends.g c1 (Ends.g ⟨by omega, by omega⟩ ?_))
      refine ihk _ _ ⟨rfl, lxA l2 (lk_186 l2), hk, g2.set rfl, fun k' z => ?_⟩
      by_cases e : k' = k
      · subst e; rw [tn, an0, hv_set_at]
      · rw [hv_set_ne (by omega)]; exact hw2 k' (by omega)
    · rintro k _ q2 hk ⟨rfl, l2, hk2, g2, hw2⟩
      obtain rfl : k = 3 := by omega
      have ra := g8_lt hi a
      refine Ends.eq (b752_34 l2 (by omega)) ?_
      rw [tn, hw2 a ha, mul32 (x := 8) (by omega) (by omega), sub32 (by omega) (by omega), an0]
      have l3 : LX B n (hset q2 (B + 186) a (8 * p - ((g8 n i a : Nat) : Int))) := lxA l2 (lk_186 l2)
      have g3 : Agr (fun c _ => c = B + 186) q (hset q2 (B + 186) a (8 * p - ((g8 n i a : Nat) : Int))) := g2.set rfl
      have w3 : ∀ k, k < 3 → hv (hset q2 (B + 186) a (8 * p - ((g8 n i a : Nat) : Int))) (B + 186) k = mi8 n a p i k := fun k hk => by
        unfold mi8
        by_cases e : k = a
        · subst e; rw [hv_set_at, if_pos rfl]
        · rw [hv_set_ne (by omega), if_neg e]; exact hw2 k hk
      generalize hset q2 (B + 186) a (8 * p - ((g8 n i a : Nat) : Int)) = q3 at l3 g3 w3 ⊢
      have m3 := mq.agr g3 (fun c k _ _ _ z => by omega)
      have b3 := bR.agr g3 (fun k hk z => by omega)
      have gq3 : Agr (fun c k => wto B n t (wN n) c k ∨ c = B + 186) h q3 := gq.tr g3 (fun c k z => Or.inr z)
      obtain ⟨k1, k2⟩ := gAt_is (x := mi8 n a p i 0) (y := mi8 n a p i 1) (z := mi8 n a p i 2) m3 hn (fun z0 z1 z2 => mi_ty hi ha z0 z1 z2)
      rw [show Int.toNat 0 = 0 from rfl, show Int.toNat 1 = 1 from rfl, show Int.toNat 2 = 2 from rfl, w3 0 (by decide), w3 1 (by decide), w3 2 (by decide), k2]
      have hG : miG n a p i = gAt n (mi8 n a p i 0) (mi8 n a p i 1) (mi8 n a p i 2) := rfl
      rw [← hG]
      refine Ends.b3 (fun _ => Ends.g ⟨by omega, by omega⟩ (Ends.g k1 ?_)) (fun _ => by omega)
      rcases gAt_cs (n := n) (fun z0 z1 z2 => mi_ty (p := p) hi ha z0 z1 z2) with e | ⟨g', hg', e⟩
      · rw [← hG] at e
        rw [e]
        refine Ends.b2 (fun _ => skip _ _ R l3 gq3 b3 (fun x hx => ?_)) (fun z => absurd z (by decide))
        rw [eR x hx]
        exact ⟨fun ⟨g, z1, z2, z3⟩ => ⟨g, by omega, z2, z3⟩, fun ⟨g, y1, z2, z3⟩ => ⟨g, by
          have : g ≠ i := fun y => by rw [y, e] at z3; omega
          omega, z2, z3⟩⟩
      · rw [← hG] at e
        rw [e]
        refine Ends.b2 (fun z => by omega) (fun z => ?_)
        refine Ends.cv l3 (by decide +kernel) (c_putM l3 (by omega) hn ht b3 hg') (fun h4 l4 _ _ _ ⟨_, g4, b4⟩ => ?_)
        refine skip _ _ _ l4 (gq3.tr g4 (fun c k z => Or.inl z)) b4 (fun x hx => ?_)
        rw [Bool.or_eq_true, eR x hx, decide_eq_true_eq]
        constructor
        · rintro (⟨g, z1, z2, z3⟩ | rfl)
          · exact ⟨g, by omega, z2, z3⟩
          · exact ⟨i, by omega, hS, e⟩
        · rintro ⟨g, z1, z2, z3⟩
          by_cases y : g = i
          · subst y; rw [e] at z3; exact Or.inr (by omega)
          · exact Or.inl ⟨g, by omega, z2, z3⟩
  · rintro i _ q hi ⟨u6, rfl, lq, hi2, gq, hR⟩
    obtain rfl : i = gN n := by omega
    refine Ends.eq (b752_9 lq (by omega)) ?_
    exact Ends.b3 (fun _ => Ends.sm ⟨_, rfl, gq, hR⟩) (fun _ => by omega)
end MMIR
