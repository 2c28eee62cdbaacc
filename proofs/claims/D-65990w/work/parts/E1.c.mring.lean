/-! L3: turned round a line, time and again (model) -/
section MRING
variable {gv : Nat → Int} {B n d s t : Nat} {h : AH} {S R0 : Nat → Bool} {p q : Int}
/-- the model's numbers of fields -/
def PvM (B : Nat) (h : AH) (m : Nat) (nb : Nat → Int) : Prop := ∀ k, k < m → hv h (B + 198) k = nb k
theorem PvM.agr {W : Nat → Nat → Prop} {m : Nat} {nb : Nat → Int} {t : AH} (b : PvM B h m nb) (g : Agr W h t) (hW : ∀ k, ¬ W (B + 198) k) : PvM B t m nb := fun k hk => by rw [g.at _ _ (hW k)]; exact b k hk
/-- number j of grain g's middle, turned k times -/
def rg8 (n ax : Nat) (p q : Int) (g k j : Nat) : Int := if k = 0 then (g8 n g j : Nat) else ta8 n (rgF ax k) (rgT ax k) (rgA ax k p q) g j
theorem rg8_s {ax g k : Nat} (hax : ax < 3) (hk : k < 3) (even : (p + q) % 2 = 0) : rg8 n ax p q g (k + 1) (fA ax) = 4 * (p + q) - rg8 n ax p q g k (sA ax) ∧ rg8 n ax p q g (k + 1) (sA ax) = 4 * (q - p) + rg8 n ax p q g k (fA ax) ∧ rg8 n ax p q g (k + 1) ax = rg8 n ax p q g k ax := by
  obtain ⟨u3, v3, uv, ua, va⟩ := fs_A ⟨ax, hax⟩
  simp only at u3 v3 uv ua va
  have vu := Ne.symm uv
  have au := Ne.symm ua
  have av := Ne.symm va
  have hk3 : k = 0 ∨ k = 1 ∨ k = 2 := by omega
  unfold rg8 ta8 rgF rgT rgA
  rcases hk3 with rfl | rfl | rfl
  · simp [uv, vu, ua, va, au, av]; omega
  · simp [uv, vu, ua, va, au, av]; omega
  · simp [uv, vu, ua, va, au, av]; omega
def rgS (n ax : Nat) (p q : Int) (dd : Nat) (S : Nat → Bool) (i x : Nat) : Prop := ∃ g k, g < i ∧ S g = true ∧ 1 ≤ k ∧ k < dd ∧ taG n (rgF ax k) (rgT ax k) (rgA ax k p q) g = (x : Int)
def rmW (B n t : Nat) : Nat → Nat → Prop := fun c k => wto B n t (wN n) c k ∨ c = B + 186
set_option maxHeartbeats 2000000 in
theorem c_ringM805 {ax dd : Nat} (l : LX B n h) (hd : 12 ≤ d) (hn : n ≤ 52) (hs : s < 19) (ht : t < 19) (hst : s ≠ t) (m : TbM B h) (b : MB B n h s S) (bt : MB B n h t R0) (f0 : hv h (B + 198) 0 = (ax : Int)) (f1 : hv h (B + 198) 1 = p) (f2 : hv h (B + 198) 2 = q) (f3 : hv h (B + 198) 3 = (dd : Int)) (hax : ax < 3) (hdd : dd ≤ 4) (bp : -200 ≤ p ∧ p ≤ 200) (bq : -200 ≤ q ∧ q ≤ 200) (even : (p + q) % 2 = 0) :
    Vd (cll PP (ev PP (gsF gv) B) d 805 [(2, rf (B + 149)), (0, (s : Int)), (0, (t : Int))] h) (fun h' => Agr (rmW B n t) h h' ∧ ∃ R, MB B n h' t R ∧ ∀ x, x < gN n → (R x = true ↔ R0 x = true ∨ rgS n ax p q dd S (gN n) x)) := by
  have hN := gN_le hn
  obtain ⟨u3, v3, uv, ua, va⟩ := fs_A ⟨ax, hax⟩
  simp only at u3 v3 uv ua va
  refine Vd.inq (D := 11) hd (Nat.le_of_ble_eq_true rfl) rfl (fun d hd Q K => ?_)
  refine Ends.eq (b805_0 l (by omega)) ?_
  rw [show Int.toNat 0 = 0 from rfl, show Int.toNat 1 = 1 from rfl, show Int.toNat 2 = 2 from rfl, f0, f1, f2, (f635_is hax).1, (f635_is hax).2, add32 (by omega) (by omega), sub32 (by omega) (by omega), mul32 (by omega) (by omega), mul32 (by omega) (by omega)]
  have key : ∀ (c i : Nat) (q2 : AH) (R : Nat → Bool) (u8 u9 u10 : AV), i + c = gN n → LX B n q2 → Agr (rmW B n t) h q2 → MB B n q2 t R → (∀ x, x < gN n → (R x = true ↔ R0 x = true ∨ rgS n ax p q dd S i x)) → Ends (ev PP (gsF gv) B d 805 58 [(2, rf (B + 149)), (0, (s : Int)), (0, (t : Int)), (0, ((fA ax : Nat) : Int)), (0, ((sA ax : Nat) : Int)), (0, 4 * (p + q)), (0, 4 * (q - p)), (0, (i : Int)), u8, u9, u10] [] q2) Q := by
    intro c
    induction c with
    | zero =>
      intro i q2 R u8 u9 u10 e lq gq bR eR
      obtain rfl : gN n = i := by omega
      exact Ends.eq (b805_58 lq (by omega)) (Ends.b3 (fun _ => Ends.sm (K _ ⟨gq, R, bR, eR⟩)) (fun w => absurd w (by omega)))
    | succ c ih =>
      intro i q2 R u8 u9 u10 e lq gq bR eR
      have hi : i < gN n := by omega
      have bq := b.agr gq (fun k hk z => by
        rcases z with z | z
        · exact wto_row hk (Nat.le_refl _) hst z
        · omega)
      have mq := m.agr gq (fun c k _ _ _ z => by
        rcases z with z | z
        · have := z.1; omega
        · omega)
      obtain ⟨a1, a2⟩ := has_is bq hs hn hi
      have skip : ∀ (q3 : AH) (R2 : Nat → Bool) (u8 u9 u10 : AV), LX B n q3 → Agr (rmW B n t) h q3 → MB B n q3 t R2 → (∀ x, x < gN n → (R2 x = true ↔ R0 x = true ∨ rgS n ax p q dd S (i + 1) x)) → Ends (ev PP (gsF gv) B d 805 202 [(2, rf (B + 149)), (0, (s : Int)), (0, (t : Int)), (0, ((fA ax : Nat) : Int)), (0, ((sA ax : Nat) : Int)), (0, 4 * (p + q)), (0, 4 * (q - p)), (0, (i : Int)), u8, u9, u10] [] q3) Q := fun q3 R2 u8 u9 u10 l3 g3 b3 e3 => by
        refine Ends.eq (b805_202 l3 (by omega)) ?_
        rw [w_succ (by omega)]
        exact ih (i + 1) q3 R2 u8 u9 u10 (by omega) l3 g3 b3 e3
      refine Ends.eq (b805_58 lq (by omega)) (Ends.b3 (fun w => absurd w (by omega)) (fun _ => Ends.g a1 ?_))
      rw [a2]
      cases hS : S i
      · refine Ends.b1 (fun z => absurd rfl z) (fun _ => skip q2 R _ _ _ lq gq bR (fun x hx => ?_))
        rw [eR x hx]
        refine or_congr Iff.rfl ⟨fun ⟨g, k, z1, z2, z3⟩ => ⟨g, k, by omega, z2, z3⟩, fun ⟨g, k, z1, z2, z3⟩ => ⟨g, k, by
          have : g ≠ i := fun z => by rw [z, hS] at z2; cases z2
          omega, z2, z3⟩⟩
      refine Ends.b1 (fun _ => ?_) (fun z => by rw [if_pos rfl] at z; exact absurd z (by decide))
      -- the turns
      have bw : ∀ j k, k ≤ 3 → -100000 ≤ rg8 n ax p q i k j ∧ rg8 n ax p q i k j ≤ 100000 := fun j k hk => by
        have r0 := g8_lt hi j
        unfold rg8
        split
        · omega
        · refine ta8_b hn hi ?_
          unfold rgA
          split <;> (try split) <;> (try split) <;> (try split) <;> omega
      have turns : ∀ (c2 k : Nat) (q3 : AH) (R2 : Nat → Bool) (u9 u10 : AV), k + c2 = 4 → 1 ≤ k → LX B n q3 → Agr (rmW B n t) h q3 → (∀ j, j < 3 → hv q3 (B + 186) j = rg8 n ax p q i (k - 1) j) → MB B n q3 t R2 → (∀ x, x < gN n → (R2 x = true ↔ (R0 x = true ∨ rgS n ax p q dd S i x) ∨ ∃ k', 1 ≤ k' ∧ k' < k ∧ k' < dd ∧ taG n (rgF ax k') (rgT ax k') (rgA ax k' p q) i = (x : Int))) → Ends (ev PP (gsF gv) B d 805 113 [(2, rf (B + 149)), (0, (s : Int)), (0, (t : Int)), (0, ((fA ax : Nat) : Int)), (0, ((sA ax : Nat) : Int)), (0, 4 * (p + q)), (0, 4 * (q - p)), (0, (i : Int)), (0, (k : Int)), u9, u10] [] q3) Q := by
        intro c2
        have stop : ∀ (k : Nat) (q3 : AH) (R2 : Nat → Bool) (u9 u10 : AV), dd ≤ k → LX B n q3 → Agr (rmW B n t) h q3 → MB B n q3 t R2 → (∀ x, x < gN n → (R2 x = true ↔ (R0 x = true ∨ rgS n ax p q dd S i x) ∨ ∃ k', 1 ≤ k' ∧ k' < k ∧ k' < dd ∧ taG n (rgF ax k') (rgT ax k') (rgA ax k' p q) i = (x : Int))) → Ends (ev PP (gsF gv) B d 805 113 [(2, rf (B + 149)), (0, (s : Int)), (0, (t : Int)), (0, ((fA ax : Nat) : Int)), (0, ((sA ax : Nat) : Int)), (0, 4 * (p + q)), (0, 4 * (q - p)), (0, (i : Int)), (0, (k : Int)), u9, u10] [] q3) Q := fun k q3 R2 u9 u10 hk l3 g3 b3 e3 => by
          have f3' : hv q3 (B + 198) 3 = (dd : Int) := by rw [g3.at _ _ (fun w => by unfold rmW wto at w; omega)]; exact f3
          refine Ends.eq (b805_113 l3 (by omega)) ?_
          rw [show Int.toNat 3 = 3 from rfl, f3']
          refine Ends.b3 (fun _ => skip q3 R2 _ _ _ l3 g3 b3 (fun x hx => ?_)) (fun w => absurd w (by omega))
          rw [e3 x hx, or_assoc]
          refine or_congr Iff.rfl ?_
          constructor
          · rintro (⟨g, k', z1, z2⟩ | ⟨k', z1, z2, z3, z4⟩)
            · exact ⟨g, k', by omega, z2⟩
            · exact ⟨i, k', by omega, hS, z1, z3, z4⟩
          · rintro ⟨g, k', z1, z2, z3, z4, z5⟩
            by_cases w : g = i
            · rw [w] at z5; exact Or.inr ⟨k', z3, by omega, z4, z5⟩
            · exact Or.inl ⟨g, k', by omega, z2, z3, z4, z5⟩
        induction c2 with
        | zero => intro k q3 R2 u9 u10 e1 e2 l3 g3 w3 b3 e3; exact stop k q3 R2 u9 u10 (by omega) l3 g3 b3 e3
        | succ c2 ihk =>
          intro k q3 R2 u9 u10 e1 e2 l3 g3 w3 b3 e3
          by_cases hk : dd ≤ k
          · exact stop k q3 R2 u9 u10 hk l3 g3 b3 e3
          have f3' : hv q3 (B + 198) 3 = (dd : Int) := by rw [g3.at _ _ (fun w => by unfold rmW wto at w; omega)]; exact f3
          have k3 : k - 1 < 3 := by omega
          obtain ⟨s1, s2, s3⟩ := rg8_s (n := n) (g := i) hax k3 even
          rw [show k - 1 + 1 = k from by omega] at s1 s2 s3
          have b1 := bw (sA ax) (k - 1) (by omega)
          have b2 := bw (fA ax) (k - 1) (by omega)
          refine Ends.eq (b805_113 l3 (by omega)) ?_
          rw [show Int.toNat 3 = 3 from rfl, f3', tn, tn, w3 _ u3, w3 _ v3, sub32 (by omega) (by omega), add32 (by omega) (by omega), an0, an0, ← s1, ← s2]
          refine Ends.b3 (fun w => absurd w (by omega)) (fun _ => Ends.g ⟨by omega, by omega⟩ (Ends.g ⟨by omega, by omega⟩ ?_))
          have l4 : LX B n (hset (hset q3 (B + 186) (fA ax) (rg8 n ax p q i k (fA ax))) (B + 186) (sA ax) (rg8 n ax p q i k (sA ax))) := LX.setS (LX.setS l3 rfl) rfl
          have g4 : Agr (fun c _ => c = B + 186) q3 (hset (hset q3 (B + 186) (fA ax) (rg8 n ax p q i k (fA ax))) (B + 186) (sA ax) (rg8 n ax p q i k (sA ax))) := ((Agr.rf (W := fun c _ => c = B + 186) (h := q3)).set (a := B + 186) rfl).set (a := B + 186) rfl
          have w4 : ∀ j, j < 3 → hv (hset (hset q3 (B + 186) (fA ax) (rg8 n ax p q i k (fA ax))) (B + 186) (sA ax) (rg8 n ax p q i k (sA ax))) (B + 186) j = rg8 n ax p q i k j := fun j hj => by
            by_cases z1 : j = sA ax
            · rw [z1, hv_set_at]
            · by_cases z2 : j = fA ax
              · rw [z2, hv_set_ne (fun w => uv w.2), hv_set_at]
              · have z3 : j = ax := by unfold fA at z2; unfold sA at z1; split at z2 <;> split at z1 <;> omega
                rw [hv_set_ne (fun w => z1 w.2), hv_set_ne (fun w => z2 w.2), w3 j hj, z3, s3]
          generalize hset (hset q3 (B + 186) (fA ax) (rg8 n ax p q i k (fA ax))) (B + 186) (sA ax) (rg8 n ax p q i k (sA ax)) = q4 at l4 g4 w4 ⊢
          have m4 : TbM B q4 := (m.agr g3 (fun c k _ _ _ z => by unfold rmW wto at z; omega)).agr g4 (fun c k _ _ _ z => by omega)
          have b4 := b3.agr g4 (fun k hk z => by omega)
          have G4 : Agr (rmW B n t) h q4 := g3.tr g4 (fun c k z => Or.inr z)
          have er : ∀ j, rg8 n ax p q i k j = ta8 n (rgF ax k) (rgT ax k) (rgA ax k p q) i j := fun j => by unfold rg8; rw [if_neg (by omega)]
          obtain ⟨k1, k2⟩ := gAt_is (x := rg8 n ax p q i k 0) (y := rg8 n ax p q i k 1) (z := rg8 n ax p q i k 2) m4 hn (fun z0 z1 z2 => by
            rw [er] at z0 z1 z2; rw [er, er, er]
            exact ta_ty hi (rg_per ⟨ax, hax⟩ ⟨k, by omega⟩) z0 z1 z2)
          have hG : gAt n (rg8 n ax p q i k 0) (rg8 n ax p q i k 1) (rg8 n ax p q i k 2) = taG n (rgF ax k) (rgT ax k) (rgA ax k p q) i := by rw [er, er, er]; rfl
          have cs := gAt_cs (n := n) (x := rg8 n ax p q i k 0) (y := rg8 n ax p q i k 1) (z := rg8 n ax p q i k 2) (fun z0 z1 z2 => by
            rw [er] at z0 z1 z2; rw [er, er, er]
            exact ta_ty hi (rg_per ⟨ax, hax⟩ ⟨k, by omega⟩) z0 z1 z2)
          rw [show Int.toNat 0 = 0 from rfl, show Int.toNat 1 = 1 from rfl, show Int.toNat 2 = 2 from rfl, w4 0 (by decide), w4 1 (by decide), w4 2 (by decide), k2]
          rw [hG] at cs ⊢
          have go : ∀ (q5 : AH) (R3 : Nat → Bool) (x9 x10 : Int), LX B n q5 → Agr (rmW B n t) h q5 → (∀ j, j < 3 → hv q5 (B + 186) j = rg8 n ax p q i k j) → MB B n q5 t R3 → (∀ x, x < gN n → (R3 x = true ↔ (R0 x = true ∨ rgS n ax p q dd S i x) ∨ ∃ k', 1 ≤ k' ∧ k' < k + 1 ∧ k' < dd ∧ taG n (rgF ax k') (rgT ax k') (rgA ax k' p q) i = (x : Int))) → Ends (ev PP (gsF gv) B d 805 196 [(2, rf (B + 149)), (0, (s : Int)), (0, (t : Int)), (0, ((fA ax : Nat) : Int)), (0, ((sA ax : Nat) : Int)), (0, 4 * (p + q)), (0, 4 * (q - p)), (0, (i : Int)), (0, (k : Int)), (0, x9), (0, x10)] [] q5) Q := fun q5 R3 x9 x10 l5 g5 w5 b5 e5 => by
            refine Ends.eq (b805_196 l5 (by omega)) ?_
            rw [w_succ (by omega)]
            exact ihk (k + 1) q5 R3 _ _ (by omega) (by omega) l5 g5 (by rw [Nat.add_sub_cancel]; exact w5) b5 e5
          refine Ends.g k1 ?_
          rcases cs with e | ⟨g', hg', e⟩
          · rw [e]
            refine Ends.b2 (fun _ => go q4 R2 _ _ l4 G4 w4 b4 (fun x hx => ?_)) (fun z => absurd z (by decide))
            rw [e3 x hx]
            refine or_congr Iff.rfl ⟨fun ⟨k', z1, z2, z3⟩ => ⟨k', z1, by omega, z3⟩, fun ⟨k', z1, z2, z3, z4⟩ => ⟨k', z1, ?_, z3, z4⟩⟩
            have : k' ≠ k := fun y => by rw [y, e] at z4; omega
            omega
          · rw [e]
            refine Ends.b2 (fun z => by omega) (fun z => ?_)
            refine Ends.cv l4 (by decide +kernel) (c_putM l4 (by omega) hn ht b4 hg') (fun h5 l5 _ _ _ ⟨_, g5, b5⟩ => ?_)
            refine go h5 _ _ _ l5 (G4.tr g5 (fun c k z => Or.inl z)) (fun j hj => by rw [g5.at _ _ (fun w => by unfold wto at w; omega)]; exact w4 j hj) b5 (fun x hx => ?_)
            rw [Bool.or_eq_true, e3 x hx, decide_eq_true_eq]
            constructor
            · rintro ((z | ⟨k', z1, z2, z3⟩) | rfl)
              · exact Or.inl z
              · exact Or.inr ⟨k', z1, by omega, z3⟩
              · exact Or.inr ⟨k, by omega, by omega, by omega, e⟩
            · rintro (z | ⟨k', z1, z2, z3, z4⟩)
              · exact Or.inl (Or.inl z)
              · by_cases y : k' = k
                · rw [y, e] at z4; exact Or.inr (by omega)
                · exact Or.inl (Or.inr ⟨k', z1, by omega, z3, z4⟩)
      -- the middle is laid
      have lay : ∀ (c2 k : Nat) (q3 : AH) (u9 u10 : AV), k + c2 = 3 → LX B n q3 → Agr (fun c _ => c = B + 186) q2 q3 → (∀ k', k' < k → hv q3 (B + 186) k' = ((g8 n i k' : Nat) : Int)) → Ends (ev PP (gsF gv) B d 805 83 [(2, rf (B + 149)), (0, (s : Int)), (0, (t : Int)), (0, ((fA ax : Nat) : Int)), (0, ((sA ax : Nat) : Int)), (0, 4 * (p + q)), (0, 4 * (q - p)), (0, (i : Int)), (0, (k : Int)), u9, u10] [] q3) Q := by
        intro c2
        induction c2 with
        | zero =>
          intro k q3 u9 u10 e1 l3 g3 w3
          obtain rfl : k = 3 := by omega
          refine Ends.eq (b805_83 l3 (by omega)) (Ends.b3 (fun _ => ?_) (fun w => absurd w (by decide)))
          refine turns 3 1 q3 R _ _ rfl (Nat.le_refl 1) l3 (gq.tr g3 (fun c k z => Or.inr z)) (fun j hj => by unfold rg8; rw [if_pos rfl]; exact w3 j hj) (bR.agr g3 (fun k hk z => by omega)) (fun x hx => ?_)
          rw [eR x hx]
          exact ⟨Or.inl, fun w => w.elim id (fun ⟨k', z1, z2, _⟩ => absurd z2 (by omega))⟩
        | succ c2 ihl =>
          intro k q3 u9 u10 e1 l3 g3 w3
          have m3 := mq.agr g3 (fun c k _ _ _ z => by omega)
          obtain ⟨c1, c2'⟩ := coord_is m3 hn hi (a := k) (by omega)
          refine Ends.eq (b805_83 l3 (by omega)) ?_
          rw [w_succ (by omega), tn, c2', an0]
          refine Ends.b3 (fun w => absurd w (by omega)) (fun _ => Ends.g c1 (Ends.g ⟨by omega, by omega⟩ ?_))
          refine ihl (k + 1) _ _ _ (by omega) (l3.setS rfl) (g3.set rfl) (fun k' z => ?_)
          by_cases y : k' = k
          · rw [y, hv_set_at]
          · rw [hv_set_ne (by omega)]; exact w3 k' (by omega)
      exact lay 3 0 q2 _ _ rfl lq Agr.rf (fun k' z => absurd z (by omega))
  exact key (gN n) 0 h R0 _ _ _ (by omega) l Agr.rf bt (fun x hx => ⟨Or.inl, fun w => w.elim id (fun ⟨g, k, z, _⟩ => absurd z (by omega))⟩)
end MRING
