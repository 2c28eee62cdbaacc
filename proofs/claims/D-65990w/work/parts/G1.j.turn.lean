/-! L3: turned regions: plain law, model -/
noncomputable section TRN
variable {gv : Nat → Int} {B n d r ax f1 q s g : Nat} {h : AH} {f : Nat → Nat → Nat} {nb : Nat → Int} {x y m o : Int}
theorem und_iff : und r x y 0 = true ↔ (-x ≤ 8 * (r : Int) ∧ x ≤ 8 * (r : Int) ∧ y ≤ 8 * (r : Int) ∧ -y ≤ 8 * (r : Int)) ∧ y ≤ 8 * (ocK r : Int) ∧ -y ≤ 8 * (ocK r : Int) ∧ y - x ≤ 8 * (ocK r : Int) ∧ -y - x ≤ 8 * (ocK r : Int) ∧ x + y ≤ 8 * (ocK r : Int) ∧ x - y ≤ 8 * (ocK r : Int) := und0
theorem und_swap : und r x y 0 = und r y x 0 := by
  refine Bool.eq_iff_iff.mpr ?_
  rw [und_iff, und_iff]
  omega
theorem und_abs : und r (if x < 0 then -x else x) y 0 = und r x y 0 := by
  refine Bool.eq_iff_iff.mpr ?_
  rw [und_iff, und_iff]
  split <;> omega
theorem und_mono (h : und r x y 0 = true) : und (r + 1) x y 0 = true := by
  rw [und_iff] at h ⊢
  have : ocK r ≤ ocK (r + 1) := by unfold ocK; omega
  omega
theorem und_le {t : Nat} (h : und r x y 0 = true) : ∀ k, t = r + k → und t x y 0 = true
  | 0, e => by rw [e]; exact h
  | k + 1, e => by
    have := und_le (t := r + k) h k rfl
    rw [e]
    exact und_mono this
/-- from the line the place comes to a square by the least disc that it is in -/
def trP (n : Nat) (f : Nat → Nat → Nat) (m : Int) (V : Nat) (x y : Int) : Prop := ∃ r : Nat, 1 ≤ r ∧ und r x y 0 = true ∧ und (r - 1) x y 0 = false ∧ (0 ≤ m + r - 1 ∧ m + r - 1 < n) ∧ f V (m + r - 1).toNat = 1
noncomputable def trB (n : Nat) (f : Nat → Nat → Nat) (m : Int) (V : Nat) (x y : Int) : Bool := @decide (trP n f m V x y) (Classical.propDecidable _)
theorem trB_t {V : Nat} (z : trP n f m V x y) : trB n f m V x y = true := by unfold trB; exact @decide_eq_true _ (Classical.propDecidable _) z
theorem trB_f {V : Nat} (z : ¬ trP n f m V x y) : trB n f m V x y = false := by unfold trB; exact @decide_eq_false _ (Classical.propDecidable _) z
theorem least_1 {r t : Nat} (h1 : und r x y 0 = true) (h2 : und (r - 1) x y 0 = false) (h3 : und t x y 0 = true) (h4 : ∀ k, 1 ≤ k → k < t → und k x y 0 = false) (hr : 1 ≤ r) (ht : 1 ≤ t) : r = t := by
  rcases (by omega : r < t ∨ r = t ∨ t < r) with z | z | z
  · rw [h4 r hr z] at h1; cases h1
  · exact z
  · have := und_le h3 (r - 1 - t) (t := r - 1) (by omega)
    rw [this] at h2; cases h2
theorem c_isTurned720 {u v w : Int} {V : Nat} (l : LX B n h) (hd : 10 ≤ d) (hn : n ≤ 52) (hf : ∀ v u, f v u ≤ 1) (M : SqM B n h f) (e0 : hv h (B + 198) 0 = m) (bm : -200 ≤ m ∧ m ≤ 200) (bu : 0 ≤ u ∧ u < 8 * n) (bv : 0 ≤ v ∧ v < 8 * n) (eV : (V : Int) = v / 8) (bw : -3000 ≤ w ∧ w ≤ 3000) (n0 : und 0 (u - 8 * m) w 0 = false) : Vt 0 (cll PP (ev PP (gsF gv) B) d 720 [(2, rf (B + 149)), (0, u), (0, v), (0, w)] h) (fun x h' => h' = h ∧ x = b2i (trB n f m V (u - 8 * m) w)) := by
  refine Vt.inq (D := 9) hd (Nat.le_of_ble_eq_true rfl) rfl (fun d hd Q K => ?_)
  have e1 : v832 (bop32 100 u (bop32 104 8 m)) = if u - 8 * m < 0 then -(u - 8 * m) else u - 8 * m := by
    rw [mul32 (x := 8) (y := m) (by omega) (by omega), sub32 (by omega) (by omega)]
    exact v832_is (by omega) (by omega)
  have e2 : bop32 96 (bop32 104 4 (n : Int)) 400 = ((4 * n + 400 : Nat) : Int) := by
    rw [show bop32 104 4 (n : Int) = ((4 * n : Nat) : Int) from mulNN (x := 4) (by omega)]
    exact addNN (y := 400) (by omega)
  have e3 : bop32 122 v 3 = (V : Int) := by rw [sh3_8 (by omega) (by omega)]; exact eV.symm
  obtain ⟨X, eX⟩ : ∃ X, X = u - 8 * m := ⟨_, rfl⟩
  rw [← eX] at e1 n0 K
  obtain ⟨P, eP⟩ : ∃ P, P = if X < 0 then -X else X := ⟨_, rfl⟩
  rw [← eP] at e1
  have bP : 0 ≤ P ∧ P ≤ 2100 := by rw [eP]; split <;> omega
  have stop : ∀ t : Nat, 1 ≤ t → t ≤ 700 → (∀ k, 1 ≤ k → k < t → und k X w 0 = false) → (und t X w 0 = true ∨ 4 * n + 400 < t) → Ends (ev PP (gsF gv) B d 720 51 [(2, rf (B + 149)), (0, u), (0, v), (0, w), (0, P), (0, (t : Int))] [] h) Q := fun t ht ht7 no hs => by
    obtain ⟨q7, v7⟩ := v716_is (x := m + t - 1) (y := (V : Int)) hn hf M
    have e4 : bop32 100 (bop32 96 m (t : Int)) 1 = m + t - 1 := by
      rw [add32 (by omega) (by omega)]
      exact sub32 (by omega) (by omega)
    refine Ends.eq (b720_51 l (by omega)) ?_
    simp only [show Int.toNat 0 = 0 from rfl]
    rw [e0, e4, e3, v7]
    refine Ends.g q7 (Ends.sm (K _ _ ⟨rfl, ?_⟩))
    by_cases c1 : (0 ≤ m + t - 1 ∧ m + t - 1 < n) ∧ (0 ≤ (V : Int) ∧ (V : Int) < n) ∧ f (V : Int).toNat (m + t - 1).toNat = 1
    · have ut : und t X w 0 = true := hs.resolve_right (by omega)
      have c2 : f V (m + t - 1).toNat = 1 := c1.2.2
      have pz : und (t - 1) X w 0 = false := by
        rcases (by omega : t = 1 ∨ 1 < t) with z | z
        · rw [z]; exact n0
        · exact no (t - 1) (by omega) (by omega)
      rw [if_pos c1, trB_t (V := V) ⟨t, ht, ut, pz, c1.1, c2⟩]
      rfl
    · have nt : ¬ trP n f m V X w := by
        rintro ⟨r, h1, h2, h3, h4, h5⟩
        rcases (by omega : r < t ∨ t ≤ r) with z | z
        · rw [no r h1 z] at h2; cases h2
        · rcases hs with ut | big
          · have := least_1 h2 h3 ut no h1 ht
            subst this
            exact c1 ⟨h4, ⟨by omega, by omega⟩, h5⟩
          · omega
      rw [if_neg c1, trB_f nt]
      rfl
  have key : ∀ (c t : Nat), t + c = 4 * n + 401 → 1 ≤ t → (∀ k, 1 ≤ k → k < t → und k X w 0 = false) → Ends (ev PP (gsF gv) B d 720 19 [(2, rf (B + 149)), (0, u), (0, v), (0, w), (0, P), (0, (t : Int))] [] h) Q := by
    intro c
    have vt : ∀ t : Nat, t ≤ 1000 → v695 P w (t : Int) = if und t X w 0 = true then 1 else 0 := fun t ht => by
      rw [v695_is ht (by omega) (by omega), eP, und_abs]
    induction c with
    | zero =>
      intro t et ht no
      refine Ends.eq (b720_19 l (by omega)) ?_
      rw [vt t (by omega), e2]
      by_cases z : und t X w 0 = true
      · rw [if_pos z]
        exact Ends.b1 (fun _ => stop t ht (by omega) no (Or.inl z)) (fun y => absurd y (by decide))
      · rw [if_neg z]
        exact Ends.b1 (fun y => absurd rfl y) (fun _ => Ends.b4 (fun _ => stop t ht (by omega) no (Or.inr (by omega))) (fun y => absurd y (by omega)))
    | succ c ih =>
      intro t et ht no
      refine Ends.eq (b720_19 l (by omega)) ?_
      rw [vt t (by omega), e2]
      by_cases z : und t X w 0 = true
      · rw [if_pos z]
        exact Ends.b1 (fun _ => stop t ht (by omega) no (Or.inl z)) (fun y => absurd y (by decide))
      · rw [if_neg z, w_succ (by omega)]
        refine Ends.b1 (fun y => absurd rfl y) (fun _ => Ends.b4 (fun y => absurd y (by omega)) (fun _ => ih (t + 1) (by omega) (by omega) (fun k h1 h2 => ?_)))
        rcases (by omega : k < t ∨ k = t) with y | y
        · exact no k h1 y
        · rw [y]; exact Bool.eq_false_iff.mpr z
  refine Ends.eq (b720_0 l (by omega)) ?_
  simp only [show Int.toNat 0 = 0 from rfl]
  rw [e0, e1]
  exact key (4 * n + 400) 1 (by omega) (Nat.le_refl 1) (fun k h1 h2 => by omega)
/-- grains turned about a line -/
noncomputable def trG (n ax : Nat) (f : Nat → Nat → Nat) (m o : Int) (g : Nat) : Bool := trB n f m (gC n g (sA ax)) (((g8 n g (fA ax) : Nat) : Int) - 8 * m) (((g8 n g ax : Nat) : Int) - 8 * o)
theorem und_00 (hz : x % 8 ≠ 0) : und 0 x y 0 = false := by
  refine Bool.eq_false_iff.mpr (fun z => ?_)
  rw [und_iff] at z
  omega
theorem c_isIn_3 (l : LX B n h) (hd : 12 ≤ d) (hn : n ≤ 52) (mt : TbM B h) (hg : g < gN n) (hq : hv h (B + 149) 19 = rf q) (Dq : YD B q h) (F1 : YF B f1 h) (hk : hv h f1 1 = 3) (ho : hv h f1 3 = (s : Int)) (hs : s < 6) (e0 : hv h (q + (8 + 14 * s)) 0 = (ax : Int)) (e1 : hv h (q + (8 + 14 * s)) 1 = o) (hax : ax < 3) (pv : PvM B h 1 nb) (nbb : -200 ≤ nb 0 ∧ nb 0 ≤ 200) (ob : -200 ≤ o ∧ o ≤ 200) (hf : ∀ v u, f v u ≤ 1) (M : SqM B n h f) :
    Vt 0 (cll PP (ev PP (gsF gv) B) d 693 [(2, rf (B + 149)), (2, rf f1), (0, (g : Int))] h) (fun v h' => h' = h ∧ v = if trG n ax f (nb 0) o g = true then 1 else 0) := by
  refine Vt.inq (D := 11) hd (Nat.le_of_ble_eq_true rfl) rfl (fun d hd Q K => ?_)
  have hfA : fA ax < 3 := by have := fA_2 (ax := ax); omega
  have hsA : sA ax < 3 := by have := sA_2 (ax := ax); omega
  have gf := g8_b hg hn hfA
  have gs := g8_b hg hn hsA
  have gw := g8_b hg hn hax
  have gm := dmid_b hg hsA
  refine in_sk l (by omega) hn mt hg hq Dq F1 hk ho hs e0 e1 hax (Or.inr (Or.inr (Or.inl rfl))) ?_
  rw [show sw693_143 3 = 292 from rfl]
  refine Ends.eq (b693_292 l (by omega)) ?_
  have ew : bop32 100 ((g8 n g ax : Nat) : Int) (bop32 104 8 o) = ((g8 n g ax : Nat) : Int) - 8 * o := by
    rw [mul32 (x := 8) (y := o) (by omega) (by omega)]
    exact sub32 (by omega) (by omega)
  rw [ew]
  refine Ends.ct l (by decide +kernel) (by decide) (c_isTurned720 (m := nb 0) (V := gC n g (sA ax)) l (by omega) hn hf M (pv 0 (by decide)) nbb (by omega) (by omega) (by omega) (by omega) (und_00 (by omega))) (fun y q2 l2 _ _ _ ⟨eq2_, ey⟩ => ?_)
  subst eq2_
  have e01 : y = if trG n ax f (nb 0) o g = true then 1 else 0 := by
    rw [ey]
    unfold trG
    cases trB n f (nb 0) (gC n g (sA ax)) (((g8 n g (fA ax) : Nat) : Int) - 8 * nb 0) (((g8 n g ax : Nat) : Int) - 8 * o) <;> rfl
  refine Ends.eq (b693_308 l2 (by omega)) (Ends.g ?_ (Ends.sm (K _ _ ⟨rfl, e01⟩)))
  rw [e01]
  split
  · exact Or.inr rfl
  · exact Or.inl rfl
end TRN
