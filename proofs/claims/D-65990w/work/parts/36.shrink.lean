/-! L3: shrinkLine -/
def sbl (n p st : Nat) (R : Nat → Nat → Bool) (k x : Nat) : Bool := (decide (0 < k) && R (p + (k - 1) * st) x) && (decide (k + 1 < n) && R (p + (k + 1) * st) x)
section SHRINK
variable {gv : Nat → Int} {B n d a : Nat} {h : AH} {R : Nat → Nat → Bool}
theorem c_shrinkLine (l : LX B n h) (hd : 10 ≤ d) (hn4 : 4 ≤ n) (hn : n ≤ 52) (sa : Sol n h a R) (hB : B ≤ a) {p st : Nat} (hs : 0 < st) (hat : ∀ k, k < n → p + k * st < 24 * n * n) :
    Vd (cll PP (ev PP (gsF gv) B) d 357 [(2, rf (B + 51)), (2, rf a), (0, (p : Int)), (0, (st : Int))] h) (fun h' => Fr (fun c => c = a ∨ c = B + 52) h h' ∧ Sol n h' a (fun j x => R j x && (!onl n p st j || sbl n p st R ((j - p) / st) x))) := by
  have hN := rows_le hn
  have ka := sa.1
  have k52 : hk h (B + 52) = (3, 64) := lk_52 l
  have hne : a ≠ B + 52 := by
    intro e
    rw [e, k52] at ka
    have := congrArg Prod.snd ka
    have h9 : 64 = 24 * n * n := this
    have : 4 * 4 ≤ n * n := Nat.mul_le_mul hn4 hn4
    rw [Nat.mul_assoc] at h9
    omega
  have ix : ∀ k : Nat, k < n → bop32 96 (p : Int) (bop32 104 (k : Int) (st : Int)) = ((p + k * st : Nat) : Int) := by
    intro k hk
    have := hat k hk
    rw [mulN (by omega), addN (by omega)]
  have arr : ∀ c, (c = a ∨ c = B + 52) → 2 ≤ (hk h c).1 := by
    rintro c (rfl | rfl)
    · rw [ka]; exact (by decide : 2 ≤ 3)
    · rw [k52]; exact (by decide : 2 ≤ 3)
  refine Vd.into (D := 9) hd (Nat.le_of_ble_eq_true rfl) rfl (fun d hd => Ends.eq (b357_0 l hd) ?_)
  -- the line is noted
  refine upto (σ := AH) n (fun i s => Fr (fun c => c = B + 52) h s ∧ ∀ k, k < i → hv s (B + 52) k = hv h a (p + k * st)) (fun i s => ev PP (gsF gv) B d 357 3 [(2, rf (B + 51)), (2, rf a), (0, (p : Int)), (0, (st : Int)), (0, (i : Int))] [] s) ?_ ?_ 0 h (Nat.zero_le _) ⟨Fr.rf, fun k hk => by omega⟩
  · rintro i s hi ⟨hF, hL⟩ ih
    have ls := l.fr hF (fun c hc => arr c (Or.inr hc))
    have := hat i hi
    refine Ends.eq (b357_3 ls hd) ?_
    simp only [ad_rf, hF.2.1, ka, ix i hi, tn, an1]
    (repeat' first
      | (exfalso; omega)
      | refine Ends.g (by first | ((repeat' (refine And.intro ?_ ?_)) <;> first | exact rf_pos _ | exact trivial | rfl | assumption | omega | decide)) ?_
      | refine Ends.b0 (fun _ => ?_) (fun _ => ?_)
      | refine Ends.b1 (fun _ => ?_) (fun _ => ?_)
      | refine Ends.b2 (fun _ => ?_) (fun _ => ?_)
      | refine Ends.b3 (fun _ => ?_) (fun _ => ?_)
      | refine Ends.b4 (fun _ => ?_) (fun _ => ?_)
      | refine Ends.b5 (fun _ => ?_) (fun _ => ?_))
    rw [w_succ (by omega)]
    refine ih _ ⟨hF.tr (Fr.set rfl), fun k hk => ?_⟩
    rw [hv_set, if_pos rfl]
    by_cases e : k = i
    · rw [if_pos e, e, hF.1 a hne]
    · rw [if_neg e]; exact hL k (by omega)
  · rintro s ⟨hF, hL⟩
    have ls := l.fr hF (fun c hc => arr c (Or.inr hc))
    refine Ends.eq (b357_3 ls hd) ?_
    refine Ends.b3 (fun _ => ?_) (fun _ => by omega)
    -- each gets what is beside it
    refine upto (σ := AH) n (fun i s => Fr (fun c => c = a ∨ c = B + 52) h s ∧ (∀ k, k < n → hv s (B + 52) k = hv h a (p + k * st)) ∧ Sol n s a (fun j x => R j x && (!(onl n p st j && decide ((j - p) / st < i)) || sbl n p st R ((j - p) / st) x))) (fun i s => ev PP (gsF gv) B d 357 36 [(2, rf (B + 51)), (2, rf a), (0, (p : Int)), (0, (st : Int)), (0, (i : Int))] [] s) ?_ ?_ 0 s (Nat.zero_le _) ⟨hF.sub (fun c hc => Or.inr hc), hL, (sa.fr hF hne).congr (fun k x _ _ => by simp)⟩
    · rintro i s hi ⟨hG, hM, hS⟩ ih
      have lg := l.fr hG arr
      have hp := hat i hi
      obtain ⟨i1, i2⟩ := idx_at (p := p) (k := i) hs
      have prev : (if 0 < i then hv h a (p + (i - 1) * st) else 0) = cond (tst 5 (i : Int) 0) 0 (hv s (B + 52) (Int.toNat (bop32 100 (i : Int) 1))) := by
        rw [tst5]
        by_cases h0 : 0 < i
        · have : (0 : Int) < (i : Int) := by omega
          rw [subN (by omega) (by omega) (by decide) (by decide)]
          simp only [h0, this, if_true, decide_true, Bool.not_true, cond_false]
          rw [show ((i : Int) - 1).toNat = i - 1 by omega, hM (i - 1) (by omega)]
        · have : ¬ (0 : Int) < (i : Int) := by omega
          simp only [h0, this, if_false, decide_false, Bool.not_false, cond_true]
      have nxt : (if i + 1 < n then hv h a (p + (i + 1) * st) else 0) = cond (tst 3 (bop32 96 (i : Int) 1) (n : Int)) 0 (hv s (B + 52) (Int.toNat (bop32 96 (i : Int) 1))) := by
        rw [tst3, show bop32 96 (i : Int) 1 = ((i + 1 : Nat) : Int) from addN (b := 1) (by omega)]
        by_cases h0 : i + 1 < n
        · have : ((i + 1 : Nat) : Int) < (n : Int) := by omega
          simp only [h0, this, if_true, decide_true, Bool.not_true, cond_false]
          rw [tn, hM (i + 1) h0]
        · have : ¬ ((i + 1 : Nat) : Int) < (n : Int) := by omega
          simp only [h0, this, if_false, decide_false, Bool.not_false, cond_true]
      refine Ends.eq (b357_36 lg hd) ?_
      rw [← prev, ← nxt]
      simp only [ad_rf, hG.2.1, ka, ix i hi, tn, an1]
      refine Ends.b3 (fun _ => by omega) (fun _ => Ends.g ⟨rf_pos _, by first | trivial | rfl, by omega, by omega⟩ (Ends.g ?_ (Ends.g ?_ (Ends.g ⟨rf_pos _, by first | trivial | rfl, by omega, by omega, hB⟩ ?_))))
      · rw [tst5]
        by_cases h0 : (0 : Int) < (i : Int)
        · simp only [h0, decide_true, Bool.not_true, cond_false]
          rw [subN (by omega) (by omega) (by decide) (by decide)]
          exact ⟨by omega, by omega⟩
        · simp only [h0, decide_false, Bool.not_false, cond_true]
      · rw [tst3, show bop32 96 (i : Int) 1 = ((i + 1 : Nat) : Int) from addN (b := 1) (by omega)]
        by_cases h0 : ((i + 1 : Nat) : Int) < (n : Int)
        · simp only [h0, decide_true, Bool.not_true, cond_false]
          exact ⟨by omega, by omega⟩
        · simp only [h0, decide_false, Bool.not_false, cond_true]
      · rw [w_succ (by omega)]
        refine ih _ ⟨hG.tr (Fr.set (Or.inl rfl)), fun k hk => ?_, (by rw [hk_set, hG.2.1]; exact ka), fun j hj => ?_⟩
        · rw [hv_na (Ne.symm hne)]; exact hM k hk
        · rw [hv_set, if_pos rfl]
          by_cases e : j = p + i * st
          · subst e
            rw [if_pos rfl]
            refine ⟨cn_bop64, fun x hx => ?_⟩
            have o : onl n p st (p + i * st) = true := by
              unfold onl
              rw [i1, i2]
              exact decide_eq_true ⟨Nat.le_add_right _ _, rfl, hi⟩
            have t1 : tb (if 0 < i then hv h a (p + (i - 1) * st) else 0) x = (decide (x < n) && (decide (0 < i) && R (p + (i - 1) * st) x)) := by
              split
              · next q => rw [(sa.2 _ (hat (i - 1) (by omega))).2 x hx]; simp [q]
              · next q => rw [tb_0]; simp [q]
            have t2 : tb (if i + 1 < n then hv h a (p + (i + 1) * st) else 0) x = (decide (x < n) && (decide (i + 1 < n) && R (p + (i + 1) * st) x)) := by
              split
              · next q => rw [(sa.2 _ (hat (i + 1) q)).2 x hx]; simp [q]
              · next q => rw [tb_0]; simp [q]
            rw [tb_and, tb_and, (hS.2 _ hp).2 x hx, t1, t2]
            dsimp only
            rw [i1, o]
            have h1 : decide (i < i) = false := decide_eq_false (Nat.lt_irrefl _)
            have h2 : decide (i < i + 1) = true := decide_eq_true (Nat.lt_succ_self _)
            rw [h1, h2]
            unfold sbl
            cases decide (x < n) <;> cases R (p + i * st) x <;> simp
          · rw [if_neg e]
            refine ⟨(hS.2 j hj).1, fun x hx => ?_⟩
            rw [(hS.2 j hj).2 x hx]
            dsimp only
            have : (onl n p st j && decide ((j - p) / st < i + 1)) = (onl n p st j && decide ((j - p) / st < i)) := by
              cases ho : onl n p st j
              · rfl
              · have h3 := (onl_is ho).1
                have h4 : (j - p) / st ≠ i := fun q => e (by rw [← q]; exact h3)
                congr 1
                by_cases h5 : (j - p) / st < i
                · rw [decide_eq_true h5, decide_eq_true (by omega)]
                · rw [decide_eq_false h5, decide_eq_false (by omega)]
            rw [this]
    · rintro s ⟨hG, hM, hS⟩
      refine Ends.eq (b357_36 (l.fr hG arr) hd) ?_
      refine Ends.b3 (fun _ => Ends.sm ⟨_, rfl, hG, hS.congr (fun j x _ _ => ?_)⟩) (fun _ => by omega)
      cases ho : onl n p st j
      · simp
      · have := (onl_is ho).2
        simp [this]
end SHRINK
