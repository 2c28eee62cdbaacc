/-! L3: Rows: loops over whole solids -/
section LOOPS
variable {Q : Rs → Prop}
/-- a loop that counts up to N -/
theorem upto {σ : Type} (N : Nat) (I : Nat → σ → Prop) (E : Nat → σ → Option Rs) (step : ∀ i s, i < N → I i s → (∀ s', I (i + 1) s' → Ends (E (i + 1) s') Q) → Ends (E i s) Q) (fin : ∀ s, I N s → Ends (E N s) Q) : ∀ i s, i ≤ N → I i s → Ends (E i s) Q := by
  have key : ∀ m i s, N - i = m → i ≤ N → I i s → Ends (E i s) Q := by
    intro m
    induction m with
    | zero => intro i s h1 h2 h3; have : i = N := by omega
              subst this; exact fin s h3
    | succ m ih => intro i s h1 h2 h3; exact step i s (by omega) h3 (fun s' h4 => ih (i + 1) s' (by omega) (by omega) h4)
  exact fun i s h1 h2 => key _ i s rfl h1 h2
theorem w_succ {i : Nat} (h : i < 2147483647) : w32 ((i : Int) + 1) = ((i + 1 : Nat) : Int) := by
  rw [inc32 (by omega) (by omega)]; rfl
theorem tn (i : Nat) : Int.toNat (i : Int) = i := rfl
theorem an1 (v : Int) : anar 1 v = v := rfl
theorem an0 (v : Int) : anar 0 v = v := rfl
/-- cell a as it was, but for the first i places -/
def part (f g : Nat → Int) (i : Nat) : Nat → Int := fun j => if j < i then f j else g j
theorem part0 (f g : Nat → Int) : part f g 0 = g := rfl
theorem part_at (f g : Nat → Int) (i : Nat) : part f g i i = g i := if_neg (Nat.lt_irrefl _)
theorem part_lt {f g : Nat → Int} {i j : Nat} (h : j < i) : part f g i j = f j := if_pos h
theorem part_ge {f g : Nat → Int} {i j : Nat} (h : i ≤ j) : part f g i j = g j := if_neg (Nat.not_lt.mpr h)
theorem part_s (f g : Nat → Int) (i : Nat) : (fun j => if j = i then f i else part f g i j) = part f g (i + 1) := by
  funext j
  unfold part
  by_cases h1 : j = i
  · subst h1; simp
  · by_cases h2 : j < i
    · simp [h1, h2, Nat.lt_succ_of_lt h2]
    · have : ¬ j < i + 1 := by omega
      simp [h1, h2, this]
theorem hset_part {h : AH} {a i : Nat} {f g : Nat → Int} {v : Int} (e : v = f i) : hset (hup h a (part f g i)) a i v = hup h a (part f g (i + 1)) := by
  rw [hset_up, e, part_s]
theorem up_at {h : AH} {a i : Nat} {f : Nat → Int} (b : Nat) : hv (hup h a (part f (hv h a) i)) b i = hv h b i := by
  rw [hv_up]; split
  · next e => subst e; rw [part_at]
  · rfl
end LOOPS
/-- the solid in cell a: bit x of row k -/
def Sol (n : Nat) (h : AH) (a : Nat) (R : Nat → Nat → Bool) : Prop := hk h a = (3, 24 * n * n) ∧ ∀ k, k < 24 * n * n → cn 1 (hv h a k) ∧ ∀ x, x < 64 → tb (hv h a k) x = (decide (x < n) && R k x)
/-- only cell a is another one -/
def Only (a : Nat) (h h' : AH) : Prop := ∃ f, h' = hup h a f
theorem Sol.congr {n : Nat} {h : AH} {a : Nat} {R R' : Nat → Nat → Bool} (s : Sol n h a R) (e : ∀ k x, k < 24 * n * n → x < n → R k x = R' k x) : Sol n h a R' := by
  refine ⟨s.1, fun k hk => ⟨(s.2 k hk).1, fun x hx => ?_⟩⟩
  rw [(s.2 k hk).2 x hx]
  by_cases h1 : x < n
  · rw [e k x hk h1]
  · simp [h1]
theorem Sol.of {n : Nat} {h : AH} {a : Nat} {f g : Nat → Int} {R : Nat → Nat → Bool} (ka : hk h a = (3, 24 * n * n)) (hf : ∀ k, k < 24 * n * n → cn 1 (f k) ∧ ∀ x, x < 64 → tb (f k) x = (decide (x < n) && R k x)) : Sol n (hup h a (part f g (24 * n * n))) a R := by
  refine ⟨ka, fun k hk => ?_⟩
  rw [hv_up, if_pos rfl, part_lt hk]
  exact hf k hk
theorem Sol.other {n : Nat} {h : AH} {a b : Nat} {f : Nat → Int} {R : Nat → Nat → Bool} (s : Sol n h b R) (hab : b ≠ a) : Sol n (hup h a f) b R := by
  refine ⟨s.1, fun k hk => ?_⟩
  rw [hv_up, if_neg hab]
  exact s.2 k hk
theorem rows_le {n : Nat} (hn : n ≤ 52) : 24 * n * n ≤ 64896 := by
  have h1 : n * n ≤ 52 * 52 := Nat.mul_le_mul hn hn
  rw [Nat.mul_assoc]; omega
section ROWS
variable {gv : Nat → Int} {B n d a b : Nat} {h : AH} {R T : Nat → Nat → Bool}
theorem c_clear (l : LX B n h) (hd : 10 ≤ d) (hn : n ≤ 52) (ka : hk h a = (3, 24 * n * n)) (hB : B ≤ a) :
    Vd (cll PP (ev PP (gsF gv) B) d 336 [(2, rf (B + 51)), (2, rf a)] h) (fun h' => Only a h h' ∧ Sol n h' a (fun _ _ => false)) := by
  have hN := rows_le hn
  refine Vd.into (D := 9) hd (Nat.le_of_ble_eq_true rfl) rfl (fun d hd => Ends.eq (b336_0 l hd) ?_)
  refine upto (σ := AH) (24 * n * n) (fun i s => s = hup h a (part (fun _ => 0) (hv h a) i)) (fun i s => ev PP (gsF gv) B d 336 2 [(2, rf (B + 51)), (2, rf a), (0, (i : Int))] [] s) ?_ ?_ 0 h (Nat.zero_le _) (by rw [part0, hup_self])
  · rintro i _ hi rfl ih
    refine Ends.eq (b336_2 (l.up (t := 1) (by rw [ka])) hd) ?_
    simp only [ad_rf, hk_up, ka, an1, tn]
    (repeat' first
      | (exfalso; omega)
      | refine Ends.g (by first | ((repeat' (refine And.intro ?_ ?_)) <;> first | exact rf_pos _ | exact trivial | rfl | assumption | omega | decide)) ?_
      | refine Ends.b0 (fun _ => ?_) (fun _ => ?_)
      | refine Ends.b1 (fun _ => ?_) (fun _ => ?_)
      | refine Ends.b2 (fun _ => ?_) (fun _ => ?_)
      | refine Ends.b3 (fun _ => ?_) (fun _ => ?_)
      | refine Ends.b4 (fun _ => ?_) (fun _ => ?_)
      | refine Ends.b5 (fun _ => ?_) (fun _ => ?_))
    rw [w_succ (by omega)]
    exact ih _ (hset_part rfl)
  · rintro _ rfl
    refine Ends.eq (b336_2 (l.up (t := 1) (by rw [ka])) hd) ?_
    simp only [ad_rf, hk_up, ka]
    (repeat' first
      | (exfalso; omega)
      | refine Ends.g (by first | ((repeat' (refine And.intro ?_ ?_)) <;> first | exact rf_pos _ | exact trivial | rfl | assumption | omega | decide)) ?_
      | refine Ends.b0 (fun _ => ?_) (fun _ => ?_)
      | refine Ends.b1 (fun _ => ?_) (fun _ => ?_)
      | refine Ends.b2 (fun _ => ?_) (fun _ => ?_)
      | refine Ends.b3 (fun _ => ?_) (fun _ => ?_)
      | refine Ends.b4 (fun _ => ?_) (fun _ => ?_)
      | refine Ends.b5 (fun _ => ?_) (fun _ => ?_))
    exact Ends.sm ⟨_, rfl, ⟨_, rfl⟩, Sol.of ka (fun k hk => ⟨⟨by decide, by decide⟩, fun x _ => by rw [tb_0]; simp⟩)⟩
theorem c_unite (l : LX B n h) (hd : 10 ≤ d) (hn : n ≤ 52) (sa : Sol n h a R) (sb : Sol n h b T) (hB : B ≤ a) :
    Vd (cll PP (ev PP (gsF gv) B) d 360 [(2, rf (B + 51)), (2, rf a), (2, rf b)] h) (fun h' => Only a h h' ∧ Sol n h' a (fun k x => R k x || T k x)) := by
  have hN := rows_le hn
  have ka := sa.1
  have kb := sb.1
  refine Vd.into (D := 9) hd (Nat.le_of_ble_eq_true rfl) rfl (fun d hd => Ends.eq (b360_0 l hd) ?_)
  refine upto (σ := AH) (24 * n * n) (fun i s => s = hup h a (part (fun j => bop64 129 (hv h a j) (hv h b j)) (hv h a) i)) (fun i s => ev PP (gsF gv) B d 360 2 [(2, rf (B + 51)), (2, rf a), (2, rf b), (0, (i : Int))] [] s) ?_ ?_ 0 h (Nat.zero_le _) (by rw [part0, hup_self])
  · rintro i _ hi rfl ih
    refine Ends.eq (b360_2 (l.up (t := 1) (by rw [ka])) hd) ?_
    simp only [ad_rf, hk_up, ka, kb, an1, tn, up_at]
    (repeat' first
      | (exfalso; omega)
      | refine Ends.g (by first | ((repeat' (refine And.intro ?_ ?_)) <;> first | exact rf_pos _ | exact trivial | rfl | assumption | omega | decide)) ?_
      | refine Ends.b0 (fun _ => ?_) (fun _ => ?_)
      | refine Ends.b1 (fun _ => ?_) (fun _ => ?_)
      | refine Ends.b2 (fun _ => ?_) (fun _ => ?_)
      | refine Ends.b3 (fun _ => ?_) (fun _ => ?_)
      | refine Ends.b4 (fun _ => ?_) (fun _ => ?_)
      | refine Ends.b5 (fun _ => ?_) (fun _ => ?_))
    rw [w_succ (by omega)]
    exact ih _ (hset_part rfl)
  · rintro _ rfl
    refine Ends.eq (b360_2 (l.up (t := 1) (by rw [ka])) hd) ?_
    simp only [ad_rf, hk_up, ka]
    (repeat' first
      | (exfalso; omega)
      | refine Ends.g (by first | ((repeat' (refine And.intro ?_ ?_)) <;> first | exact rf_pos _ | exact trivial | rfl | assumption | omega | decide)) ?_
      | refine Ends.b0 (fun _ => ?_) (fun _ => ?_)
      | refine Ends.b1 (fun _ => ?_) (fun _ => ?_)
      | refine Ends.b2 (fun _ => ?_) (fun _ => ?_)
      | refine Ends.b3 (fun _ => ?_) (fun _ => ?_)
      | refine Ends.b4 (fun _ => ?_) (fun _ => ?_)
      | refine Ends.b5 (fun _ => ?_) (fun _ => ?_))
    exact Ends.sm ⟨_, rfl, ⟨_, rfl⟩, Sol.of ka (fun k hk => ⟨cn_bop64, fun x hx => by
      rw [tb_or, (sa.2 k hk).2 x hx, (sb.2 k hk).2 x hx]; cases decide (x < n) <;> rfl⟩)⟩
theorem c_less (l : LX B n h) (hd : 10 ≤ d) (hn : n ≤ 52) (sa : Sol n h a R) (sb : Sol n h b T) (hB : B ≤ a) :
    Vd (cll PP (ev PP (gsF gv) B) d 348 [(2, rf (B + 51)), (2, rf a), (2, rf b)] h) (fun h' => Only a h h' ∧ Sol n h' a (fun k x => R k x && !T k x)) := by
  have hN := rows_le hn
  have ka := sa.1
  have kb := sb.1
  refine Vd.into (D := 9) hd (Nat.le_of_ble_eq_true rfl) rfl (fun d hd => Ends.eq (b348_0 l hd) ?_)
  refine upto (σ := AH) (24 * n * n) (fun i s => s = hup h a (part (fun j => bop64 127 (hv h a j) (bop64 131 (hv h b j) (-1))) (hv h a) i)) (fun i s => ev PP (gsF gv) B d 348 2 [(2, rf (B + 51)), (2, rf a), (2, rf b), (0, (i : Int))] [] s) ?_ ?_ 0 h (Nat.zero_le _) (by rw [part0, hup_self])
  · rintro i _ hi rfl ih
    refine Ends.eq (b348_2 (l.up (t := 1) (by rw [ka])) hd) ?_
    simp only [ad_rf, hk_up, ka, kb, an1, tn, up_at]
    (repeat' first
      | (exfalso; omega)
      | refine Ends.g (by first | ((repeat' (refine And.intro ?_ ?_)) <;> first | exact rf_pos _ | exact trivial | rfl | assumption | omega | decide)) ?_
      | refine Ends.b0 (fun _ => ?_) (fun _ => ?_)
      | refine Ends.b1 (fun _ => ?_) (fun _ => ?_)
      | refine Ends.b2 (fun _ => ?_) (fun _ => ?_)
      | refine Ends.b3 (fun _ => ?_) (fun _ => ?_)
      | refine Ends.b4 (fun _ => ?_) (fun _ => ?_)
      | refine Ends.b5 (fun _ => ?_) (fun _ => ?_))
    rw [w_succ (by omega)]
    exact ih _ (hset_part rfl)
  · rintro _ rfl
    refine Ends.eq (b348_2 (l.up (t := 1) (by rw [ka])) hd) ?_
    simp only [ad_rf, hk_up, ka]
    (repeat' first
      | (exfalso; omega)
      | refine Ends.g (by first | ((repeat' (refine And.intro ?_ ?_)) <;> first | exact rf_pos _ | exact trivial | rfl | assumption | omega | decide)) ?_
      | refine Ends.b0 (fun _ => ?_) (fun _ => ?_)
      | refine Ends.b1 (fun _ => ?_) (fun _ => ?_)
      | refine Ends.b2 (fun _ => ?_) (fun _ => ?_)
      | refine Ends.b3 (fun _ => ?_) (fun _ => ?_)
      | refine Ends.b4 (fun _ => ?_) (fun _ => ?_)
      | refine Ends.b5 (fun _ => ?_) (fun _ => ?_))
    exact Ends.sm ⟨_, rfl, ⟨_, rfl⟩, Sol.of ka (fun k hk => ⟨cn_bop64, fun x hx => by
      rw [tb_and, tb_not _ hx, (sa.2 k hk).2 x hx, (sb.2 k hk).2 x hx]; cases decide (x < n) <;> simp⟩)⟩
theorem c_isEmpty (l : LX B n h) (hd : 10 ≤ d) (hn : n ≤ 52) (sa : Sol n h a R) :
    Vt 0 (cll PP (ev PP (gsF gv) B) d 346 [(2, rf (B + 51)), (2, rf a)] h) (fun v h' => h' = h ∧ ((v = 1 ∧ ∀ k x, k < 24 * n * n → x < n → R k x = false) ∨ (v = 0 ∧ ∃ k x, k < 24 * n * n ∧ x < n ∧ R k x = true))) := by
  have hN := rows_le hn
  have ka := sa.1
  refine Vt.into (D := 9) hd (Nat.le_of_ble_eq_true rfl) rfl (fun d hd => Ends.eq (b346_0 l hd) ?_)
  refine upto (σ := Unit) (24 * n * n) (fun i _ => ∀ k x, k < i → x < n → R k x = false) (fun i _ => ev PP (gsF gv) B d 346 2 [(2, rf (B + 51)), (2, rf a), (0, (i : Int))] [] h) ?_ ?_ 0 () (Nat.zero_le _) (fun j _ hj => by omega)
  · intro i _ hi hI ih
    have hz := tb_z (sa.2 i hi).1
    refine Ends.eq (b346_2 l hd) ?_
    simp only [ad_rf, ka, tn]
    (repeat' first
      | (exfalso; omega)
      | refine Ends.g (by first | ((repeat' (refine And.intro ?_ ?_)) <;> first | exact rf_pos _ | exact trivial | rfl | assumption | omega | decide)) ?_
      | refine Ends.b0 (fun _ => ?_) (fun _ => ?_)
      | refine Ends.b1 (fun _ => ?_) (fun _ => ?_)
      | refine Ends.b2 (fun _ => ?_) (fun _ => ?_)
      | refine Ends.b3 (fun _ => ?_) (fun _ => ?_)
      | refine Ends.b4 (fun _ => ?_) (fun _ => ?_)
      | refine Ends.b5 (fun _ => ?_) (fun _ => ?_))
    · next q =>
      rw [w_succ (by omega)]
      refine ih () (fun k x hk hx => ?_)
      by_cases e : k = i
      · subst e
        have := hz.mp (cmp64_z.mp q) x (by omega)
        rw [(sa.2 k hi).2 x (by omega)] at this
        simpa [hx] using this
      · exact hI k x (by omega) hx
    · next q =>
      refine Ends.sm ⟨_, _, rfl, rfl, Or.inr ⟨rfl, ?_⟩⟩
      apply Classical.byContradiction
      intro hno
      apply q
      refine cmp64_z.mpr (hz.mpr (fun x hx => ?_))
      rw [(sa.2 i hi).2 x hx]
      by_cases h1 : x < n
      · cases hR : R i x
        · simp
        · exact absurd ⟨i, x, hi, h1, hR⟩ hno
      · simp [h1]
  · intro _ hI
    refine Ends.eq (b346_2 l hd) ?_
    simp only [ad_rf, ka]
    (repeat' first
      | (exfalso; omega)
      | refine Ends.g (by first | ((repeat' (refine And.intro ?_ ?_)) <;> first | exact rf_pos _ | exact trivial | rfl | assumption | omega | decide)) ?_
      | refine Ends.b0 (fun _ => ?_) (fun _ => ?_)
      | refine Ends.b1 (fun _ => ?_) (fun _ => ?_)
      | refine Ends.b2 (fun _ => ?_) (fun _ => ?_)
      | refine Ends.b3 (fun _ => ?_) (fun _ => ?_)
      | refine Ends.b4 (fun _ => ?_) (fun _ => ?_)
      | refine Ends.b5 (fun _ => ?_) (fun _ => ?_))
    exact Ends.sm ⟨_, _, rfl, rfl, Or.inl ⟨rfl, hI⟩⟩
end ROWS
