/-! L3: frames; Rows: the rest of the plain loops -/
/-- all but the cells of A is as it was; nothing was made -/
def Fr (A : Nat → Prop) (h h' : AH) : Prop := (∀ c, ¬ A c → ∀ k, hv h' c k = hv h c k) ∧ (∀ c, hk h' c = hk h c) ∧ hnx h' = hnx h ∧ hus h' = hus h
theorem Fr.rf {A : Nat → Prop} {h : AH} : Fr A h h := ⟨fun _ _ _ => rfl, fun _ => rfl, rfl, rfl⟩
theorem Fr.tr {A : Nat → Prop} {h h1 h2 : AH} (f1 : Fr A h h1) (f2 : Fr A h1 h2) : Fr A h h2 :=
  ⟨fun c hc k => (f2.1 c hc k).trans (f1.1 c hc k), fun c => (f2.2.1 c).trans (f1.2.1 c), f2.2.2.1.trans f1.2.2.1, f2.2.2.2.trans f1.2.2.2⟩
theorem Fr.sub {A A' : Nat → Prop} {h h1 : AH} (f : Fr A h h1) (s : ∀ c, A c → A' c) : Fr A' h h1 := ⟨fun c hc k => f.1 c (fun q => hc (s c q)) k, f.2⟩
theorem Fr.set {A : Nat → Prop} {h : AH} {a k : Nat} {v : Int} (ha : A a) : Fr A h (hset h a k v) :=
  ⟨fun c hc j => hv_na (fun e => hc (e ▸ ha)), fun _ => rfl, rfl, rfl⟩
theorem Fr.up {A : Nat → Prop} {h : AH} {a : Nat} {f : Nat → Int} (ha : A a) : Fr A h (hup h a f) :=
  ⟨fun c hc j => by
    have hne : c ≠ a := fun e => hc (by rw [e]; exact ha)
    rw [hv_up, if_neg hne], fun _ => rfl, rfl, rfl⟩
theorem Only.fr {a : Nat} {h h' : AH} (o : Only a h h') : Fr (fun c => c = a) h h' := by
  obtain ⟨f, rfl⟩ := o
  exact Fr.up rfl
theorem LX.fr {B n : Nat} {h h' : AH} {A : Nat → Prop} (l : LX B n h) (f : Fr A h h') (hA : ∀ c, A c → 2 ≤ (hk h c).1) : LX B n h' := by
  refine ⟨fun i kd e => ?_, fun e he => ?_, ?_⟩
  · rw [f.2.1]; exact l.1 i kd e
  · obtain ⟨c, h1, h2, h3⟩ := fix_obj he
    rw [f.1 _ (fun q => ?_)]
    · exact l.2.1 e he
    · have := hA _ q
      rw [l.1 _ _ h1] at this
      have this : 2 ≤ (1 : Nat) := this
      omega
  · rw [f.2.2.1]; exact l.2.2
theorem Sol.fr {n : Nat} {h h' : AH} {A : Nat → Prop} {b : Nat} {R : Nat → Nat → Bool} (s : Sol n h b R) (f : Fr A h h') (hb : ¬ A b) : Sol n h' b R := by
  refine ⟨by rw [f.2.1]; exact s.1, fun k hk => ?_⟩
  rw [f.1 b hb k]
  exact s.2 k hk
section ROWS2
variable {gv : Nat → Int} {B n d a b : Nat} {h : AH} {R T : Nat → Nat → Bool}
theorem c_common (l : LX B n h) (hd : 10 ≤ d) (hn : n ≤ 52) (sa : Sol n h a R) (sb : Sol n h b T) (hB : B ≤ a) :
    Vd (cll PP (ev PP (gsF gv) B) d 337 [(2, rf (B + 51)), (2, rf a), (2, rf b)] h) (fun h' => Only a h h' ∧ Sol n h' a (fun k x => R k x && T k x)) := by
  have hN := rows_le hn
  have ka := sa.1
  have kb := sb.1
  refine Vd.into (D := 9) hd (Nat.le_of_ble_eq_true rfl) rfl (fun d hd => Ends.eq (b337_0 l hd) ?_)
  refine upto (σ := AH) (24 * n * n) (fun i s => s = hup h a (part (fun j => bop64 127 (hv h a j) (hv h b j)) (hv h a) i)) (fun i s => ev PP (gsF gv) B d 337 2 [(2, rf (B + 51)), (2, rf a), (2, rf b), (0, (i : Int))] [] s) ?_ ?_ 0 h (Nat.zero_le _) (by rw [part0, hup_self])
  · rintro i _ hi rfl ih
    refine Ends.eq (b337_2 (l.up (t := 1) (by rw [ka])) hd) ?_
    simp only [ad_rf, hk_up, ka, kb, an1, tn, up_at]
    (repeat' first
      | (exfalso; omega)
      | refine Ends.g (by first | ((repeat' (refine And.intro ?_ ?_)) <;> first | exact rf_pos _ | exact trivial | rfl | assumption | omega | decide)) ?_
      | refine Ends.b0 (fun _ => ?_) (fun _ => ?_)
      | refine Ends.b1 (fun _ => ?_) (fun _ => ?_)
      | refine Ends.b2 (fun _ => ?_) (fun _ => ?_)
      | refine Ends.b3 (fun _ => ?_) (fun _ => ?_)
      | refine Ends.b4 (fun _ => ?_) (fun _ => ?_)
      | refine Ends.b5 (fun _ => ?_) (fun _ => ?_))
    rw [w_succ (by omega)]
    exact ih _ (hset_part rfl)
  · rintro _ rfl
    refine Ends.eq (b337_2 (l.up (t := 1) (by rw [ka])) hd) ?_
    simp only [ad_rf, hk_up, ka]
    (repeat' first
      | (exfalso; omega)
      | refine Ends.g (by first | ((repeat' (refine And.intro ?_ ?_)) <;> first | exact rf_pos _ | exact trivial | rfl | assumption | omega | decide)) ?_
      | refine Ends.b0 (fun _ => ?_) (fun _ => ?_)
      | refine Ends.b1 (fun _ => ?_) (fun _ => ?_)
      | refine Ends.b2 (fun _ => ?_) (fun _ => ?_)
      | refine Ends.b3 (fun _ => ?_) (fun _ => ?_)
      | refine Ends.b4 (fun _ => ?_) (fun _ => ?_)
      | refine Ends.b5 (fun _ => ?_) (fun _ => ?_))
    exact Ends.sm ⟨_, rfl, ⟨_, rfl⟩, Sol.of ka (fun k hk => ⟨cn_bop64, fun x hx => by
      rw [tb_and, (sa.2 k hk).2 x hx, (sb.2 k hk).2 x hx]; cases decide (x < n) <;> rfl⟩)⟩
theorem c_copy (l : LX B n h) (hd : 10 ≤ d) (sa : Sol n h a R) (kb : hk h b = (3, 24 * n * n)) (hB : B ≤ b) :
    Vd (cll PP (ev PP (gsF gv) B) d 338 [(2, rf (B + 51)), (2, rf a), (2, rf b)] h) (fun h' => Fr (fun c => c = b) h h' ∧ Sol n h' b R) := by
  have ka := sa.1
  refine Vd.into (D := 9) hd (Nat.le_of_ble_eq_true rfl) rfl (fun d hd => Ends.eq (b338_0 l hd) ?_)
  simp only [ad_rf, ka, kb]
  (repeat' first
    | (exfalso; omega)
    | refine Ends.g (by first | ((repeat' (refine And.intro ?_ ?_)) <;> first | exact rf_pos _ | exact trivial | rfl | assumption | omega | decide)) ?_
    | refine Ends.b0 (fun _ => ?_) (fun _ => ?_)
    | refine Ends.b1 (fun _ => ?_) (fun _ => ?_)
    | refine Ends.b2 (fun _ => ?_) (fun _ => ?_)
    | refine Ends.b3 (fun _ => ?_) (fun _ => ?_)
    | refine Ends.b4 (fun _ => ?_) (fun _ => ?_)
    | refine Ends.b5 (fun _ => ?_) (fun _ => ?_))
  refine Ends.eq (b338_9 (l.cpy (t := 1) (by rw [kb])) hd) (Ends.sm ⟨_, rfl, ⟨fun c hc k => ?_, fun _ => rfl, rfl, rfl⟩, kb, fun k hk => ?_⟩)
  · rw [hv_cpy, if_neg (fun q => hc q.1)]
  · rw [hv_cpy, if_pos ⟨rfl, Nat.zero_le _, (by show k < 0 + 24 * n * n; omega)⟩]
    show cn 1 (hv h a (0 + (k - 0))) ∧ ∀ x, x < 64 → tb (hv h a (0 + (k - 0))) x = _
    rw [show 0 + (k - 0) = k by omega]
    exact sa.2 k hk
/-- by op: united, less, in common -/
def jn (op : Int) (p q : Bool) : Bool := if op = 0 then p || q else if op = 1 then p && !q else p && q
theorem c_join (l : LX B n h) (hd : 11 ≤ d) (hn : n ≤ 52) {op : Int} (sa : Sol n h a R) (sb : Sol n h b T) (hB : B ≤ a) :
    Vd (cll PP (ev PP (gsF gv) B) d 347 [(2, rf (B + 51)), (2, rf a), (2, rf b), (0, op)] h) (fun h' => Only a h h' ∧ Sol n h' a (fun k x => jn op (R k x) (T k x))) := by
  refine Vd.into (D := 10) hd (Nat.le_of_ble_eq_true rfl) rfl (fun d hd => Ends.eq (b347_0 l (by omega)) ?_)
  refine Ends.b1 (fun h0 => Ends.b1 (fun h1 => ?_) (fun h1 => ?_)) (fun h0 => ?_)
  · refine Ends.cv l rfl (c_common l hd hn sa sb hB) (fun h' l' _ _ _ r => Ends.eq (b347_33 l' (by omega)) (Ends.sm ⟨h', rfl, r.1, r.2.congr (fun k x _ _ => ?_)⟩))
    simp [jn, h0, h1]
  · refine Ends.cv l rfl (c_less l hd hn sa sb hB) (fun h' l' _ _ _ r => Ends.eq (b347_24 l' (by omega)) (Ends.eq (b347_33 l' (by omega)) (Ends.sm ⟨h', rfl, r.1, r.2.congr (fun k x _ _ => ?_)⟩)))
    simp [jn, h1]
  · refine Ends.cv l rfl (c_unite l hd hn sa sb hB) (fun h' l' _ _ _ r => Ends.eq (b347_10 l' (by omega)) (Ends.eq (b347_33 l' (by omega)) (Ends.sm ⟨h', rfl, r.1, r.2.congr (fun k x _ _ => ?_)⟩)))
    simp [jn, h0]
theorem row_same {u v : Int} {k : Nat} (h1 : cn 1 u) (h2 : cn 1 v) (hu : ∀ x, x < 64 → tb u x = (decide (x < n) && R k x)) (hv : ∀ x, x < 64 → tb v x = (decide (x < n) && T k x)) (hn : n ≤ 52) : u = v ↔ ∀ x, x < n → R k x = T k x := by
  constructor
  · rintro rfl x hx
    have := (hu x (by omega)).symm.trans (hv x (by omega))
    simpa [hx] using this
  · intro e
    refine tb_ext h1 h2 (fun x hx => ?_)
    rw [hu x hx, hv x hx]
    by_cases hxn : x < n
    · rw [e x hxn]
    · simp [hxn]
theorem c_same (l : LX B n h) (hd : 10 ≤ d) (hn : n ≤ 52) (sa : Sol n h a R) (sb : Sol n h b T) :
    Vt 0 (cll PP (ev PP (gsF gv) B) d 353 [(2, rf (B + 51)), (2, rf a), (2, rf b)] h) (fun v h' => h' = h ∧ ((v = 1 ∧ ∀ k x, k < 24 * n * n → x < n → R k x = T k x) ∨ (v = 0 ∧ ∃ k x, k < 24 * n * n ∧ x < n ∧ R k x ≠ T k x))) := by
  have hN := rows_le hn
  have ka := sa.1
  have kb := sb.1
  refine Vt.into (D := 9) hd (Nat.le_of_ble_eq_true rfl) rfl (fun d hd => Ends.eq (b353_0 l hd) ?_)
  refine upto (σ := Unit) (24 * n * n) (fun i _ => ∀ k x, k < i → x < n → R k x = T k x) (fun i _ => ev PP (gsF gv) B d 353 2 [(2, rf (B + 51)), (2, rf a), (2, rf b), (0, (i : Int))] [] h) ?_ ?_ 0 () (Nat.zero_le _) (fun j _ hj => by omega)
  · intro i _ hi hI ih
    have hz := row_same (R := R) (T := T) (k := i) (sa.2 i hi).1 (sb.2 i hi).1 (sa.2 i hi).2 (sb.2 i hi).2 hn
    refine Ends.eq (b353_2 l hd) ?_
    simp only [ad_rf, ka, kb, tn]
    (repeat' first
      | (exfalso; omega)
      | refine Ends.g (by first | ((repeat' (refine And.intro ?_ ?_)) <;> first | exact rf_pos _ | exact trivial | rfl | assumption | omega | decide)) ?_
      | refine Ends.b0 (fun _ => ?_) (fun _ => ?_)
      | refine Ends.b1 (fun _ => ?_) (fun _ => ?_)
      | refine Ends.b2 (fun _ => ?_) (fun _ => ?_)
      | refine Ends.b3 (fun _ => ?_) (fun _ => ?_)
      | refine Ends.b4 (fun _ => ?_) (fun _ => ?_)
      | refine Ends.b5 (fun _ => ?_) (fun _ => ?_))
    · next q =>
      rw [w_succ (by omega)]
      refine ih () (fun k x hk hx => ?_)
      by_cases e : k = i
      · subst e; exact hz.mp (cmp64_z.mp q) x hx
      · exact hI k x (by omega) hx
    · next q =>
      refine Ends.sm ⟨_, _, rfl, rfl, Or.inr ⟨rfl, ?_⟩⟩
      apply Classical.byContradiction
      intro hno
      refine q (cmp64_z.mpr (hz.mpr (fun x hx => ?_)))
      apply Classical.byContradiction
      intro hne
      exact hno ⟨i, x, hi, hx, hne⟩
  · intro _ hI
    refine Ends.eq (b353_2 l hd) ?_
    simp only [ad_rf, ka]
    (repeat' first
      | (exfalso; omega)
      | refine Ends.g (by first | ((repeat' (refine And.intro ?_ ?_)) <;> first | exact rf_pos _ | exact trivial | rfl | assumption | omega | decide)) ?_
      | refine Ends.b0 (fun _ => ?_) (fun _ => ?_)
      | refine Ends.b1 (fun _ => ?_) (fun _ => ?_)
      | refine Ends.b2 (fun _ => ?_) (fun _ => ?_)
      | refine Ends.b3 (fun _ => ?_) (fun _ => ?_)
      | refine Ends.b4 (fun _ => ?_) (fun _ => ?_)
      | refine Ends.b5 (fun _ => ?_) (fun _ => ?_))
    exact Ends.sm ⟨_, _, rfl, rfl, Or.inl ⟨rfl, hI⟩⟩
theorem c_meet (l : LX B n h) (hd : 10 ≤ d) (hn : n ≤ 52) (sa : Sol n h a R) (sb : Sol n h b T) :
    Vt 0 (cll PP (ev PP (gsF gv) B) d 350 [(2, rf (B + 51)), (2, rf a), (2, rf b)] h) (fun v h' => h' = h ∧ ((v = 0 ∧ ∀ k x, k < 24 * n * n → x < n → (R k x && T k x) = false) ∨ (v = 1 ∧ ∃ k x, k < 24 * n * n ∧ x < n ∧ (R k x && T k x) = true))) := by
  have hN := rows_le hn
  have ka := sa.1
  have kb := sb.1
  refine Vt.into (D := 9) hd (Nat.le_of_ble_eq_true rfl) rfl (fun d hd => Ends.eq (b350_0 l hd) ?_)
  refine upto (σ := Unit) (24 * n * n) (fun i _ => ∀ k x, k < i → x < n → (R k x && T k x) = false) (fun i _ => ev PP (gsF gv) B d 350 2 [(2, rf (B + 51)), (2, rf a), (2, rf b), (0, (i : Int))] [] h) ?_ ?_ 0 () (Nat.zero_le _) (fun j _ hj => by omega)
  · intro i _ hi hI ih
    have hz : bop64 127 (hv h a i) (hv h b i) = 0 ↔ ∀ x, x < n → (R i x && T i x) = false := by
      refine (row_same (n := n) (R := fun k x => R k x && T k x) (T := fun _ _ => false) (k := i) cn_bop64 ⟨by decide, by decide⟩ (fun x hx => ?_) (fun x hx => ?_) hn)
      · rw [tb_and, (sa.2 i hi).2 x hx, (sb.2 i hi).2 x hx]; cases decide (x < n) <;> rfl
      · rw [tb_0]; simp
    refine Ends.eq (b350_2 l hd) ?_
    simp only [ad_rf, ka, kb, tn]
    (repeat' first
      | (exfalso; omega)
      | refine Ends.g (by first | ((repeat' (refine And.intro ?_ ?_)) <;> first | exact rf_pos _ | exact trivial | rfl | assumption | omega | decide)) ?_
      | refine Ends.b0 (fun _ => ?_) (fun _ => ?_)
      | refine Ends.b1 (fun _ => ?_) (fun _ => ?_)
      | refine Ends.b2 (fun _ => ?_) (fun _ => ?_)
      | refine Ends.b3 (fun _ => ?_) (fun _ => ?_)
      | refine Ends.b4 (fun _ => ?_) (fun _ => ?_)
      | refine Ends.b5 (fun _ => ?_) (fun _ => ?_))
    · next q =>
      rw [w_succ (by omega)]
      refine ih () (fun k x hk hx => ?_)
      by_cases e : k = i
      · subst e; exact hz.mp (cmp64_z.mp q) x hx
      · exact hI k x (by omega) hx
    · next q =>
      refine Ends.sm ⟨_, _, rfl, rfl, Or.inr ⟨rfl, ?_⟩⟩
      apply Classical.byContradiction
      intro hno
      refine q (cmp64_z.mpr (hz.mpr (fun x hx => ?_)))
      cases hR : (R i x && T i x)
      · rfl
      · exact absurd ⟨i, x, hi, hx, hR⟩ hno
  · intro _ hI
    refine Ends.eq (b350_2 l hd) ?_
    simp only [ad_rf, ka]
    (repeat' first
      | (exfalso; omega)
      | refine Ends.g (by first | ((repeat' (refine And.intro ?_ ?_)) <;> first | exact rf_pos _ | exact trivial | rfl | assumption | omega | decide)) ?_
      | refine Ends.b0 (fun _ => ?_) (fun _ => ?_)
      | refine Ends.b1 (fun _ => ?_) (fun _ => ?_)
      | refine Ends.b2 (fun _ => ?_) (fun _ => ?_)
      | refine Ends.b3 (fun _ => ?_) (fun _ => ?_)
      | refine Ends.b4 (fun _ => ?_) (fun _ => ?_)
      | refine Ends.b5 (fun _ => ?_) (fun _ => ?_))
    exact Ends.sm ⟨_, _, rfl, rfl, Or.inl ⟨rfl, hI⟩⟩
theorem addN {a b : Nat} (h : a + b < 2147483648) : bop32 96 (a : Int) (b : Int) = ((a + b : Nat) : Int) := by
  rw [add32 (by omega) (by omega)]; rfl
theorem mulN {a b : Nat} (h : a * b < 2147483648) : bop32 104 (a : Int) (b : Int) = ((a * b : Nat) : Int) := by
  have : ((a * b : Nat) : Int) = (a : Int) * (b : Int) := Int.natCast_mul a b
  rw [mul32 (by omega) (by omega), this]
/-- the number of a row -/
def rw3 (n t z y : Nat) : Nat := (t * n + z) * n + y
theorem rw3_lt {t z y : Nat} (ht : t < 24) (hz : z < n) (hy : y < n) : rw3 n t z y < 24 * n * n := by
  unfold rw3
  have h1 : t * n + z + 1 ≤ 24 * n := by
    have : (t + 1) * n ≤ 24 * n := Nat.mul_le_mul_right n ht
    rw [Nat.add_mul] at this
    omega
  have h2 : (t * n + z + 1) * n ≤ 24 * n * n := Nat.mul_le_mul_right n h1
  rw [Nat.add_mul] at h2
  omega
theorem row_eq {t z y : Nat} (hn : n ≤ 52) (ht : t < 24) (hz : z < n) (hy : y < n) : v238 n (t : Int) (z : Int) (y : Int) = ((rw3 n t z y : Nat) : Int) := by
  have h1 := rw3_lt ht hz hy
  have h2 := rows_le hn
  have h3 : t * n + z ≤ rw3 n t z y := by
    unfold rw3
    have : t * n + z ≤ (t * n + z) * n := Nat.le_mul_of_pos_right _ (by omega)
    omega
  have h4 : (t * n + z) * n ≤ rw3 n t z y := by unfold rw3; omega
  unfold v238
  rw [mulN (by have : t * n ≤ t * n + z := Nat.le_add_right _ _; omega), addN (by omega), mulN (by omega), addN (by unfold rw3 at h1; omega)]
  rfl
theorem c_put (l : LX B n h) (hd : 10 ≤ d) (hn : n ≤ 52) {t x y z : Nat} (ht : t < 24) (hx : x < n) (hy : y < n) (hz : z < n) (sa : Sol n h a R) (hB : B ≤ a) :
    Vd (cll PP (ev PP (gsF gv) B) d 352 [(2, rf (B + 51)), (2, rf a), (0, (t : Int)), (0, (x : Int)), (0, (y : Int)), (0, (z : Int))] h) (fun h' => Fr (fun c => c = a) h h' ∧ Sol n h' a (fun k i => R k i || (k == rw3 n t z y && i == x))) := by
  have hN := rows_le hn
  have ka := sa.1
  have hr := rw3_lt ht hz hy
  refine Vd.into (D := 9) hd (Nat.le_of_ble_eq_true rfl) rfl (fun d hd => Ends.eq (b352_0 l hd) ?_)
  simp only [ad_rf, ka, row_eq hn ht hz hy, tn, an1]
  (repeat' first
    | (exfalso; omega)
    | refine Ends.g (by first | ((repeat' (refine And.intro ?_ ?_)) <;> first | exact rf_pos _ | exact trivial | rfl | assumption | omega | decide)) ?_
    | refine Ends.b0 (fun _ => ?_) (fun _ => ?_)
    | refine Ends.b1 (fun _ => ?_) (fun _ => ?_)
    | refine Ends.b2 (fun _ => ?_) (fun _ => ?_)
    | refine Ends.b3 (fun _ => ?_) (fun _ => ?_)
    | refine Ends.b4 (fun _ => ?_) (fun _ => ?_)
    | refine Ends.b5 (fun _ => ?_) (fun _ => ?_))
  refine Ends.sm ⟨_, rfl, Fr.set rfl, ka, fun k hk => ?_⟩
  rw [hv_set, if_pos rfl]
  by_cases e : k = rw3 n t z y
  · rw [if_pos e]
    subst e
    refine ⟨cn_bop64, fun i hi => ?_⟩
    rw [tb_or, one_bit (by omega) hi, (sa.2 _ hk).2 i hi]
    by_cases e2 : i = x
    · subst e2; simp [hx]
    · simp [e2, beq_eq_false_iff_ne.mpr e2]
  · rw [if_neg e]
    refine ⟨(sa.2 k hk).1, fun i hi => ?_⟩
    rw [(sa.2 k hk).2 i hi]
    simp [beq_eq_false_iff_ne.mpr e]
theorem has_eq (hn : n ≤ 52) {t x y z : Nat} (ht : t < 24) (hx : x < n) (hy : y < n) (hz : z < n) (sa : Sol n h a R) : v345 n h (rf a) (t : Int) (x : Int) (y : Int) (z : Int) = if R (rw3 n t z y) x then 1 else 0 := by
  unfold v345
  rw [ad_rf, row_eq hn ht hz hy, tn, bit_is _ (show x < 64 by omega), (sa.2 _ (rw3_lt ht hz hy)).2 x (by omega)]
  rw [show decide (x < n) = true by simp [hx], Bool.true_and]
  cases R (rw3 n t z y) x
  · decide
  · decide
theorem has_ok (hn : n ≤ 52) {t x y z : Nat} (ht : t < 24) (hy : y < n) (hz : z < n) (sa : Sol n h a R) : q345 n h (rf a) (t : Int) (x : Int) (y : Int) (z : Int) := by
  have := rw3_lt ht hz hy
  unfold q345
  rw [ad_rf, row_eq hn ht hz hy, sa.1]
  exact ⟨rf_pos _, rfl, by omega, by omega⟩
end ROWS2
