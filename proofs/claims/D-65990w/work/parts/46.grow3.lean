/-! L3: Rows: growOnce, grow, shrinkOnce, shrink -/
section LN
variable {n : Nat} {M : Nat → Nat → Nat → Nat → Bool} {h : AH} {a : Nat}
theorem Sol.put {R : Nat → Nat → Bool} (s : Sol n h a R) {p : Nat} (hp : p < 24 * n * n) {w : Int} (cw : cn 1 w) {r : Nat → Bool} (hw : ∀ x, x < 64 → tb w x = (decide (x < n) && r x)) : Sol n (hset h a p w) a (fun k x => if k = p then r x else R k x) := by
  refine ⟨s.1, fun k hk => ?_⟩
  rw [hv_set, if_pos rfl]
  by_cases e : k = p
  · subst e; rw [if_pos rfl]; exact ⟨cw, fun x hx => by rw [hw x hx]; simp⟩
  · rw [if_neg e]; exact ⟨(s.2 k hk).1, fun x hx => by rw [(s.2 k hk).2 x hx]; simp [e]⟩
theorem Sol.byM {R : Nat → Nat → Bool} (hn0 : 0 < n) (s : Sol n h a R) (e : ∀ t z y x, t < 24 → z < n → y < n → x < n → R (rw3 n t z y) x = M t z y x) : Sol n h a (onK n M) := by
  refine s.congr (fun k x hk hx => ?_)
  obtain ⟨h1, h2, h3, h4⟩ := rw3_dec hn0 hk
  have := e _ _ _ x h1 h2 h3 hx
  rw [h4] at this
  exact this
def nx1 (n : Nat) (M : Nat → Nat → Nat → Nat → Bool) (t z y x : Nat) : Bool := (decide (0 < x) && M t z y (x - 1)) || (decide (x + 1 < n) && M t z y (x + 1))
def ny1 (n : Nat) (M : Nat → Nat → Nat → Nat → Bool) (t z y x : Nat) : Bool := (decide (0 < y) && M t z (y - 1) x) || (decide (y + 1 < n) && M t z (y + 1) x)
def nz1 (n : Nat) (M : Nat → Nat → Nat → Nat → Bool) (t z y x : Nat) : Bool := (decide (0 < z) && M t (z - 1) y x) || (decide (z + 1 < n) && M t (z + 1) y x)
def gx1 (n : Nat) (M : Nat → Nat → Nat → Nat → Bool) (t z y x : Nat) : Bool := M t z y x || nx1 n M t z y x
def gy1 (n : Nat) (M : Nat → Nat → Nat → Nat → Bool) (t z y x : Nat) : Bool := M t z y x || ny1 n M t z y x
def gz1 (n : Nat) (M : Nat → Nat → Nat → Nat → Bool) (t z y x : Nat) : Bool := M t z y x || nz1 n M t z y x
def g3 (n : Nat) (M : Nat → Nat → Nat → Nat → Bool) : Nat → Nat → Nat → Nat → Bool := gz1 n (gy1 n (gx1 n M))
theorem onl_y {t z t' z' y' : Nat} (hz : z < n) (hz' : z' < n) (hy' : y' < n) : onl n (rw3 n t z 0) 1 (rw3 n t' z' y') = decide (t' = t ∧ z' = z) := by
  unfold onl
  refine decide_eq_decide.mpr ⟨fun ⟨h1, _, h3⟩ => ?_, fun ⟨h1, h2⟩ => ?_⟩
  · rw [Nat.div_one] at h3
    have h4 : rw3 n t' z' y' < rw3 n t z n := by
      have : rw3 n t z n = rw3 n t z 0 + n := rfl
      omega
    obtain ⟨e1, e2, -⟩ := rng_y hz h1 h4 (Nat.le_refl _)
    rw [dec_t hz' hy'] at e1
    rw [dec_z hz' hy'] at e2
    exact ⟨e1, e2⟩
  · subst h1 h2
    have : rw3 n t' z' y' = rw3 n t' z' 0 + y' := rfl
    exact ⟨by omega, Nat.mod_one _, by rw [Nat.div_one]; omega⟩
theorem rw3_zn {t z y : Nat} : rw3 n t z y = rw3 n t 0 y + z * n := by
  unfold rw3; rw [Nat.add_zero, Nat.add_mul]; omega
theorem onl_z {t y t' z' y' : Nat} (hy : y < n) (hz' : z' < n) (hy' : y' < n) : onl n (rw3 n t 0 y) n (rw3 n t' z' y') = decide (t' = t ∧ y' = y) := by
  cases ho : onl n (rw3 n t 0 y) n (rw3 n t' z' y') with
  | true =>
    obtain ⟨e1, e2⟩ := onl_is ho
    rw [← rw3_zn] at e1
    have e3 := congrArg (fun q => q / (n * n)) e1
    have e4 := congrArg (fun q => q % n) e1
    rw [dec_t hz' hy', dec_t e2 hy] at e3
    rw [dec_y hy', dec_y hy] at e4
    exact (decide_eq_true ⟨e3, e4⟩).symm
  | false =>
    refine (decide_eq_false (fun ⟨h1, h2⟩ => ?_)).symm
    subst h1 h2
    unfold onl at ho
    have ho := of_decide_eq_false ho
    apply ho
    obtain ⟨i1, i2⟩ := idx_at (p := rw3 n t' 0 y') (k := z') (st := n) (by omega)
    rw [rw3_zn (z := z'), i1, i2]
    exact ⟨Nat.le_add_right _ _, rfl, hz'⟩
theorem lat_y {t z : Nat} (ht : t < 24) (hz : z < n) : ∀ k, k < n → rw3 n t z 0 + k * 1 < 24 * n * n := fun k hk => by
  rw [Nat.mul_one]; exact rw3_lt ht hz hk
theorem lat_z {t y : Nat} (ht : t < 24) (hy : y < n) : ∀ k, k < n → rw3 n t 0 y + k * n < 24 * n * n := fun k hk => by
  rw [← rw3_zn]; exact rw3_lt ht hk hy
theorem nbl_y {t z y x : Nat} (hz : z < n) (hy : y < n) : nbl n (rw3 n t z 0) 1 (onK n M) ((rw3 n t z y - rw3 n t z 0) / 1) x = ny1 n M t z y x := by
  have e : rw3 n t z y - rw3 n t z 0 = y := by have : rw3 n t z y = rw3 n t z 0 + y := rfl
                                               omega
  unfold nbl ny1
  rw [Nat.div_one, e, Nat.mul_one, Nat.mul_one, show rw3 n t z 0 + (y - 1) = rw3 n t z (y - 1) from rfl, show rw3 n t z 0 + (y + 1) = rw3 n t z (y + 1) from rfl, onK_at hz (by omega)]
  by_cases q : y + 1 < n
  · rw [onK_at hz q]
  · simp only [q, decide_false, Bool.false_and]
theorem nbl_z {t z y x : Nat} (hz : z < n) (hy : y < n) : nbl n (rw3 n t 0 y) n (onK n M) ((rw3 n t z y - rw3 n t 0 y) / n) x = nz1 n M t z y x := by
  obtain ⟨i1, i2⟩ := idx_at (p := rw3 n t 0 y) (k := z) (st := n) (by omega)
  unfold nbl nz1
  rw [rw3_zn (z := z), i1, ← rw3_zn, ← rw3_zn, onK_at (by omega) hy]
  by_cases q : z + 1 < n
  · rw [onK_at q hy]
  · simp only [q, decide_false, Bool.false_and]
theorem sbl_y {t z y x : Nat} (hz : z < n) (hy : y < n) : sbl n (rw3 n t z 0) 1 (onK n M) ((rw3 n t z y - rw3 n t z 0) / 1) x = ((decide (0 < y) && M t z (y - 1) x) && (decide (y + 1 < n) && M t z (y + 1) x)) := by
  have e : rw3 n t z y - rw3 n t z 0 = y := by have : rw3 n t z y = rw3 n t z 0 + y := rfl
                                               omega
  unfold sbl
  rw [Nat.div_one, e, Nat.mul_one, Nat.mul_one, show rw3 n t z 0 + (y - 1) = rw3 n t z (y - 1) from rfl, show rw3 n t z 0 + (y + 1) = rw3 n t z (y + 1) from rfl, onK_at hz (by omega)]
  by_cases q : y + 1 < n
  · rw [onK_at hz q]
  · simp only [q, decide_false, Bool.false_and]
theorem sbl_z {t z y x : Nat} (hz : z < n) (hy : y < n) : sbl n (rw3 n t 0 y) n (onK n M) ((rw3 n t z y - rw3 n t 0 y) / n) x = ((decide (0 < z) && M t (z - 1) y x) && (decide (z + 1 < n) && M t (z + 1) y x)) := by
  obtain ⟨i1, i2⟩ := idx_at (p := rw3 n t 0 y) (k := z) (st := n) (by omega)
  unfold sbl
  rw [rw3_zn (z := z), i1, ← rw3_zn, ← rw3_zn, onK_at (by omega) hy]
  by_cases q : z + 1 < n
  · rw [onK_at q hy]
  · simp only [q, decide_false, Bool.false_and]
/-- while lines are done: those of y at (t, z), those of z at (t, y); F, Y, X: done, half, not yet -/
def phA (F Y X : Nat → Nat → Nat → Nat → Bool) (t z : Nat) (t' z' y' x : Nat) : Bool := if t' < t then F t' z' y' x else if t' = t ∧ z' < z then Y t' z' y' x else X t' z' y' x
def phB (F Y X : Nat → Nat → Nat → Nat → Bool) (t y : Nat) (t' z' y' x : Nat) : Bool := if t' < t then F t' z' y' x else if t' = t then (if y' < y then F t' z' y' x else Y t' z' y' x) else X t' z' y' x
end LN
section G3
variable {gv : Nat → Int} {B n d a : Nat} {h : AH} {M : Nat → Nat → Nat → Nat → Bool}
theorem gx_bits {v : Int} {r : Nat → Bool} (hn : n ≤ 52) (vb : ∀ y, y < 64 → tb v y = (decide (y < n) && r y)) {x : Nat} (hx : x < 64) :
    tb (bop64 129 v (bop64 127 (bop64 129 (sop64 121 v 1) (sop64 125 v 1)) (2 ^ n - 1 : Int))) x = (decide (x < n) && (r x || ((decide (0 < x) && r (x - 1)) || (decide (x + 1 < n) && r (x + 1))))) := by
  have s1 : tb (sop64 121 v 1) x = (decide (1 ≤ x) && tb v (x - 1)) := tb_shl v (k := 1) (by decide) hx
  have s2 : tb (sop64 125 v 1) x = tb v (1 + x) := tb_shr v (k := 1) (by decide)
  rw [tb_or, tb_and, tb_or, s1, s2, tb_mask hn, vb x hx, vb (x - 1) (by omega)]
  have s3 : tb v (1 + x) = (decide (x + 1 < n) && r (x + 1)) := by
    by_cases q : 1 + x < 64
    · rw [vb _ q, Nat.add_comm 1 x]
    · rw [tb_big (by omega), decide_eq_false (by omega)]; rfl
  rw [s3]
  by_cases c1 : x < n
  · have c4 : x - 1 < n := by omega
    by_cases c2 : 0 < x
    · have c3 : 1 ≤ x := c2
      simp [c1, c2, c3, c4]
    · have c3 : ¬ 1 ≤ x := c2
      simp [c1, c2, c3]
  · simp [c1]
theorem sx_bits {v : Int} {r : Nat → Bool} (hn : n ≤ 52) (vb : ∀ y, y < 64 → tb v y = (decide (y < n) && r y)) {x : Nat} (hx : x < 64) :
    tb (bop64 127 v (bop64 127 (sop64 121 v 1) (sop64 125 v 1))) x = (decide (x < n) && (r x && ((decide (0 < x) && r (x - 1)) && (decide (x + 1 < n) && r (x + 1))))) := by
  have s1 : tb (sop64 121 v 1) x = (decide (1 ≤ x) && tb v (x - 1)) := tb_shl v (k := 1) (by decide) hx
  have s2 : tb (sop64 125 v 1) x = tb v (1 + x) := tb_shr v (k := 1) (by decide)
  rw [tb_and, tb_and, s1, s2, vb x hx, vb (x - 1) (by omega)]
  have s3 : tb v (1 + x) = (decide (x + 1 < n) && r (x + 1)) := by
    by_cases q : 1 + x < 64
    · rw [vb _ q, Nat.add_comm 1 x]
    · rw [tb_big (by omega), decide_eq_false (by omega)]; rfl
  rw [s3]
  by_cases c1 : x < n
  · have c4 : x - 1 < n := by omega
    by_cases c2 : 0 < x
    · have c3 : 1 ≤ x := c2
      simp [c1, c2, c3, c4]
    · have c3 : ¬ 1 ≤ x := c2
      simp [c1, c2, c3]
  · simp [c1]
theorem ne52 (l : LX B n h) (hn4 : 4 ≤ n) (ka : hk h a = (3, 24 * n * n)) : a ≠ B + 52 := by
  intro e
  rw [e, show hk h (B + 52) = (3, 64) from lk_52 l] at ka
  have h9 : 64 = 24 * n * n := congrArg Prod.snd ka
  have : 4 * 4 ≤ n * n := Nat.mul_le_mul hn4 hn4
  rw [Nat.mul_assoc] at h9
  omega
set_option maxHeartbeats 2000000 in
theorem c_growOnce (l : LX B n h) (hd : 11 ≤ d) (hn4 : 4 ≤ n) (hn : n ≤ 52) (sa : Sol n h a (onK n M)) (hB : B ≤ a) :
    Vd (cll PP (ev PP (gsF gv) B) d 344 [(2, rf (B + 51)), (2, rf a)] h) (fun h' => Fr (fun c => c = a ∨ c = B + 52) h h' ∧ Sol n h' a (onK n (g3 n M))) := by
  have hN := rows_le hn
  have hn0 : 0 < n := by omega
  refine Vd.into (D := 10) hd (Nat.le_of_ble_eq_true rfl) rfl (fun d hd => ?_)
  refine Ends.eq (b344_0 l (by omega)) ?_
  refine lp (24 * n * n) (fun i L q => ∃ u3 : AV, L = [(2, rf (B + 51)), (2, (rf a)), (0, ((i : Int))), u3] ∧ LX B n q ∧ i ≤ 24 * n * n ∧ Fr (fun c => c = a ∨ c = B + 52) h q ∧ Sol n q a (fun k x => if k < i then onK n (gx1 n M) k x else onK n M k x)) ?_ ?_ (0) ⟨_, rfl, (by (repeat' first | assumption | refine LX.setF _ _ ?_ (by decide +kernel) | refine LX.setS ?_ rfl | refine LX.setA ?_ (by assumption))), by omega, ?_⟩
  · rintro i _ q hi ⟨uq0, rfl, lq, hiN, ⟨fq, sq⟩⟩ ihi
    have kq := sq.1
    have kq1 : (hk q a).1 = 1 + 2 := by rw [kq]
    refine Ends.eq (b344_2 (n := n) (by (repeat' first | assumption | refine LX.setF _ _ ?_ (by decide +kernel) | refine LX.setS ?_ rfl | refine LX.setA ?_ (by first | assumption | omega))) (by first | assumption | omega)) ?_
    simp only [ad_rf, kq, tn, an1]
    (repeat' first
      | (exfalso; omega)
      | refine Ends.g (by first | ((repeat' (refine And.intro ?_ ?_)) <;> first | exact rf_pos _ | exact trivial | rfl | assumption | omega | decide)) ?_
      | refine Ends.b0 (fun _ => ?_) (fun _ => ?_)
      | refine Ends.b1 (fun _ => ?_) (fun _ => ?_)
      | refine Ends.b2 (fun _ => ?_) (fun _ => ?_)
      | refine Ends.b3 (fun _ => ?_) (fun _ => ?_)
      | refine Ends.b4 (fun _ => ?_) (fun _ => ?_)
      | refine Ends.b5 (fun _ => ?_) (fun _ => ?_))
    rw [w_succ (by omega)]
    refine ihi _ _ ⟨_, rfl, (by (repeat' first | assumption | refine LX.setF _ _ ?_ (by decide +kernel) | refine LX.setS ?_ rfl | refine LX.setA ?_ (by assumption))), by omega, ?_⟩
    refine ⟨fq.tr (Fr.set (Or.inl rfl)), (sq.put hi cn_bop64 (r := fun x => onK n (gx1 n M) i x) (fun x hx => ?_)).congr (fun k x hk hx => ?_)⟩
    · exact gx_bits (r := fun y => onK n M i y) hn (fun y hy => by rw [(sq.2 i hi).2 y hy]; simp) hx
    · by_cases e : k = i
      · subst e; rw [if_pos rfl, if_pos (Nat.lt_succ_self k)]
      · rw [if_neg e]
        by_cases e2 : k < i
        · rw [if_pos e2, if_pos (by omega)]
        · rw [if_neg e2, if_neg (by omega)]
  · rintro i _ q hi ⟨uq0, rfl, lq, hiN, ⟨fq, sq⟩⟩
    obtain rfl : i = 24 * n * n := by omega
    have kq := sq.1
    refine Ends.eq (b344_2 (n := n) (by (repeat' first | assumption | refine LX.setF _ _ ?_ (by decide +kernel) | refine LX.setS ?_ rfl | refine LX.setA ?_ (by first | assumption | omega))) (by first | assumption | omega)) ?_
    simp only [ad_rf, kq]
    (repeat' first
      | (exfalso; omega)
      | refine Ends.g (by first | ((repeat' (refine And.intro ?_ ?_)) <;> first | exact rf_pos _ | exact trivial | rfl | assumption | omega | decide)) ?_
      | refine Ends.b0 (fun _ => ?_) (fun _ => ?_)
      | refine Ends.b1 (fun _ => ?_) (fun _ => ?_)
      | refine Ends.b2 (fun _ => ?_) (fun _ => ?_)
      | refine Ends.b3 (fun _ => ?_) (fun _ => ?_)
      | refine Ends.b4 (fun _ => ?_) (fun _ => ?_)
      | refine Ends.b5 (fun _ => ?_) (fun _ => ?_))
    refine lp (24) (fun t L q2 => ∃ u3 : AV, L = [(2, rf (B + 51)), (2, (rf a)), (0, ((t : Int))), u3] ∧ LX B n q2 ∧ t ≤ 24 ∧ Fr (fun c => c = a ∨ c = B + 52) h q2 ∧ Sol n q2 a (onK n (phA (g3 n M) (gy1 n (gx1 n M)) (gx1 n M) t 0))) ?_ ?_ (0) ⟨_, rfl, (by (repeat' first | assumption | refine LX.setF _ _ ?_ (by decide +kernel) | refine LX.setS ?_ rfl | refine LX.setA ?_ (by assumption))), by omega, ?_⟩
    · rintro t _ q2 ht ⟨uq20, rfl, lq2, htN, ⟨f2, s2⟩⟩ iht
      refine Ends.eq (b344_41 (n := n) (by (repeat' first | assumption | refine LX.setF _ _ ?_ (by decide +kernel) | refine LX.setS ?_ rfl | refine LX.setA ?_ (by first | assumption | omega))) (by first | assumption | omega)) ?_
      (repeat' first
        | (exfalso; omega)
        | refine Ends.g (by first | ((repeat' (refine And.intro ?_ ?_)) <;> first | exact rf_pos _ | exact trivial | rfl | assumption | omega | decide)) ?_
        | refine Ends.b0 (fun _ => ?_) (fun _ => ?_)
        | refine Ends.b1 (fun _ => ?_) (fun _ => ?_)
        | refine Ends.b2 (fun _ => ?_) (fun _ => ?_)
        | refine Ends.b3 (fun _ => ?_) (fun _ => ?_)
        | refine Ends.b4 (fun _ => ?_) (fun _ => ?_)
        | refine Ends.b5 (fun _ => ?_) (fun _ => ?_))
      refine lp (n) (fun z L q3 => L = [(2, rf (B + 51)), (2, (rf a)), (0, ((t : Int))), (0, ((z : Int)))] ∧ LX B n q3 ∧ z ≤ n ∧ Fr (fun c => c = a ∨ c = B + 52) h q3 ∧ Sol n q3 a (onK n (phA (g3 n M) (gy1 n (gx1 n M)) (gx1 n M) t z))) ?_ ?_ (0) ⟨rfl, (by (repeat' first | assumption | refine LX.setF _ _ ?_ (by decide +kernel) | refine LX.setS ?_ rfl | refine LX.setA ?_ (by assumption))), by omega, ?_⟩
      · rintro z _ q3 hz ⟨rfl, lq3, hzN, ⟨f3, s3⟩⟩ ihz
        refine Ends.eq (b344_49 (n := n) (by (repeat' first | assumption | refine LX.setF _ _ ?_ (by decide +kernel) | refine LX.setS ?_ rfl | refine LX.setA ?_ (by first | assumption | omega))) (by first | assumption | omega)) ?_
        (repeat' first
          | (exfalso; omega)
          | refine Ends.g (by first | ((repeat' (refine And.intro ?_ ?_)) <;> first | exact rf_pos _ | exact trivial | rfl | assumption | omega | decide)) ?_
          | refine Ends.b0 (fun _ => ?_) (fun _ => ?_)
          | refine Ends.b1 (fun _ => ?_) (fun _ => ?_)
          | refine Ends.b2 (fun _ => ?_) (fun _ => ?_)
          | refine Ends.b3 (fun _ => ?_) (fun _ => ?_)
          | refine Ends.b4 (fun _ => ?_) (fun _ => ?_)
          | refine Ends.b5 (fun _ => ?_) (fun _ => ?_))
        rw [show v238 n (t : Int) (z : Int) 0 = ((rw3 n t z 0 : Nat) : Int) from row_eq hn ht hz hn0]
        refine Ends.cv lq3 (by decide +kernel) (c_growLine (st := 1) lq3 (by omega) hn4 hn s3 hB (by decide) (lat_y ht hz)) (fun h1 l1 _ _ _ ⟨f4, s4⟩ => ?_)
        refine Ends.eq (b344_73 (n := n) (by (repeat' first | assumption | refine LX.setF _ _ ?_ (by decide +kernel) | refine LX.setS ?_ rfl | refine LX.setA ?_ (by first | assumption | omega))) (by first | assumption | omega)) ?_
        rw [w_succ (by omega)]
        refine ihz _ _ ⟨rfl, (by (repeat' first | assumption | refine LX.setF _ _ ?_ (by decide +kernel) | refine LX.setS ?_ rfl | refine LX.setA ?_ (by assumption))), by omega, ?_⟩
        refine ⟨f3.tr f4, s4.byM hn0 (fun t' z' y' x h1 h2 h3 h4 => ?_)⟩
        rw [onK_at h2 h3, onl_y hz h2 h3]
        by_cases e : t' = t ∧ z' = z
        · obtain ⟨rfl, rfl⟩ := e
          rw [nbl_y h2 h3]
          simp [phA, ny1, gy1]
        · rw [decide_eq_false e]
          unfold phA
          grind
      · rintro z _ q3 hz ⟨rfl, lq3, hzN, ⟨f3, s3⟩⟩
        obtain rfl : n = z := by omega
        refine Ends.eq (b344_49 (n := n) (by (repeat' first | assumption | refine LX.setF _ _ ?_ (by decide +kernel) | refine LX.setS ?_ rfl | refine LX.setA ?_ (by first | assumption | omega))) (by first | assumption | omega)) ?_
        (repeat' first
          | (exfalso; omega)
          | refine Ends.g (by first | ((repeat' (refine And.intro ?_ ?_)) <;> first | exact rf_pos _ | exact trivial | rfl | assumption | omega | decide)) ?_
          | refine Ends.b0 (fun _ => ?_) (fun _ => ?_)
          | refine Ends.b1 (fun _ => ?_) (fun _ => ?_)
          | refine Ends.b2 (fun _ => ?_) (fun _ => ?_)
          | refine Ends.b3 (fun _ => ?_) (fun _ => ?_)
          | refine Ends.b4 (fun _ => ?_) (fun _ => ?_)
          | refine Ends.b5 (fun _ => ?_) (fun _ => ?_))
        refine lp (n) (fun y L q4 => L = [(2, rf (B + 51)), (2, (rf a)), (0, ((t : Int))), (0, ((y : Int)))] ∧ LX B n q4 ∧ y ≤ n ∧ Fr (fun c => c = a ∨ c = B + 52) h q4 ∧ Sol n q4 a (onK n (phB (g3 n M) (gy1 n (gx1 n M)) (gx1 n M) t y))) ?_ ?_ (0) ⟨rfl, (by (repeat' first | assumption | refine LX.setF _ _ ?_ (by decide +kernel) | refine LX.setS ?_ rfl | refine LX.setA ?_ (by assumption))), by omega, ?_⟩
        · rintro y _ q4 hy ⟨rfl, lq4, hyN, ⟨f4, s4⟩⟩ ihy
          refine Ends.eq (b344_81 (n := n) (by (repeat' first | assumption | refine LX.setF _ _ ?_ (by decide +kernel) | refine LX.setS ?_ rfl | refine LX.setA ?_ (by first | assumption | omega))) (by first | assumption | omega)) ?_
          (repeat' first
            | (exfalso; omega)
            | refine Ends.g (by first | ((repeat' (refine And.intro ?_ ?_)) <;> first | exact rf_pos _ | exact trivial | rfl | assumption | omega | decide)) ?_
            | refine Ends.b0 (fun _ => ?_) (fun _ => ?_)
            | refine Ends.b1 (fun _ => ?_) (fun _ => ?_)
            | refine Ends.b2 (fun _ => ?_) (fun _ => ?_)
            | refine Ends.b3 (fun _ => ?_) (fun _ => ?_)
            | refine Ends.b4 (fun _ => ?_) (fun _ => ?_)
            | refine Ends.b5 (fun _ => ?_) (fun _ => ?_))
          rw [show v238 n (t : Int) 0 (y : Int) = ((rw3 n t 0 y : Nat) : Int) from row_eq hn ht hn0 hy]
          refine Ends.cv lq4 (by decide +kernel) (c_growLine lq4 (by omega) hn4 hn s4 hB hn0 (lat_z ht hy)) (fun h1 l1 _ _ _ ⟨f5, s5⟩ => ?_)
          refine Ends.eq (b344_108 (n := n) (by (repeat' first | assumption | refine LX.setF _ _ ?_ (by decide +kernel) | refine LX.setS ?_ rfl | refine LX.setA ?_ (by first | assumption | omega))) (by first | assumption | omega)) ?_
          rw [w_succ (by omega)]
          refine ihy _ _ ⟨rfl, (by (repeat' first | assumption | refine LX.setF _ _ ?_ (by decide +kernel) | refine LX.setS ?_ rfl | refine LX.setA ?_ (by assumption))), by omega, ?_⟩
          refine ⟨f4.tr f5, s5.byM hn0 (fun t' z' y' x h1 h2 h3 h4 => ?_)⟩
          rw [onK_at h2 h3, onl_z hy h2 h3]
          by_cases e : t' = t ∧ y' = y
          · obtain ⟨rfl, rfl⟩ := e
            rw [nbl_z h2 h3]
            simp [phB, nz1, g3, gz1]
          · rw [decide_eq_false e]
            unfold phB
            grind
        · rintro y _ q4 hy ⟨rfl, lq4, hyN, ⟨f4, s4⟩⟩
          obtain rfl : n = y := by omega
          refine Ends.eq (b344_81 (n := n) (by (repeat' first | assumption | refine LX.setF _ _ ?_ (by decide +kernel) | refine LX.setS ?_ rfl | refine LX.setA ?_ (by first | assumption | omega))) (by first | assumption | omega)) ?_
          (repeat' first
            | (exfalso; omega)
            | refine Ends.g (by first | ((repeat' (refine And.intro ?_ ?_)) <;> first | exact rf_pos _ | exact trivial | rfl | assumption | omega | decide)) ?_
            | refine Ends.b0 (fun _ => ?_) (fun _ => ?_)
            | refine Ends.b1 (fun _ => ?_) (fun _ => ?_)
            | refine Ends.b2 (fun _ => ?_) (fun _ => ?_)
            | refine Ends.b3 (fun _ => ?_) (fun _ => ?_)
            | refine Ends.b4 (fun _ => ?_) (fun _ => ?_)
            | refine Ends.b5 (fun _ => ?_) (fun _ => ?_))
          rw [w_succ (by omega)]
          refine iht _ _ ⟨_, rfl, (by (repeat' first | assumption | refine LX.setF _ _ ?_ (by decide +kernel) | refine LX.setS ?_ rfl | refine LX.setA ?_ (by assumption))), by omega, ?_⟩
          refine ⟨f4, s4.byM hn0 (fun t' z' y' x h1 h2 h3 h4 => ?_)⟩
          rw [onK_at h2 h3]
          unfold phA phB
          grind
        · refine ⟨f3, s3.byM hn0 (fun t' z' y' x h1 h2 h3 h4 => ?_)⟩
          rw [onK_at h2 h3]
          unfold phA phB
          grind
      · exact ⟨f2, s2⟩
    · rintro t _ q2 ht ⟨uq20, rfl, lq2, htN, ⟨f2, s2⟩⟩
      obtain rfl : t = 24 := by omega
      refine Ends.eq (b344_41 (n := n) (by (repeat' first | assumption | refine LX.setF _ _ ?_ (by decide +kernel) | refine LX.setS ?_ rfl | refine LX.setA ?_ (by first | assumption | omega))) (by first | assumption | omega)) ?_
      (repeat' first
        | (exfalso; omega)
        | refine Ends.g (by first | ((repeat' (refine And.intro ?_ ?_)) <;> first | exact rf_pos _ | exact trivial | rfl | assumption | omega | decide)) ?_
        | refine Ends.b0 (fun _ => ?_) (fun _ => ?_)
        | refine Ends.b1 (fun _ => ?_) (fun _ => ?_)
        | refine Ends.b2 (fun _ => ?_) (fun _ => ?_)
        | refine Ends.b3 (fun _ => ?_) (fun _ => ?_)
        | refine Ends.b4 (fun _ => ?_) (fun _ => ?_)
        | refine Ends.b5 (fun _ => ?_) (fun _ => ?_))
      refine Ends.sm ⟨_, rfl, f2, s2.byM hn0 (fun t' z' y' x h1 h2 h3 h4 => ?_)⟩
      rw [onK_at h2 h3]
      unfold phA
      rw [if_pos h1]
    · refine ⟨fq, sq.byM hn0 (fun t' z' y' x h1 h2 h3 h4 => ?_)⟩
      rw [if_pos (rw3_lt h1 h2 h3), onK_at h2 h3]
      unfold phA
      grind
  · exact ⟨Fr.rf, sa.congr (fun k x _ _ => by rw [if_neg (Nat.not_lt_zero k)])⟩
end G3
section G4
variable {gv : Nat → Int} {B n d a : Nat} {h : AH} {M : Nat → Nat → Nat → Nat → Bool}
def sx1 (n : Nat) (M : Nat → Nat → Nat → Nat → Bool) (t z y x : Nat) : Bool := M t z y x && ((decide (0 < x) && M t z y (x - 1)) && (decide (x + 1 < n) && M t z y (x + 1)))
def sy1 (n : Nat) (M : Nat → Nat → Nat → Nat → Bool) (t z y x : Nat) : Bool := M t z y x && ((decide (0 < y) && M t z (y - 1) x) && (decide (y + 1 < n) && M t z (y + 1) x))
def sz1 (n : Nat) (M : Nat → Nat → Nat → Nat → Bool) (t z y x : Nat) : Bool := M t z y x && ((decide (0 < z) && M t (z - 1) y x) && (decide (z + 1 < n) && M t (z + 1) y x))
def er3 (n : Nat) (M : Nat → Nat → Nat → Nat → Bool) : Nat → Nat → Nat → Nat → Bool := sz1 n (sy1 n (sx1 n M))
set_option maxHeartbeats 2000000 in
theorem c_shrinkOnce (l : LX B n h) (hd : 11 ≤ d) (hn4 : 4 ≤ n) (hn : n ≤ 52) (sa : Sol n h a (onK n M)) (hB : B ≤ a) :
    Vd (cll PP (ev PP (gsF gv) B) d 358 [(2, rf (B + 51)), (2, rf a)] h) (fun h' => Fr (fun c => c = a ∨ c = B + 52) h h' ∧ Sol n h' a (onK n (er3 n M))) := by
  have hN := rows_le hn
  have hn0 : 0 < n := by omega
  refine Vd.into (D := 10) hd (Nat.le_of_ble_eq_true rfl) rfl (fun d hd => ?_)
  refine Ends.eq (b358_0 l (by omega)) ?_
  refine lp (24 * n * n) (fun i L q => ∃ u3 : AV, L = [(2, rf (B + 51)), (2, (rf a)), (0, ((i : Int))), u3] ∧ LX B n q ∧ i ≤ 24 * n * n ∧ Fr (fun c => c = a ∨ c = B + 52) h q ∧ Sol n q a (fun k x => if k < i then onK n (sx1 n M) k x else onK n M k x)) ?_ ?_ (0) ⟨_, rfl, (by (repeat' first | assumption | refine LX.setF _ _ ?_ (by decide +kernel) | refine LX.setS ?_ rfl | refine LX.setA ?_ (by assumption))), by omega, ?_⟩
  · rintro i _ q hi ⟨uq0, rfl, lq, hiN, ⟨fq, sq⟩⟩ ihi
    have kq := sq.1
    have kq1 : (hk q a).1 = 1 + 2 := by rw [kq]
    refine Ends.eq (b358_2 (n := n) (by (repeat' first | assumption | refine LX.setF _ _ ?_ (by decide +kernel) | refine LX.setS ?_ rfl | refine LX.setA ?_ (by first | assumption | omega))) (by first | assumption | omega)) ?_
    simp only [ad_rf, kq, tn, an1]
    (repeat' first
      | (exfalso; omega)
      | refine Ends.g (by first | ((repeat' (refine And.intro ?_ ?_)) <;> first | exact rf_pos _ | exact trivial | rfl | assumption | omega | decide)) ?_
      | refine Ends.b0 (fun _ => ?_) (fun _ => ?_)
      | refine Ends.b1 (fun _ => ?_) (fun _ => ?_)
      | refine Ends.b2 (fun _ => ?_) (fun _ => ?_)
      | refine Ends.b3 (fun _ => ?_) (fun _ => ?_)
      | refine Ends.b4 (fun _ => ?_) (fun _ => ?_)
      | refine Ends.b5 (fun _ => ?_) (fun _ => ?_))
    rw [w_succ (by omega)]
    refine ihi _ _ ⟨_, rfl, (by (repeat' first | assumption | refine LX.setF _ _ ?_ (by decide +kernel) | refine LX.setS ?_ rfl | refine LX.setA ?_ (by assumption))), by omega, ?_⟩
    refine ⟨fq.tr (Fr.set (Or.inl rfl)), (sq.put hi cn_bop64 (r := fun x => onK n (sx1 n M) i x) (fun x hx => ?_)).congr (fun k x hk hx => ?_)⟩
    · exact sx_bits (r := fun y => onK n M i y) hn (fun y hy => by rw [(sq.2 i hi).2 y hy]; simp) hx
    · by_cases e : k = i
      · subst e; rw [if_pos rfl, if_pos (Nat.lt_succ_self k)]
      · rw [if_neg e]
        by_cases e2 : k < i
        · rw [if_pos e2, if_pos (by omega)]
        · rw [if_neg e2, if_neg (by omega)]
  · rintro i _ q hi ⟨uq0, rfl, lq, hiN, ⟨fq, sq⟩⟩
    obtain rfl : i = 24 * n * n := by omega
    have kq := sq.1
    refine Ends.eq (b358_2 (n := n) (by (repeat' first | assumption | refine LX.setF _ _ ?_ (by decide +kernel) | refine LX.setS ?_ rfl | refine LX.setA ?_ (by first | assumption | omega))) (by first | assumption | omega)) ?_
    simp only [ad_rf, kq]
    (repeat' first
      | (exfalso; omega)
      | refine Ends.g (by first | ((repeat' (refine And.intro ?_ ?_)) <;> first | exact rf_pos _ | exact trivial | rfl | assumption | omega | decide)) ?_
      | refine Ends.b0 (fun _ => ?_) (fun _ => ?_)
      | refine Ends.b1 (fun _ => ?_) (fun _ => ?_)
      | refine Ends.b2 (fun _ => ?_) (fun _ => ?_)
      | refine Ends.b3 (fun _ => ?_) (fun _ => ?_)
      | refine Ends.b4 (fun _ => ?_) (fun _ => ?_)
      | refine Ends.b5 (fun _ => ?_) (fun _ => ?_))
    refine lp (24) (fun t L q2 => ∃ u3 : AV, L = [(2, rf (B + 51)), (2, (rf a)), (0, ((t : Int))), u3] ∧ LX B n q2 ∧ t ≤ 24 ∧ Fr (fun c => c = a ∨ c = B + 52) h q2 ∧ Sol n q2 a (onK n (phA (er3 n M) (sy1 n (sx1 n M)) (sx1 n M) t 0))) ?_ ?_ (0) ⟨_, rfl, (by (repeat' first | assumption | refine LX.setF _ _ ?_ (by decide +kernel) | refine LX.setS ?_ rfl | refine LX.setA ?_ (by assumption))), by omega, ?_⟩
    · rintro t _ q2 ht ⟨uq20, rfl, lq2, htN, ⟨f2, s2⟩⟩ iht
      refine Ends.eq (b358_33 (n := n) (by (repeat' first | assumption | refine LX.setF _ _ ?_ (by decide +kernel) | refine LX.setS ?_ rfl | refine LX.setA ?_ (by first | assumption | omega))) (by first | assumption | omega)) ?_
      (repeat' first
        | (exfalso; omega)
        | refine Ends.g (by first | ((repeat' (refine And.intro ?_ ?_)) <;> first | exact rf_pos _ | exact trivial | rfl | assumption | omega | decide)) ?_
        | refine Ends.b0 (fun _ => ?_) (fun _ => ?_)
        | refine Ends.b1 (fun _ => ?_) (fun _ => ?_)
        | refine Ends.b2 (fun _ => ?_) (fun _ => ?_)
        | refine Ends.b3 (fun _ => ?_) (fun _ => ?_)
        | refine Ends.b4 (fun _ => ?_) (fun _ => ?_)
        | refine Ends.b5 (fun _ => ?_) (fun _ => ?_))
      refine lp (n) (fun z L q3 => L = [(2, rf (B + 51)), (2, (rf a)), (0, ((t : Int))), (0, ((z : Int)))] ∧ LX B n q3 ∧ z ≤ n ∧ Fr (fun c => c = a ∨ c = B + 52) h q3 ∧ Sol n q3 a (onK n (phA (er3 n M) (sy1 n (sx1 n M)) (sx1 n M) t z))) ?_ ?_ (0) ⟨rfl, (by (repeat' first | assumption | refine LX.setF _ _ ?_ (by decide +kernel) | refine LX.setS ?_ rfl | refine LX.setA ?_ (by assumption))), by omega, ?_⟩
      · rintro z _ q3 hz ⟨rfl, lq3, hzN, ⟨f3, s3'⟩⟩ ihz
        refine Ends.eq (b358_41 (n := n) (by (repeat' first | assumption | refine LX.setF _ _ ?_ (by decide +kernel) | refine LX.setS ?_ rfl | refine LX.setA ?_ (by first | assumption | omega))) (by first | assumption | omega)) ?_
        (repeat' first
          | (exfalso; omega)
          | refine Ends.g (by first | ((repeat' (refine And.intro ?_ ?_)) <;> first | exact rf_pos _ | exact trivial | rfl | assumption | omega | decide)) ?_
          | refine Ends.b0 (fun _ => ?_) (fun _ => ?_)
          | refine Ends.b1 (fun _ => ?_) (fun _ => ?_)
          | refine Ends.b2 (fun _ => ?_) (fun _ => ?_)
          | refine Ends.b3 (fun _ => ?_) (fun _ => ?_)
          | refine Ends.b4 (fun _ => ?_) (fun _ => ?_)
          | refine Ends.b5 (fun _ => ?_) (fun _ => ?_))
        rw [show v238 n (t : Int) (z : Int) 0 = ((rw3 n t z 0 : Nat) : Int) from row_eq hn ht hz hn0]
        refine Ends.cv lq3 (by decide +kernel) (c_shrinkLine (st := 1) lq3 (by omega) hn4 hn s3' hB (by decide) (lat_y ht hz)) (fun h1 l1 _ _ _ ⟨f4, s4⟩ => ?_)
        refine Ends.eq (b358_65 (n := n) (by (repeat' first | assumption | refine LX.setF _ _ ?_ (by decide +kernel) | refine LX.setS ?_ rfl | refine LX.setA ?_ (by first | assumption | omega))) (by first | assumption | omega)) ?_
        rw [w_succ (by omega)]
        refine ihz _ _ ⟨rfl, (by (repeat' first | assumption | refine LX.setF _ _ ?_ (by decide +kernel) | refine LX.setS ?_ rfl | refine LX.setA ?_ (by assumption))), by omega, ?_⟩
        refine ⟨f3.tr f4, s4.byM hn0 (fun t' z' y' x h1 h2 h3 h4 => ?_)⟩
        rw [onK_at h2 h3, onl_y hz h2 h3]
        by_cases e : t' = t ∧ z' = z
        · obtain ⟨rfl, rfl⟩ := e
          rw [sbl_y h2 h3]
          simp [phA, sy1]
        · rw [decide_eq_false e]
          unfold phA
          grind
      · rintro z _ q3 hz ⟨rfl, lq3, hzN, ⟨f3, s3'⟩⟩
        obtain rfl : n = z := by omega
        refine Ends.eq (b358_41 (n := n) (by (repeat' first | assumption | refine LX.setF _ _ ?_ (by decide +kernel) | refine LX.setS ?_ rfl | refine LX.setA ?_ (by first | assumption | omega))) (by first | assumption | omega)) ?_
        (repeat' first
          | (exfalso; omega)
          | refine Ends.g (by first | ((repeat' (refine And.intro ?_ ?_)) <;> first | exact rf_pos _ | exact trivial | rfl | assumption | omega | decide)) ?_
          | refine Ends.b0 (fun _ => ?_) (fun _ => ?_)
          | refine Ends.b1 (fun _ => ?_) (fun _ => ?_)
          | refine Ends.b2 (fun _ => ?_) (fun _ => ?_)
          | refine Ends.b3 (fun _ => ?_) (fun _ => ?_)
          | refine Ends.b4 (fun _ => ?_) (fun _ => ?_)
          | refine Ends.b5 (fun _ => ?_) (fun _ => ?_))
        refine lp (n) (fun y L q4 => L = [(2, rf (B + 51)), (2, (rf a)), (0, ((t : Int))), (0, ((y : Int)))] ∧ LX B n q4 ∧ y ≤ n ∧ Fr (fun c => c = a ∨ c = B + 52) h q4 ∧ Sol n q4 a (onK n (phB (er3 n M) (sy1 n (sx1 n M)) (sx1 n M) t y))) ?_ ?_ (0) ⟨rfl, (by (repeat' first | assumption | refine LX.setF _ _ ?_ (by decide +kernel) | refine LX.setS ?_ rfl | refine LX.setA ?_ (by assumption))), by omega, ?_⟩
        · rintro y _ q4 hy ⟨rfl, lq4, hyN, ⟨f4, s4⟩⟩ ihy
          refine Ends.eq (b358_73 (n := n) (by (repeat' first | assumption | refine LX.setF _ _ ?_ (by decide +kernel) | refine LX.setS ?_ rfl | refine LX.setA ?_ (by first | assumption | omega))) (by first | assumption | omega)) ?_
          (repeat' first
            | (exfalso; omega)
            | refine Ends.g (by first | ((repeat' (refine And.intro ?_ ?_)) <;> first | exact rf_pos _ | exact trivial | rfl | assumption | omega | decide)) ?_
            | refine Ends.b0 (fun _ => ?_) (fun _ => ?_)
            | refine Ends.b1 (fun _ => ?_) (fun _ => ?_)
            | refine Ends.b2 (fun _ => ?_) (fun _ => ?_)
            | refine Ends.b3 (fun _ => ?_) (fun _ => ?_)
            | refine Ends.b4 (fun _ => ?_) (fun _ => ?_)
            | refine Ends.b5 (fun _ => ?_) (fun _ => ?_))
          rw [show v238 n (t : Int) 0 (y : Int) = ((rw3 n t 0 y : Nat) : Int) from row_eq hn ht hn0 hy]
          refine Ends.cv lq4 (by decide +kernel) (c_shrinkLine lq4 (by omega) hn4 hn s4 hB hn0 (lat_z ht hy)) (fun h1 l1 _ _ _ ⟨f5, s5⟩ => ?_)
          refine Ends.eq (b358_100 (n := n) (by (repeat' first | assumption | refine LX.setF _ _ ?_ (by decide +kernel) | refine LX.setS ?_ rfl | refine LX.setA ?_ (by first | assumption | omega))) (by first | assumption | omega)) ?_
          rw [w_succ (by omega)]
          refine ihy _ _ ⟨rfl, (by (repeat' first | assumption | refine LX.setF _ _ ?_ (by decide +kernel) | refine LX.setS ?_ rfl | refine LX.setA ?_ (by assumption))), by omega, ?_⟩
          refine ⟨f4.tr f5, s5.byM hn0 (fun t' z' y' x h1 h2 h3 h4 => ?_)⟩
          rw [onK_at h2 h3, onl_z hy h2 h3]
          by_cases e : t' = t ∧ y' = y
          · obtain ⟨rfl, rfl⟩ := e
            rw [sbl_z h2 h3]
            simp [phB, er3, sz1]
          · rw [decide_eq_false e]
            unfold phB
            grind
        · rintro y _ q4 hy ⟨rfl, lq4, hyN, ⟨f4, s4⟩⟩
          obtain rfl : n = y := by omega
          refine Ends.eq (b358_73 (n := n) (by (repeat' first | assumption | refine LX.setF _ _ ?_ (by decide +kernel) | refine LX.setS ?_ rfl | refine LX.setA ?_ (by first | assumption | omega))) (by first | assumption | omega)) ?_
          (repeat' first
            | (exfalso; omega)
            | refine Ends.g (by first | ((repeat' (refine And.intro ?_ ?_)) <;> first | exact rf_pos _ | exact trivial | rfl | assumption | omega | decide)) ?_
            | refine Ends.b0 (fun _ => ?_) (fun _ => ?_)
            | refine Ends.b1 (fun _ => ?_) (fun _ => ?_)
            | refine Ends.b2 (fun _ => ?_) (fun _ => ?_)
            | refine Ends.b3 (fun _ => ?_) (fun _ => ?_)
            | refine Ends.b4 (fun _ => ?_) (fun _ => ?_)
            | refine Ends.b5 (fun _ => ?_) (fun _ => ?_))
          rw [w_succ (by omega)]
          refine iht _ _ ⟨_, rfl, (by (repeat' first | assumption | refine LX.setF _ _ ?_ (by decide +kernel) | refine LX.setS ?_ rfl | refine LX.setA ?_ (by assumption))), by omega, ?_⟩
          refine ⟨f4, s4.byM hn0 (fun t' z' y' x h1 h2 h3 h4 => ?_)⟩
          rw [onK_at h2 h3]
          unfold phA phB
          grind
        · refine ⟨f3, s3'.byM hn0 (fun t' z' y' x h1 h2 h3 h4 => ?_)⟩
          rw [onK_at h2 h3]
          unfold phA phB
          grind
      · exact ⟨f2, s2⟩
    · rintro t _ q2 ht ⟨uq20, rfl, lq2, htN, ⟨f2, s2⟩⟩
      obtain rfl : t = 24 := by omega
      refine Ends.eq (b358_33 (n := n) (by (repeat' first | assumption | refine LX.setF _ _ ?_ (by decide +kernel) | refine LX.setS ?_ rfl | refine LX.setA ?_ (by first | assumption | omega))) (by first | assumption | omega)) ?_
      (repeat' first
        | (exfalso; omega)
        | refine Ends.g (by first | ((repeat' (refine And.intro ?_ ?_)) <;> first | exact rf_pos _ | exact trivial | rfl | assumption | omega | decide)) ?_
        | refine Ends.b0 (fun _ => ?_) (fun _ => ?_)
        | refine Ends.b1 (fun _ => ?_) (fun _ => ?_)
        | refine Ends.b2 (fun _ => ?_) (fun _ => ?_)
        | refine Ends.b3 (fun _ => ?_) (fun _ => ?_)
        | refine Ends.b4 (fun _ => ?_) (fun _ => ?_)
        | refine Ends.b5 (fun _ => ?_) (fun _ => ?_))
      refine Ends.sm ⟨_, rfl, f2, s2.byM hn0 (fun t' z' y' x h1 h2 h3 h4 => ?_)⟩
      rw [onK_at h2 h3]
      unfold phA
      rw [if_pos h1]
    · refine ⟨fq, sq.byM hn0 (fun t' z' y' x h1 h2 h3 h4 => ?_)⟩
      rw [if_pos (rw3_lt h1 h2 h3), onK_at h2 h3]
      unfold phA
      grind
  · exact ⟨Fr.rf, sa.congr (fun k x _ _ => by rw [if_neg (Nat.not_lt_zero k)])⟩
def itr {α : Type} (f : α → α) : Nat → α → α
  | 0, x => x
  | k + 1, x => f (itr f k x)
theorem c_grow (l : LX B n h) (hd : 12 ≤ d) (hn4 : 4 ≤ n) (hn : n ≤ 52) (sa : Sol n h a (onK n M)) (hB : B ≤ a) {b : Nat} (hb : b ≤ 1000) :
    Vd (cll PP (ev PP (gsF gv) B) d 342 [(2, rf (B + 51)), (2, rf a), (0, (b : Int))] h) (fun h' => Fr (fun c => c = a ∨ c = B + 52) h h' ∧ Sol n h' a (onK n (itr (g3 n) b M))) := by
  refine Vd.into (D := 11) hd (Nat.le_of_ble_eq_true rfl) rfl (fun d hd => ?_)
  refine Ends.eq (b342_0 l (by omega)) ?_
  refine lp (b) (fun i L q => L = [(2, rf (B + 51)), (2, (rf a)), (0, ((b : Int))), (0, ((i : Int)))] ∧ LX B n q ∧ i ≤ b ∧ Fr (fun c => c = a ∨ c = B + 52) h q ∧ Sol n q a (onK n (itr (g3 n) i M))) ?_ ?_ (0) ⟨rfl, (by (repeat' first | assumption | refine LX.setF _ _ ?_ (by decide +kernel) | refine LX.setS ?_ rfl | refine LX.setA ?_ (by assumption))), by omega, ?_⟩
  · rintro i _ q hi ⟨rfl, lq, hiN, ⟨fq, sq⟩⟩ ihi
    refine Ends.eq (b342_2 (n := n) (by (repeat' first | assumption | refine LX.setF _ _ ?_ (by decide +kernel) | refine LX.setS ?_ rfl | refine LX.setA ?_ (by first | assumption | omega))) (by first | assumption | omega)) ?_
    (repeat' first
      | (exfalso; omega)
      | refine Ends.g (by first | ((repeat' (refine And.intro ?_ ?_)) <;> first | exact rf_pos _ | exact trivial | rfl | assumption | omega | decide)) ?_
      | refine Ends.b0 (fun _ => ?_) (fun _ => ?_)
      | refine Ends.b1 (fun _ => ?_) (fun _ => ?_)
      | refine Ends.b2 (fun _ => ?_) (fun _ => ?_)
      | refine Ends.b3 (fun _ => ?_) (fun _ => ?_)
      | refine Ends.b4 (fun _ => ?_) (fun _ => ?_)
      | refine Ends.b5 (fun _ => ?_) (fun _ => ?_))
    refine Ends.cv lq (by decide +kernel) (c_growOnce lq (by omega) hn4 hn sq hB) (fun h1 l1 _ _ _ ⟨f1, s1⟩ => ?_)
    refine Ends.eq (b342_12 (n := n) (by (repeat' first | assumption | refine LX.setF _ _ ?_ (by decide +kernel) | refine LX.setS ?_ rfl | refine LX.setA ?_ (by first | assumption | omega))) (by first | assumption | omega)) ?_
    rw [w_succ (by omega)]
    refine ihi _ _ ⟨rfl, (by (repeat' first | assumption | refine LX.setF _ _ ?_ (by decide +kernel) | refine LX.setS ?_ rfl | refine LX.setA ?_ (by assumption))), by omega, ?_⟩
    exact ⟨fq.tr f1, s1⟩
  · rintro i _ q hi ⟨rfl, lq, hiN, ⟨fq, sq⟩⟩
    obtain rfl : b = i := by omega
    refine Ends.eq (b342_2 (n := n) (by (repeat' first | assumption | refine LX.setF _ _ ?_ (by decide +kernel) | refine LX.setS ?_ rfl | refine LX.setA ?_ (by first | assumption | omega))) (by first | assumption | omega)) ?_
    (repeat' first
      | (exfalso; omega)
      | refine Ends.g (by first | ((repeat' (refine And.intro ?_ ?_)) <;> first | exact rf_pos _ | exact trivial | rfl | assumption | omega | decide)) ?_
      | refine Ends.b0 (fun _ => ?_) (fun _ => ?_)
      | refine Ends.b1 (fun _ => ?_) (fun _ => ?_)
      | refine Ends.b2 (fun _ => ?_) (fun _ => ?_)
      | refine Ends.b3 (fun _ => ?_) (fun _ => ?_)
      | refine Ends.b4 (fun _ => ?_) (fun _ => ?_)
      | refine Ends.b5 (fun _ => ?_) (fun _ => ?_))
    exact Ends.sm ⟨_, rfl, fq, sq⟩
  · exact ⟨Fr.rf, sa⟩
theorem c_shrink (l : LX B n h) (hd : 12 ≤ d) (hn4 : 4 ≤ n) (hn : n ≤ 52) (sa : Sol n h a (onK n M)) (hB : B ≤ a) {b : Nat} (hb : b ≤ 1000) :
    Vd (cll PP (ev PP (gsF gv) B) d 356 [(2, rf (B + 51)), (2, rf a), (0, (b : Int))] h) (fun h' => Fr (fun c => c = a ∨ c = B + 52) h h' ∧ Sol n h' a (onK n (itr (er3 n) b M))) := by
  refine Vd.into (D := 11) hd (Nat.le_of_ble_eq_true rfl) rfl (fun d hd => ?_)
  refine Ends.eq (b356_0 l (by omega)) ?_
  refine lp (b) (fun i L q => L = [(2, rf (B + 51)), (2, (rf a)), (0, ((b : Int))), (0, ((i : Int)))] ∧ LX B n q ∧ i ≤ b ∧ Fr (fun c => c = a ∨ c = B + 52) h q ∧ Sol n q a (onK n (itr (er3 n) i M))) ?_ ?_ (0) ⟨rfl, (by (repeat' first | assumption | refine LX.setF _ _ ?_ (by decide +kernel) | refine LX.setS ?_ rfl | refine LX.setA ?_ (by assumption))), by omega, ?_⟩
  · rintro i _ q hi ⟨rfl, lq, hiN, ⟨fq, sq⟩⟩ ihi
    refine Ends.eq (b356_2 (n := n) (by (repeat' first | assumption | refine LX.setF _ _ ?_ (by decide +kernel) | refine LX.setS ?_ rfl | refine LX.setA ?_ (by first | assumption | omega))) (by first | assumption | omega)) ?_
    (repeat' first
      | (exfalso; omega)
      | refine Ends.g (by first | ((repeat' (refine And.intro ?_ ?_)) <;> first | exact rf_pos _ | exact trivial | rfl | assumption | omega | decide)) ?_
      | refine Ends.b0 (fun _ => ?_) (fun _ => ?_)
      | refine Ends.b1 (fun _ => ?_) (fun _ => ?_)
      | refine Ends.b2 (fun _ => ?_) (fun _ => ?_)
      | refine Ends.b3 (fun _ => ?_) (fun _ => ?_)
      | refine Ends.b4 (fun _ => ?_) (fun _ => ?_)
      | refine Ends.b5 (fun _ => ?_) (fun _ => ?_))
    refine Ends.cv lq (by decide +kernel) (c_shrinkOnce lq (by omega) hn4 hn sq hB) (fun h1 l1 _ _ _ ⟨f1, s1⟩ => ?_)
    refine Ends.eq (b356_12 (n := n) (by (repeat' first | assumption | refine LX.setF _ _ ?_ (by decide +kernel) | refine LX.setS ?_ rfl | refine LX.setA ?_ (by first | assumption | omega))) (by first | assumption | omega)) ?_
    rw [w_succ (by omega)]
    refine ihi _ _ ⟨rfl, (by (repeat' first | assumption | refine LX.setF _ _ ?_ (by decide +kernel) | refine LX.setS ?_ rfl | refine LX.setA ?_ (by assumption))), by omega, ?_⟩
    exact ⟨fq.tr f1, s1⟩
  · rintro i _ q hi ⟨rfl, lq, hiN, ⟨fq, sq⟩⟩
    obtain rfl : b = i := by omega
    refine Ends.eq (b356_2 (n := n) (by (repeat' first | assumption | refine LX.setF _ _ ?_ (by decide +kernel) | refine LX.setS ?_ rfl | refine LX.setA ?_ (by first | assumption | omega))) (by first | assumption | omega)) ?_
    (repeat' first
      | (exfalso; omega)
      | refine Ends.g (by first | ((repeat' (refine And.intro ?_ ?_)) <;> first | exact rf_pos _ | exact trivial | rfl | assumption | omega | decide)) ?_
      | refine Ends.b0 (fun _ => ?_) (fun _ => ?_)
      | refine Ends.b1 (fun _ => ?_) (fun _ => ?_)
      | refine Ends.b2 (fun _ => ?_) (fun _ => ?_)
      | refine Ends.b3 (fun _ => ?_) (fun _ => ?_)
      | refine Ends.b4 (fun _ => ?_) (fun _ => ?_)
      | refine Ends.b5 (fun _ => ?_) (fun _ => ?_))
    exact Ends.sm ⟨_, rfl, fq, sq⟩
  · exact ⟨Fr.rf, sa⟩
end G4
