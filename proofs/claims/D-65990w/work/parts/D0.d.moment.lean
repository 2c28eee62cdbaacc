/-! L3: moments, on both sides -/
theorem a64N {x y : Nat} (h : x + y < 9223372036854775808) : bop64 97 (x : Int) (y : Int) = ((x + y : Nat) : Int) := by
  rw [add64 (by omega) (by omega)]
  exact (Int.natCast_add x y).symm
theorem m64N {x y : Nat} (h : x * y < 9223372036854775808) : bop64 105 (x : Int) (y : Int) = ((x * y : Nat) : Int) := by
  have e : (x : Int) * (y : Int) = ((x * y : Nat) : Int) := (Int.natCast_mul x y).symm
  rw [mul64 (by rw [e]; omega) (by rw [e]; omega), e]
/-- a grain's part of the moment: corners p, q of its sort, its cube -/
def moT (ka kb kk ca cb : Nat) : Nat := 80 * ca * cb + 10 * (ca * kb + cb * ka) + kk + ka * kb
def kaT (t a : Nat) : Nat := crn t 0 a + crn t 1 a + crn t 2 a + crn t 3 a
def kkT (t a b : Nat) : Nat := crn t 0 a * crn t 0 b + crn t 1 a * crn t 1 b + crn t 2 a * crn t 2 b + crn t 3 a * crn t 3 b
def momW (n : Nat) (T : Nat → Bool) (a b g : Nat) : Nat := if T g = true then moT (kaT (gSo g) a) (kaT (gSo g) b) (kkT (gSo g) a b) (gC n g a) (gC n g b) else 0
def momS (n : Nat) (T : Nat → Bool) (a b : Nat) : Nat := sumN (momW n T a b) (gN n)
theorem crn_2 : ∀ t : Fin 24, ∀ k : Fin 4, ∀ a : Fin 3, crn t k a ≤ 2 := by decide +kernel
section MOM
variable {gv : Nat → Int} {B n d : Nat} {h : AH} {is : Nat → Bool} {cl : Nat → Nat} {S : Nat → Nat → Bool} {T : Nat → Bool} {o : Int} {a b : Nat}
theorem crn_le {t k a : Nat} (ht : t < 24) (hk : k < 4) (ha : a < 3) : crn t k a ≤ 2 := crn_2 ⟨t, ht⟩ ⟨k, hk⟩ ⟨a, ha⟩
theorem kaT_le {t a : Nat} (ht : t < 24) (ha : a < 3) : kaT t a ≤ 8 := by
  have h0 := crn_le ht (k := 0) (by decide) ha
  have h1 := crn_le ht (k := 1) (by decide) ha
  have h2 := crn_le ht (k := 2) (by decide) ha
  have h3 := crn_le ht (k := 3) (by decide) ha
  unfold kaT
  omega
theorem kkT_le {t a b : Nat} (ht : t < 24) (ha : a < 3) (hb : b < 3) : kkT t a b ≤ 16 := by
  have h0 : ∀ k, k < 4 → crn t k a * crn t k b ≤ 4 := fun k hk => Nat.mul_le_mul (crn_le ht hk ha) (crn_le ht hk hb)
  have e0 := h0 0 (by decide)
  have e1 := h0 1 (by decide)
  have e2 := h0 2 (by decide)
  have e3 := h0 3 (by decide)
  unfold kkT
  omega
/-- the bounds of a part's pieces -/
theorem moT_b {ka kb kk ca cb : Nat} (h1 : ka ≤ 8) (h2 : kb ≤ 8) (h3 : kk ≤ 16) (h4 : ca ≤ 52) (h5 : cb ≤ 52) : 80 * ca * cb ≤ 216320 ∧ ca * kb ≤ 416 ∧ cb * ka ≤ 416 ∧ ka * kb ≤ 64 ∧ moT ka kb kk ca cb ≤ 224720 := by
  have e1 := Nat.mul_le_mul (show 80 * ca ≤ 4160 by omega) h5
  have e2 := Nat.mul_le_mul h4 h2
  have e3 := Nat.mul_le_mul h5 h1
  have e4 := Nat.mul_le_mul h1 h2
  refine ⟨e1, e2, e3, e4, ?_⟩
  unfold moT
  omega
theorem gC_le {g a : Nat} (hn : n ≤ 52) (hg : g < gN n) : gC n g a ≤ 52 := by
  have := gC_lt (a := a) hg
  omega
theorem momW_le {g : Nat} (hn : n ≤ 52) (ha : a < 3) (hb : b < 3) (hg : g < gN n) : momW n T a b g ≤ 224720 := by
  obtain ⟨_, _, _, _, ht⟩ := g_lt hg
  unfold momW
  split
  · exact (moT_b (kaT_le ht ha) (kaT_le ht hb) (kkT_le ht ha hb) (gC_le hn hg) (gC_le hn hg)).2.2.2.2
  · exact Nat.zero_le _
theorem momS_le (hn : n ≤ 52) (ha : a < 3) (hb : b < 3) {k : Nat} (hk : k ≤ gN n) : sumN (momW n T a b) k ≤ 758338314240 := by
  have h1 := sumN_mono (f := momW n T a b) (gN n) hk
  have h2 := sumW_le (n := n) (w := momW n T a b) (c := 224720) (fun g hg => momW_le hn ha hb hg)
  have h3 := gN_le2 hn
  have h4 := Nat.mul_le_mul (Nat.le_refl 224720) h3
  omega
/-- a grain's part by its corners -/
theorem moT_cv {g : Nat} : cv2 n g 0 a * cv2 n g 0 b + cv2 n g 1 a * cv2 n g 1 b + cv2 n g 2 a * cv2 n g 2 b + cv2 n g 3 a * cv2 n g 3 b + (cv2 n g 0 a + cv2 n g 1 a + cv2 n g 2 a + cv2 n g 3 a) * (cv2 n g 0 b + cv2 n g 1 b + cv2 n g 2 b + cv2 n g 3 b) = moT (kaT (gSo g) a) (kaT (gSo g) b) (kkT (gSo g) a b) (gC n g a) (gC n g b) := by
  unfold cv2 moT kaT kkT
  generalize gC n g a = ca
  generalize gC n g b = cb
  generalize crn (gSo g) 0 a = p0
  generalize crn (gSo g) 1 a = p1
  generalize crn (gSo g) 2 a = p2
  generalize crn (gSo g) 3 a = p3
  generalize crn (gSo g) 0 b = q0
  generalize crn (gSo g) 1 b = q1
  generalize crn (gSo g) 2 b = q2
  generalize crn (gSo g) 3 b = q3
  grind
/-- the coordinate of a cube along an axis -/
def gc3 (a x y z : Nat) : Nat := if a = 0 then x else if a = 1 then y else z
theorem gC_row {t z y x : Nat} (ht : t < 24) (hz : z < n) (hy : y < n) (hx : x < n) (ha : a < 3) : gC n (gI n x y z t) a = gc3 a x y z := by
  have : a = 0 ∨ a = 1 ∨ a = 2 := by omega
  rcases this with rfl | rfl | rfl
  · exact gX_I hx ht
  · exact gY_I hx hy ht
  · exact gZ_I hx hy ht
theorem gc3_c {x y z : Nat} : cond (tst 1 ((a : Nat) : Int) 0) (cond (tst 1 ((a : Nat) : Int) 1) (uop 2 (z : Int)) (uop 2 (y : Int))) (uop 2 (x : Int)) = ((gc3 a x y z : Nat) : Int) := by
  rw [ct1, ct1]
  unfold gc3
  by_cases a0 : a = 0
  · rw [if_pos a0, if_pos (by rw [a0]; rfl)]
    rfl
  · rw [if_neg a0, if_neg (show ¬ ((a : Nat) : Int) = 0 from fun w => a0 (Int.ofNat.inj w))]
    by_cases a1 : a = 1
    · rw [if_pos a1, if_pos (by rw [a1]; rfl)]
      rfl
    · rw [if_neg a1, if_neg (show ¬ ((a : Nat) : Int) = 1 from fun w => a1 (Int.ofNat.inj w))]
      rfl
theorem gc3_le {x y z : Nat} (h1 : x < n) (h2 : y < n) (h3 : z < n) (hn : n ≤ 52) : gc3 a x y z ≤ 52 := by
  unfold gc3
  split
  · omega
  · split <;> omega
theorem c_moment61 (l : LX B n h) (hd : 20 ≤ d) (hn0 : 0 < n) (hn : n ≤ 52) (m : TbC B h) (bd : BdC B n h is cl S) {a b : Int} :
    Opx 1 (cll PP (ev PP (gsF gv) B) d 61 [(2, rf (B + 0)), (0, o), (0, a), (0, b)] h) (fun x h' => thS is o = true ∧ ((0 ≤ a ∧ a ≤ 2) ∧ 0 ≤ b ∧ b ≤ 2) ∧ x = ((momS n (S (rwS o)) a.toNat b.toNat : Nat) : Int) ∧ h' = h) (fun c q => q = h ∧ ((c = 31 ∧ thS is o = false) ∨ (c = 27 ∧ thS is o = true ∧ ¬ ((0 ≤ a ∧ a ≤ 2) ∧ 0 ≤ b ∧ b ≤ 2)))) := by
  refine Opx.inq (D := 19) hd (Nat.le_of_ble_eq_true rfl) rfl (fun d hd Q K KE => ?_)
  refine Ends.eq (b61_0 (n := n) (by (repeat' first | assumption | refine LX.setF _ _ ?_ (by decide +kernel) | refine LX.setS ?_ rfl | refine LX.setA ?_ (by first | assumption | omega))) (by first | assumption | omega)) ?_
  refine Ends.sol l (by omega) bd (fun ho => ?_) (fun ho => Ends.thn rfl (KE _ _ ⟨rfl, Or.inl ⟨rfl, ho⟩⟩))
  refine Ends.eq (b61_5 (n := n) (by (repeat' first | assumption | refine LX.setF _ _ ?_ (by decide +kernel) | refine LX.setS ?_ rfl | refine LX.setA ?_ (by first | assumption | omega))) (by first | assumption | omega)) ?_
  refine Ends.need (p := decide ((0 ≤ a ∧ a ≤ 2) ∧ 0 ≤ b ∧ b ≤ 2)) l (by omega) (by
    rw [v42_in, v42_in]
    simp only [ct0, decide_eq_true_eq]
    grind) (fun hp => ?_) (fun hp => Ends.thn rfl (KE _ _ ⟨rfl, Or.inr ⟨rfl, ho, of_decide_eq_false hp⟩⟩))
  have hp := of_decide_eq_true hp
  obtain ⟨s, s2, s3⟩ := bd.sol l ho
  have K2 := fun x e => K x h ⟨ho, hp, e, rfl⟩
  clear K KE
  generalize clS B cl o = s0 at *
  generalize S (rwS o) = T at *
  obtain ⟨a, rfl⟩ : ∃ k : Nat, a = (k : Int) := ⟨a.toNat, by omega⟩
  obtain ⟨b, rfl⟩ : ∃ k : Nat, b = (k : Int) := ⟨b.toNat, by omega⟩
  have ha : a < 3 := by omega
  have hb : b < 3 := by omega
  rw [tn, tn] at K2
  have hN := rows_le hn
  have ka := s.1
  have fin : sumN (rwW n (momW n T a b)) (24 * n * n) = momS n T a b := sumG
  have le : ∀ k, k ≤ 24 * n * n → sumN (rwW n (momW n T a b)) k ≤ 758338314240 := fun k hk => by
    have h1 := sumN_mono (f := rwW n (momW n T a b)) (24 * n * n) hk
    have h2 := momS_le (T := T) hn ha hb (Nat.le_refl (gN n))
    rw [fin] at h1
    unfold momS at h1
    omega
  have ly : ∀ (t z : Nat), t < 24 → z < n → (∀ u6 u9 u11 u13 u15 u16 u17 u18 u19 u20 u21 u22, ¬ u6.1 = 1 → ¬ u13.1 = 1 → Ends (ev PP (gsF gv) B d 61 140 [(2, rf (B + 0)), (0, o), (0, (a : Int)), (0, (b : Int)), (2, rf s0), (1, ((sumN (rwW n (momW n T a b)) (rw3 n t (z + 1) 0) : Nat) : Int)), u6, (0, (t : Int)), (1, ((kaT t a : Nat) : Int)), u9, (1, ((kaT t b : Nat) : Int)), u11, (1, ((kkT t a b : Nat) : Int)), u13, (0, ((z + 1 : Nat) : Int)), u15, u16, u17, u18, u19, u20, u21, u22] [] h) Q) → ∀ (c y : Nat) (u6 u9 u11 u13 u16 u17 u18 u19 u20 u21 u22 : AV), ¬ u6.1 = 1 → ¬ u13.1 = 1 → y + c = n → Ends (ev PP (gsF gv) B d 61 152 [(2, rf (B + 0)), (0, o), (0, (a : Int)), (0, (b : Int)), (2, rf s0), (1, ((sumN (rwW n (momW n T a b)) (rw3 n t z y) : Nat) : Int)), u6, (0, (t : Int)), (1, ((kaT t a : Nat) : Int)), u9, (1, ((kaT t b : Nat) : Int)), u11, (1, ((kkT t a b : Nat) : Int)), u13, (0, (z : Int)), (0, (y : Int)), u16, u17, u18, u19, u20, u21, u22] [] h) Q := by
    intro t z ht hz nxt_ c
    induction c with
    | zero =>
      intro y u6 u9 u11 u13 u16 u17 u18 u19 u20 u21 u22 k6 k13 hy
      obtain rfl : n = y := by omega
      refine Ends.eq (b61_152 k13 l (by omega)) ?_
      refine Ends.b3 (fun _ => ?_) (fun z => absurd z (by omega))
      rw [w_succ (by omega), ← rw3_z]
      exact nxt_ _ _ _ _ _ _ _ _ _ _ _ _ k6 k13
    | succ c ih =>
      intro y u6 u9 u11 u13 u16 u17 u18 u19 u20 u21 u22 k6 k13 hy
      have hyn : y < n := by omega
      have r1 := rw3_lt ht hz hyn
      have le1 := le (rw3 n t z y + 1) (by omega)
      have up : sumN (rwW n (momW n T a b)) (rw3 n t z y + 1) = sumN (rwW n (momW n T a b)) (rw3 n t z y) + rwW n (momW n T a b) (rw3 n t z y) := rfl
      have rw_ : rwW n (momW n T a b) (rw3 n t z y) = btW n (fun x => moT (kaT t a) (kaT t b) (kkT t a b) (gc3 a x y z) (gc3 b x y z)) (hv h s0 (rw3 n t z y)) := by
        rw [rwW_at hz hyn]
        refine sumN_congr n (fun x hx => ?_)
        show momW n T a b (gI n x y z t) = _
        unfold momW
        rw [gC_row ht hz hyn hx ha, gC_row ht hz hyn hx hb, gSo_I ht, s.bit ht hz hyn (show x < 64 by omega), decide_eq_true hx, Bool.true_and]
      have ka8 := kaT_le ht ha
      have kb8 := kaT_le ht hb
      have kk16 := kkT_le ht ha hb
      have cv := (s.2 (rw3 n t z y) r1).1
      have bits := bits_ind (C := fun v => ∀ (A : Nat) (u6 u9 u11 u13 u17 u18 u19 u20 u21 u22 : AV), ¬ u6.1 = 1 → ¬ u13.1 = 1 → ¬ u17.1 = 1 → (∀ x, n ≤ x → tb v x = false) → A + btW n (fun x => moT (kaT t a) (kaT t b) (kkT t a b) (gc3 a x y z) (gc3 b x y z)) v = sumN (rwW n (momW n T a b)) (rw3 n t z y + 1) → Ends (ev PP (gsF gv) B d 61 179 [(2, rf (B + 0)), (0, o), (0, (a : Int)), (0, (b : Int)), (2, rf s0), (1, (A : Int)), u6, (0, (t : Int)), (1, ((kaT t a : Nat) : Int)), u9, (1, ((kaT t b : Nat) : Int)), u11, (1, ((kkT t a b : Nat) : Int)), u13, (0, (z : Int)), (0, (y : Int)), (1, v), u17, u18, u19, u20, u21, u22] [] h) Q)
        (fun A u6 u9 u11 u13 u17 u18 u19 u20 u21 u22 k6 k13 k17 hb' e => by
          rw [btW_0] at e
          refine Ends.eq (b61_179 l (by omega)) ?_
          refine Ends.b0 (fun _ => ?_) (fun z => absurd rfl z)
          rw [w_succ (by omega)]
          have e : A = sumN (rwW n (momW n T a b)) (rw3 n t z (y + 1)) := by
            show A = sumN (rwW n (momW n T a b)) (rw3 n t z y + 1)
            omega
          rw [e]
          exact ih (y + 1) _ _ _ _ _ _ _ _ _ _ _ k6 k13 (by omega))
        (fun v k cv nz lo ihb A u6 u9 u11 u13 u17 u18 u19 u20 u21 u22 k6 k13 k17 hb' e => by
          have kn : k < n := by
            apply Classical.byContradiction
            intro w
            have := hb' k (by omega)
            rw [lo.2.1] at this
            exact absurd this (by decide)
          rw [btW_low lo kn] at e
          have e : A + (moT (kaT t a) (kaT t b) (kkT t a b) (gc3 a k y z) (gc3 b k y z) + btW n (fun x => moT (kaT t a) (kaT t b) (kkT t a b) (gc3 a x y z) (gc3 b x y z)) (bop64 127 v (bop64 101 v 1))) = sumN (rwW n (momW n T a b)) (rw3 n t z y + 1) := e
          refine Ends.eq (b61_179 l (by omega)) ?_
          refine Ends.b0 (fun w => absurd (cmp64_z.mp w) nz) (fun _ => ?_)
          refine Ends.ct l (by decide +kernel) (by decide) (c_ntz l (by omega) lo) (fun r q2 l2 _ _ _ ⟨eq2, er⟩ => ?_)
          subst eq2
          rw [er]
          refine Ends.eq (b61_191 k17 l2 (by omega)) ?_
          rw [gc3_c, gc3_c]
          have c4 := gc3_le (a := a) kn hyn hz hn
          have c5 := gc3_le (a := b) kn hyn hz hn
          have ihb2 := ihb (A + moT (kaT t a) (kaT t b) (kkT t a b) (gc3 a k y z) (gc3 b k y z)) (9, 0) u9 u11 u13 (9, 0) (0, (k : Int)) (1, ((gc3 a k y z : Nat) : Int)) (9, 0) (1, ((gc3 b k y z : Nat) : Int)) (9, 0)
          generalize gc3 a k y z = ca at *
          generalize gc3 b k y z = cb at *
          generalize kaT t a = ka at *
          generalize kaT t b = kb at *
          generalize kkT t a b = kk at *
          obtain ⟨d1, d2, d3, d4, d5⟩ := moT_b ka8 kb8 kk16 c4 c5
          rw [show bop64 105 (80 : Int) (ca : Int) = ((80 * ca : Nat) : Int) from m64N (x := 80) (by omega), m64N (by omega), m64N (x := ca) (by omega), m64N (x := cb) (by omega), a64N (by omega), show bop64 105 (10 : Int) ((ca * kb + cb * ka : Nat) : Int) = ((10 * (ca * kb + cb * ka) : Nat) : Int) from m64N (x := 10) (by omega), a64N (by omega), a64N (by omega), m64N (x := ka) (by omega), a64N (by omega), a64N (x := A) (by
            have : 80 * ca * cb + 10 * (ca * kb + cb * ka) + kk + ka * kb = moT ka kb kk ca cb := rfl
            omega)]
          exact ihb2 (by decide) k13 (by decide) (fun x hx => by rw [lo.less x, hb' x hx, Bool.and_false]) (by omega))
      refine Ends.eq (b61_152 k13 l (by omega)) ?_
      rw [row_eq hn ht hz hyn, tn, ad_rf, ka]
      refine Ends.b3 (fun z => absurd z (by omega)) (fun _ => Ends.g ⟨rf_pos s0, rfl, by omega, by show _ < ((24 * n * n : Nat) : Int); omega⟩ ?_)
      refine bits _ (hv h s0 (rw3 n t z y)) cv rfl _ _ _ _ _ _ _ _ _ _ _ k6 k13 (by decide) (fun x hx => ?_) (by rw [up, rw_])
      by_cases x6 : x < 64
      · rw [s.bit ht hz hyn x6, decide_eq_false (by omega), Bool.false_and]
      · exact tb_big (by omega)
  have lz : ∀ (t : Nat), t < 24 → (∀ u6 u8 u9 u10 u11 u12 u13 u14 u15 u16 u17 u18 u19 u20 u21 u22, ¬ u6.1 = 1 → Ends (ev PP (gsF gv) B d 61 39 [(2, rf (B + 0)), (0, o), (0, (a : Int)), (0, (b : Int)), (2, rf s0), (1, ((sumN (rwW n (momW n T a b)) (rw3 n (t + 1) 0 0) : Nat) : Int)), u6, (0, ((t + 1 : Nat) : Int)), u8, u9, u10, u11, u12, u13, u14, u15, u16, u17, u18, u19, u20, u21, u22] [] h) Q) → ∀ (c z : Nat) (u6 u9 u11 u13 u15 u16 u17 u18 u19 u20 u21 u22 : AV), ¬ u6.1 = 1 → ¬ u13.1 = 1 → z + c = n → Ends (ev PP (gsF gv) B d 61 140 [(2, rf (B + 0)), (0, o), (0, (a : Int)), (0, (b : Int)), (2, rf s0), (1, ((sumN (rwW n (momW n T a b)) (rw3 n t z 0) : Nat) : Int)), u6, (0, (t : Int)), (1, ((kaT t a : Nat) : Int)), u9, (1, ((kaT t b : Nat) : Int)), u11, (1, ((kkT t a b : Nat) : Int)), u13, (0, (z : Int)), u15, u16, u17, u18, u19, u20, u21, u22] [] h) Q := by
    intro t ht nxt_ c
    induction c with
    | zero =>
      intro z u6 u9 u11 u13 u15 u16 u17 u18 u19 u20 u21 u22 k6 k13 hz
      obtain rfl : n = z := by omega
      refine Ends.eq (b61_140 k6 l (by omega)) ?_
      refine Ends.b3 (fun _ => ?_) (fun z => absurd z (by omega))
      rw [w_succ (by omega), ← rw3_t]
      exact nxt_ _ _ _ _ _ _ _ _ _ _ _ _ _ _ _ _ k6
    | succ c ih =>
      intro z u6 u9 u11 u13 u15 u16 u17 u18 u19 u20 u21 u22 k6 k13 hz
      refine Ends.eq (b61_140 k6 l (by omega)) ?_
      refine Ends.b3 (fun w => absurd w (by omega)) (fun _ => ?_)
      exact ly t z ht (by omega) (fun u6 u9 u11 u13 u15 u16 u17 u18 u19 u20 u21 u22 k6 k13 => ih (z + 1) u6 u9 u11 u13 u15 u16 u17 u18 u19 u20 u21 u22 k6 k13 (by omega)) n 0 u6 u9 u11 u13 u16 u17 u18 u19 u20 u21 u22 k6 k13 (Nat.zero_add n)
  have lt : ∀ (c t : Nat) (u6 u8 u9 u10 u11 u12 u13 u14 u15 u16 u17 u18 u19 u20 u21 u22 : AV), ¬ u6.1 = 1 → t + c = 24 → Ends (ev PP (gsF gv) B d 61 39 [(2, rf (B + 0)), (0, o), (0, (a : Int)), (0, (b : Int)), (2, rf s0), (1, ((sumN (rwW n (momW n T a b)) (rw3 n t 0 0) : Nat) : Int)), u6, (0, (t : Int)), u8, u9, u10, u11, u12, u13, u14, u15, u16, u17, u18, u19, u20, u21, u22] [] h) Q := by
    intro c
    induction c with
    | zero =>
      intro t u6 u8 u9 u10 u11 u12 u13 u14 u15 u16 u17 u18 u19 u20 u21 u22 k6 ht
      obtain rfl : t = 24 := by omega
      have e24 : sumN (rwW n (momW n T a b)) (rw3 n 24 0 0) = momS n T a b := by
        rw [← fin]
        unfold rw3
        rw [Nat.add_zero, Nat.add_zero]
      rw [e24]
      refine Ends.eq (b61_39 l (by omega)) ?_
      exact Ends.b3 (fun _ => Ends.sm (K2 _ rfl)) (fun z => absurd z (by omega))
    | succ c ih =>
      intro t u6 u8 u9 u10 u11 u12 u13 u14 u15 u16 u17 u18 u19 u20 u21 u22 k6 ht
      have ht' : t < 24 := by omega
      refine Ends.eq (b61_39 l (by omega)) ?_
      refine Ends.b3 (fun w => absurd w (by omega)) (fun _ => ?_)
      have cr : ∀ k ax : Nat, v226 B h (t : Int) (k : Int) (ax : Int) = ((crn t k ax : Nat) : Int) ∧ q226 B h (t : Int) (k : Int) (ax : Int) := fun k ax => crn_is m ht'
      have one : ∀ (k x8 x10 x12 : Nat) (u9 u11 u13 u15 u16 u17 u18 u19 u20 u21 u22 : AV), k < 4 → x8 ≤ 100 → x10 ≤ 100 → x12 ≤ 100 → ¬ u13.1 = 1 → Ends (ev PP (gsF gv) B d 61 58 [(2, rf (B + 0)), (0, o), (0, (a : Int)), (0, (b : Int)), (2, rf s0), (1, ((sumN (rwW n (momW n T a b)) (rw3 n t 0 0) : Nat) : Int)), u6, (0, (t : Int)), (1, ((x8 + crn t k a : Nat) : Int)), (9, 0), (1, ((x10 + crn t k b : Nat) : Int)), (9, 0), (1, ((x12 + crn t k a * crn t k b : Nat) : Int)), (9, 0), (0, ((k + 1 : Nat) : Int)), u15, u16, u17, u18, u19, u20, u21, u22] [] h) Q → Ends (ev PP (gsF gv) B d 61 58 [(2, rf (B + 0)), (0, o), (0, (a : Int)), (0, (b : Int)), (2, rf s0), (1, ((sumN (rwW n (momW n T a b)) (rw3 n t 0 0) : Nat) : Int)), u6, (0, (t : Int)), (1, (x8 : Int)), u9, (1, (x10 : Int)), u11, (1, (x12 : Int)), u13, (0, (k : Int)), u15, u16, u17, u18, u19, u20, u21, u22] [] h) Q := fun k x8 x10 x12 u9 u11 u13 u15 u16 u17 u18 u19 u20 u21 u22 hk e8 e10 e12 k13 nx => by
        refine Ends.eq (b61_58 k13 l (by omega)) ?_
        have p1 := crn_le ht' hk ha
        have p2 := crn_le ht' hk hb
        have p3 := Nat.mul_le_mul p1 p2
        have p3 : crn t k a * crn t k b ≤ 4 := p3
        rw [(cr k a).1, (cr k b).1, mulNN (by omega), show uop 2 ((crn t k a : Nat) : Int) = ((crn t k a : Nat) : Int) from rfl, show uop 2 ((crn t k b : Nat) : Int) = ((crn t k b : Nat) : Int) from rfl, show uop 2 ((crn t k a * crn t k b : Nat) : Int) = ((crn t k a * crn t k b : Nat) : Int) from rfl, a64N (by omega), a64N (by omega), a64N (by omega), w_succ (by omega)]
        exact Ends.b3 (fun w => absurd w (by omega)) (fun _ => Ends.g (cr k a).2 (Ends.g (cr k b).2 nx))
      have q0 := crn_le ht' (k := 0) (by decide) ha
      have q1 := crn_le ht' (k := 1) (by decide) ha
      have q2 := crn_le ht' (k := 2) (by decide) ha
      have r0 := crn_le ht' (k := 0) (by decide) hb
      have r1 := crn_le ht' (k := 1) (by decide) hb
      have r2 := crn_le ht' (k := 2) (by decide) hb
      have s0' : crn t 0 a * crn t 0 b ≤ 4 := Nat.mul_le_mul q0 r0
      have s1' : crn t 1 a * crn t 1 b ≤ 4 := Nat.mul_le_mul q1 r1
      have s2' : crn t 2 a * crn t 2 b ≤ 4 := Nat.mul_le_mul q2 r2
      refine one 0 0 0 0 _ _ _ _ _ _ _ _ _ _ _ (by decide) (by decide) (by decide) (by decide) (by decide) ?_
      refine one 1 _ _ _ _ _ _ _ _ _ _ _ _ _ _ (by decide) (by omega) (by omega) (by omega) (by decide) ?_
      refine one 2 _ _ _ _ _ _ _ _ _ _ _ _ _ _ (by decide) (by omega) (by omega) (by omega) (by decide) ?_
      refine one 3 _ _ _ _ _ _ _ _ _ _ _ _ _ _ (by decide) (by omega) (by omega) (by omega) (by decide) ?_
      refine Ends.eq (b61_58 (by decide) l (by omega)) ?_
      refine Ends.b3 (fun _ => ?_) (fun w => absurd w (by decide))
      have goal := lz t ht' (fun u6 u8 u9 u10 u11 u12 u13 u14 u15 u16 u17 u18 u19 u20 u21 u22 k6 => ih (t + 1) u6 u8 u9 u10 u11 u12 u13 u14 u15 u16 u17 u18 u19 u20 u21 u22 k6 (by omega)) n 0 u6 (9, 0) (9, 0) (9, 0) u15 u16 u17 u18 u19 u20 u21 u22 k6 (by decide) (Nat.zero_add n)
      unfold kaT kkT at goal
      rw [Nat.zero_add, Nat.zero_add, Nat.zero_add]
      exact goal
  refine Ends.eq (b61_33 (n := n) (by (repeat' first | assumption | refine LX.setF _ _ ?_ (by decide +kernel) | refine LX.setS ?_ rfl | refine LX.setA ?_ (by first | assumption | omega))) (by first | assumption | omega)) ?_
  have := lt 24 0 (9, 0) (9, 0) (9, 0) (9, 0) (9, 0) (9, 0) (9, 0) (9, 0) (9, 0) (9, 0) (9, 0) (9, 0) (9, 0) (9, 0) (9, 0) (9, 0) (by decide) rfl
  rw [show rw3 n 0 0 0 = 0 from by unfold rw3; simp] at this
  exact this
end MOM
