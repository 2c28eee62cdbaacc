/-! L3: faces (desk): a face is traced -/
section TRC
variable {gv : Nat → Int} {B n d : Nat} {h : AH} {E : Nat → Bool} {ed : Nat → Nat} {K0 : Nat}
def capO (c : Nat) : Prop := c = 256 ∨ c = 512 ∨ c = 1024 ∨ c = 2048 ∨ c = 4096 ∨ c = 8192 ∨ c = 16384
/-- the pile: its cell, its size, how many are on it -/
def PlS (B : Nat) (h : AH) (pc cap p : Nat) : Prop := hv h (B + 82) 3 = rf pc ∧ hv h (B + 82) 4 = (p : Int) ∧ hk h pc = (2, cap) ∧ (pc = B + 84 ∨ B + 246 ≤ pc) ∧ pc < hnx h ∧ p ≤ cap ∧ capO cap
/-- what growing still may take -/
def plz (h : AH) (cap : Nat) : Nat := hus h + (32768 - 2 * cap)
/-- the code of a facet -/
def cdN (n K : Nat) : Nat := (rk n (K / 4) * 64 + gX n (K / 4)) * 4 + K % 4
theorem cdN_lt (hn : n ≤ 52) {K : Nat} (hK : K < 4 * gN n) : cdN n K < 16700000 ∧ rk n (K / 4) < 24 * n * n ∧ gX n (K / 4) < 64 := by
  have h1 := rk_lt (K4_lt hK)
  have h2 := rows_le hn
  obtain ⟨-, h3, -, -, -⟩ := g_lt (K4_lt hK)
  unfold cdN
  omega
theorem cd_dec (hn : n ≤ 52) {K : Nat} (hK : K < 4 * gN n) : v161 (cdN n K : Int) = ((K % 4 : Nat) : Int) ∧ bop32 108 (cdN n K : Int) 256 = ((rk n (K / 4) : Nat) : Int) ∧ v172 (cdN n K : Int) = ((gX n (K / 4) : Nat) : Int) ∧ v171 n (cdN n K : Int) = ((gSo (K / 4) : Nat) : Int) ∧ v173 n (cdN n K : Int) = ((gY n (K / 4) : Nat) : Int) ∧ v174 n (cdN n K : Int) = ((gZ n (K / 4) : Nat) : Int) := by
  obtain ⟨c1, c2, c3⟩ := cdN_lt hn hK
  obtain ⟨hn0, k1, k2, k3, k4⟩ := g_lt (K4_lt hK)
  have hN := rows_le hn
  have nn : n * n ≤ 2704 := Nat.mul_le_mul hn hn
  have nn0 : 0 < n * n := Nat.mul_pos hn0 hn0
  have d256 : cdN n K / 256 = rk n (K / 4) := by unfold cdN; omega
  have d4 : cdN n K % 4 = K % 4 := by unfold cdN; omega
  have d64 : cdN n K / 4 % 64 = gX n (K / 4) := by unfold cdN; omega
  have b1 : n * n < 2147483648 := by omega
  have b2 : rk n (K / 4) < 2147483648 := by omega
  have b3 : cdN n K < 2147483648 := by omega
  have b4 : n < 2147483648 := by omega
  have e1 : bop32 108 (cdN n K : Int) 256 = ((rk n (K / 4) : Nat) : Int) := by
    rw [show bop32 108 (cdN n K : Int) 256 = ((cdN n K / 256 : Nat) : Int) from divNN (y := 256) b3 (by decide), d256]
  refine ⟨?_, e1, ?_, ?_, ?_, ?_⟩
  · show bop32 112 (cdN n K : Int) 4 = _
    rw [show bop32 112 (cdN n K : Int) 4 = ((cdN n K % 4 : Nat) : Int) from modNN (y := 4) (by decide) (by decide), d4]
  · show bop32 112 (bop32 108 (cdN n K : Int) 4) 64 = _
    rw [show bop32 108 (cdN n K : Int) 4 = ((cdN n K / 4 : Nat) : Int) from divNN (y := 4) b3 (by decide), show bop32 112 ((cdN n K / 4 : Nat) : Int) 64 = ((cdN n K / 4 % 64 : Nat) : Int) from modNN (y := 64) (by decide) (by decide), d64]
  · show bop32 108 (bop32 108 (cdN n K : Int) 256) (bop32 104 (n : Int) (n : Int)) = _
    rw [e1, mulNN b1, divNN b2 nn0]
    exact congrArg (fun z : Nat => (z : Int)) (dec_t k3 k2)
  · show bop32 112 (bop32 108 (cdN n K : Int) 256) (n : Int) = _
    rw [e1, modNN hn0 (Nat.le_of_lt b4)]
    exact congrArg (fun z : Nat => (z : Int)) (dec_y k2)
  · show bop32 112 (bop32 108 (bop32 108 (cdN n K : Int) 256) (n : Int)) (n : Int) = _
    rw [e1, divNN b2 hn0, modNN hn0 (Nat.le_of_lt b4)]
    exact congrArg (fun z : Nat => (z : Int)) (dec_z k3 k2)
theorem cd_at (hn : n ≤ 52) {t f x y z : Nat} (ht : t < 24) (hf : f < 4) (hx : x < n) (hy : y < n) (hz : z < n) : v159 n (t : Int) (f : Int) (x : Int) (y : Int) (z : Int) = ((cdN n (4 * gI n x y z t + f) : Nat) : Int) := by
  have r := rw3_lt ht hz hy
  have hN := rows_le hn
  unfold v159
  rw [row_eq hn ht hz hy, show bop32 104 ((rw3 n t z y : Nat) : Int) 64 = ((rw3 n t z y * 64 : Nat) : Int) from mulNN (y := 64) (by omega), addNN (by omega), show bop32 104 ((rw3 n t z y * 64 + x : Nat) : Int) 4 = (((rw3 n t z y * 64 + x) * 4 : Nat) : Int) from mulNN (y := 4) (by omega), addNN (by omega)]
  refine congrArg (fun z : Nat => (z : Int)) ?_
  unfold cdN
  rw [show (4 * gI n x y z t + f) / 4 = gI n x y z t by omega, show (4 * gI n x y z t + f) % 4 = f by omega, rk_at ht hy hx, gX_I hx ht]
theorem q171_ok (hn : n ≤ 52) (hn0 : 0 < n) : bop32 104 (n : Int) (n : Int) ≠ 0 ∧ (n : Int) ≠ 0 := by
  have nn : n * n ≤ 2704 := Nat.mul_le_mul hn hn
  have nn0 : 0 < n * n := Nat.mul_pos hn0 hn0
  rw [mulNN (by omega)]
  exact ⟨by omega, by omega⟩
theorem onK_k {M : Nat → Nat → Nat → Nat → Bool} {k x : Nat} (hn0 : 0 < n) (hk : k < 24 * n * n) : onK n M k x = M (k / (n * n)) (k / n % n) (k % n) x := by
  obtain ⟨q1, q2, q3, q4⟩ := rw3_dec hn0 hk
  have := onK_at (M := M) (t := k / (n * n)) (x := x) q2 q3
  rw [q4] at this
  exact this
theorem FcE.congr {E' : Nat → Bool} (F : FcE B n h ed E) (e : ∀ k, k < 4 * gN n → E k = E' k) : FcE B n h ed E' := ⟨fun f hf => by
  obtain ⟨a1, a2, a3, a4⟩ := F.1 f hf
  rcases Nat.eq_zero_or_pos n with z | hn0
  · subst z
    exact ⟨a1, a2, a3, a4.1, fun k hk => absurd hk (by omega)⟩
  · exact ⟨a1, a2, a3, a4.congr hn0 (fun g hg => e _ (by omega))⟩, F.2⟩
theorem FcE.exg {W : Nat → Nat → Prop} {t : AH} (F : FcE B n h ed E) (hb : B + 246 ≤ hnx h) (g : ExG W h t) (h1 : ∀ f, f < 4 → ¬ W (B + 83) f) (h2 : ∀ f k, f < 4 → ¬ W (ed f) k) : FcE B n t ed E := ⟨fun f hf => by
  obtain ⟨a1, a2, a3, a4⟩ := F.1 f hf
  refine ⟨by rw [g.at _ (by omega) (h1 f hf)]; exact a1, a2, by have := g.2.2.1; omega, by rw [g.hk a3]; exact a4.1, fun k hk => ?_⟩
  rw [g.at _ a3 (h2 f k hf)]
  exact a4.2 k hk, F.2⟩
/-- a code is pushed -/
def puW (B pc : Nat) : Nat → Nat → Prop := fun c k => (c = B + 82 ∧ (k = 3 ∨ k = 4)) ∨ c = pc
theorem c_push168 {pc cap p : Nat} {v : Int} (l : LX B n h) (hd : 12 ≤ d) (P : PlS B h pc cap p) (hp : p < 16300) (cv : anar 0 v = v) :
    Vd (cll PP (ev PP (gsF gv) B) d 168 [(2, rf (B + 82)), (0, v)] h) (fun h' => ∃ pc' cap', PlS B h' pc' cap' (p + 1) ∧ (pc' = pc ∨ hnx h ≤ pc') ∧ (∀ i, i < p → hv h' pc' i = hv h pc i) ∧ hv h' pc' p = v ∧ plz h' cap' = plz h cap ∧ cel h h' ∧ ExG (puW B pc) h h') := by
  obtain ⟨p1, p2, p3, p4, p5, p6, p7⟩ := P
  have hb := l.2.2
  have hcap : 256 ≤ cap ∧ cap ≤ 16384 := by unfold capO at p7; omega
  refine Vd.inq (D := 11) hd (Nat.le_of_ble_eq_true rfl) rfl (fun d hd Q K => ?_)
  -- what is left when there is room
  have fin : ∀ (q : AH) (pc' cap' : Nat), LX B n q → PlS B q pc' cap' p → p < cap' → (pc' = pc ∨ hnx h ≤ pc') → (∀ i, i < p → hv q pc' i = hv h pc i) → plz q cap' = plz h cap → cel h q → ExG (puW B pc) h q → Ends (ev PP (gsF gv) B d 168 29 [(2, rf (B + 82)), (0, v)] [] q) Q := by
    intro q pc' cap' lq ⟨a1, a2, a3, a4, a5, a6, a7⟩ hlt o1 o2 o3 o4 o5
    refine Ends.eq (b168_29 lq (by omega)) ?_
    rw [a1, a2, ad_rf, a3, tn, cv, show bop32 96 (p : Int) 1 = ((p + 1 : Nat) : Int) from addNN (y := 1) (by omega)]
    refine Ends.g ⟨rf_pos _, rfl, by omega, by show (p : Int) < ((cap' : Nat) : Int); omega, by omega⟩ (Ends.sm (K _ ⟨pc', cap', ⟨?_, hv_set_at .., a3, a4, a5, by omega, a7⟩, o1, fun i hi => ?_, ?_, o3, o4, ?_⟩))
    · rw [hv_set_ne (by omega), hv_set_ne (by omega)]; exact a1
    · rw [hv_set_ne (by omega), hv_set_ne (by omega)]; exact o2 i hi
    · rw [hv_set_ne (by omega), hv_set_at]
    · refine ⟨o5.1, fun a k ha w => ?_, o5.2.2⟩
      rw [hv_set_ne (fun z => w (Or.inl ⟨z.1, Or.inr z.2⟩)), hv_set_ne (fun z => ?_)]
      · exact o5.at k ha w
      · rcases o1 with y | y
        · exact w (Or.inr (z.1.trans y))
        · omega
  refine Ends.eq (b168_0 l (by omega)) ?_
  rw [p1, p2, ad_rf, p3]
  refine Ends.g ⟨rf_pos _, Nat.le_refl 2⟩ (Ends.b1 (fun z => ?_) (fun z => ?_))
  · have z : (p : Int) ≠ ((cap : Nat) : Int) := z
    exact fin h pc cap l ⟨p1, p2, p3, p4, p5, p6, p7⟩ (by omega) (Or.inl rfl) (fun _ _ => rfl) rfl cel.rf ExG.rf
  · have z : (p : Int) = ((cap : Nat) : Int) := z
    obtain rfl : p = cap := by omega
    rw [show bop32 104 (2 : Int) (p : Int) = ((2 * p : Nat) : Int) from mulNN (x := 2) (by omega)]
    refine Ends.ct l (by decide +kernel) (by decide) (c_copyOf l (by omega) p3 p5 (by omega) (by omega)) (fun v2 q1 l1 _ _ _ ⟨ev1, eh⟩ => ?_)
    subst ev1
    refine Ends.eq (b168_26 l1 (by omega)) ?_
    have Xf : Ext (fun _ _ => False) 1 (2 * p) h q1 := by rw [eh]; exact Ext.new.cpy (fun z => absurd z (by omega))
    have X1 : Ext (puW B pc) 1 (2 * p) h q1 := Xf.sub (fun _ _ _ w => w.elim) (Nat.le_refl _) (Nat.le_refl _)
    have n1 : hnx q1 = hnx h + 1 := by rw [eh]; rfl
    have u1 : hus q1 = hus h + 2 * p := by rw [eh]; rfl
    have t1 : hk q1 (hnx h) = (2, 2 * p) := by rw [eh, hk_cpy, hk_new, if_pos rfl]
    have w1 : ∀ e, e < p → hv q1 (hnx h) e = hv h pc e := fun e he => by
      rw [eh, hv_cpy, if_pos ⟨rfl, by omega, by omega⟩, hv_new, if_neg (by omega)]
      rw [show 0 + (e - 0) = e by omega]
    clear eh
    refine fin (hset q1 (B + 82) 3 (rf (hnx h))) (hnx h) (2 * p) (LX.setF 82 3 l1 (by decide +kernel)) ⟨hv_set_at .., ?_, t1, Or.inr (by omega), by show hnx h < hnx q1; omega, by omega, by unfold capO at p7 ⊢; omega⟩ (by omega) (Or.inr (Nat.le_refl _)) (fun i hi => ?_) ?_ ?_ ?_
    · rw [hv_set_ne (by omega), Xf.at 4 (by omega) (fun w => w)]; exact p2
    · rw [hv_set_ne (by omega)]; exact w1 i hi
    · show hus q1 + (32768 - 2 * (2 * p)) = hus h + (32768 - 2 * p)
      unfold capO at p7
      omega
    · show 128 * hnx q1 + hus h ≤ 128 * hnx h + hus q1
      omega
    · exact (X1.set (fun _ => Or.inl ⟨rfl, Or.inl rfl⟩)).exg
/-- a facet's bit goes -/
theorem FcE.off {K : Nat} (F : FcE B n h ed E) (hn : n ≤ 52) (hK : K < 4 * gN n) : FcE B n (hset h (ed (K % 4)) (rk n (K / 4)) (bop64 127 (hv h (ed (K % 4)) (rk n (K / 4))) (bop64 131 (sop64 121 1 ((gX n (K / 4) : Nat) : Int)) (-1)))) ed (fun k => E k && !decide (k = K)) := by
  obtain ⟨hn0, k1, k2, k3, k4⟩ := g_lt (K4_lt hK)
  have hr := rk_lt (K4_lt hK)
  refine ⟨fun f hf => ?_, F.2⟩
  obtain ⟨a1, a2, a3, a4⟩ := F.1 f hf
  have b2 := (F.1 (K % 4) (by omega)).2.1
  refine ⟨by rw [hv_set_ne (by omega)]; exact a1, a2, a3, ?_⟩
  by_cases e : f = K % 4
  · subst e
    refine ⟨a4.1, fun k hk => ?_⟩
    by_cases ek : k = rk n (K / 4)
    · subst ek
      rw [hv_set_at]
      refine ⟨cn_bop64, fun x hx => ?_⟩
      rw [off_bit (by omega) hx, (a4.2 _ hk).2 x hx]
      by_cases hxn : x < n
      · rw [decide_eq_true hxn, Bool.true_and, Bool.true_and]
        unfold rk
        rw [onK_at k3 k2, onK_at k3 k2]
        congr 2
        rw [Bool.eq_iff_iff, decide_eq_true_eq, decide_eq_true_eq]
        constructor
        · rintro rfl; rw [gI_g]; omega
        · intro z
          have : gI n x (gY n (K / 4)) (gZ n (K / 4)) (gSo (K / 4)) = K / 4 := by omega
          rw [← this, gX_I hxn k4]
      · rw [decide_eq_false hxn]; rfl
    · rw [hv_set_ne (by omega)]
      refine ⟨(a4.2 k hk).1, fun x hx => ?_⟩
      rw [(a4.2 k hk).2 x hx]
      by_cases hxn : x < n
      · rw [decide_eq_true hxn, Bool.true_and, Bool.true_and]
        obtain ⟨q1, q2, q3, q4⟩ := rw3_dec hn0 hk
        rw [onK_k hn0 hk, onK_k hn0 hk]
        dsimp only
        have : ¬ 4 * gI n x (k % n) (k / n % n) (k / (n * n)) + K % 4 = K := fun z => by
          have : gI n x (k % n) (k / n % n) (k / (n * n)) = K / 4 := by omega
          rw [← this, rk_at q1 q3 hxn] at ek
          exact ek q4.symm
        rw [decide_eq_false this, Bool.not_false, Bool.and_true]
      · rw [decide_eq_false hxn]; rfl
  · have ne := F.2 f (K % 4) hf (by omega) e
    refine ⟨a4.1, fun k hk => ?_⟩
    rw [hv_set_ne (fun z => ne z.1)]
    refine ⟨(a4.2 k hk).1, fun x hx => ?_⟩
    rw [(a4.2 k hk).2 x hx]
    by_cases hxn : x < n
    · rw [decide_eq_true hxn, Bool.true_and, Bool.true_and]
      obtain ⟨q1, q2, q3, q4⟩ := rw3_dec hn0 hk
      rw [onK_k hn0 hk, onK_k hn0 hk]
      dsimp only
      have : ¬ 4 * gI n x (k % n) (k / n % n) (k / (n * n)) + f = K := fun z => by omega
      rw [decide_eq_false this, Bool.not_false, Bool.and_true]
    · rw [decide_eq_false hxn]; rfl
/-- what tracing writes of old cells -/
def fcW (B : Nat) (ed : Nat → Nat) (pc : Nat) : Nat → Nat → Prop := fun c k => (c = B + 82 ∧ (k = 3 ∨ k = 4 ∨ k = 13 ∨ k = 14 ∨ k = 15)) ∨ (∃ f, f < 4 ∧ c = ed f) ∨ c = pc
def takF (B : Nat) (ed : Nat → Nat) (pc : Nat) : Nat → Nat → Prop := fun c k => (c = B + 82 ∧ (k = 3 ∨ k = 4)) ∨ (∃ f, f < 4 ∧ c = ed f) ∨ c = pc
theorem c_take169 {pc cap p K : Nat} (l : LX B n h) (hd : 14 ≤ d) (hn : n ≤ 52) (F : FcE B n h ed E) (P : PlS B h pc cap p) (hp : p < 16300) (hne : ∀ f, f < 4 → ed f ≠ pc) (hK : K < 4 * gN n) :
    Vd (cll PP (ev PP (gsF gv) B) d 169 [(2, rf (B + 82)), (0, (cdN n K : Int))] h) (fun h' => ∃ pc' cap', PlS B h' pc' cap' (p + 1) ∧ (pc' = pc ∨ hnx h ≤ pc') ∧ (∀ i, i < p → hv h' pc' i = hv h pc i) ∧ hv h' pc' p = (cdN n K : Int) ∧ plz h' cap' = plz h cap ∧ cel h h' ∧ ExG (takF B ed pc) h h' ∧ FcE B n h' ed (fun k => E k && !decide (k = K))) := by
  obtain ⟨c1, c2, c3⟩ := cdN_lt hn hK
  obtain ⟨d1, d2, d3, d4, d5, d6⟩ := cd_dec hn hK
  have hb := l.2.2
  have hN := rows_le hn
  have k4 : K % 4 < 4 := Nat.mod_lt _ (by decide)
  obtain ⟨a1, a2, a3, a4⟩ := F.1 (K % 4) k4
  have ks : hk h (ed (K % 4)) = (3, 24 * n * n) := a4.1
  refine Vd.inq (D := 13) hd (Nat.le_of_ble_eq_true rfl) rfl (fun d hd Q KK => ?_)
  refine Ends.eq (b169_0 l (by omega)) ?_
  rw [d1, d2, d3, tn, tn, a1, ad_rf, ks, an1]
  have l2 : LX B n (hset h (ed (K % 4)) (rk n (K / 4)) (bop64 127 (hv h (ed (K % 4)) (rk n (K / 4))) (bop64 131 (sop64 121 1 ((gX n (K / 4) : Nat) : Int)) (-1)))) := LX.setA (t := 1) l (by rw [ks])
  have F2 := F.off hn hK
  clear d1 d2 d3 d4 d5 d6
  generalize hq : hset h (ed (K % 4)) (rk n (K / 4)) (bop64 127 (hv h (ed (K % 4)) (rk n (K / 4))) (bop64 131 (sop64 121 1 ((gX n (K / 4) : Nat) : Int)) (-1))) = q at *
  have g : Agr (fun c _ => c = ed (K % 4)) h q := by rw [← hq]; exact Agr.rf.set rfl
  refine Ends.g ⟨by omega, by omega⟩ (Ends.g ⟨rf_pos _, rfl, by omega, by show _ < ((24 * n * n : Nat) : Int); omega⟩ (Ends.g ⟨rf_pos _, rfl, by omega, by show _ < ((24 * n * n : Nat) : Int); omega, by omega⟩ ?_))
  have P2 : PlS B q pc cap p := by
    obtain ⟨p1, p2, p3, p4, p5, p6, p7⟩ := P
    exact ⟨by rw [g.at _ _ (by omega)]; exact p1, by rw [g.at _ _ (by omega)]; exact p2, by rw [g.hk]; exact p3, p4, by rw [g.nx]; exact p5, p6, p7⟩
  refine Ends.cv l2 (by decide +kernel) (c_push168 l2 (by omega) P2 hp (an0 _)) (fun h3 l3 _ _ _ ⟨pc', cap', e1, e2, e3, e4, e5, e6, e7⟩ => ?_)
  refine Ends.eq (b169_34 l3 (by omega)) (Ends.sm (KK _ ⟨pc', cap', e1, by rw [g.nx] at e2; exact e2, fun i hi => ?_, e4, ?_, (cel.agr g).tr e6, ?_, ?_⟩))
  · rw [e3 i hi, g.at _ _ (fun z => hne _ k4 z.symm)]
  · rw [e5]; unfold plz; rw [g.us]
  · refine (g.ext.exg.sub (W' := takF B ed pc) (fun c k _ w => Or.inr (Or.inl ⟨_, k4, w⟩))).tr e7 (fun c k _ w => ?_)
    rcases w with w | w
    · exact Or.inl w
    · exact Or.inr (Or.inr w)
  · refine F2.exg (by rw [g.nx]; exact hb) e7 (fun f hf w => ?_) (fun f k hf w => ?_)
    · rcases w with w | w
      · omega
      · have := P.2.2.2.1; omega
    · rcases w with w | w
      · have := (F.1 f hf).2.1; omega
      · exact hne f hf w
/-- who looks on: nobody, or an object whose facet method keeps what it says of the facets seen -/
def Wat (gv : Nat → Int) (B n : Nat) (E : Nat → Bool) (K0 : Nat) (w : Int) (face : Int) (Ww : Nat → Nat → Prop) (WI : (Nat → Bool) → AH → Prop) : Prop :=
  (w = 0 ∧ ∀ V K q, WI V q → WI (fun k => V k || decide (k = K)) q) ∨ ∃ c j, 0 < w ∧ j ≠ 0 ∧ ¬ j = 9 ∧ pVt PP 265 c = j ∧ mkT j &&& fxM = 0 ∧ (∀ q, LX B n q → hk q (ad w) = (1, c)) ∧
    ∀ d, 20 ≤ d → ∀ V K q, LX B n q → WI V q → K < 4 * gN n → V K = false → FRe n E K0 K → Vd (cll PP (ev PP (gsF gv) B) d j [(2, w), (0, ((gSo (K / 4) : Nat) : Int)), (0, ((K % 4 : Nat) : Int)), (0, ((gX n (K / 4) : Nat) : Int)), (0, ((gY n (K / 4) : Nat) : Int)), (0, ((gZ n (K / 4) : Nat) : Int)), (0, face)] q) (fun q' => Agr Ww q q' ∧ WI (fun k => V k || decide (k = K)) q')
/-- how many facets of sort f -/
def cnQ (n : Nat) (V : Nat → Bool) (f : Nat) : Nat := cntN (fun k => V k && (k % 4 == f)) (4 * gN n)
theorem cnF_put {V : Nat → Bool} {K : Nat} (hK : K < 4 * gN n) (hV : V K = false) {f : Nat} : cnQ n (fun k => V k || decide (k = K)) f = cnQ n V f + if K % 4 = f then 1 else 0 := by
  unfold cnQ
  by_cases e : K % 4 = f
  · rw [if_pos e]
    have := cntN_set (S := fun k => V k && (k % 4 == f)) (a := K) (by show (V K && _) = false; rw [hV]; rfl) (4 * gN n)
    rw [if_pos hK] at this
    rw [← this]
    refine cntN_congr _ (fun k _ => ?_)
    by_cases z : k = K
    · subst z
      show ((V k || decide (k = k)) && (k % 4 == f)) = ((V k && (k % 4 == f)) || decide (k = k))
      rw [decide_eq_true rfl, e, beq_self_eq_true]; simp
    · show ((V k || decide (k = K)) && (k % 4 == f)) = ((V k && (k % 4 == f)) || decide (k = K))
      rw [decide_eq_false z]; simp
  · rw [if_neg e]
    refine cntN_congr _ (fun k _ => ?_)
    by_cases z : k = K
    · subst z
      show ((V k || decide (k = k)) && (k % 4 == f)) = (V k && (k % 4 == f))
      rw [show (k % 4 == f) = false from by rw [beq_eq_false_iff_ne]; exact e]; simp
    · show ((V k || decide (k = K)) && (k % 4 == f)) = (V k && (k % 4 == f))
      rw [decide_eq_false z]; simp
theorem cnF_0 {f : Nat} : cnQ n (fun _ => false) f = 0 := cntN_none _ (fun _ _ => rfl)
theorem cnF_le {V : Nat → Bool} {f : Nat} : cnQ n V f ≤ 4 * gN n := cntN_le _ _
/-- the counts of a face -/
def CtS (B n : Nat) (h : AH) (V : Nat → Bool) : Prop := hv h (B + 82) 13 = ((cnQ n V 0 : Nat) : Int) ∧ hv h (B + 82) 14 = ((cnQ n V 1 : Nat) : Int) ∧ hv h (B + 82) 15 = ((cnQ n V 2 + cnQ n V 3 : Nat) : Int)
set_option maxHeartbeats 4000000 in
theorem c_trace170 {pc cap : Nat} {w : Int} {face : Int} {Ww : Nat → Nat → Prop} {WI : (Nat → Bool) → AH → Prop} (l : LX B n h) (hd : 23 ≤ d) (hn : n ≤ 52) (m : TbC B h) (bc : BsC B h) (F : FcE B n h ed E) {p0 : Nat} (P : PlS B h pc cap p0) (hne : ∀ f, f < 4 → ed f ≠ pc) (hK : K0 < 4 * gN n) (hE : E K0 = true) (e16 : hv h (B + 82) 16 = w) (wt : Wat gv B n E K0 w face Ww WI) (w0 : WI (fun _ => false) h)
    (hWw : ∀ c k, Ww c k → c < hnx h ∧ c ≠ B + 82 ∧ c ≠ B + 83 ∧ ¬ (B + 36 ≤ c ∧ c ≤ B + 48) ∧ (∀ f, f < 4 → c ≠ ed f) ∧ c ≠ pc)
    (hst : ∀ V q q', WI V q → (∀ c k, c < hnx h → ¬ fcW B ed pc c k → hv q' c k = hv q c k) → (∀ c, c < hnx h → hk q' c = hk q c) → WI V q') :
    Vd (cll PP (ev PP (gsF gv) B) d 170 [(2, rf (B + 82)), (0, (cdN n K0 : Int)), (0, face)] h) (fun h' => ∃ V pc' cap', (∀ k, k < 4 * gN n → (V k = true ↔ FRe n E K0 k)) ∧ FcE B n h' ed (fun k => E k && !V k) ∧ PlS B h' pc' cap' 0 ∧ (pc' = pc ∨ hnx h ≤ pc') ∧ CtS B n h' V ∧ plz h' cap' = plz h cap ∧ cel h h' ∧ ExG (fun c k => fcW B ed pc c k ∨ Ww c k) h h' ∧ WI V h') := by
  have hG := gN_le hn
  have hb := l.2.2
  have hnx0 : 246 ≤ hnx h := by omega
  obtain ⟨hn0, -, -, -, -⟩ := g_lt (K4_lt hK)
  have nn6 : 6 * n * n ≤ 16224 := by
    have : n * n ≤ 2704 := Nat.mul_le_mul hn hn
    rw [Nat.mul_assoc]; omega
  refine Vd.inq (D := 22) hd (Nat.le_of_ble_eq_true rfl) rfl (fun d hd Q KK => ?_)
  -- what holds beside the trace
  have tbq : ∀ {q : AH}, ExG (fun c k => fcW B ed pc c k ∨ Ww c k) h q → (∀ c k, B + 36 ≤ c → c ≤ B + 48 → hv q c k = hv h c k) := fun g c k h1 h2 => g.at k (by omega) (fun z => by
    rcases z with (z | ⟨f, hf, z⟩ | z) | z
    · omega
    · have := (F.1 f hf).2.1; omega
    · have := P.2.2.2.1; omega
    · have := (hWw c k z).2.2.2.1; omega)
  -- the pile's state
  have pile : ∀ (M : Nat) (q : AH) (V : Nat → Bool) (p : Nat) (st : Nat → Nat) (pc' cap' : Nat) (u3 u4 u5 u6 u7 u8 u9 u10 u11 u12 u13 u14 : AV), 4 * gN n - cntN V (4 * gN n) = M → LX B n q → ExG (fun c k => fcW B ed pc c k ∨ Ww c k) h q → TrS n E K0 V p st (fun _ _ => False) → FcE B n q ed (eNw E V p st) → PlS B q pc' cap' p → (pc' = pc ∨ hnx h ≤ pc') → (∀ i, i < p → hv q pc' i = (cdN n (st i) : Int)) → CtS B n q V → plz q cap' = plz h cap → cel h q → WI V q → hv q (B + 82) 16 = w → Ends (ev PP (gsF gv) B d 170 25 [(2, rf (B + 82)), (0, (cdN n K0 : Int)), (0, face), u3, u4, u5, u6, u7, u8, u9, u10, u11, u12, u13, u14] [] q) Q := by
    intro M
    refine Nat.strongRecOn M (fun M ihM => ?_)
    intro q V p st pc' cap' u3 u4 u5 u6 u7 u8 u9 u10 u11 u12 u13 u14 eM lq X T Fq Pq op I C rm ce wi w16
    have Pq0 := Pq
    obtain ⟨p1, p2, p3, p4, p5, p6, p7⟩ := Pq
    have hne' : ∀ f, f < 4 → ed f ≠ pc' := fun f hf z => by
      rcases op with y | y
      · exact hne f hf (by rw [z, y])
      · have := (F.1 f hf).2.2.1; omega
    refine Ends.eq (b170_25 lq (by omega)) ?_
    rw [p2, p1, ad_rf]
    refine Ends.b5 (fun z => ?_) (fun z => ?_)
    · -- the pile is empty
      obtain rfl : p = 0 := by omega
      refine Ends.sm (KK _ ⟨V, pc', cap', fun k hk => T.fin k hk, Fq.congr (fun k _ => ?_), Pq0, op, C, rm, ce, X, wi⟩)
      unfold eNw inPl
      rw [Bool.not_false, Bool.and_true]
    obtain ⟨p, rfl⟩ : ∃ r, p = r + 1 := ⟨p - 1, by omega⟩
    have T1 := T.pop
    obtain ⟨s1, s2, s3, s4⟩ := T.1 p (by omega)
    obtain ⟨K, eK⟩ : ∃ K, K = st p := ⟨_, rfl⟩
    have Fq1 := Fq.congr (E' := eNw E (fun k => V k || decide (k = st p)) p st) (fun k _ => eNw_pop T k)
    rw [← eK] at s1 s2 s3 s4 T1 Fq1
    obtain ⟨d1, d2, d3, d4, d5, d6⟩ := cd_dec hn s1
    have K4 : K % 4 < 4 := Nat.mod_lt _ (by decide)
    obtain ⟨-, g1, g2, g3, g4⟩ := g_lt (K4_lt s1)
    have cap16 : cap' ≤ 16384 := by unfold capO at p7; omega
    rw [show bop32 100 ((p + 1 : Nat) : Int) 1 = (p : Int) from by rw [sub32 (by omega) (by omega)]; omega]
    have top : hv (hset q (B + 82) 4 (p : Int)) pc' p = (cdN n K : Int) := by rw [hv_set_ne (by omega), I p (by omega), eK]
    simp only [tn]
    rw [top]
    refine Ends.g ⟨rf_pos _, by rw [p3], by omega, by rw [p3]; show (p : Int) < ((cap' : Nat) : Int); omega⟩ ?_
    obtain ⟨qn1, qn2⟩ := q171_ok hn hn0
    refine Ends.g qn1 (Ends.g qn2 (Ends.g qn2 ?_))
    rw [d1, d3, d4, d5, d6]
    clear d1 d2 d3 d4 d5 d6 qn1
    -- behind the counts
    have vis : ∀ (q1 : AH) (u9 u10 u11 u12 u13 u14 : AV), LX B n q1 → Agr (fun c k => c = B + 82 ∧ (k = 4 ∨ k = 13 ∨ k = 14 ∨ k = 15)) q q1 → hv q1 (B + 82) 4 = (p : Int) → CtS B n q1 (fun k => V k || decide (k = K)) → Ends (ev PP (gsF gv) B d 170 133 [(2, rf (B + 82)), (0, (cdN n K0 : Int)), (0, face), (0, (cdN n K : Int)), (0, ((gSo (K / 4) : Nat) : Int)), (0, ((K % 4 : Nat) : Int)), (0, ((gX n (K / 4) : Nat) : Int)), (0, ((gY n (K / 4) : Nat) : Int)), (0, ((gZ n (K / 4) : Nat) : Int)), u9, u10, u11, u12, u13, u14] [] q1) Q := by
      intro q1 u9 u10 u11 u12 u13 u14 l1 G1 e4 C1
      have X1 : ExG (fun c k => fcW B ed pc c k ∨ Ww c k) h q1 := X.tr G1.ext.exg (fun c k _ z => Or.inl (Or.inl (by omega)))
      have wi1 : WI V q1 := hst V q q1 wi (fun c k hc z => G1.at c k (fun y => z (Or.inl (by omega)))) (fun c _ => G1.hk c)
      have F1 : FcE B n q1 ed (eNw E (fun k => V k || decide (k = K)) p st) := Fq1.exg lq.2.2 G1.ext.exg (fun f hf z => by omega) (fun f k hf z => by have := (F.1 f hf).2.1; omega)
      have P1 : PlS B q1 pc' cap' p := ⟨by rw [G1.at _ _ (by omega)]; exact p1, e4, by rw [G1.hk]; exact p3, p4, by rw [G1.nx]; exact p5, by omega, p7⟩
      have I1 : ∀ i, i < p → hv q1 pc' i = (cdN n (st i) : Int) := fun i hi => by rw [G1.at _ _ (by omega)]; exact I i (by omega)
      have w1 : hv q1 (B + 82) 16 = w := by rw [G1.at _ _ (by omega)]; exact w16
      have rm1 : plz q1 cap' = plz h cap := by rw [← rm]; unfold plz; rw [G1.us]
      have ce1 : cel h q1 := ce.tr (cel.agr G1)
      have V' : (fun k => V k || decide (k = K)) K = true := by simp
      -- the three sides
      have sides : ∀ (r s : Nat) (q : AH) (p : Nat) (st : Nat → Nat) (pc' cap' : Nat) (u10 u11 u12 u13 u14 : AV), s + r = 3 → LX B n q → ExG (fun c k => fcW B ed pc c k ∨ Ww c k) h q → TrS n E K0 (fun k => V k || decide (k = K)) p st (fun k s' => k = K ∧ s ≤ s') → FcE B n q ed (eNw E (fun k => V k || decide (k = K)) p st) → PlS B q pc' cap' p → (pc' = pc ∨ hnx h ≤ pc') → (∀ i, i < p → hv q pc' i = (cdN n (st i) : Int)) → CtS B n q (fun k => V k || decide (k = K)) → plz q cap' = plz h cap → cel h q → WI (fun k => V k || decide (k = K)) q → hv q (B + 82) 16 = w → Ends (ev PP (gsF gv) B d 170 163 [(2, rf (B + 82)), (0, (cdN n K0 : Int)), (0, face), (0, (cdN n K : Int)), (0, ((gSo (K / 4) : Nat) : Int)), (0, ((K % 4 : Nat) : Int)), (0, ((gX n (K / 4) : Nat) : Int)), (0, ((gY n (K / 4) : Nat) : Int)), (0, ((gZ n (K / 4) : Nat) : Int)), (0, (s : Int)), u10, u11, u12, u13, u14] [] q) Q := by
        intro r
        induction r with
        | zero =>
          intro s q p st pc' cap' u10 u11 u12 u13 u14 es lq X T Fq Pq op I C rm ce wi w16
          obtain rfl : s = 3 := by omega
          refine Ends.eq (b170_163 lq (by omega)) (Ends.b3 (fun _ => ?_) (fun z => absurd z (by decide)))
          refine ihM (4 * gN n - cntN (fun k => V k || decide (k = K)) (4 * gN n)) ?_ q _ p st pc' cap' _ _ _ _ _ _ _ _ _ _ _ _ rfl lq X T.sides Fq Pq op I C rm ce wi w16
          rw [cntN_set s4, if_pos s1]
          have := cntN_lt s1 s4
          omega
        | succ r ih =>
          intro s q p st pc' cap' u10 u11 u12 u13 u14 es lq X T Fq Pq op I C rm ce wi w16
          have hs : s < 3 := by omega
          have hne' : ∀ f, f < 4 → ed f ≠ pc' := fun f hf z => by
            rcases op with y | y
            · exact hne f hf (by rw [z, y])
            · have := (F.1 f hf).2.2.1; omega
          have bs : BsS B q (K % 96) s := by
            have := bc (K % 96) s K96_lt hs
            exact ⟨by rw [tbq X _ _ (by omega) (by omega)]; exact this.1, fun a ha => by rw [tbq X _ _ (by omega) (by omega)]; exact this.2 a ha⟩
          have e96 := K96 (K := K)
          obtain ⟨b1, b2, b3⟩ := bs_lt (K96_lt (K := K)) hs
          have c0 := b2 0 (by decide)
          have c1 := b2 1 (by decide)
          have c2 := b2 2 (by decide)
          have next : ∀ (x10 x11 x12 x13 x14 : Int) (q : AH) (p : Nat) (st : Nat → Nat) (pc' cap' : Nat), LX B n q → ExG (fun c k => fcW B ed pc c k ∨ Ww c k) h q → TrS n E K0 (fun k => V k || decide (k = K)) p st (fun k s' => k = K ∧ s + 1 ≤ s') → FcE B n q ed (eNw E (fun k => V k || decide (k = K)) p st) → PlS B q pc' cap' p → (pc' = pc ∨ hnx h ≤ pc') → (∀ i, i < p → hv q pc' i = (cdN n (st i) : Int)) → CtS B n q (fun k => V k || decide (k = K)) → plz q cap' = plz h cap → cel h q → WI (fun k => V k || decide (k = K)) q → hv q (B + 82) 16 = w → Ends (ev PP (gsF gv) B d 170 352 [(2, rf (B + 82)), (0, (cdN n K0 : Int)), (0, face), (0, (cdN n K : Int)), (0, ((gSo (K / 4) : Nat) : Int)), (0, ((K % 4 : Nat) : Int)), (0, ((gX n (K / 4) : Nat) : Int)), (0, ((gY n (K / 4) : Nat) : Int)), (0, ((gZ n (K / 4) : Nat) : Int)), (0, (s : Int)), (0, x10), (0, x11), (0, x12), (0, x13), (0, x14)] [] q) Q := by
            intro x10 x11 x12 x13 x14 q p st pc' cap' lq X T Fq Pq op I C rm ce wi w16
            refine Ends.eq (b170_352 lq (by omega)) ?_
            rw [w_succ (by omega)]
            exact ih (s + 1) q p st pc' cap' _ _ _ _ _ (by omega) lq X T Fq Pq op I C rm ce wi w16
          refine Ends.eq (b170_163 lq (by omega)) (Ends.b3 (fun z => absurd z (by omega)) (fun _ => ?_))
          rw [show bop32 96 (bop32 104 (3 : Int) (bop32 96 (bop32 104 (4 : Int) ((gSo (K / 4) : Nat) : Int)) ((K % 4 : Nat) : Int))) (s : Int) = ((3 * (K % 96) + s : Nat) : Int) from by
            rw [show bop32 104 (4 : Int) ((gSo (K / 4) : Nat) : Int) = ((4 * gSo (K / 4) : Nat) : Int) from mulNN (x := 4) (by omega), addNN (by omega), ← e96, show bop32 104 (3 : Int) ((K % 96 : Nat) : Int) = ((3 * (K % 96) : Nat) : Int) from mulNN (x := 3) (by omega), addNN (by omega)],
            show bop32 104 (3 : Int) ((3 * (K % 96) + s : Nat) : Int) = ((9 * (K % 96) + 3 * s : Nat) : Int) from by rw [show bop32 104 (3 : Int) ((3 * (K % 96) + s : Nat) : Int) = ((3 * (3 * (K % 96) + s) : Nat) : Int) from mulNN (x := 3) (by omega)]; congr 1; omega,
            show bop32 96 ((9 * (K % 96) + 3 * s : Nat) : Int) 1 = ((9 * (K % 96) + 3 * s + 1 : Nat) : Int) from addNN (y := 1) (by omega), show bop32 96 ((9 * (K % 96) + 3 * s : Nat) : Int) 2 = ((9 * (K % 96) + 3 * s + 2 : Nat) : Int) from addNN (y := 2) (by omega)]
          simp only [tn]
          have B0 := bs.2 0 (by decide)
          rw [show 9 * (K % 96) + 3 * s + 0 = 9 * (K % 96) + 3 * s from rfl] at B0
          rw [bs.1, B0, bs.2 1 (by decide), bs.2 2 (by decide),
            show bop32 96 ((gX n (K / 4) : Nat) : Int) (((bcU (K % 96) s 0 : Nat) : Int) - 1) = bsX n K s from by rw [add32 (by omega) (by omega)]; unfold bsX; omega,
            show bop32 96 ((gY n (K / 4) : Nat) : Int) (((bcU (K % 96) s 1 : Nat) : Int) - 1) = bsY n K s from by rw [add32 (by omega) (by omega)]; unfold bsY; omega,
            show bop32 96 ((gZ n (K / 4) : Nat) : Int) (((bcU (K % 96) s 2 : Nat) : Int) - 1) = bsZ n K s from by rw [add32 (by omega) (by omega)]; unfold bsZ; omega]
          clear B0 bs
          refine Ends.g ⟨by omega, by omega⟩ (Ends.g ⟨by omega, by omega⟩ (Ends.g ⟨by omega, by omega⟩ (Ends.g ⟨by omega, by omega⟩ ?_)))
          rcases bsd_cases (n := n) (K := K) hs with no | ⟨x, y, z, hx, hy, hz, ex, ey, ez, -, eb⟩
          · have T2 := T.non (fun y _ e => by rw [no] at e; omega)
            have nn : ¬ (0 ≤ bsX n K s ∧ 0 ≤ bsY n K s ∧ 0 ≤ bsZ n K s ∧ bsX n K s < n ∧ bsY n K s < n ∧ bsZ n K s < n) := fun z => by
              have : bsd n K s ≠ -1 := by
                unfold bsd
                rw [if_pos (inRm_iff.mpr z)]; omega
              exact this no
            refine Ends.b2 (fun _ => next _ _ _ _ _ q p st pc' cap' lq X T2 Fq Pq op I C rm ce wi w16) (fun z1 => Ends.b2 (fun _ => next _ _ _ _ _ q p st pc' cap' lq X T2 Fq Pq op I C rm ce wi w16) (fun z2 => Ends.b2 (fun _ => next _ _ _ _ _ q p st pc' cap' lq X T2 Fq Pq op I C rm ce wi w16) (fun z3 => Ends.b3 (fun _ => next _ _ _ _ _ q p st pc' cap' lq X T2 Fq Pq op I C rm ce wi w16) (fun z4 => Ends.b3 (fun _ => next _ _ _ _ _ q p st pc' cap' lq X T2 Fq Pq op I C rm ce wi w16) (fun z5 => Ends.b2 (fun z6 => absurd ⟨z1, z2, z3, z4, z5, z6⟩ nn) (fun _ => next _ _ _ _ _ q p st pc' cap' lq X T2 Fq Pq op I C rm ce wi w16))))))
          · obtain ⟨j, ej⟩ : ∃ j, j = bsT (K % 96) s := ⟨_, rfl⟩
            rw [← ej] at eb b1 ⊢
            obtain ⟨Y, eY⟩ : ∃ Y, Y = 4 * gI n x y z (j / 4) + j % 4 := ⟨_, rfl⟩
            rw [← eY] at eb
            have hY : Y < 4 * gN n := bsd_lt hs eb
            have Y4 : Y % 4 = j % 4 := by omega
            have Yg : Y / 4 = gI n x y z (j / 4) := by omega
            rw [ex, ey, ez, show bop32 112 ((j : Nat) : Int) 4 = ((j % 4 : Nat) : Int) from modNN (y := 4) (by decide) (by decide), show bop32 108 ((j : Nat) : Int) 4 = ((j / 4 : Nat) : Int) from divNN (y := 4) (by omega) (by decide), row_eq hn (by omega) hz hy, cd_at hn (by omega) (by omega) hx hy hz, ← eY]
            simp only [tn]
            obtain ⟨f1, f2, f3, f4⟩ := Fq.1 (j % 4) (by omega)
            have kf : hk q (ed (j % 4)) = (3, 24 * n * n) := f4.1
            have rl := rw3_lt (n := n) (t := j / 4) (by omega) hz hy
            rw [f1, ad_rf, kf]
            refine Ends.b2 (fun z => absurd z (by omega)) (fun _ => Ends.b2 (fun z => absurd z (by omega)) (fun _ => Ends.b2 (fun z => absurd z (by omega)) (fun _ => Ends.b3 (fun z => absurd z (by omega)) (fun _ => Ends.b3 (fun z => absurd z (by omega)) (fun _ => Ends.b2 (fun _ => ?_) (fun z => absurd z (by omega)))))))
            refine Ends.g ⟨by omega, by omega⟩ (Ends.g ⟨rf_pos _, rfl, by omega, by show _ < ((24 * n * n : Nat) : Int); omega⟩ ?_)
            rw [bit_is _ (by omega), f4.bit (by omega) hz hy (by omega), decide_eq_true hx, Bool.true_and]
            rw [← eY]
            cases hEY : eNw E (fun k => V k || decide (k = K)) p st Y
            · refine Ends.b1 (fun _ => next _ _ _ _ _ q p st pc' cap' lq X (T.non (fun y' _ e => ?_)) Fq Pq op I C rm ce wi w16) (fun z => absurd z (by decide))
              rw [eb] at e
              rw [show y' = Y by omega]; exact hEY
            · refine Ends.b1 (fun z => absurd rfl z) (fun _ => ?_)
              obtain ⟨T2, few⟩ := T.push hs V' eb hEY
              refine Ends.cv lq (by decide +kernel) (c_take169 lq (by omega) hn Fq Pq (by omega) hne' hY) (fun q2 l2 _ _ _ ⟨pc2, cap2, P2, o2, i2, i3, rm2, ce2, X2, F2⟩ => ?_)
              have nq := X.2.2.1
              have X3 : ExG (fun c k => fcW B ed pc c k ∨ Ww c k) h q2 := X.tr X2 (fun c k hc z => by
                rcases z with z | z | z
                · exact Or.inl (Or.inl (by omega))
                · exact Or.inl (Or.inr (Or.inl z))
                · refine Or.inl (Or.inr (Or.inr ?_))
                  rcases op with y | y
                  · rw [z, y]
                  · omega)
              have f82 : ∀ k, k ≠ 3 → k ≠ 4 → hv q2 (B + 82) k = hv q (B + 82) k := fun k h1 h2 => X2.at k (by have := lq.2.2; omega) (fun z => by
                rcases z with z | ⟨f, hf, z⟩ | z
                · omega
                · have := (F.1 f hf).2.1; omega
                · have := Pq.2.2.2.1; omega)
              refine next _ _ _ _ _ q2 (p + 1) _ pc2 cap2 l2 X3 T2 (F2.congr (fun k _ => (eNw_push k).symm)) P2 (by
                rcases o2 with y | y
                · rw [y]; exact op
                · exact Or.inr (by omega)) (fun i hi => ?_) ⟨by rw [f82 _ (by decide) (by decide)]; exact C.1, by rw [f82 _ (by decide) (by decide)]; exact C.2.1, by rw [f82 _ (by decide) (by decide)]; exact C.2.2⟩ (rm2.trans rm) (ce.tr ce2) (hst _ q q2 wi (fun c k hc z => X2.at k (by omega) (fun y => z ?_)) (fun c hc => X2.hk (by omega))) (by rw [f82 _ (by decide) (by decide)]; exact w16)
              · by_cases ei : i = p
                · rw [ei, i3, if_pos rfl]
                · rw [i2 i (by omega), if_neg ei]; exact I i (by omega)
              · rcases y with y | y | y
                · exact Or.inl (by omega)
                · exact Or.inr (Or.inl y)
                · refine Or.inr (Or.inr ?_)
                  rcases op with y2 | y2
                  · rw [y, y2]
                  · omega
      have go : ∀ (q2 : AH) (u9 u10 u11 u12 u13 u14 : AV), LX B n q2 → Agr Ww q1 q2 → WI (fun k => V k || decide (k = K)) q2 → Ends (ev PP (gsF gv) B d 170 160 [(2, rf (B + 82)), (0, (cdN n K0 : Int)), (0, face), (0, (cdN n K : Int)), (0, ((gSo (K / 4) : Nat) : Int)), (0, ((K % 4 : Nat) : Int)), (0, ((gX n (K / 4) : Nat) : Int)), (0, ((gY n (K / 4) : Nat) : Int)), (0, ((gZ n (K / 4) : Nat) : Int)), u9, u10, u11, u12, u13, u14] [] q2) Q := by
        intro q2 u9 u10 u11 u12 u13 u14 l2 G2 wi2
        refine Ends.eq (b170_160 l2 (by omega)) ?_
        have v82 : ∀ k, hv q2 (B + 82) k = hv q1 (B + 82) k := fun k => G2.at _ _ (fun z => (hWw _ _ z).2.1 rfl)
        have npc : ∀ k, hv q2 pc' k = hv q1 pc' k := fun k => G2.at _ _ (fun z => by
          obtain ⟨z1, -, -, -, -, z2⟩ := hWw _ _ z
          rcases op with y | y
          · exact z2 y
          · omega)
        refine sides 3 0 q2 p st pc' cap' _ _ _ _ _ rfl l2 (X1.tr G2.ext.exg (fun c k _ z => Or.inr z)) T1.side0 (F1.exg l1.2.2 G2.ext.exg (fun f hf z => (hWw _ _ z).2.2.1 rfl) (fun f k hf z => (hWw _ _ z).2.2.2.2.1 f hf rfl)) ⟨by rw [v82]; exact P1.1, by rw [v82]; exact P1.2.1, by rw [G2.hk]; exact P1.2.2.1, p4, by rw [G2.nx]; exact P1.2.2.2.2.1, P1.2.2.2.2.2⟩ op (fun i hi => by rw [npc]; exact I1 i hi) ⟨by rw [v82]; exact C1.1, by rw [v82]; exact C1.2.1, by rw [v82]; exact C1.2.2⟩ (by rw [← rm1]; unfold plz; rw [G2.us]) (ce1.tr (cel.agr G2)) wi2 (by rw [v82]; exact w1)
      refine Ends.eq (b170_133 l1 (by omega)) ?_
      rw [w1]
      rcases wt with ⟨wz, wt⟩ | ⟨c, j, wp, j0, -, pv, mj, kw, wt⟩
      · exact Ends.b0 (fun _ => go q1 _ _ _ _ _ _ l1 Agr.rf (wt V K q1 wi1)) (fun z => absurd wz z)
      · rw [kw q1 l1]
        show Ends (brc 0 w 0 _ (gdC (0 < w ∧ 1 = 1 ∧ pVt PP 265 c ≠ 0) (aft PP 170 155 160 _ _ _ (cll PP _ _ (pVt PP 265 c) _ _)))) Q
        rw [pv]
        refine Ends.b0 (fun z => absurd z (by omega)) (fun _ => Ends.g ⟨wp, rfl, j0⟩ ?_)
        exact Ends.cv l1 mj (wt d (by omega) V K q1 l1 wi1 s1 s4 s3) (fun q2 l2 _ _ _ ⟨G2, wi2⟩ => go q2 _ _ _ _ _ _ l2 G2 wi2)
    have cn0 := cnF_put s1 s4 (f := 0)
    have cn1 := cnF_put s1 s4 (f := 1)
    have cn2 := cnF_put s1 s4 (f := 2)
    have cn3 := cnF_put s1 s4 (f := 3)
    have le0 := cnF_le (n := n) (V := V) (f := 0)
    have le1 := cnF_le (n := n) (V := V) (f := 1)
    have le2 := cnF_le (n := n) (V := V) (f := 2)
    have le3 := cnF_le (n := n) (V := V) (f := 3)
    obtain ⟨C0, C1, C2⟩ := C
    have o13 : hv (hset q (B + 82) 4 (p : Int)) (B + 82) 13 = ((cnQ n V 0 : Nat) : Int) := by rw [hv_set_ne (by omega)]; exact C0
    have o14 : hv (hset q (B + 82) 4 (p : Int)) (B + 82) 14 = ((cnQ n V 1 : Nat) : Int) := by rw [hv_set_ne (by omega)]; exact C1
    have o15 : hv (hset q (B + 82) 4 (p : Int)) (B + 82) 15 = ((cnQ n V 2 + cnQ n V 3 : Nat) : Int) := by rw [hv_set_ne (by omega)]; exact C2
    have L4 : LX B n (hset q (B + 82) 4 (p : Int)) := LX.setF 82 4 lq (by decide +kernel)
    have ga : ∀ (k : Nat) (v : Int), (k = 13 ∨ k = 14 ∨ k = 15) → Agr (fun c k => c = B + 82 ∧ (k = 4 ∨ k = 13 ∨ k = 14 ∨ k = 15)) q (hset (hset q (B + 82) 4 (p : Int)) (B + 82) k v) := fun k v hk => (Agr.rf.set (by omega)).set (by omega)
    refine Ends.b1 (fun z1 => Ends.b1 (fun z2 => ?_) (fun z2 => ?_)) (fun z1 => ?_)
    · rw [if_neg (by omega)] at cn0 cn1
      refine vis _ _ _ _ _ _ _ (LX.setF 82 15 L4 (by decide +kernel)) (ga _ _ (by omega)) (by rw [hv_set_ne (by omega), hv_set_at]) ⟨by rw [hv_set_ne (by omega), o13, cn0, Nat.add_zero], by rw [hv_set_ne (by omega), o14, cn1, Nat.add_zero], ?_⟩
      rw [hv_set_at, C2, show bop32 96 ((cnQ n V 2 + cnQ n V 3 : Nat) : Int) 1 = ((cnQ n V 2 + cnQ n V 3 + 1 : Nat) : Int) from addNN (y := 1) (by omega), cn2, cn3]
      rcases (by omega : K % 4 = 2 ∨ K % 4 = 3) with y | y
      · rw [if_pos y, if_neg (by omega)]; congr 1; omega
      · rw [if_neg (by omega), if_pos y]; congr 1
    · rw [if_neg (by omega)] at cn0 cn2 cn3
      rw [if_pos (by omega)] at cn1
      refine vis _ _ _ _ _ _ _ (LX.setF 82 14 L4 (by decide +kernel)) (ga _ _ (by omega)) (by rw [hv_set_ne (by omega), hv_set_at]) ⟨by rw [hv_set_ne (by omega), o13, cn0, Nat.add_zero], ?_, by rw [hv_set_ne (by omega), o15, cn2, cn3, Nat.add_zero, Nat.add_zero]⟩
      rw [hv_set_at, C1, show bop32 96 ((cnQ n V 1 : Nat) : Int) 1 = ((cnQ n V 1 + 1 : Nat) : Int) from addNN (y := 1) (by omega), cn1]
    · rw [if_neg (by omega)] at cn1 cn2 cn3
      rw [if_pos (by omega)] at cn0
      refine vis _ _ _ _ _ _ _ (LX.setF 82 13 L4 (by decide +kernel)) (ga _ _ (by omega)) (by rw [hv_set_ne (by omega), hv_set_at]) ⟨?_, by rw [hv_set_ne (by omega), o14, cn1, Nat.add_zero], by rw [hv_set_ne (by omega), o15, cn2, cn3, Nat.add_zero, Nat.add_zero]⟩
      rw [hv_set_at, C0, show bop32 96 ((cnQ n V 0 : Nat) : Int) 1 = ((cnQ n V 0 + 1 : Nat) : Int) from addNN (y := 1) (by omega), cn0]
  -- the beginning
  refine Ends.eq (b170_0 l (by omega)) ?_
  have L0 : LX B n (hset (hset (hset (hset h (B + 82) 13 0) (B + 82) 14 0) (B + 82) 15 0) (B + 82) 4 0) := LX.setF 82 4 (LX.setF 82 15 (LX.setF 82 14 (LX.setF 82 13 l (by decide +kernel)) (by decide +kernel)) (by decide +kernel)) (by decide +kernel)
  have G0 : Agr (fun c k => c = B + 82 ∧ (k = 4 ∨ k = 13 ∨ k = 14 ∨ k = 15)) h (hset (hset (hset (hset h (B + 82) 13 0) (B + 82) 14 0) (B + 82) 15 0) (B + 82) 4 0) := (((Agr.rf.set (by omega)).set (by omega)).set (by omega)).set (by omega)
  have z13 : CtS B n (hset (hset (hset (hset h (B + 82) 13 0) (B + 82) 14 0) (B + 82) 15 0) (B + 82) 4 0) (fun _ => false) := by
    unfold CtS
    rw [cnF_0, cnF_0, cnF_0, cnF_0, hv_set_ne (by omega), hv_set_ne (by omega), hv_set_ne (by omega), hv_set_at, hv_set_ne (by omega), hv_set_ne (by omega), hv_set_at, hv_set_ne (by omega), hv_set_at]
    exact ⟨rfl, rfl, rfl⟩
  have z4 : hv (hset (hset (hset (hset h (B + 82) 13 0) (B + 82) 14 0) (B + 82) 15 0) (B + 82) 4 0) (B + 82) 4 = 0 := hv_set_at ..
  generalize hset (hset (hset (hset h (B + 82) 13 0) (B + 82) 14 0) (B + 82) 15 0) (B + 82) 4 0 = q0 at *
  obtain ⟨p1, p2, p3, p4, p5, p6, p7⟩ := P
  have P0 : PlS B q0 pc cap 0 := ⟨by rw [G0.at _ _ (by omega)]; exact p1, z4, by rw [G0.hk]; exact p3, p4, by rw [G0.nx]; exact p5, Nat.zero_le _, p7⟩
  have F0 : FcE B n q0 ed E := F.exg hb G0.ext.exg (fun f hf z => by omega) (fun f k hf z => by have := (F.1 f hf).2.1; omega)
  refine Ends.cv L0 (by decide +kernel) (c_take169 L0 (by omega) hn F0 P0 (by decide) hne hK) (fun q2 l2 _ _ _ ⟨pc2, cap2, P2, o2, i2, i3, rm2, ce2, X2, F2⟩ => ?_)
  rw [G0.nx] at o2
  have f82 : ∀ k, k ≠ 3 → k ≠ 4 → hv q2 (B + 82) k = hv q0 (B + 82) k := fun k h1 h2 => X2.at k (by have := L0.2.2; omega) (fun z => by
    rcases z with z | ⟨f, hf, z⟩ | z
    · omega
    · have := (F.1 f hf).2.1; omega
    · omega)
  have X0 : ExG (fcW B ed pc) h q2 := (G0.ext.exg.sub (fun c k _ z => Or.inl (by omega))).tr X2 (fun c k _ z => by
    rcases z with z | z | z
    · exact Or.inl (by omega)
    · exact Or.inr (Or.inl z)
    · exact Or.inr (Or.inr z))
  refine pile _ q2 (fun _ => false) 1 (fun _ => K0) pc2 cap2 _ _ _ _ _ _ _ _ _ _ _ _ rfl l2 (X0.sub (fun _ _ _ z => Or.inl z)) (TrS.ini hK hE) (F2.congr (fun k _ => ?_)) P2 o2 (fun i hi => by rw [show i = 0 by omega]; exact i3) ⟨by rw [f82 _ (by decide) (by decide)]; exact z13.1, by rw [f82 _ (by decide) (by decide)]; exact z13.2.1, by rw [f82 _ (by decide) (by decide)]; exact z13.2.2⟩ (by rw [rm2]; unfold plz; rw [G0.us]) ((cel.agr G0).tr ce2) (hst _ h q2 w0 (fun c k hc z => X0.at k hc z) (fun c hc => X0.hk hc)) (by rw [f82 _ (by decide) (by decide), G0.at _ _ (by omega)]; exact e16)
  · unfold eNw inPl inPl
    have : decide (k = K0) = (K0 == k) := by rw [Bool.eq_iff_iff, decide_eq_true_eq, beq_iff_eq]; exact eq_comm
    rw [this, Bool.or_false, Bool.not_false, Bool.true_and]
end TRC
