/-! L3: a solid grown k times; the desk makes a path -/
section GRK
variable {n : Nat} {S : Nat → Bool} {M M' : Nat → Nat → Nat → Nat → Bool}
/-- alike within the room -/
def vM (n : Nat) (M M' : Nat → Nat → Nat → Nat → Bool) : Prop := ∀ t z y x, t < 24 → z < n → y < n → x < n → M t z y x = M' t z y x
theorem vM.g3 (e : vM n M M') : vM n (g3 n M) (g3 n M') := by
  have s1 : ∀ {N N' : Nat → Nat → Nat → Nat → Bool}, vM n N N' → vM n (gx1 n N) (gx1 n N') := fun {N N'} e t z y x ht hz hy hx => by
    have a : (decide (0 < x) && N t z y (x - 1)) = (decide (0 < x) && N' t z y (x - 1)) := by rw [e t z y (x - 1) ht hz hy (by omega)]
    have b : (decide (x + 1 < n) && N t z y (x + 1)) = (decide (x + 1 < n) && N' t z y (x + 1)) := by
      by_cases w : x + 1 < n
      · rw [e t z y (x + 1) ht hz hy w]
      · rw [decide_eq_false w]; rfl
    unfold gx1 nx1
    rw [e t z y x ht hz hy hx, a, b]
  have s2 : ∀ {N N' : Nat → Nat → Nat → Nat → Bool}, vM n N N' → vM n (gy1 n N) (gy1 n N') := fun {N N'} e t z y x ht hz hy hx => by
    have a : (decide (0 < y) && N t z (y - 1) x) = (decide (0 < y) && N' t z (y - 1) x) := by rw [e t z (y - 1) x ht hz (by omega) hx]
    have b : (decide (y + 1 < n) && N t z (y + 1) x) = (decide (y + 1 < n) && N' t z (y + 1) x) := by
      by_cases w : y + 1 < n
      · rw [e t z (y + 1) x ht hz w hx]
      · rw [decide_eq_false w]; rfl
    unfold gy1 ny1
    rw [e t z y x ht hz hy hx, a, b]
  have s3 : ∀ {N N' : Nat → Nat → Nat → Nat → Bool}, vM n N N' → vM n (gz1 n N) (gz1 n N') := fun {N N'} e t z y x ht hz hy hx => by
    have a : (decide (0 < z) && N t (z - 1) y x) = (decide (0 < z) && N' t (z - 1) y x) := by rw [e t (z - 1) y x ht (by omega) hy hx]
    have b : (decide (z + 1 < n) && N t (z + 1) y x) = (decide (z + 1 < n) && N' t (z + 1) y x) := by
      by_cases w : z + 1 < n
      · rw [e t (z + 1) y x ht w hy hx]
      · rw [decide_eq_false w]; rfl
    unfold gz1 nz1
    rw [e t z y x ht hz hy hx, a, b]
  exact s3 (s2 (s1 e))
theorem itr_grk : ∀ k, vM n (itr (g3 n) k (fun t z y x => S (gI n x y z t))) (fun t z y x => grk n S k (gI n x y z t))
  | 0 => fun _ _ _ _ _ _ _ _ => rfl
  | k + 1 => fun t z y x ht hz hy hx => by
    show g3 n (itr (g3 n) k (fun t z y x => S (gI n x y z t))) t z y x = gr1 n (grk n S k) (gI n x y z t)
    rw [(itr_grk k).g3 t z y x ht hz hy hx]
    unfold gr1
    rw [gSo_I ht, gZ_I hx hy ht, gY_I hx hy ht, gX_I hx ht]
theorem near1 {T : Nat → Bool} {k : Nat} (hT : ∀ g, g < gN n → (T g = true ↔ nearS n k S g)) {x : Nat} (hx : x < gN n) : nearS n 1 T x ↔ nearS n (k + 1) S x := by
  constructor
  · rintro ⟨g, hg, tg, e1, e2⟩
    obtain ⟨f, hf, sf, d1, d2⟩ := (hT g hg).mp tg
    exact ⟨f, hf, sf, d1.trans e1, fun b hb => by have := e2 b hb; have := d2 b hb; omega⟩
  · rintro ⟨f, hf, sf, d1, d2⟩
    -- a grain between, coordinate by coordinate
    let mid : Nat → Nat := fun b => if gC n x b < gC n f b then gC n x b + 1 else if gC n f b < gC n x b then gC n x b - 1 else gC n x b
    have mb : ∀ b, b < 3 → mid b < n ∧ (gC n x b ≤ mid b + 1 ∧ mid b ≤ gC n x b + 1) ∧ gC n f b ≤ mid b + k ∧ mid b ≤ gC n f b + k := fun b hb => by
      have := d2 b hb
      have := gC_lt (n := n) (a := b) hf
      have := gC_lt (n := n) (a := b) hx
      simp only [mid]
      split
      · omega
      · split <;> omega
    have l0 := gRep_lt (a := 0) hx (mb 0 (by decide)).1
    have l1 := gRep_lt (a := 1) l0 (mb 1 (by decide)).1
    have l2 := gRep_lt (a := 2) l1 (mb 2 (by decide)).1
    have cm : ∀ b, b < 3 → gC n (gRep n (gRep n (gRep n x 0 (mid 0)) 1 (mid 1)) 2 (mid 2)) b = mid b := fun b hb => by
      rw [gC_rep l1 (mb 2 (by decide)).1 (by decide) hb, gC_rep l0 (mb 1 (by decide)).1 (by decide) hb, gC_rep hx (mb 0 (by decide)).1 (by decide) hb]
      have c : b = 0 ∨ b = 1 ∨ b = 2 := by omega
      rcases c with rfl | rfl | rfl <;> rfl
    refine ⟨_, l2, (hT _ l2).mpr ⟨f, hf, sf, ?_, fun b hb => ?_⟩, by rw [gSo_rep, gSo_rep, gSo_rep], fun b hb => ?_⟩
    · rw [gSo_rep, gSo_rep, gSo_rep]; exact d1
    · rw [cm b hb]
      have := (mb b hb).2.2
      omega
    · rw [cm b hb]
      have := (mb b hb).2.1
      omega
theorem grk_near : ∀ k {x : Nat}, x < gN n → (grk n S k x = true ↔ nearS n k S x)
  | 0, x, hx => by
    constructor
    · intro h; exact ⟨x, hx, h, rfl, fun b _ => by omega⟩
    · rintro ⟨g, hg, sg, e1, e2⟩
      have : g = x := g_ext (n := n) e1 (fun b hb => by have := e2 b hb; omega)
      rw [← this]; exact sg
  | k + 1, x, hx => by
    show gr1 n (grk n S k) x = true ↔ _
    rw [gr1_near hx]
    exact near1 (fun g hg => grk_near k hg) hx
end GRK
section MAKE
variable {gv : Nat → Int} {B n d : Nat} {h : AH} {S : Nat → Bool}
theorem c_growK {a b : Nat} (l : LX B n h) (hd : 12 ≤ d) (hn4 : 4 ≤ n) (hn : n ≤ 52) (sa : SG n h a S) (hB : B ≤ a) (hb : b ≤ 1000) : Vd (cll PP (ev PP (gsF gv) B) d 342 [(2, rf (B + 51)), (2, rf a), (0, (b : Int))] h) (fun h' => Fr (fun c => c = a ∨ c = B + 52) h h' ∧ SG n h' a (grk n S b)) := by
  obtain ⟨h', e, f, s⟩ := c_grow (gv := gv) (b := b) l hd hn4 hn sa hB hb
  refine ⟨h', e, f, SG.of (by omega) s (fun t z y x ht hz hy hx => ?_)⟩
  rw [onK_at hz hy]
  exact itr_grk b t z y x ht hz hy hx
/-- a path of the desk -/
def PaC (B : Nat) (h : AH) (n r z ey : Nat) (Q : Nat → Nat → Nat → Bool) (N : Nat) : Prop := hv h (B + 135) 8 = (N : Int) ∧ hv h (B + 135) 9 = (r : Int) ∧ hv h (B + 135) 10 = (z : Int) ∧ ∀ k, k * ey ≤ n → RwC B h n (frS n r Q (k * ey)) (frE n r Q (k * ey)) (k * ey) (rwB n r Q ey k) (decide (k % 2 = 1))
def pmW (B : Nat) (h : AH) : Nat → Nat → Prop := fun c j => (c = B + 135 ∧ (j = 8 ∨ j = 9 ∨ j = 10)) ∨ (B + 136 ≤ c ∧ c ≤ B + 141) ∨ c = B + 52 ∨ (c = B + 53 ∧ j = 0) ∨ Scr B h c
theorem rowsEv {n ey : Nat} (hev : 1 ≤ ey) : (n / ey) * ey ≤ n ∧ n < (n / ey + 1) * ey := by
  have h1 := Nat.div_mul_le_self n ey
  have h2 := Nat.lt_div_mul_add (a := n) (b := ey) (by omega)
  refine ⟨h1, ?_⟩
  rw [Nat.succ_mul]
  exact h2
theorem m16 {q w r : Nat} (hq : q < 4) (hw : w < 2 * r) (hr : r ≤ 8) : bop32 96 (bop32 96 (bop32 104 16 (q : Int)) ((w : Int) - r)) (r : Int) = ((16 * q + w : Nat) : Int) := by
  rw [show bop32 104 (16 : Int) (q : Int) = ((16 * q : Nat) : Int) from mulNN (x := 16) (by omega), add32 (x := ((16 * q : Nat) : Int)) (by omega) (by omega), add32 (by omega) (by omega)]
  omega
theorem rwP_lt {St Ed : Nat → Bool} {back : Bool} {a b : Nat} (ru : RunR n St Ed a b) : rwP n St Ed back a < rnN St Ed (n + 1) := by
  have := ru.lt
  unfold rwP
  split <;> omega
theorem RwC.agr {St Ed : Nat → Bool} {Y base : Nat} {back : Bool} {W : Nat → Nat → Prop} {q : AH} (c : RwC B h n St Ed Y base back) (g : Agr W h q) (hW : ∀ a k, (a = B + 136 ∨ a = B + 137 ∨ a = B + 138) → base ≤ k → k < base + rnN St Ed (n + 1) → ¬ W a k) : RwC B q n St Ed Y base back := fun a b ru => by
  have lt := rwP_lt (back := back) ru
  rw [g.at _ _ (hW _ _ (Or.inl rfl) (by omega) (by omega)), g.at _ _ (hW _ _ (Or.inr (Or.inl rfl)) (by omega) (by omega)), g.at _ _ (hW _ _ (Or.inr (Or.inr rfl)) (by omega) (by omega))]
  exact c a b ru
theorem par_c {k : Nat} : cond (tst 1 (bop32 112 (k : Int) 2) 1) (0 : Int) 1 = if decide (k % 2 = 1) = true then 1 else 0 := by
  rw [show bop32 112 (k : Int) 2 = ((k % 2 : Nat) : Int) from modNN (y := 2) (by decide) (by decide)]
  by_cases z : k % 2 = 1
  · rw [tst1f (by omega), decide_eq_true z]; rfl
  · rw [tst1t (by omega), decide_eq_false z]; rfl
def prW (B : Nat) : Nat → Nat → Prop := fun c j => (c = B + 135 ∧ j = 8) ∨ (B + 136 ≤ c ∧ c ≤ B + 141)
/-- from the shadow on: the same for a solid that was grown and one that wasn't -/
theorem make_rest {a r z al ey q0 : Nat} {T : Nat → Bool} {x7 x8 : AV} {P : Rs → Prop} (l : LX B n h) (hd : 16 ≤ d) (hn4 : 4 ≤ n) (hn : n ≤ 52) (m : TbC B h) (sa : SG n h q0 T) (ha : q0 = B + 117 ∨ B + 246 ≤ q0) (hr : 1 ≤ r) (hr8 : r ≤ 8) (hz : z ≤ n) (hev : 1 ≤ ey) (hev64 : ey ≤ 64) (e9 : hv h (B + 135) 9 = (r : Int)) (e10 : hv h (B + 135) 10 = (z : Int))
    (K : ∀ h' Q, Agr (prW B) h h' → (∀ q y x, q < 4 → y < n → x < n → (Q q y x = true ↔ ShP n T z q y x)) → PaC B h' n r z ey Q (rwB n r Q ey (n / ey + 1)) → P ((0, (0, ((4 * rwB n r Q ey (n / ey + 1) : Nat) : Int))), h')) :
    Ends (ev PP (gsF gv) B d 329 53 [(2, rf (B + 135)), (2, rf a), (0, (r : Int)), (0, (z : Int)), (0, (al : Int)), (0, (ey : Int)), (2, rf q0), x7, x8] [] h) P := by
  have hn0 : 0 < n := by omega
  refine Ends.eq (b329_53 (n := n) (by (repeat' first | assumption | refine LX.setF _ _ ?_ (by decide +kernel) | refine LX.setS ?_ rfl | refine LX.setA ?_ (by first | assumption | omega))) (by first | assumption | omega)) ?_
  refine Ends.cv l (by decide +kernel) (c_shadow332 (z0 := z) l (by omega) hn0 hn m sa ha hz) (fun h1 l1 _ _ _ ⟨g1, Q, qs1, hQ⟩ => ?_)
  have G1 : Agr (prW B) h h1 := g1.sub (fun c k z => by unfold prW; omega)
  have e91 : hv h1 (B + 135) 9 = (r : Int) := by rw [g1.at _ _ (by omega)]; exact e9
  have e101 : hv h1 (B + 135) 10 = (z : Int) := by rw [g1.at _ _ (by omega)]; exact e10
  refine Ends.eq (b329_60 (n := n) (by (repeat' first | assumption | refine LX.setF _ _ ?_ (by decide +kernel) | refine LX.setS ?_ rfl | refine LX.setA ?_ (by first | assumption | omega))) (by first | assumption | omega)) ?_
  have rn := rowsEv (n := n) hev
  -- the rows
  have rows : ∀ (q1 : AH), LX B n q1 → Agr (fun c _ => c = B + 139 ∨ c = B + 140) h1 q1 → MkA B q1 r 139 0 → MkA B q1 r 140 1 → ∀ (c k : Nat) (q : AH) (u8 : AV), k + c = n / ey + 1 → LX B n q → Agr (fun c j => (c = B + 135 ∧ j = 8) ∨ (B + 136 ≤ c ∧ c ≤ B + 138)) q1 q → hv q (B + 135) 8 = ((rwB n r Q ey k : Nat) : Int) → (∀ k', k' < k → RwC B q n (frS n r Q (k' * ey)) (frE n r Q (k' * ey)) (k' * ey) (rwB n r Q ey k') (decide (k' % 2 = 1))) → Ends (ev PP (gsF gv) B d 329 147 [(2, rf (B + 135)), (2, rf a), (0, (r : Int)), (0, (z : Int)), (0, (al : Int)), (0, (ey : Int)), (2, rf q0), (0, (k : Int)), u8] [] q) P := by
    intro q1 l1' gq1 mk0 mk1 c
    induction c with
    | zero =>
      intro k q u8 hk lq gq e8 lo
      obtain rfl : k = n / ey + 1 := by omega
      have kb : (n / ey + 1) * ey ≤ n + 64 := by rw [Nat.succ_mul]; omega
      have nb : rwB n r Q ey (n / ey + 1) ≤ 2120 := rwB_le hn hr hr8 hev rn.1
      refine Ends.eq (b329_147 (n := n) (by (repeat' first | assumption | refine LX.setF _ _ ?_ (by decide +kernel) | refine LX.setS ?_ rfl | refine LX.setA ?_ (by first | assumption | omega))) (by first | assumption | omega)) ?_
      rw [show bop32 104 ((n / ey + 1 : Nat) : Int) (ey : Int) = (((n / ey + 1) * ey : Nat) : Int) from mulNN (by omega), e8, show bop32 104 (4 : Int) ((rwB n r Q ey (n / ey + 1) : Nat) : Int) = ((4 * rwB n r Q ey (n / ey + 1) : Nat) : Int) from mulNN (x := 4) (by omega)]
      refine Ends.b4 (fun _ => Ends.sm (K _ Q ((G1.tr gq1 (fun c k z => by unfold prW; omega)).tr gq (fun c k z => by unfold prW; omega)) hQ ⟨e8, ?_, ?_, fun k' hk' => lo k' ?_⟩)) (fun z => by omega)
      · rw [gq.at _ _ (by omega), gq1.at _ _ (by omega)]; exact e91
      · rw [gq.at _ _ (by omega), gq1.at _ _ (by omega)]; exact e101
      · have := (Nat.le_div_iff_mul_le (by omega)).mpr hk'
        omega
    | succ c ih =>
      intro k q u8 hk lq gq e8 lo
      have hkn : k * ey ≤ n := (Nat.le_div_iff_mul_le (by omega)).mp (by omega)
      have nb : rwB n r Q ey (k + 1) ≤ 2120 := rwB_le hn hr hr8 hev hkn
      have nb' : rwB n r Q ey k + rnN (frS n r Q (k * ey)) (frE n r Q (k * ey)) (n + 1) ≤ 2120 := nb
      refine Ends.eq (b329_147 (n := n) (by (repeat' first | assumption | refine LX.setF _ _ ?_ (by decide +kernel) | refine LX.setS ?_ rfl | refine LX.setA ?_ (by first | assumption | omega))) (by first | assumption | omega)) ?_
      rw [show bop32 104 (k : Int) (ey : Int) = ((k * ey : Nat) : Int) from mulNN (by omega), par_c]
      refine Ends.b4 (fun z => by omega) (fun _ => ?_)
      have mq : ∀ a, a = 139 ∨ a = 140 → ∀ far, MkA B q1 r a far → MkA B q r a far := fun a ha far mk q' w h1 h2 => by rw [gq.at _ _ (by omega)]; exact mk q' w h1 h2
      refine Ends.cv lq (by decide +kernel) (c_row331 (r := r) (Q := Q) (Y := k * ey) (base := rwB n r Q ey k) (back := decide (k % 2 = 1)) lq (by omega) hn (by rw [gq.at _ _ (by omega), gq1.at _ _ (by omega)]; exact e91) hr8 (mq 139 (Or.inl rfl) 0 mk0) (mq 140 (Or.inr rfl) 1 mk1) ⟨by rw [gq.hk, gq1.hk]; exact qs1.1, fun q' v h1 h2 => by rw [gq.at _ _ (by omega), gq1.at _ _ (by omega)]; exact qs1.2 q' v h1 h2⟩ e8 hkn (by omega)) (fun h2 l2 _ _ _ ⟨g2, c2, r2⟩ => ?_)
      refine Ends.eq (b329_181 (n := n) (by (repeat' first | assumption | refine LX.setF _ _ ?_ (by decide +kernel) | refine LX.setS ?_ rfl | refine LX.setA ?_ (by first | assumption | omega))) (by first | assumption | omega)) ?_
      rw [w_succ (by have := Nat.div_le_self n ey; omega)]
      refine ih (k + 1) h2 _ (by omega) l2 (gq.tr g2 (fun c k z => by unfold rowW at z; omega)) c2 (fun k' hk' => ?_)
      by_cases e : k' = k
      · rw [e]; exact r2
      · have mo : rwB n r Q ey (k' + 1) ≤ rwB n r Q ey k := sumN_mono _ (by omega)
        have mo' : rwB n r Q ey k' + rnN (frS n r Q (k' * ey)) (frE n r Q (k' * ey)) (n + 1) ≤ rwB n r Q ey k := mo
        exact (lo k' (by omega)).agr g2 (fun a j ha h1 h2 z => by unfold rowW at z; omega)
  -- the masks
  have masks : ∀ (c p : Nat) (q : AH) (u8 : AV), p + c = 4 → LX B n q → Agr (fun c _ => c = B + 139 ∨ c = B + 140) h1 q → (∀ p' w, p' < p → w < 2 * r → MkB r p' ((w : Int) - r) 0 (hv q (B + 139) (16 * p' + w)) ∧ MkB r p' ((w : Int) - r) 1 (hv q (B + 140) (16 * p' + w))) → Ends (ev PP (gsF gv) B d 329 63 [(2, rf (B + 135)), (2, rf a), (0, (r : Int)), (0, (z : Int)), (0, (al : Int)), (0, (ey : Int)), (2, rf q0), (0, (p : Int)), u8] [] q) P := by
    intro c
    induction c with
    | zero =>
      intro p q u8 hp lq gq lo
      obtain rfl : p = 4 := by omega
      refine Ends.eq (b329_63 (n := n) (by (repeat' first | assumption | refine LX.setF _ _ ?_ (by decide +kernel) | refine LX.setS ?_ rfl | refine LX.setA ?_ (by first | assumption | omega))) (by first | assumption | omega)) ?_
      refine Ends.b3 (fun _ => ?_) (fun z => absurd z (by decide))
      exact rows q lq gq (fun q' w h1 h2 => (lo q' w h1 h2).1) (fun q' w h1 h2 => (lo q' w h1 h2).2) (n / ey + 1) 0 _ _ (by omega) (LX.setF 135 8 lq (by decide +kernel)) (Agr.rf.set (Or.inl ⟨rfl, rfl⟩)) (hv_set_at ..) (fun k' hk' => absurd hk' (by omega))
    | succ c ih =>
      intro p q u8 hp lq gq lo
      have hp4 : p < 4 := by omega
      refine Ends.eq (b329_63 (n := n) (by (repeat' first | assumption | refine LX.setF _ _ ?_ (by decide +kernel) | refine LX.setS ?_ rfl | refine LX.setA ?_ (by first | assumption | omega))) (by first | assumption | omega)) ?_
      refine Ends.b3 (fun z => by omega) (fun _ => ?_)
      rw [neg32 (by omega) (by omega), show (-(r : Int)) = ((0 : Nat) : Int) - r by omega]
      have inn : ∀ (c2 w : Nat) (q2 : AH), w + c2 = 2 * r → LX B n q2 → Agr (fun c _ => c = B + 139 ∨ c = B + 140) h1 q2 → (∀ p' w', (p' < p ∨ (p' = p ∧ w' < w)) → w' < 2 * r → MkB r p' ((w' : Int) - r) 0 (hv q2 (B + 139) (16 * p' + w')) ∧ MkB r p' ((w' : Int) - r) 1 (hv q2 (B + 140) (16 * p' + w'))) → Ends (ev PP (gsF gv) B d 329 73 [(2, rf (B + 135)), (2, rf a), (0, (r : Int)), (0, (z : Int)), (0, (al : Int)), (0, (ey : Int)), (2, rf q0), (0, (p : Int)), (0, (w : Int) - r)] [] q2) P := by
        intro c2
        induction c2 with
        | zero =>
          intro w q2 hw l2 g2 lo2
          refine Ends.eq (b329_73 (n := n) (by (repeat' first | assumption | refine LX.setF _ _ ?_ (by decide +kernel) | refine LX.setS ?_ rfl | refine LX.setA ?_ (by first | assumption | omega))) (by first | assumption | omega)) ?_
          rw [w_succ (by omega)]
          exact Ends.b3 (fun _ => ih (p + 1) q2 _ (by omega) l2 g2 (fun p' w' h1 h2 => lo2 p' w' (by omega) h2)) (fun z => by omega)
        | succ c2 ih2 =>
          intro w q2 hw l2 g2 lo2
          refine Ends.eq (b329_73 (n := n) (by (repeat' first | assumption | refine LX.setF _ _ ?_ (by decide +kernel) | refine LX.setS ?_ rfl | refine LX.setA ?_ (by first | assumption | omega))) (by first | assumption | omega)) ?_
          rw [m16 hp4 (show w < 2 * r by omega) hr8]
          refine Ends.b3 (fun z => by omega) (fun _ => ?_)
          refine Ends.ct l2 (by decide +kernel) (by decide) (c_bits324 (q := p) (far := 0) (v := (w : Int) - r) l2 (by omega) (by rw [g2.at _ _ (by omega)]; exact e91) hr8 hp4 (by omega) (by omega)) (fun x h3 l3 _ _ _ ⟨e3, b3⟩ => ?_)
          subst e3
          have k139 := l3.1 139 (3, 64) rfl
          refine Ends.eq (b329_102 (n := n) (by (repeat' first | assumption | refine LX.setF _ _ ?_ (by decide +kernel) | refine LX.setS ?_ rfl | refine LX.setA ?_ (by first | assumption | omega))) (by first | assumption | omega)) ?_
          rw [ad_rf, k139, tn, an1, m16 hp4 (show w < 2 * r by omega) hr8]
          refine Ends.g ⟨rf_pos _, rfl, by omega, by show ((16 * p + w : Nat) : Int) < ((64 : Nat) : Int); omega, by omega⟩ ?_
          have l4 : LX B n (hset h3 (B + 139) (16 * p + w) x) := LX.setS l3 rfl
          refine Ends.ct l4 (by decide +kernel) (by decide) (c_bits324 (q := p) (far := 1) (v := (w : Int) - r) l4 (by omega) (by rw [hv_na (by omega), g2.at _ _ (by omega)]; exact e91) hr8 hp4 (by omega) (by omega)) (fun y h5 l5 _ _ _ ⟨e5, b5⟩ => ?_)
          subst e5
          have k140 := l5.1 140 (3, 64) rfl
          refine Ends.eq (b329_126 (n := n) (by (repeat' first | assumption | refine LX.setF _ _ ?_ (by decide +kernel) | refine LX.setS ?_ rfl | refine LX.setA ?_ (by first | assumption | omega))) (by first | assumption | omega)) ?_
          rw [ad_rf, k140, tn, an1, show w32 ((w : Int) - r + 1) = ((w + 1 : Nat) : Int) - r from by rw [inc32 (by omega) (by omega)]; omega]
          refine Ends.g ⟨rf_pos _, rfl, by omega, by show ((16 * p + w : Nat) : Int) < ((64 : Nat) : Int); omega, by omega⟩ ?_
          refine ih2 (w + 1) _ (by omega) (LX.setS l5 rfl) ((g2.set (Or.inl rfl)).set (Or.inr rfl)) (fun p' w' h1 h2 => ?_)
          rw [hv_na (show B + 139 ≠ B + 140 by omega)]
          by_cases e : p' = p ∧ w' = w
          · rw [e.1, e.2, hv_set_at, hv_set_at]
            exact ⟨b3, b5⟩
          · rw [hv_set_ne (by omega), hv_set_ne (by omega), hv_na (by omega)]
            exact lo2 p' w' (by omega) h2
      exact inn (2 * r) 0 q (by omega) lq gq (fun p' w' h1 h2 => lo p' w' (by omega) h2)
  exact masks 4 0 h1 _ rfl l1 Agr.rf (fun p' w h1 => absurd h1 (by omega))
theorem c_make329 {a r z al ey : Nat} (l : LX B n h) (hd : 18 ≤ d) (hn4 : 4 ≤ n) (hn : n ≤ 52) (m : TbC B h) (R : Reg B n h) (sa : SG n h a S) (ha : a = B + 117 ∨ B + 246 ≤ a) (hah : a < hnx h) (hsc : ¬ Scr B h a) (hr : 1 ≤ r) (hr8 : r ≤ 8) (hz : z ≤ n) (hal : al ≤ 8) (hev : 1 ≤ ey) (hev64 : ey ≤ 64) :
    Vt 0 (cll PP (ev PP (gsF gv) B) d 329 [(2, rf (B + 135)), (2, rf a), (0, (r : Int)), (0, (z : Int)), (0, (al : Int)), (0, (ey : Int))] h) (fun v h' => ∃ Q, (∀ q y x, q < 4 → y < n → x < n → (Q q y x = true ↔ ShP n (grk n S al) z q y x)) ∧ v = ((4 * rwB n r Q ey (n / ey + 1) : Nat) : Int) ∧ PaC B h' n r z ey Q (rwB n r Q ey (n / ey + 1)) ∧ ScE B n (pmW B h) 1 (24 * n * n) h h') := by
  have hb0 := l.2.2
  have hn0 : 0 < n := by omega
  refine Vt.inq (D := 17) hd (Nat.le_of_ble_eq_true rfl) rfl (fun d hd P K => ?_)
  have l0 : LX B n (hset (hset h (B + 135) 9 (r : Int)) (B + 135) 10 (z : Int)) := LX.setF 135 10 (LX.setF 135 9 l (by decide +kernel)) (by decide +kernel)
  have g0 : Agr (fun c j => c = B + 135 ∧ (j = 9 ∨ j = 10)) h (hset (hset h (B + 135) 9 (r : Int)) (B + 135) 10 (z : Int)) := (Agr.rf.set ⟨rfl, Or.inl rfl⟩).set ⟨rfl, Or.inr rfl⟩
  have e9 : hv (hset (hset h (B + 135) 9 (r : Int)) (B + 135) 10 (z : Int)) (B + 135) 9 = (r : Int) := by rw [hv_set_ne (by omega)]; exact hv_set_at ..
  have e10 : hv (hset (hset h (B + 135) 9 (r : Int)) (B + 135) 10 (z : Int)) (B + 135) 10 = (z : Int) := hv_set_at ..
  obtain ⟨R0, L0⟩ := R.ext hb0 g0.ext (fun i hi w => by have := rgi hi; omega)
  have s0 := sa.agr g0 (fun k w => by omega)
  have m0 := m.ext hb0 g0.ext (fun c k h1 h2 w => by omega)
  refine Ends.eq (b329_0 (n := n) (by (repeat' first | assumption | refine LX.setF _ _ ?_ (by decide +kernel) | refine LX.setS ?_ rfl | refine LX.setA ?_ (by first | assumption | omega))) (by first | assumption | omega)) ?_
  generalize hset (hset h (B + 135) 9 (r : Int)) (B + 135) 10 (z : Int) = h0 at *
  by_cases al0 : al = 0
  · subst al0
    refine Ends.b5 (fun _ => ?_) (fun w => absurd w (by omega))
    refine make_rest (z := z) (al := 0) l0 (by omega) hn4 hn m0 s0 ha hr hr8 hz hev hev64 e9 e10 (fun h' Q g hQ pc => K _ _ ⟨Q, hQ, rfl, pc, ?_⟩)
    obtain ⟨R1, L1⟩ := R0.ext l0.2.2 g.ext (fun i hi w => by have := rgi hi; unfold prW at w; omega)
    refine ⟨((g0.ext.sub (W' := pmW B h) (fun c j _ w => Or.inl ⟨w.1, by omega⟩) (Nat.le_refl _) (Nat.le_refl _)).tr (c' := 0) (s' := 0) g.ext (fun c j _ w => ?_)).sub (fun c j _ w => w) (by omega) (by omega), R1, by rw [g.us, g0.us]; omega⟩
    rcases w with w | w
    · exact Or.inl ⟨w.1, Or.inl w.2⟩
    · exact Or.inr (Or.inl w)
  refine Ends.b5 (fun w => absurd w (by omega)) (fun _ => ?_)
  refine Ends.ct l0 (by decide +kernel) (by decide) (c_shR (k := 0) l0 (by omega) hn (by decide) R0) (fun v h1 l1 _ _ _ ⟨s, evv, a1, a2, a3, a4, a5, a6, a7, a8, a9⟩ => ?_)
  rw [evv]
  have nx0 : hnx h0 = hnx h := g0.nx
  have sne : s ≠ a := fun e => by
    have := a9 (by omega)
    rw [g0.at _ _ (by omega), e] at this
    exact hsc ⟨0, by decide, this⟩
  have s1 : SG n h1 a S := s0.ext a8 (by omega) (fun k w => by omega)
  refine Ends.eq (b329_26 (n := n) (by (repeat' first | assumption | refine LX.setF _ _ ?_ (by decide +kernel) | refine LX.setS ?_ rfl | refine LX.setA ?_ (by first | assumption | omega))) (by first | assumption | omega)) ?_
  refine Ends.cv l1 (by decide +kernel) (c_copy (a := a) (b := s) l1 (by omega) s1 a4 (by omega)) (fun h2 l2 _ _ _ ⟨f2, s2⟩ => ?_)
  have g2 := f2.agr
  refine Ends.eq (b329_38 (n := n) (by (repeat' first | assumption | refine LX.setF _ _ ?_ (by decide +kernel) | refine LX.setS ?_ rfl | refine LX.setA ?_ (by first | assumption | omega))) (by first | assumption | omega)) ?_
  refine Ends.cv l2 (by decide +kernel) (c_growK (a := s) (b := al) l2 (by omega) hn4 hn s2 (by omega) (by omega)) (fun h3 l3 _ _ _ ⟨f3, s3⟩ => ?_)
  have g3 := f3.agr
  refine Ends.eq (b329_49 (n := n) (by (repeat' first | assumption | refine LX.setF _ _ ?_ (by decide +kernel) | refine LX.setS ?_ rfl | refine LX.setA ?_ (by first | assumption | omega))) (by first | assumption | omega)) ?_
  have fl : ∀ k, hv h3 (B + 135) k = hv h0 (B + 135) k := fun k => by rw [g3.at _ _ (show ¬ (B + 135 = s ∨ B + 135 = B + 52) by omega), g2.at _ _ (show ¬ B + 135 = s by omega), a8.at _ (by omega) (by omega)]
  have m3 : TbC B h3 := ((m0.ext l0.2.2 a8 (fun c k h1 h2 w => by omega)).ext l1.2.2 g2.ext (fun c k h1 h2 w => by omega)).ext l2.2.2 g3.ext (fun c k h1 h2 w => by omega)
  refine make_rest (z := z) l3 (by omega) hn4 hn m3 s3 (Or.inr a2) hr hr8 hz hev hev64 (by rw [fl]; exact e9) (by rw [fl]; exact e10) (fun h' Q g hQ pc => K _ _ ⟨Q, hQ, rfl, pc, ?_⟩)
  obtain ⟨R2, L2⟩ := a5.ext l1.2.2 g2.ext (fun i hi w => by have := rgi hi; omega)
  obtain ⟨R3, L3⟩ := R2.ext l2.2.2 g3.ext (fun i hi w => by have := rgi hi; omega)
  obtain ⟨R4, L4⟩ := R3.ext l3.2.2 g.ext (fun i hi w => by have := rgi hi; unfold prW at w; omega)
  have scr : s < hnx h → Scr B h s := fun w => ⟨0, by decide, by have := a9 (by omega); rw [g0.at _ _ (by omega)] at this; exact this⟩
  have E1 : Ext (pmW B h) (0 + 1) (0 + 24 * n * n) h h1 := (g0.ext.sub (W' := pmW B h) (fun c j _ w => Or.inl ⟨w.1, by omega⟩) (Nat.le_refl _) (Nat.le_refl _)).tr a8 (fun c j _ w => Or.inr (Or.inr (Or.inr (Or.inl w))))
  have E2 := E1.tr (c' := 0) (s' := 0) g2.ext (fun c j hc w => Or.inr (Or.inr (Or.inr (Or.inr (by rw [w]; exact scr (by omega))))))
  have E3 := E2.tr (c' := 0) (s' := 0) g3.ext (fun c j hc w => by
    rcases w with w | w
    · exact Or.inr (Or.inr (Or.inr (Or.inr (by rw [w]; exact scr (by omega)))))
    · exact Or.inr (Or.inr (Or.inl w)))
  have E4 := E3.tr (c' := 0) (s' := 0) g.ext (fun c j hc w => by
    rcases w with w | w
    · exact Or.inl ⟨w.1, Or.inl w.2⟩
    · exact Or.inr (Or.inl w))
  exact ⟨E4.sub (fun c j _ w => w) (by omega) (by omega), R4, by rw [g.us, g3.us, g2.us]; have := g0.us; omega⟩
end MAKE
