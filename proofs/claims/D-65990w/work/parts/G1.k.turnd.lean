/-! L3: turned regions (desk) -/
noncomputable section TRND
variable {gv : Nat → Int} {B n d r ax a s g : Nat} {h : AH} {c nb : Nat → Int} {S : Nat → Bool} {Q : Nat → Nat → Nat → Bool} {f : Nat → Nat → Nat} {x y m o cu cv : Int} {v : Nat}
/-- the square that the disc of r comes to is there -/
def okT (n : Nat) (f : Nat → Nat → Nat) (m : Int) (v r : Nat) : Bool := decide ((0 ≤ m + r - 1 ∧ m + r - 1 < n) ∧ f v (m + r - 1).toNat = 1)
/-- rings up to k -/
def rqN (n : Nat) (f : Nat → Nat → Nat) (m : Int) (v : Nat) (cu cv : Int) : Nat → Nat → Nat → Nat → Bool
  | 0 => fun _ _ _ => false
  | k + 1 => fun q y x => rqN n f m v cu cv k q y x || (okT n f m v (k + 1) && rnQ (k + 1) cu cv q y x)
theorem rqN_iff {q y' x' : Nat} : ∀ k, rqN n f m v cu cv k q y' x' = true ↔ ∃ r, 1 ≤ r ∧ r ≤ k ∧ okT n f m v r = true ∧ rnQ r cu cv q y' x' = true
  | 0 => ⟨fun z => (by cases z), fun ⟨r, h1, h2, _⟩ => by omega⟩
  | k + 1 => by
    show (rqN n f m v cu cv k q y' x' || (okT n f m v (k + 1) && rnQ (k + 1) cu cv q y' x')) = true ↔ _
    rw [Bool.or_eq_true, rqN_iff k, Bool.and_eq_true]
    constructor
    · rintro (⟨r, h1, h2, h3⟩ | h3)
      · exact ⟨r, h1, by omega, h3⟩
      · exact ⟨k + 1, by omega, Nat.le_refl _, h3⟩
    · rintro ⟨r, h1, h2, h3⟩
      rcases (by omega : r ≤ k ∨ r = k + 1) with z | z
      · exact Or.inl ⟨r, h1, z, h3⟩
      · rw [z] at h3; exact Or.inr h3
theorem ds_tr (hg : g < gN n) (hax : ax < 3) : dsQ r (if fA ax < ax then m else o) (if fA ax < ax then o else m) (quT (sA ax) (gSo g)) (gC n g (sA (sA ax))) (gC n g (fA (sA ax))) = und r (((g8 n g (fA ax) : Nat) : Int) - 8 * m) (((g8 n g ax : Nat) : Int) - 8 * o) 0 := by
  obtain ⟨_, _, _, _, ht⟩ := g_lt hg
  have hsA : sA ax < 3 := by have := sA_2 (ax := ax); omega
  have g0 := g8_C (n := n) (g := g) (show 0 < 3 by decide)
  have g1 := g8_C (n := n) (g := g) (show 1 < 3 by decide)
  have g2 := g8_C (n := n) (g := g) (show 2 < 3 by decide)
  unfold dsQ
  rw [← und_q hsA ht]
  rcases (by omega : ax = 0 ∨ ax = 1 ∨ ax = 2) with rfl | rfl | rfl
  · rw [if_neg (show ¬ fA 0 < 0 by decide), if_neg (show ¬ fA 0 < 0 by decide), show sA 0 = 2 from rfl, show fA 2 = 0 from rfl, show sA 2 = 1 from rfl, show fA 0 = 1 from rfl, g0, g1, und_swap]
    congr 1 <;> omega
  · rw [if_pos (show fA 1 < 1 by decide), if_pos (show fA 1 < 1 by decide), show sA 1 = 2 from rfl, show fA 2 = 0 from rfl, show sA 2 = 1 from rfl, show fA 1 = 0 from rfl, g0, g1]
    congr 1 <;> omega
  · rw [if_pos (show fA 2 < 2 by decide), if_pos (show fA 2 < 2 by decide), show sA 2 = 1 from rfl, show fA 1 = 0 from rfl, show sA 1 = 2 from rfl, show fA 2 = 0 from rfl, g0, g2]
    congr 1 <;> omega
theorem row_tr (hg : g < gN n) (hn : n ≤ 52) (hax : ax < 3) (bm : -200 ≤ m ∧ m ≤ 200) : prG n (rqN n f m v (if fA ax < ax then m else o) (if fA ax < ax then o else m) 300) (sA ax) (v : Int) ((v : Int) + 1) g = (decide (gC n g (sA ax) = v) && trG n ax f m o g) := by
  have hsA : sA ax < 3 := by have := sA_2 (ax := ax); omega
  rw [prG_ax hsA, show decide ((v : Int) ≤ (gC n g (sA ax) : Int) ∧ (gC n g (sA ax) : Int) < (v : Int) + 1) = decide (gC n g (sA ax) = v) from by rw [decide_eq_decide]; omega]
  by_cases e : gC n g (sA ax) = v
  · rw [decide_eq_true e, Bool.true_and, Bool.true_and]
    refine Bool.eq_iff_iff.mpr ?_
    rw [rqN_iff]
    unfold trG
    constructor
    · rintro ⟨r, h1, h2, h3, h4⟩
      unfold okT at h3
      rw [decide_eq_true_eq] at h3
      unfold rnQ at h4
      rw [ds_tr hg hax, ds_tr hg hax, Bool.and_eq_true, Bool.not_eq_true'] at h4
      exact trB_t ⟨r, h1, h4.1, h4.2, h3.1, by rw [e]; exact h3.2⟩
    · intro z
      have tp : trP n f m (gC n g (sA ax)) (((g8 n g (fA ax) : Nat) : Int) - 8 * m) (((g8 n g ax : Nat) : Int) - 8 * o) := by
        refine Classical.byContradiction (fun y => ?_)
        rw [trB_f y] at z; cases z
      obtain ⟨r, h1, h2, h3, h4, h5⟩ := tp
      refine ⟨r, h1, by omega, ?_, ?_⟩
      · unfold okT
        rw [decide_eq_true_eq, ← e]
        exact ⟨h4, h5⟩
      · unfold rnQ
        rw [ds_tr hg hax, ds_tr hg hax, h2, h3]
        rfl
  · rw [decide_eq_false e, Bool.false_and, Bool.false_and]
set_option maxHeartbeats 2000000 in
/-- behind a good straight profile: the turned solid -/
theorem c_turnGood {P : Rs → Prop} (l : LX B n h) (hd : 16 ≤ d) (hn0 : 0 < n) (hn : n ≤ 52) (mt : TbC B h) (hs : s < 6) (hc : ∀ z, z < 37368 → hv h (B + 2) z = c z) (eax : c (skA s) = (ax : Int)) (eo : c (skA s + 1) = o) (hax : ax < 3) (ob : -200 ≤ o ∧ o ≤ 200) (em : hv h (B + 97) 0 = m) (bm : -200 ≤ m ∧ m ≤ 200) (sa : SG n h a S) (ha : B + 246 ≤ a) (qq : Qua n h (B + 114) Q)
    (K : ∀ h', Agr (fun c _ => c = a ∨ c = B + 110 ∨ c = B + 114) h h' → SG n h' a (fun g => S g || trG n ax (sqF Q) m o g) → P ((0, (0, 1)), h')) (u3 u4 u5 u6 u7 u8 u9 u10 : AV) :
    Ends (ev PP (gsF gv) B d 316 24 [(2, rf (B + 92)), (0, (s : Int)), (2, rf a), u3, u4, u5, u6, u7, u8, u9, u10] [] h) P := by
  have sk0 : skA s < 23000 := by unfold skA; omega
  have hsA : sA ax < 3 := by have := sA_2 (ax := ax); omega
  have e1 : bop32 96 (v391 (s : Int)) 1 = ((skA s + 1 : Nat) : Int) := by
    rw [v391_is hs]; exact addK (k := 1) (by omega)
  obtain ⟨W, eW⟩ : ∃ W : Nat → Nat → Prop, W = fun c _ => c = a ∨ c = B + 110 ∨ c = B + 114 := ⟨_, rfl⟩
  rw [← eW] at K
  have at_ : ∀ {q : AH}, Agr W h q → ∀ c k, c ≠ a → c ≠ B + 110 → c ≠ B + 114 → hv q c k = hv h c k := fun {q} g c k h1 h2 h3 => g.at _ _ (fun z => by rw [eW] at z; omega)
  have mq : ∀ {q : AH}, Agr W h q → TbC B q := fun {q} g => mt.ext l.2.2 g.ext (fun c k h1 h2 w => by rw [eW] at w; omega)
  have hcq : ∀ {q : AH}, Agr W h q → ∀ z, z < 37368 → hv q (B + 2) z = c z := fun {q} g z hz => by
    rw [at_ g _ _ (by omega) (by omega) (by omega)]; exact hc z hz
  -- the squares that are kept
  have sqv : ∀ {q : AH}, (∀ j, j < n → hv q (B + 110) j = hv h (B + 114) j) → ∀ v x : Nat, v < n → x < n → (tb (hv q (B + 110) v) x = true ↔ sqF Q v x = 1) := fun {q} k v x hv0 hx => by
    have := (qq.2 0 v (by decide) hv0).2 x (by omega)
    rw [Nat.zero_mul, Nat.zero_add, decide_eq_true hx, Bool.true_and] at this
    rw [k v hv0, this]
    unfold sqF
    cases Q 0 v x
    · exact ⟨fun z => (by cases z), fun z => absurd z (by decide)⟩
    · exact ⟨fun _ => rfl, fun _ => rfl⟩
  -- row by row
  have rows : ∀ (k v : Nat) (q : AH) (u9 u10 : AV), v + k = n → LX B n q → Agr W h q → (∀ j, j < n → hv q (B + 110) j = hv h (B + 114) j) → hk q (B + 114) = (3, 4 * n) → SG n q a (fun g => S g || (decide (gC n g (sA ax) < v) && trG n ax (sqF Q) m o g)) → Ends (ev PP (gsF gv) B d 316 105 [(2, rf (B + 92)), (0, (s : Int)), (2, rf a), (0, (ax : Int)), (0, ((sA ax : Nat) : Int)), (0, ((fA ax : Nat) : Int)), (0, m), (0, o), (0, (v : Int)), u9, u10] [] q) P := by
    intro k
    induction k with
    | zero =>
      intro v q u9 u10 ev_ lq g keep k114 sq
      obtain rfl : n = v := by omega
      refine Ends.eq (b316_105 lq (by omega)) (Ends.b3 (fun _ => Ends.sm (K q g (sq.congr hn0 (fun g hg => ?_)))) (fun z => absurd z (Int.lt_irrefl _)))
      show (S g || (decide (gC n g (sA ax) < n) && trG n ax (sqF Q) m o g)) = _
      rw [decide_eq_true (gC_lt (a := sA ax) hg), Bool.true_and]
    | succ k ihv =>
      intro v q u9 u10 ev_ lq g keep k114 sq
      have vn : v < n := by omega
      have next : ∀ (q' : AH) (u9 u10 : AV), LX B n q' → Agr W h q' → (∀ j, j < n → hv q' (B + 110) j = hv h (B + 114) j) → hk q' (B + 114) = (3, 4 * n) → SG n q' a (fun g => S g || (decide (gC n g (sA ax) < v + 1) && trG n ax (sqF Q) m o g)) → Ends (ev PP (gsF gv) B d 316 245 [(2, rf (B + 92)), (0, (s : Int)), (2, rf a), (0, (ax : Int)), (0, ((sA ax : Nat) : Int)), (0, ((fA ax : Nat) : Int)), (0, m), (0, o), (0, (v : Int)), u9, u10] [] q') P := fun q' u9 u10 l' g' k' k1' s' => by
        refine Ends.eq (b316_245 l' (by omega)) ?_
        rw [w_succ (by omega)]
        exact ihv (v + 1) q' _ _ (by omega) l' g' k' k1' s'
      refine Ends.eq (b316_105 lq (by omega)) ?_
      rw [tn]
      refine Ends.b3 (fun z => absurd z (by omega)) (fun _ => Ends.g ⟨by omega, by omega⟩ (Ends.b1 (fun nz => ?_) (fun z => ?_)))
      · -- rings
        refine Ends.cv lq (by decide +kernel) (c_clearQ257 lq (by omega) hn) (fun q1 l1 _ _ _ ⟨g1, qq1⟩ => ?_)
        have g1' : Agr W h q1 := g.tr g1 (fun c k z => by rw [eW]; exact Or.inr (Or.inr z))
        have keep1 : ∀ j, j < n → hv q1 (B + 110) j = hv h (B + 114) j := fun j hj => by rw [g1.at _ _ (by omega)]; exact keep j hj
        have sq1 := sq.agr g1 (fun _ z => by omega)
        refine Ends.eq (b316_133 l1 (by omega)) ?_
        have rings : ∀ (t r : Nat) (q2 : AH) (u10 : AV), r + t = 300 → LX B n q2 → Agr W h q2 → (∀ j, j < n → hv q2 (B + 110) j = hv h (B + 114) j) → SG n q2 a (fun g => S g || (decide (gC n g (sA ax) < v) && trG n ax (sqF Q) m o g)) → Qua n q2 (B + 114) (rqN n (sqF Q) m v (if fA ax < ax then m else o) (if fA ax < ax then o else m) r) → Ends (ev PP (gsF gv) B d 316 136 [(2, rf (B + 92)), (0, (s : Int)), (2, rf a), (0, (ax : Int)), (0, ((sA ax : Nat) : Int)), (0, ((fA ax : Nat) : Int)), (0, m), (0, o), (0, (v : Int)), (0, ((r + 1 : Nat) : Int)), u10] [] q2) P := by
          intro t
          induction t with
          | zero =>
            intro r q2 u10 er l2 g2 k2 s2 qq2
            obtain rfl : r = 300 := by omega
            refine Ends.eq (b316_136 l2 (by omega)) (Ends.b4 (fun _ => ?_) (fun z => absurd z (by decide)))
            rw [show bop32 96 (v : Int) 1 = (v : Int) + 1 from add32 (by omega) (by omega)]
            refine Ends.cv l2 (by decide +kernel) (c_unitePrism (ax := sA ax) (a := a) (b := B + 114) l2 (by omega) hn0 hn (mq g2) s2 qq2 (by omega) (by omega) (Or.inr ha) hsA (by omega) (by omega)) (fun q3 l3 _ _ _ ⟨f3, s3⟩ => ?_)
            have g3 := f3.agr
            refine next q3 _ _ l3 (g2.tr g3 (fun c k z => by rw [eW]; exact Or.inl z)) (fun j hj => by rw [g3.at _ _ (by omega)]; exact k2 j hj) (by rw [g3.hk]; exact qq2.1) (s3.congr hn0 (fun g hg => ?_))
            show ((S g || (decide (gC n g (sA ax) < v) && trG n ax (sqF Q) m o g)) || prG n (rqN n (sqF Q) m v (if fA ax < ax then m else o) (if fA ax < ax then o else m) 300) (sA ax) (v : Int) ((v : Int) + 1) g) = (S g || (decide (gC n g (sA ax) < v + 1) && trG n ax (sqF Q) m o g))
            rw [row_tr hg hn hax bm, show decide (gC n g (sA ax) < v + 1) = (decide (gC n g (sA ax) < v) || decide (gC n g (sA ax) = v)) from by
              rw [← Bool.decide_or, decide_eq_decide]; omega]
            cases S g <;> cases decide (gC n g (sA ax) < v) <;> cases decide (gC n g (sA ax) = v) <;> cases trG n ax (sqF Q) m o g <;> rfl
          | succ t iht =>
            intro r q2 u10 er l2 g2 k2 s2 qq2
            have eat : bop32 100 (bop32 96 m ((r + 1 : Nat) : Int)) 1 = m + r := by
              rw [add32 (by omega) (by omega), sub32 (by omega) (by omega)]
              omega
            have again : ∀ (q3 : AH) (u10 : AV), LX B n q3 → Agr W h q3 → (∀ j, j < n → hv q3 (B + 110) j = hv h (B + 114) j) → SG n q3 a (fun g => S g || (decide (gC n g (sA ax) < v) && trG n ax (sqF Q) m o g)) → Qua n q3 (B + 114) (rqN n (sqF Q) m v (if fA ax < ax then m else o) (if fA ax < ax then o else m) (r + 1)) → (∃ x10 : Int, u10 = (0, x10)) → Ends (ev PP (gsF gv) B d 316 219 [(2, rf (B + 92)), (0, (s : Int)), (2, rf a), (0, (ax : Int)), (0, ((sA ax : Nat) : Int)), (0, ((fA ax : Nat) : Int)), (0, m), (0, o), (0, (v : Int)), (0, ((r + 1 : Nat) : Int)), u10] [] q3) P := fun q3 u10 l3 g3 k3 s3 qq3 ⟨x10, e10⟩ => by
              rw [e10]
              refine Ends.eq (b316_219 l3 (by omega)) ?_
              rw [w_succ (by omega)]
              exact iht (r + 1) q3 _ (by omega) l3 g3 k3 s3 qq3
            have none_ : okT n (sqF Q) m v (r + 1) = false → ∀ u10 : AV, (∃ x10 : Int, u10 = (0, x10)) → Ends (ev PP (gsF gv) B d 316 219 [(2, rf (B + 92)), (0, (s : Int)), (2, rf a), (0, (ax : Int)), (0, ((sA ax : Nat) : Int)), (0, ((fA ax : Nat) : Int)), (0, m), (0, o), (0, (v : Int)), (0, ((r + 1 : Nat) : Int)), u10] [] q2) P := fun z u10 he => again q2 u10 l2 g2 k2 s2 (qq2.congr (fun q y x _ _ _ => by
              show _ = (rqN n (sqF Q) m v (if fA ax < ax then m else o) (if fA ax < ax then o else m) r q y x || (okT n (sqF Q) m v (r + 1) && rnQ (r + 1) (if fA ax < ax then m else o) (if fA ax < ax then o else m) q y x))
              rw [z, Bool.false_and, Bool.or_false])) he
            have okd : ∀ b : Prop, ((0 ≤ m + r ∧ m + r < n) ∧ sqF Q v (m + r).toNat = 1 ↔ b) → (okT n (sqF Q) m v (r + 1) = true ↔ b) := fun b hb => by
              unfold okT
              rw [decide_eq_true_eq, show m + ((r + 1 : Nat) : Int) - 1 = m + r by omega]
              exact hb
            have okn : ¬ ((0 ≤ m + r ∧ m + r < n) ∧ sqF Q v (m + r).toNat = 1) → okT n (sqF Q) m v (r + 1) = false := fun z => Bool.eq_false_iff.mpr (fun y => z ((okd _ Iff.rfl).mp y))
            refine Ends.eq (b316_136 l2 (by omega)) ?_
            rw [eat, tn]
            refine Ends.b4 (fun z => absurd z (by omega)) (fun _ => Ends.b2 (fun z => none_ (okn (fun y => by omega)) _ ⟨_, rfl⟩) (fun z1 => Ends.b3 (fun z => none_ (okn (fun y => by omega)) _ ⟨_, rfl⟩) (fun z2 => Ends.g ⟨by omega, by omega⟩ ?_)))
            obtain ⟨p, ep⟩ : ∃ p : Nat, m + r = (p : Int) := ⟨(m + r).toNat, by omega⟩
            have bs := sqv k2 v p vn (by omega)
            have ebit : bop64 127 (sop64 123 (hv q2 (B + 110) v) (m + r)) 1 = if tb (hv q2 (B + 110) v) p then 1 else 0 := by
              rw [ep]
              exact bit_is _ (by omega)
            rw [ebit]
            clear ebit
            by_cases w : tb (hv q2 (B + 110) v) p = true
            · rw [if_pos w]
              have ok : okT n (sqF Q) m v (r + 1) = true := (okd _ Iff.rfl).mpr ⟨⟨by omega, by omega⟩, by rw [ep]; exact bs.mp w⟩
              have ecu : cond (tst 3 ((fA ax : Nat) : Int) (ax : Int)) o m = if fA ax < ax then m else o := by
                rw [ct3]
                by_cases e : fA ax < ax
                · rw [if_pos (by omega), if_pos e]
                · rw [if_neg (by omega), if_neg e]
              have ecv : cond (tst 3 ((fA ax : Nat) : Int) (ax : Int)) m o = if fA ax < ax then o else m := by
                rw [ct3]
                by_cases e : fA ax < ax
                · rw [if_pos (by omega), if_pos e]
                · rw [if_neg (by omega), if_neg e]
              refine Ends.b1 (fun _ => ?_) (fun z => absurd (cmp64_z.mp z) (by decide))
              rw [ecu, ecv]
              refine Ends.cv l2 (by decide +kernel) (c_ring302 (r := r + 1) l2 (by omega) hn ⟨by omega, by omega⟩ (by split <;> omega) (by split <;> omega) qq2) (fun q3 l3 _ _ _ ⟨g3, qq3⟩ => ?_)
              refine again q3 _ l3 (g2.tr g3 (fun c k z => by rw [eW]; exact Or.inr (Or.inr z))) (fun j hj => by rw [g3.at _ _ (by omega)]; exact k2 j hj) (s2.agr g3 (fun _ z => by omega)) (qq3.congr (fun q y x _ _ _ => ?_)) ⟨_, rfl⟩
              show _ = (rqN n (sqF Q) m v (if fA ax < ax then m else o) (if fA ax < ax then o else m) r q y x || (okT n (sqF Q) m v (r + 1) && rnQ (r + 1) (if fA ax < ax then m else o) (if fA ax < ax then o else m) q y x))
              rw [ok, Bool.true_and]
            · rw [if_neg w]
              exact Ends.b1 (fun z => absurd (cmp64_z.mpr rfl) z) (fun _ => none_ (okn (fun y => w (bs.mpr (by have := y.2; rw [ep] at this; exact this)))) _ ⟨_, rfl⟩)
        exact rings 300 0 q1 _ (by omega) l1 g1' keep1 sq1 (qq1.congr (fun _ _ _ _ _ _ => rfl))
      · -- nothing in that row
        have z0 : hv q (B + 110) v = 0 := cmp64_z.mp z
        have nof : ∀ x, x < n → ¬ sqF Q v x = 1 := fun x hx y => by
          have := (sqv keep v x vn hx).mpr y
          rw [z0, tb_0] at this; cases this
        refine next q _ _ lq g keep k114 (sq.congr hn0 (fun g hg => ?_))
        show (S g || (decide (gC n g (sA ax) < v) && trG n ax (sqF Q) m o g)) = (S g || (decide (gC n g (sA ax) < v + 1) && trG n ax (sqF Q) m o g))
        by_cases e : gC n g (sA ax) = v
        · have : trG n ax (sqF Q) m o g = false := by
            unfold trG
            refine trB_f (fun ⟨r, h1, h2, h3, h4, h5⟩ => nof (m + r - 1).toNat (by omega) ?_)
            rw [← e]; exact h5
          rw [this, Bool.and_false, Bool.and_false]
        · rw [show decide (gC n g (sA ax) < v + 1) = decide (gC n g (sA ax) < v) from by rw [decide_eq_decide]; omega]
  -- the squares are copied
  have copy : ∀ (k j : Nat) (q : AH) (u4 u5 u6 u7 u8 u9 u10 : AV), j + k = n → LX B n q → Agr (fun c _ => c = B + 110) h q → (∀ i, i < j → hv q (B + 110) i = hv h (B + 114) i) → Ends (ev PP (gsF gv) B d 316 26 [(2, rf (B + 92)), (0, (s : Int)), (2, rf a), (0, (j : Int)), u4, u5, u6, u7, u8, u9, u10] [] q) P := by
    intro k
    induction k with
    | zero =>
      intro j q u4 u5 u6 u7 u8 u9 u10 ej lq g keep
      obtain rfl : n = j := by omega
      have g' : Agr W h q := g.sub (fun c k z => by rw [eW]; exact Or.inr (Or.inl z))
      obtain ⟨a1, a2⟩ := cell_is (i := skA s) (hcq g') (by clear e1; omega)
      obtain ⟨b1, b2⟩ := cell_is (i := skA s + 1) (hcq g') (by clear e1; omega)
      have v4 : v424 B q (s : Int) = o := by unfold v424; rw [e1, b2, eo]
      have v3 : v387 B q (s : Int) = (ax : Int) := by unfold v387; rw [v391_is hs, a2, eax]
      have q4 : q424 B q (s : Int) := by unfold q424; rw [e1]; exact b1
      have q3 : q387 B q (s : Int) := by unfold q387; rw [v391_is hs]; exact a1
      refine Ends.eq (b316_26 lq (by omega)) ?_
      simp only [show Int.toNat 0 = 0 from rfl]
      rw [v4, v3, bwA, bwS, at_ g' _ _ (by omega) (by omega) (by omega), em]
      refine Ends.b3 (fun _ => Ends.g q3 (Ends.g q4 ?_)) (fun z => absurd z (Int.lt_irrefl _))
      refine rows n 0 q _ _ (by omega) lq g' keep (by rw [g.hk]; exact qq.1) ((sa.agr g (fun _ z => by omega)).congr hn0 (fun g hg => ?_))
      show S g = (S g || (decide (gC n g (sA ax) < 0) && trG n ax (sqF Q) m o g))
      rw [decide_eq_false (Nat.not_lt_zero _), Bool.false_and, Bool.or_false]
    | succ k ihk =>
      intro j q u4 u5 u6 u7 u8 u9 u10 ej lq g keep
      refine Ends.eq (b316_26 lq (by omega)) ?_
      rw [tn, an1, w_succ (by omega), g.at (B + 114) _ (by omega)]
      refine Ends.b3 (fun z => absurd z (by omega)) (fun _ => Ends.g ⟨by omega, by omega⟩ (Ends.g ⟨by omega, by omega⟩ ?_))
      refine ihk (j + 1) _ _ _ _ _ _ _ _ (by omega) (lq.setS rfl) (g.set rfl) (fun i hi => ?_)
      rcases (by omega : i < j ∨ i = j) with z | z
      · rw [hv_set_ne (by omega)]; exact keep i z
      · rw [z]; exact hv_set_at _ _ _ _
  refine Ends.eq (b316_24 l (by omega)) ?_
  exact copy n 0 h _ _ _ _ _ _ _ (by omega) l Agr.rf (fun i hi => absurd hi (Nat.not_lt_zero i))
end TRND
