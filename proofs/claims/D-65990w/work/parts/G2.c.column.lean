/-! L3: fills (desk): a column -/
noncomputable section COLU
variable {gv : Nat → Int} {B n d ax a q u v w t g g' : Nat} {h : AH} {S Pt : Nat → Bool} {o : Int} {dn : Bool}
/-- places by axes: w along ax, u and v across -/
def pkN (ax i u v w : Nat) : Nat := if i = ax then w else if i = fA ax then u else v
def cgN (n ax u v w t : Nat) : Nat := gI n (pkN ax 0 u v w) (pkN ax 1 u v w) (pkN ax 2 u v w) t
theorem v291_is {i : Nat} : v291 (ax : Int) (i : Int) (u : Int) (v : Int) (w : Int) = ((pkN ax i u v w : Nat) : Int) := by
  unfold v291 pkN fA
  rw [ct1, ct1, ct1]
  by_cases h1 : i = ax
  · rw [if_pos (by omega), if_pos h1]
  · rw [if_neg (by omega), if_neg h1]
    by_cases h2 : ax = 0
    · rw [if_pos (show (ax : Int) = 0 by omega), if_pos h2]
      by_cases h3 : i = 1
      · rw [if_pos (by omega), if_pos h3]
      · rw [if_neg (by omega), if_neg h3]
    · rw [if_neg (show ¬ (ax : Int) = 0 by omega), if_neg h2]
      by_cases h3 : i = 0
      · rw [if_pos (by omega), if_pos h3]
      · rw [if_neg (by omega), if_neg h3]
theorem pkN_lt {i : Nat} (hu : u < n) (hv0 : v < n) (hw : w < n) : pkN ax i u v w < n := by
  unfold pkN
  split
  · exact hw
  · split
    · exact hu
    · exact hv0
theorem cg_lt (hu : u < n) (hv0 : v < n) (hw : w < n) (ht : t < 24) : cgN n ax u v w t < gN n := by
  have h0 := pkN_lt (ax := ax) (i := 0) hu hv0 hw
  have h1 := pkN_lt (ax := ax) (i := 1) hu hv0 hw
  have h2 := pkN_lt (ax := ax) (i := 2) hu hv0 hw
  exact gI_lt h0 h1 h2 ht
theorem cg_C (hax : ax < 3) (hu : u < n) (hv0 : v < n) (hw : w < n) (ht : t < 24) : gC n (cgN n ax u v w t) ax = w ∧ gC n (cgN n ax u v w t) (fA ax) = u ∧ gC n (cgN n ax u v w t) (sA ax) = v ∧ gSo (cgN n ax u v w t) = t := by
  have h0 := pkN_lt (ax := ax) (i := 0) hu hv0 hw
  have h1 := pkN_lt (ax := ax) (i := 1) hu hv0 hw
  have h2 := pkN_lt (ax := ax) (i := 2) hu hv0 hw
  have hfA : fA ax < 3 := by have := fA_2 (ax := ax); omega
  have hsA : sA ax < 3 := by have := sA_2 (ax := ax); omega
  unfold cgN
  rw [gC_row ht h2 h1 h0 hax, gC_row ht h2 h1 h0 hfA, gC_row ht h2 h1 h0 hsA, gSo_I ht]
  rcases (by omega : ax = 0 ∨ ax = 1 ∨ ax = 2) with rfl | rfl | rfl <;> exact ⟨rfl, rfl, rfl, rfl⟩
theorem cg_eta (hg : g < gN n) (hax : ax < 3) : cgN n ax (gC n g (fA ax)) (gC n g (sA ax)) (gC n g ax) (gSo g) = g := by
  have e := gI_g (n := n) (g := g)
  unfold cgN
  rcases (by omega : ax = 0 ∨ ax = 1 ∨ ax = 2) with rfl | rfl | rfl <;> exact e
theorem col_iff (hg : g < gN n) (hg' : g' < gN n) (hax : ax < 3) : colG n ax g = colG n ax g' ↔ quT ax (gSo g) = quT ax (gSo g') ∧ gC n g (fA ax) = gC n g' (fA ax) ∧ gC n g (sA ax) = gC n g' (sA ax) := by
  obtain ⟨_, _, _, _, ht⟩ := g_lt hg
  obtain ⟨_, _, _, _, ht'⟩ := g_lt hg'
  have a1 := gC_lt (a := fA ax) hg
  have a2 := gC_lt (a := fA ax) hg'
  have q1 := qz_ax ⟨ax, hax⟩ ⟨gSo g, ht⟩
  have q2 := qz_ax ⟨ax, hax⟩ ⟨gSo g', ht'⟩
  simp only at q1 q2
  unfold colG
  constructor
  · intro e
    have e1 : gC n g (sA ax) * n + gC n g (fA ax) = gC n g' (sA ax) * n + gC n g' (fA ax) := by omega
    have d1 := dm (a := gC n g (sA ax)) a1
    have d2 := dm (a := gC n g' (sA ax)) a2
    rw [e1] at d1
    exact ⟨by omega, by omega, by omega⟩
  · rintro ⟨e1, e2, e3⟩
    rw [e1, e2, e3]
theorem ds_lay (hg : g < gN n) (hax : ax < 3) (dnE : dn = true ∨ dn = false) : (dn = false → 8 * (((gC n g ax : Nat) : Int) - o) < dsZ n ax o dn g ∧ dsZ n ax o dn g < 8 * (((gC n g ax : Nat) : Int) - o) + 8) ∧ (dn = true → 8 * (o - 1 - ((gC n g ax : Nat) : Int)) < dsZ n ax o dn g ∧ dsZ n ax o dn g < 8 * (o - 1 - ((gC n g ax : Nat) : Int)) + 8) := by
  have gm := dmid_b hg hax
  unfold dsZ
  constructor
  · intro e
    rw [e, if_neg Bool.false_ne_true]; omega
  · intro e
    rw [e, if_pos rfl]; omega
/-- in that column -/
def inC (n ax q u v g : Nat) : Prop := g < gN n ∧ quT ax (gSo g) = q ∧ gC n g (fA ax) = u ∧ gC n g (sA ax) = v
/-- what came nearest in it -/
def NdP (n ax q u v : Nat) (o : Int) (dn : Bool) (Pt : Nat → Bool) (m : Int) : Prop := (∀ g, inC n ax q u v g → Pt g = true → 0 < dsZ n ax o dn g → m ≤ dsZ n ax o dn g) ∧ m ≤ 100000 ∧ (m = 100000 ∨ ∃ g, inC n ax q u v g ∧ Pt g = true ∧ 0 < dsZ n ax o dn g ∧ m = dsZ n ax o dn g)
theorem nd_fl {m : Int} (hn : n ≤ 52) (hax : ax < 3) (ob : 0 ≤ o ∧ o ≤ n) (N : NdP n ax q u v o dn Pt m) (hg : inC n ax q u v g) : (0 < dsZ n ax o dn g ∧ dsZ n ax o dn g < m) ↔ flP n ax o dn Pt g := by
  obtain ⟨h1, h2, h3⟩ := N
  obtain ⟨g1, g2, g3, g4⟩ := hg
  have db := ds_b (n := n) (ax := ax) (o := o) (dn := dn) hn g1 hax ob
  constructor
  · rintro ⟨z1, z2⟩
    refine ⟨z1, fun g' a1 a2 a3 a4 => ?_⟩
    have c := (col_iff a1 g1 hax).mp a3
    have db' := ds_b (n := n) (ax := ax) (o := o) (dn := dn) hn a1 hax ob
    have := h1 g' ⟨a1, by omega, by omega, by omega⟩ a2 (by omega)
    omega
  · rintro ⟨z1, z2⟩
    refine ⟨z1, ?_⟩
    rcases h3 with h3 | ⟨g', ⟨a1, b1, b2, b3⟩, a2, a3, a4⟩
    · omega
    · rw [a4]
      exact z2 g' a1 a2 ((col_iff a1 g1 hax).mpr ⟨by omega, by omega, by omega⟩) (by omega)
/-- the layer with that number -/
def lyW (o : Int) (dn : Bool) (k : Nat) : Int := if dn = true then o - 1 - k else o + k
theorem ly_of {k : Nat} (hg : g < gN n) (hax : ax < 3) : (8 * (k : Int) < dsZ n ax o dn g ∧ dsZ n ax o dn g < 8 * k + 8) ↔ ((gC n g ax : Nat) : Int) = lyW o dn k := by
  obtain ⟨h1, h2⟩ := ds_lay (o := o) (dn := dn) hg hax (by cases dn; exact Or.inr rfl; exact Or.inl rfl)
  unfold lyW
  cases dn
  · have := h1 rfl
    rw [if_neg Bool.false_ne_true]
    omega
  · have := h2 rfl
    rw [if_pos rfl]
    omega
theorem or_dec {s : Bool} {p q : Prop} {ip : Decidable p} {iq : Decidable q} (h : p ↔ q) : (s || @decide p ip) = (s || @decide q iq) := by
  by_cases z : p
  · rw [@decide_eq_true p ip z, @decide_eq_true q iq (h.mp z)]
  · rw [@decide_eq_false p ip z, @decide_eq_false q iq (fun w => z (h.mpr w))]
theorem or_dec2 {s : Bool} {p q r : Prop} {ip : Decidable p} {iq : Decidable q} {ir : Decidable r} (h : p ∨ r ↔ q) : ((s || @decide p ip) || @decide r ir) = (s || @decide q iq) := by
  rw [Bool.or_assoc]
  congr 1
  refine Bool.eq_iff_iff.mpr ?_
  rw [Bool.or_eq_true, @decide_eq_true_iff _ ip, @decide_eq_true_iff _ iq, @decide_eq_true_iff _ ir]
  exact h
set_option maxHeartbeats 4000000 in
theorem c_column258 (l : LX B n h) (hd : 12 ≤ d) (hn0 : 0 < n) (hn : n ≤ 52) (m : TbC B h) (hax : ax < 3) (hq : q < 4) (hu : u < n) (hv0 : v < n) (ob : 0 ≤ o ∧ o ≤ n) (sp : SG n h (B + 117) Pt) (sa : SG n h a S) (ha : B + 246 ≤ a) :
    Vd (cll PP (ev PP (gsF gv) B) d 258 [(2, rf (B + 92)), (2, rf a), (0, (ax : Int)), (0, (q : Int)), (0, (u : Int)), (0, (v : Int)), (0, o), (0, (if dn = true then (0 : Int) else 1))] h) (fun h' => Agr (fun c _ => c = a) h h' ∧ SG n h' a (fun g => S g || @decide (inC n ax q u v g ∧ flP n ax o dn Pt g) (Classical.propDecidable _))) := by
  refine Vd.inq (D := 11) hd (Nat.le_of_ble_eq_true rfl) rfl (fun d hd Q K => ?_)
  have lw : ∀ k : Nat, k ≤ 60 → cond (tst 0 (if dn = true then (0 : Int) else 1) 0) (bop32 100 (bop32 100 o 1) (k : Int)) (bop32 96 o (k : Int)) = lyW o dn k := fun k hk => by
    unfold lyW
    rw [ct0]
    cases dn
    · rw [if_neg Bool.false_ne_true, if_neg (by decide), if_neg Bool.false_ne_true]
      exact add32 (by omega) (by omega)
    · rw [if_pos rfl, if_pos rfl, if_pos rfl, sub32 (x := o) (by omega) (by omega)]
      exact sub32 (by omega) (by omega)
  have i24 : ∀ t : Nat, t < 24 → bop32 96 (bop32 104 24 (ax : Int)) (t : Int) = ((24 * ax + t : Nat) : Int) := fun t ht => by
    rw [show bop32 104 24 (ax : Int) = ((24 * ax : Nat) : Int) from mulNN (x := 24) (by omega)]
    exact addNN (by omega)
  have i3 : ∀ t : Nat, t < 24 → bop32 96 (bop32 104 3 (t : Int)) (ax : Int) = ((3 * t + ax : Nat) : Int) := fun t ht => by
    rw [show bop32 104 3 (t : Int) = ((3 * t : Nat) : Int) from mulNN (x := 3) (by omega)]
    exact addNN (by omega)
  have at_ : ∀ {q' : AH}, Agr (fun c _ => c = a) h q' → ∀ c k, c ≠ a → hv q' c k = hv h c k := fun {q'} g c k hc => g.at _ _ hc
  -- how far a grain of a layer is
  have dist : ∀ (q' : AH) (t w : Nat), Agr (fun c _ => c = a) h q' → t < 24 → w < n → q261 B q' (t : Int) (ax : Int) (w : Int) o (if dn = true then (0 : Int) else 1) ∧ v261 B q' (t : Int) (ax : Int) (w : Int) o (if dn = true then (0 : Int) else 1) = dsZ n ax o dn (cgN n ax u v w t) := fun q' t w g ht hw => by
    obtain ⟨c1, c2, c3, c4⟩ := cg_C (n := n) (ax := ax) (u := u) (v := v) (w := w) (t := t) hax hu hv0 hw ht
    have r8 := g8_C (n := n) (g := cgN n ax u v w t) hax
    have rl : rT t ax < 8 := (rT_lt ⟨t, ht⟩ ⟨ax, hax⟩).2
    have tb := (m.1 t ht).1 ax hax
    rw [c1, c4] at r8
    unfold q261 v261 dsZ
    rw [i3 t ht, tn, at_ g _ _ (by omega), tb, r8, ct0, mul32 (x := 8) (y := (w : Int)) (by omega) (by omega), mul32 (x := 8) (y := o) (by omega) (by omega), add32 (x := 8 * (w : Int)) (by omega) (by omega)]
    refine ⟨⟨by omega, by omega⟩, ?_⟩
    cases dn
    · rw [if_neg Bool.false_ne_true, if_neg (by decide), if_neg Bool.false_ne_true, sub32 (by omega) (by omega)]
      omega
    · rw [if_pos rfl, if_pos rfl, if_pos rfl, sub32 (by omega) (by omega)]
      omega
  have lay : ∀ (k w t : Nat), (w : Int) = lyW o dn k → w < n → t < 24 → 8 * (k : Int) < dsZ n ax o dn (cgN n ax u v w t) ∧ dsZ n ax o dn (cgN n ax u v w t) < 8 * k + 8 := fun k w t ew hw ht => by
    have c1 := (cg_C (n := n) (ax := ax) (u := u) (v := v) (w := w) (t := t) hax hu hv0 hw ht).1
    refine (ly_of (cg_lt hu hv0 hw ht) hax).mpr ?_
    rw [c1]; exact ew
  -- grains are put that are nearer than m
  have second : ∀ m : Int, NdP n ax q u v o dn Pt m → ∀ (r k : Nat) (q' : AH) (u10 u11 : AV), k + r = n → LX B n q' → Agr (fun c _ => c = a) h q' → SG n q' a (fun g => S g || @decide (inC n ax q u v g ∧ (0 < dsZ n ax o dn g ∧ dsZ n ax o dn g < m) ∧ dsZ n ax o dn g < 8 * (k : Int)) (Classical.propDecidable _)) → Ends (ev PP (gsF gv) B d 258 180 [(2, rf (B + 92)), (2, rf a), (0, (ax : Int)), (0, (q : Int)), (0, (u : Int)), (0, (v : Int)), (0, o), (0, if dn = true then (0 : Int) else 1), (0, m), (0, (k : Int)), u10, u11] [] q') Q := by
    intro mm N r
    have stop : ∀ (k : Nat) (q' : AH) (u10 u11 : AV), LX B n q' → Agr (fun c _ => c = a) h q' → SG n q' a (fun g => S g || @decide (inC n ax q u v g ∧ (0 < dsZ n ax o dn g ∧ dsZ n ax o dn g < mm) ∧ dsZ n ax o dn g < 8 * (k : Int)) (Classical.propDecidable _)) → (∀ g, inC n ax q u v g → 0 < dsZ n ax o dn g → dsZ n ax o dn g < mm → dsZ n ax o dn g < 8 * (k : Int)) → Ends (ev PP (gsF gv) B d 258 340 [(2, rf (B + 92)), (2, rf a), (0, (ax : Int)), (0, (q : Int)), (0, (u : Int)), (0, (v : Int)), (0, o), (0, if dn = true then (0 : Int) else 1), (0, mm), (0, (k : Int)), u10, u11] [] q') Q := fun k q' u10 u11 lq g s hall => by
      refine Ends.eq (b258_340 lq (by omega)) (Ends.sm (K q' ⟨g, s.congr hn0 (fun g hg => ?_)⟩))
      refine or_dec (s := S g) ?_
      constructor
      · rintro ⟨z1, z2, -⟩
        exact ⟨z1, (nd_fl hn hax ob N z1).mp z2⟩
      · rintro ⟨z1, z2⟩
        have z3 := (nd_fl hn hax ob N z1).mpr z2
        exact ⟨z1, z3, hall g z1 z3.1 z3.2⟩
    induction r with
    | zero =>
      intro k q' u10 u11 ek lq g s
      refine Ends.eq (b258_180 lq (by omega)) (Ends.b3 (fun _ => stop k q' _ _ lq g s (fun g z1 z2 z3 => ?_)) (fun z => absurd z (by omega)))
      obtain ⟨h1, h2⟩ := ds_lay (o := o) (dn := dn) z1.1 hax (by cases dn; exact Or.inr rfl; exact Or.inl rfl)
      have gl := gC_lt (a := ax) z1.1
      cases dn
      · have := h1 rfl; omega
      · have := h2 rfl; omega
    | succ r ih =>
      intro k q' u10 u11 ek lq g s
      have kn : k < n := by omega
      have m8 : bop32 104 8 (k : Int) = 8 * (k : Int) := mul32 (by omega) (by omega)
      have off : ¬ (0 ≤ lyW o dn k ∧ lyW o dn k < n) → ∀ g, inC n ax q u v g → 0 < dsZ n ax o dn g → dsZ n ax o dn g < mm → dsZ n ax o dn g < 8 * (k : Int) := fun z g z1 z2 _ => by
        obtain ⟨h1, h2⟩ := ds_lay (o := o) (dn := dn) z1.1 hax (by cases dn; exact Or.inr rfl; exact Or.inl rfl)
        have gl := gC_lt (a := ax) z1.1
        unfold lyW at z
        cases dn
        · have := h1 rfl
          rw [if_neg Bool.false_ne_true] at z
          omega
        · have := h2 rfl
          rw [if_pos rfl] at z
          omega
      refine Ends.eq (b258_180 lq (by omega)) ?_
      rw [lw k (by omega), m8]
      refine Ends.b3 (fun z => absurd z (by omega)) (fun _ => Ends.b2 (fun z => stop k q' _ _ lq g s (off (by omega))) (fun z1 => Ends.b3 (fun z => stop k q' _ _ lq g s (off (by omega))) (fun z2 => Ends.b5 (fun z3 => ?_) (fun z3 => stop k q' _ _ lq g s (fun g y1 y2 y3 => by omega)))))
      obtain ⟨w, ew⟩ : ∃ w : Nat, lyW o dn k = (w : Int) := ⟨(lyW o dn k).toNat, by omega⟩
      have wn : w < n := by omega
      rw [ew]
      have sorts : ∀ (r t : Nat) (q' : AH), t + r = 24 → LX B n q' → Agr (fun c _ => c = a) h q' → SG n q' a (fun g => S g || @decide (inC n ax q u v g ∧ (0 < dsZ n ax o dn g ∧ dsZ n ax o dn g < mm) ∧ (dsZ n ax o dn g < 8 * (k : Int) ∨ (dsZ n ax o dn g < 8 * (k : Int) + 8 ∧ gSo g < t))) (Classical.propDecidable _)) → Ends (ev PP (gsF gv) B d 258 241 [(2, rf (B + 92)), (2, rf a), (0, (ax : Int)), (0, (q : Int)), (0, (u : Int)), (0, (v : Int)), (0, o), (0, if dn = true then (0 : Int) else 1), (0, mm), (0, (k : Int)), (0, (w : Int)), (0, (t : Int))] [] q') Q := by
        intro r
        induction r with
        | zero =>
          intro t q' et lq g s
          obtain rfl : t = 24 := by omega
          refine Ends.eq (b258_241 lq (by omega)) (Ends.b3 (fun _ => ?_) (fun z => absurd z (by decide)))
          rw [w_succ (by omega)]
          refine ih (k + 1) q' _ _ (by omega) lq g (s.congr hn0 (fun g hg => ?_))
          refine or_dec (s := S g) ?_
          have := (g_lt hg).2.2.2.2
          constructor
          · rintro ⟨y1, y2, y3⟩
            exact ⟨y1, y2, by omega⟩
          · rintro ⟨y1, y2, y3⟩
            exact ⟨y1, y2, by omega⟩
        | succ r iht =>
          intro t q' et lq g s
          have ht : t < 24 := by omega
          obtain ⟨q2, v2⟩ := dist q' t w g ht wn
          obtain ⟨c1, c2, c3, c4⟩ := cg_C (n := n) (ax := ax) (u := u) (v := v) (w := w) (t := t) hax hu hv0 wn ht
          have cl := cg_lt (n := n) (ax := ax) hu hv0 wn ht
          have ly := lay k w t ew.symm wn ht
          have tq := (m.1 t ht).2.2.2.2.2.2.2 ax hax
          have next : ∀ q3 : AH, LX B n q3 → Agr (fun c _ => c = a) h q3 → SG n q3 a (fun g => S g || @decide (inC n ax q u v g ∧ (0 < dsZ n ax o dn g ∧ dsZ n ax o dn g < mm) ∧ (dsZ n ax o dn g < 8 * (k : Int) ∨ (dsZ n ax o dn g < 8 * (k : Int) + 8 ∧ gSo g < t + 1))) (Classical.propDecidable _)) → Ends (ev PP (gsF gv) B d 258 328 [(2, rf (B + 92)), (2, rf a), (0, (ax : Int)), (0, (q : Int)), (0, (u : Int)), (0, (v : Int)), (0, o), (0, if dn = true then (0 : Int) else 1), (0, mm), (0, (k : Int)), (0, (w : Int)), (0, (t : Int))] [] q3) Q := fun q3 l3 g3 s3 => by
            refine Ends.eq (b258_328 l3 (by omega)) ?_
            rw [w_succ (by omega)]
            exact iht (t + 1) q3 (by omega) l3 g3 s3
          -- of that sort there is one alone in the layer
          have one : ∀ g, inC n ax q u v g → 0 < dsZ n ax o dn g → gSo g = t → ¬ dsZ n ax o dn g < 8 * (k : Int) → dsZ n ax o dn g < 8 * (k : Int) + 8 → g = cgN n ax u v w t := fun g y1 y2 y3 y4 y5 => by
            have nz : dsZ n ax o dn g ≠ 8 * (k : Int) := fun y => by
              have gm := dmid_b y1.1 hax
              unfold dsZ at y
              split at y <;> omega
            have := (ly_of (k := k) y1.1 hax).mp ⟨by omega, y5⟩
            have e := cg_eta y1.1 hax
            rw [y1.2.2.1, y1.2.2.2, y3, show gC n g ax = w by omega] at e
            exact e.symm
          have skip : ¬ (quT ax t = q ∧ dsZ n ax o dn (cgN n ax u v w t) < mm) → Ends (ev PP (gsF gv) B d 258 328 [(2, rf (B + 92)), (2, rf a), (0, (ax : Int)), (0, (q : Int)), (0, (u : Int)), (0, (v : Int)), (0, o), (0, if dn = true then (0 : Int) else 1), (0, mm), (0, (k : Int)), (0, (w : Int)), (0, (t : Int))] [] q') Q := fun z => next q' lq g (s.congr hn0 (fun g hg => by
            refine or_dec (s := S g) ?_
            constructor
            · rintro ⟨y1, y2, y3⟩
              exact ⟨y1, y2, by omega⟩
            · rintro ⟨y1, y2, y3⟩
              refine ⟨y1, y2, ?_⟩
              rcases y3 with y3 | ⟨y3, y4⟩
              · exact Or.inl y3
              · by_cases e : gSo g = t
                · by_cases e2 : dsZ n ax o dn g < 8 * (k : Int)
                  · exact Or.inl e2
                  · have eg := one g y1 y2.1 e e2 y3
                    exact absurd ⟨by rw [← e]; exact y1.2.1, by rw [← eg]; exact y2.2⟩ z
                · exact Or.inr ⟨y3, by omega⟩))
          refine Ends.eq (b258_241 lq (by omega)) ?_
          rw [i24 t ht, tn, at_ g _ _ (by omega), tq, v2, show v291 (ax : Int) 0 (u : Int) (v : Int) (w : Int) = ((pkN ax 0 u v w : Nat) : Int) from v291_is (i := 0), show v291 (ax : Int) 1 (u : Int) (v : Int) (w : Int) = ((pkN ax 1 u v w : Nat) : Int) from v291_is (i := 1), show v291 (ax : Int) 2 (u : Int) (v : Int) (w : Int) = ((pkN ax 2 u v w : Nat) : Int) from v291_is (i := 2)]
          refine Ends.b3 (fun z => absurd z (by omega)) (fun _ => Ends.g ⟨by omega, by omega⟩ (Ends.b1 (fun z => skip (fun y => z (by rw [y.1]))) (fun zq => Ends.g q2 (Ends.b3 (fun z => skip (fun y => by omega)) (fun z => ?_)))))
          have h0 := pkN_lt (ax := ax) (i := 0) hu hv0 wn
          have h1 := pkN_lt (ax := ax) (i := 1) hu hv0 wn
          have h2 := pkN_lt (ax := ax) (i := 2) hu hv0 wn
          refine Ends.cv lq (by decide +kernel) (c_putG lq (by omega) hn0 hn s (by omega) ht h0 h1 h2) (fun q3 l3 _ _ _ ⟨f3, s3⟩ => ?_)
          refine next q3 l3 (g.tr f3.agr (fun _ _ z => z)) (s3.congr hn0 (fun g hg => ?_))
          refine or_dec2 (s := S g) ?_
          constructor
          · rintro (⟨y1, y2, y3⟩ | y)
            · exact ⟨y1, y2, by omega⟩
            · have y' : g = cgN n ax u v w t := y
              rw [y']
              exact ⟨⟨cl, by rw [c4]; omega, c2, c3⟩, ⟨by omega, z⟩, Or.inr ⟨ly.2, by rw [c4]; omega⟩⟩
          · rintro ⟨y1, y2, y3⟩
            by_cases e2 : dsZ n ax o dn g < 8 * (k : Int)
            · exact Or.inl ⟨y1, y2, Or.inl e2⟩
            · have y4 := y3.resolve_left e2
              by_cases e : gSo g = t
              · exact Or.inr (one g y1 y2.1 e e2 y4.1)
              · exact Or.inl ⟨y1, y2, Or.inr ⟨y4.1, by omega⟩⟩
      refine sorts 24 0 q' rfl lq g (s.congr hn0 (fun g hg => ?_))
      refine or_dec (s := S g) ?_
      constructor
      · rintro ⟨y1, y2, y3⟩
        exact ⟨y1, y2, Or.inl y3⟩
      · rintro ⟨y1, y2, y3⟩
        exact ⟨y1, y2, by omega⟩
  -- behind the search
  have go : ∀ (mm : Int) (k : Nat) (u10 u11 : AV), NdP n ax q u v o dn Pt mm → Ends (ev PP (gsF gv) B d 258 177 [(2, rf (B + 92)), (2, rf a), (0, (ax : Int)), (0, (q : Int)), (0, (u : Int)), (0, (v : Int)), (0, o), (0, if dn = true then (0 : Int) else 1), (0, mm), (0, (k : Int)), u10, u11] [] h) Q := fun mm k u10 u11 N => by
    refine Ends.eq (b258_177 l (by omega)) ?_
    refine second mm N n 0 h _ _ (by omega) l Agr.rf (sa.congr hn0 (fun g hg => ?_))
    show S g = (S g || _)
    rw [@decide_eq_false _ (Classical.propDecidable _) (fun y => by have := y.2.1.1; have := y.2.2; omega), Bool.or_false]
  -- the search
  have first : ∀ (r k : Nat) (mm : Int) (u10 u11 : AV), k + r = n → ((mm = 100000 ∧ ∀ g, inC n ax q u v g → Pt g = true → 0 < dsZ n ax o dn g → 8 * (k : Int) < dsZ n ax o dn g) ∨ (mm < 100000 ∧ NdP n ax q u v o dn Pt mm)) → Ends (ev PP (gsF gv) B d 258 8 [(2, rf (B + 92)), (2, rf a), (0, (ax : Int)), (0, (q : Int)), (0, (u : Int)), (0, (v : Int)), (0, o), (0, if dn = true then (0 : Int) else 1), (0, mm), (0, (k : Int)), u10, u11] [] h) Q := by
    intro r
    have none_ : ∀ k : Nat, (∀ g, inC n ax q u v g → Pt g = true → 0 < dsZ n ax o dn g → 8 * (k : Int) < dsZ n ax o dn g) → ¬ (k < n ∧ 0 ≤ lyW o dn k ∧ lyW o dn k < n) → NdP n ax q u v o dn Pt 100000 := fun k no z => by
      refine ⟨fun g z1 z2 z3 => ?_, Int.le_refl _, Or.inl rfl⟩
      exfalso
      have y := no g z1 z2 z3
      obtain ⟨h1, h2⟩ := ds_lay (o := o) (dn := dn) z1.1 hax (by cases dn; exact Or.inr rfl; exact Or.inl rfl)
      have gl := gC_lt (a := ax) z1.1
      unfold lyW at z
      cases dn
      · have := h1 rfl
        rw [if_neg Bool.false_ne_true] at z
        omega
      · have := h2 rfl
        rw [if_pos rfl] at z
        omega
    induction r with
    | zero =>
      intro k mm u10 u11 ek hx
      refine Ends.eq (b258_8 l (by omega)) (Ends.b3 (fun _ => go mm k _ _ ?_) (fun z => absurd z (by omega)))
      rcases hx with ⟨hx, no⟩ | ⟨-, N⟩
      · rw [hx]; exact none_ k no (by omega)
      · exact N
    | succ r ih =>
      intro k mm u10 u11 ek hx
      refine Ends.eq (b258_8 l (by omega)) ?_
      rw [lw k (by omega)]
      rcases hx with ⟨hx, no⟩ | ⟨lt, N⟩
      · rw [hx]
        refine Ends.b3 (fun z => absurd z (by omega)) (fun _ => Ends.b1 (fun z => absurd rfl z) (fun _ => Ends.b2 (fun z => go _ k _ _ (none_ k no (by omega))) (fun z1 => Ends.b2 (fun z2 => ?_) (fun z => go _ k _ _ (none_ k no (by omega))))))
        obtain ⟨w, ew⟩ : ∃ w : Nat, lyW o dn k = (w : Int) := ⟨(lyW o dn k).toNat, by omega⟩
        have wn : w < n := by omega
        rw [ew]
        have sorts : ∀ (r t : Nat) (mm : Int), t + r = 24 → (mm = 100000 ∨ ∃ g, inC n ax q u v g ∧ Pt g = true ∧ (8 * (k : Int) < dsZ n ax o dn g ∧ dsZ n ax o dn g < 8 * (k : Int) + 8) ∧ mm = dsZ n ax o dn g) → mm ≤ 100000 → (∀ g, inC n ax q u v g → Pt g = true → 0 < dsZ n ax o dn g → mm ≤ dsZ n ax o dn g ∨ (8 * (k : Int) < dsZ n ax o dn g ∧ (dsZ n ax o dn g < 8 * (k : Int) + 8 → t ≤ gSo g))) → Ends (ev PP (gsF gv) B d 258 67 [(2, rf (B + 92)), (2, rf a), (0, (ax : Int)), (0, (q : Int)), (0, (u : Int)), (0, (v : Int)), (0, o), (0, if dn = true then (0 : Int) else 1), (0, mm), (0, (k : Int)), (0, (w : Int)), (0, (t : Int))] [] h) Q := by
          intro r
          induction r with
          | zero =>
            intro t mm et ex le all
            obtain rfl : t = 24 := by omega
            refine Ends.eq (b258_67 l (by omega)) (Ends.b3 (fun _ => ?_) (fun z => absurd z (by decide)))
            rw [w_succ (by omega)]
            refine ih (k + 1) mm _ _ (by omega) ?_
            have far : ∀ g, inC n ax q u v g → Pt g = true → 0 < dsZ n ax o dn g → mm ≤ dsZ n ax o dn g ∨ 8 * ((k + 1 : Nat) : Int) < dsZ n ax o dn g := fun g y1 y2 y3 => by
              rcases all g y1 y2 y3 with y | ⟨y4, y5⟩
              · exact Or.inl y
              · have := (g_lt y1.1).2.2.2.2
                have nz : dsZ n ax o dn g ≠ 8 * (k : Int) + 8 := fun y => by
                  have gm := dmid_b y1.1 hax
                  unfold dsZ at y
                  split at y <;> omega
                exact Or.inr (by omega)
            rcases ex with ex | ⟨g0, a1, a2, a3, a4⟩
            · refine Or.inl ⟨ex, fun g y1 y2 y3 => ?_⟩
              have db := ds_b (n := n) (ax := ax) (o := o) (dn := dn) hn y1.1 hax ob
              have := far g y1 y2 y3
              omega
            · have db := ds_b (n := n) (ax := ax) (o := o) (dn := dn) hn a1.1 hax ob
              refine Or.inr ⟨by omega, fun g y1 y2 y3 => ?_, by omega, Or.inr ⟨g0, a1, a2, by omega, a4⟩⟩
              have := far g y1 y2 y3
              omega
          | succ r iht =>
            intro t mm et ex le all
            have ht : t < 24 := by omega
            obtain ⟨q2, v2⟩ := dist h t w Agr.rf ht wn
            obtain ⟨c1, c2, c3, c4⟩ := cg_C (n := n) (ax := ax) (u := u) (v := v) (w := w) (t := t) hax hu hv0 wn ht
            have cl := cg_lt (n := n) (ax := ax) hu hv0 wn ht
            have ly := lay k w t ew.symm wn ht
            have tq := (m.1 t ht).2.2.2.2.2.2.2 ax hax
            have h0 := pkN_lt (ax := ax) (i := 0) hu hv0 wn
            have h1 := pkN_lt (ax := ax) (i := 1) hu hv0 wn
            have h2 := pkN_lt (ax := ax) (i := 2) hu hv0 wn
            have hs := has_eq hn ht h0 h1 h2 sp
            rw [onK_at h2 h1] at hs
            have ho := has_ok hn ht h1 h2 (x := pkN ax 0 u v w) sp
            have one : ∀ g, inC n ax q u v g → gSo g = t → 8 * (k : Int) < dsZ n ax o dn g → dsZ n ax o dn g < 8 * (k : Int) + 8 → g = cgN n ax u v w t := fun g y1 y3 y4 y5 => by
              have := (ly_of (k := k) y1.1 hax).mp ⟨y4, y5⟩
              have e := cg_eta y1.1 hax
              rw [y1.2.2.1, y1.2.2.2, y3, show gC n g ax = w by omega] at e
              exact e.symm
            have db := ds_b (n := n) (ax := ax) (o := o) (dn := dn) hn cl hax ob
            -- nothing new
            have same : (∀ g, inC n ax q u v g → Pt g = true → gSo g = t → 8 * (k : Int) < dsZ n ax o dn g → dsZ n ax o dn g < 8 * (k : Int) + 8 → False) → Ends (ev PP (gsF gv) B d 258 67 [(2, rf (B + 92)), (2, rf a), (0, (ax : Int)), (0, (q : Int)), (0, (u : Int)), (0, (v : Int)), (0, o), (0, if dn = true then (0 : Int) else 1), (0, mm), (0, (k : Int)), (0, (w : Int)), (0, ((t + 1 : Nat) : Int))] [] h) Q := fun z => by
              refine iht (t + 1) mm (by omega) ex le (fun g y1 y2 y3 => ?_)
              rcases all g y1 y2 y3 with y | ⟨y4, y5⟩
              · exact Or.inl y
              · refine Or.inr ⟨y4, fun y6 => ?_⟩
                have := y5 y6
                rcases (by omega : gSo g = t ∨ t + 1 ≤ gSo g) with e | e
                · exact absurd (z g y1 y2 e y4 y6) id
                · exact e
            refine Ends.eq (b258_67 l (by omega)) ?_
            rw [i24 t ht, tn, tq, v2, show v291 (ax : Int) 0 (u : Int) (v : Int) (w : Int) = ((pkN ax 0 u v w : Nat) : Int) from v291_is (i := 0), show v291 (ax : Int) 1 (u : Int) (v : Int) (w : Int) = ((pkN ax 1 u v w : Nat) : Int) from v291_is (i := 1), show v291 (ax : Int) 2 (u : Int) (v : Int) (w : Int) = ((pkN ax 2 u v w : Nat) : Int) from v291_is (i := 2), hs, w_succ (i := t) (by omega)]
            refine Ends.b3 (fun z => absurd z (by omega)) (fun _ => Ends.g ⟨by omega, by omega⟩ (Ends.g ?_ ?_))
            · rw [ct1]
              by_cases eq_ : ((quT ax t : Nat) : Int) = (q : Int)
              · rw [if_pos eq_]
                refine ⟨ho, ?_⟩
                rw [ct1]
                cases ep : Pt (gI n (pkN ax 0 u v w) (pkN ax 1 u v w) (pkN ax 2 u v w) t)
                · rw [if_pos (show (if false = true then (1 : Int) else 0) = 0 from rfl)]; exact True.intro
                · rw [if_neg (show ¬ (if true = true then (1 : Int) else 0) = 0 by decide)]; exact q2
              · rw [if_neg eq_]; exact True.intro
            · rw [ct1]
              by_cases eq_ : quT ax t = q
              · rw [if_pos (show ((quT ax t : Nat) : Int) = (q : Int) by omega), ct1]
                cases ep : Pt (gI n (pkN ax 0 u v w) (pkN ax 1 u v w) (pkN ax 2 u v w) t)
                · rw [if_pos (show (if false = true then (1 : Int) else 0) = 0 from rfl)]
                  refine same (fun g y1 y2 y3 y4 y5 => ?_)
                  rw [one g y1 y3 y4 y5] at y2
                  unfold cgN at y2
                  rw [ep] at y2; cases y2
                · rw [if_neg (show ¬ (if true = true then (1 : Int) else 0) = 0 by decide), v892_is]
                  refine iht (t + 1) _ (by omega) ?_ (by omega) (fun g y1 y2 y3 => ?_)
                  · rcases (by omega : min mm (dsZ n ax o dn (cgN n ax u v w t)) = mm ∨ min mm (dsZ n ax o dn (cgN n ax u v w t)) = dsZ n ax o dn (cgN n ax u v w t)) with e | e
                    · rw [e]; exact ex
                    · rw [e]
                      exact Or.inr ⟨cgN n ax u v w t, ⟨cl, by rw [c4]; exact eq_, c2, c3⟩, ep, ly, rfl⟩
                  · rcases all g y1 y2 y3 with y | ⟨y4, y5⟩
                    · exact Or.inl (by omega)
                    · by_cases y6 : dsZ n ax o dn g < 8 * (k : Int) + 8
                      · have := y5 y6
                        rcases (by omega : gSo g = t ∨ t + 1 ≤ gSo g) with e | e
                        · rw [one g y1 e y4 y6]
                          exact Or.inl (by omega)
                        · exact Or.inr ⟨y4, fun _ => e⟩
                      · exact Or.inr ⟨y4, fun y7 => absurd y7 y6⟩
              · rw [if_neg (show ¬ ((quT ax t : Nat) : Int) = (q : Int) by omega)]
                exact same (fun g y1 y2 y3 y4 y5 => eq_ (by rw [← y3]; exact y1.2.1))
        exact sorts 24 0 100000 rfl (Or.inl rfl) (Int.le_refl _) (fun g y1 y2 y3 => Or.inr ⟨no g y1 y2 y3, fun _ => Nat.zero_le _⟩)
      · refine Ends.b3 (fun z => absurd z (by omega)) (fun _ => Ends.b1 (fun _ => go mm k _ _ N) (fun z => absurd z (by omega)))
  refine Ends.eq (b258_0 l (by omega)) ?_
  refine first n 0 100000 _ _ (by omega) (Or.inl ⟨rfl, fun g _ _ z => by omega⟩)
end COLU
