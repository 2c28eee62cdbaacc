/-! L3: what alters the solid as it is (desk): kinds without names of faces -/
section DALT
variable {gv : Nat → Int} {B n d ax f tl mo xe : Nat} {h : AH} {S T : Nat → Bool} {nb : Nat → Int}
theorem sg_none : (∀ k x, k < 24 * n * n → x < n → onK n (fun t z y x => T (gI n x y z t)) k x = false) ↔ ∀ g, g < gN n → T g = false := by
  constructor
  · intro e g hg
    obtain ⟨_, g1, g2, g3, g4⟩ := g_lt hg
    have := e (rw3 n (gSo g) (gZ n g) (gY n g)) (gX n g) (rw3_lt g4 g3 g2) g1
    rw [onK_at g3 g2, gI_g] at this
    exact this
  · intro e k x hk hx
    obtain ⟨k1, k2, k3, _⟩ := rw3_dec (by omega) hk
    exact e _ (gI_lt hx k3 k2 k1)
theorem sg_some : (∃ k x, k < 24 * n * n ∧ x < n ∧ onK n (fun t z y x => T (gI n x y z t)) k x = true) ↔ ∃ g, g < gN n ∧ T g = true := by
  constructor
  · rintro ⟨k, x, hk, hx, e⟩
    obtain ⟨k1, k2, k3, _⟩ := rw3_dec (by omega) hk
    exact ⟨_, gI_lt hx k3 k2 k1, e⟩
  · rintro ⟨g, hg, e⟩
    obtain ⟨_, g1, g2, g3, g4⟩ := g_lt hg
    refine ⟨rw3 n (gSo g) (gZ n g) (gY n g), gX n g, rw3_lt g4 g3 g2, g1, ?_⟩
    rw [onK_at g3 g2, gI_g]
    exact e
/-- a solid cell that is lent -/
def PtA (B n : Nat) (h : AH) (a : Nat) : Prop := B + 246 ≤ a ∧ a < hnx h ∧ Scr B h a ∧ hk h a = (3, 24 * n * n)
/-- the three solids that Parts works with -/
def PtD (B n : Nat) (h : AH) (tl mo xe : Nat) : Prop := hv h (B + 92) 12 = rf tl ∧ hv h (B + 92) 13 = rf mo ∧ hv h (B + 92) 14 = rf xe ∧ PtA B n h tl ∧ PtA B n h mo ∧ PtA B n h xe ∧ tl ≠ mo ∧ tl ≠ xe ∧ mo ≠ xe
/-- where a change writes -/
def chW (B : Nat) (h : AH) (tl : Nat) : Nat → Nat → Prop := fun c k => c = B + 117 ∨ c = tl ∨ c = B + 52 ∨ c = B + 54 ∨ c = B + 55 ∨ c = B + 106 ∨ c = B + 107 ∨ c = B + 108 ∨ c = B + 114 ∨ c = B + 81 ∨ FlO B h c ∨ (c = B + 92 ∧ (k = 27 ∨ k = 28 ∨ k = 41 ∨ k = 42)) ∨ c = B + 109 ∨ c = B + 111
theorem rgC_in {i : Nat} (hi : i < 39) : rgC i = 27 ∨ rgC i = 53 ∨ rgC i = 93 ∨ rgC i = 94 ∨ rgC i = 83 ∨ (rgC i = 81 ∧ (rgK i = 2 ∨ rgK i = 3)) := by
  have : ∀ i : Fin 39, rgC i = 27 ∨ rgC i = 53 ∨ rgC i = 93 ∨ rgC i = 94 ∨ rgC i = 83 ∨ (rgC i = 81 ∧ (rgK i = 2 ∨ rgK i = 3)) := by decide
  exact this ⟨i, hi⟩
/-- a plain frame, with what is lazily made as it was -/
theorem Agr.fle {W W' : Nat → Nat → Prop} {q : AH} (g : Agr W h q) (hb : B + 246 ≤ hnx h) (R : Reg B n h) (F : FlI B n h) (h0 : ∀ c k, c = B + 27 ∨ c = B + 53 ∨ c = B + 81 ∨ c = B + 83 ∨ c = B + 93 ∨ c = B + 94 → ¬ W c k) (h2 : ∀ a k, FlO B h a → ¬ W a k) (h3 : ∀ c k, W c k → W' c k) {c s : Nat} : FlE B n W' c s h q := by
  obtain ⟨R2, L2⟩ := R.ext hb g.ext (fun i hi w => h0 _ _ (by have := rgC_in hi; omega) w)
  obtain ⟨F2, L3⟩ := F.ext hb g.ext (fun k => h0 _ k (by omega)) h2
  exact ⟨g.ext.sub (fun c k _ w => h3 c k w) (Nat.zero_le _) (Nat.zero_le _), R2, F2, by rw [L2, L3, g.us], fun c _ z => (FlO.keep hb g.ext (fun k => h0 _ k (by omega))).mp z⟩
theorem flo_out {a : Nat} (F : FlI B n h) (z : FlO B h a) : B + 246 ≤ a := F.own z
theorem c_failed266 {x y : Int} (l : LX B n h) (hd : 10 ≤ d) : Vt 0 (cll PP (ev PP (gsF gv) B) d 266 [(2, rf (B + 92)), (0, x), (0, y)] h) (fun v h' => v = 1 ∧ Agr (fun c k => c = B + 92 ∧ (k = 27 ∨ k = 28)) h h' ∧ hv h' (B + 92) 27 = x ∧ hv h' (B + 92) 28 = y) := by
  refine Vt.inq (D := 9) hd (Nat.le_of_ble_eq_true rfl) rfl (fun d hd Q K => ?_)
  refine Ends.eq (b266_0 l (by omega)) ?_
  exact Ends.sm (K _ _ ⟨rfl, (Agr.rf.set ⟨rfl, Or.inl rfl⟩).set ⟨rfl, Or.inr rfl⟩, by rw [hv_set_ne (by omega), hv_set_at], hv_set_at ..⟩)
/-- the part by op with the tool -/
theorem c_takeTool314 {op : Nat} (l : LX B n h) (hd : 13 ≤ d) (hn0 : 0 < n) (hn : n ≤ 52) (P : PtD B n h tl mo xe) (sp : SG n h (B + 117) S) (st : SG n h tl T) :
    Vt 0 (cll PP (ev PP (gsF gv) B) d 314 [(2, rf (B + 92)), (0, (op : Int))] h) (fun v h' => Agr (fun c k => c = B + 117 ∨ (c = B + 92 ∧ (k = 27 ∨ k = 28))) h h' ∧ (((∀ g, g < gN n → T g = false) ∧ v = 0 ∧ hv h' (B + 92) 27 = 4 ∧ hv h' (B + 92) 28 = 0 ∧ SG n h' (B + 117) S) ∨ ((∃ g, g < gN n ∧ T g = true) ∧ v = 1 ∧ SG n h' (B + 117) (fun g => jn (op : Int) (S g) (T g))))) := by
  obtain ⟨e12, e13, e14, pt, pm, px, -⟩ := P
  refine Vt.inq (D := 12) hd (Nat.le_of_ble_eq_true rfl) rfl (fun d hd Q K => ?_)
  refine Ends.eq (b314_0 l (by omega)) ?_
  rw [e12]
  refine Ends.ct l (by decide +kernel) (by decide) (c_isEmpty l (by omega) hn st) (fun v q l1 _ _ _ ⟨e1, e2⟩ => ?_)
  obtain rfl := e1
  refine Ends.eq (b314_11 l1 (by omega)) ?_
  rcases e2 with ⟨rfl, e⟩ | ⟨rfl, e⟩
  · refine Ends.b0 (fun z => absurd z (by decide)) (fun _ => ?_)
    refine Ends.ct l1 (by decide +kernel) (by decide) (c_failed266 (x := 4) (y := 0) l1 (by omega)) (fun v q2 l2 _ _ _ ⟨_, g2, r1, r2⟩ => ?_)
    refine Ends.eq (b314_20 l2 (by omega)) ?_
    exact Ends.sm (K _ _ ⟨g2.sub (fun c k z => Or.inr z), Or.inl ⟨sg_none.mp e, rfl, r1, r2, sp.agr g2 (fun k z => by omega)⟩⟩)
  · refine Ends.b0 (fun _ => ?_) (fun z => absurd rfl z)
    rw [e12]
    refine Ends.cv l1 (by decide +kernel) (c_join (op := (op : Int)) l1 (by omega) hn sp st (by omega)) (fun q2 l2 _ _ _ ⟨f2, s2⟩ => ?_)
    refine Ends.eq (b314_39 l2 (by omega)) ?_
    exact Ends.sm (K _ _ ⟨f2.fr.agr.sub (fun c k z => Or.inl z), Or.inr ⟨sg_some.mp e, rfl, SG.of hn0 s2 (fun t z y x ht hz hy hx => by rw [onK_at hz hy, onK_at hz hy])⟩⟩)
theorem ch_14 (l : LX B n h) (hd : 20 ≤ d) (hn0 : 0 < n) (hn : n ≤ 52) (P : PtD B n h tl mo xe) (R : Reg B n h) (F : FlI B n h) (sp : SG n h (B + 117) T) (sx : SG n h xe S) (pv : PvC B h 3 nb) (nbb : ∀ k, k < 3 → -200 ≤ nb k ∧ nb k ≤ 200) :
    Vt 0 (cll PP (ev PP (gsF gv) B) d 255 [(2, rf (B + 92)), (0, (f : Int)), (0, (14 : Int))] h) (fun v h' => v = 1 ∧ FlE B n (chW B h tl) 8 (8 * (24 * n * n)) h h' ∧ SG n h' (B + 117) (mvG n S (nb 0) (nb 1) (nb 2))) := by
  obtain ⟨e12, e13, e14, pt, pm, px, -⟩ := P
  have n0 := nbb 0 (by decide)
  have n1 := nbb 1 (by decide)
  have n2 := nbb 2 (by decide)
  refine Vt.inq (D := 19) hd (Nat.le_of_ble_eq_true rfl) rfl (fun d hd Q K => ?_)
  refine Ends.eq (b255_0 l (by omega)) ?_
  show Ends (ev PP (gsF gv) B d 255 80 _ [] h) Q
  refine Ends.eq (b255_80 l (by omega)) ?_
  refine Ends.cv l (by decide +kernel) (c_clear (a := B + 117) l (by omega) hn sp.1 (by omega)) (fun h2 l2 _ _ _ ⟨f2, s2⟩ => ?_)
  have g2 := f2.fr.agr
  have fl : ∀ q : AH, Agr (fun c _ => c = B + 117) h q → FlE B n (chW B h tl) 8 (8 * (24 * n * n)) h q := fun q g => g.fle l.2.2 R F (fun c k z w => by omega) (fun a k z w => by have := F.own z; omega) (fun c k z => Or.inl z)
  refine Ends.eq (b255_91 l2 (by omega)) ?_
  have p2 := pv.agr g2 (fun k z => by omega)
  rw [show Int.toNat 0 = 0 from rfl, show Int.toNat 1 = 1 from rfl, show Int.toNat 2 = 2 from rfl, p2 0 (by decide), p2 1 (by decide), p2 2 (by decide), g2.at _ _ (show ¬ B + 92 = B + 117 by omega), e14, v886_is (x := nb 0) (by omega) (by omega), v886_is (x := nb 1) (by omega) (by omega), v886_is (x := nb 2) (by omega) (by omega)]
  have far : (((n : Int) < nb 0 ∨ nb 0 < -(n : Int)) ∨ ((n : Int) < nb 1 ∨ nb 1 < -(n : Int)) ∨ (n : Int) < nb 2 ∨ nb 2 < -(n : Int)) → Ends (ev PP (gsF gv) B d 255 166 [(2, rf (B + 92)), (0, (f : Int)), (0, 14)] [] h2) Q := fun w => by
    refine Ends.eq (b255_166 l2 (by omega)) ?_
    have s2' : SG n h2 (B + 117) (fun _ => false) := SG.of hn0 s2 (fun _ _ _ _ _ _ _ _ => rfl)
    exact Ends.sm (K _ _ ⟨rfl, fl _ g2, s2'.congr hn0 (fun x hx => (mvG_far hx w).symm)⟩)
  refine Ends.b4 (fun z => far (Or.inl (by split at z <;> omega))) (fun z0 => Ends.b4 (fun z => far (Or.inr (Or.inl (by split at z <;> omega)))) (fun z1 => Ends.b4 (fun z => far (Or.inr (Or.inr (by split at z <;> omega)))) (fun z2 => ?_)))
  have sx2 : SG n h2 xe S := sx.agr g2 (fun _ z => by have := px.1; omega)
  refine Ends.cv l2 (by decide +kernel) (c_uniteMoved l2 (by omega) hn0 hn s2 sx2 (by have := px.1; omega) (by omega) (dx := nb 0) (dy := nb 1) (dz := nb 2) (by omega) (by omega) (by omega)) (fun h3 l3 _ _ _ ⟨f3, s3⟩ => ?_)
  refine Ends.eq (b255_166 l3 (by omega)) ?_
  refine Ends.sm (K _ _ ⟨rfl, fl _ (g2.tr f3.agr (fun c k z => z)), SG.of hn0 s3 (fun t z y x ht hz hy hx => ?_)⟩)
  show (false || onK n _ _ _) = mvG n S (nb 0) (nb 1) (nb 2) (gI n x y z t)
  unfold mvG
  rw [onK_at hz hy, Bool.false_or, gSo_I ht, gZ_I hx hy ht, gY_I hx hy ht, gX_I hx ht]
theorem ch_15 (l : LX B n h) (hd : 20 ≤ d) (hn0 : 0 < n) (hn : n ≤ 52) (m : TbC B h) (P : PtD B n h tl mo xe) (R : Reg B n h) (F : FlI B n h) (sp : SG n h (B + 117) T) (sx : SG n h xe S) (pv : PvC B h 1 nb) (nbb : 0 ≤ nb 0 ∧ nb 0 ≤ 47) :
    Vt 0 (cll PP (ev PP (gsF gv) B) d 255 [(2, rf (B + 92)), (0, (f : Int)), (0, (15 : Int))] h) (fun v h' => v = 1 ∧ FlE B n (chW B h tl) 8 (8 * (24 * n * n)) h h' ∧ SG n h' (B + 117) (tnG n (nb 0).toNat S)) := by
  obtain ⟨e12, e13, e14, pt, pm, px, -⟩ := P
  have px1 := px.1
  obtain ⟨w, ew⟩ : ∃ w : Nat, nb 0 = (w : Int) := ⟨(nb 0).toNat, by omega⟩
  refine Vt.inq (D := 19) hd (Nat.le_of_ble_eq_true rfl) rfl (fun d hd Q K => ?_)
  refine Ends.eq (b255_0 l (by omega)) ?_
  show Ends (ev PP (gsF gv) B d 255 168 _ [] h) Q
  refine Ends.eq (b255_168 l (by omega)) ?_
  refine Ends.cv l (by decide +kernel) (c_clear (a := B + 117) l (by omega) hn sp.1 (by omega)) (fun h2 l2 _ _ _ ⟨f2, s2⟩ => ?_)
  have g2 := f2.fr.agr
  have p2 := pv.agr g2 (fun k z => by omega)
  have s2' : SG n h2 (B + 117) (fun _ => false) := SG.of hn0 s2 (fun _ _ _ _ _ _ _ _ => rfl)
  have m2 : TbC B h2 := m.fr f2.fr (fun c _ _ z => by omega)
  refine Ends.eq (b255_179 l2 (by omega)) ?_
  rw [show Int.toNat 0 = 0 from rfl, p2 0 (by decide), ew]
  refine Ends.cv l2 (by decide +kernel) (c_way319 l2 (by omega) hn (w := w) (by omega)) (fun h3 l3 _ _ _ ⟨g3, t3⟩ => ?_)
  refine Ends.eq (b255_189 l3 (by omega)) ?_
  have m3 : TbC B h3 := m2.fr (A := fun c => c = B + 106 ∨ c = B + 107 ∨ c = B + 108) g3.fr (fun c _ _ => by omega)
  rw [g3.at _ _ (fun z => by unfold wayW at z; omega), g2.at _ _ (show ¬ B + 92 = B + 117 by omega), e14]
  refine Ends.cv l3 (by decide +kernel) (c_uniteTurned l3 (by omega) hn0 hn m3 (s2'.agr g3 (fun k z => by unfold wayW at z; omega)) ((sx.agr g2 (fun _ z => by omega)).agr g3 (fun k z => by unfold wayW at z; omega)) (by omega) (by omega) (Or.inl rfl) (Or.inr px1) t3 (wa_per ⟨w, by omega⟩)) (fun h4 l4 _ _ _ ⟨f4, R', s4, r4⟩ => ?_)
  refine Ends.eq (b255_216 l4 (by omega)) ?_
  have G : Agr (fun c _ => c = B + 117 ∨ c = B + 54 ∨ c = B + 55 ∨ c = B + 106 ∨ c = B + 107 ∨ c = B + 108) h h4 := ((g2.sub (fun c k z => by omega)).tr g3 (fun c k z => by unfold wayW at z; omega)).tr f4.agr (fun c k z => by omega)
  refine Ends.sm (K _ _ ⟨rfl, G.fle l.2.2 R F (fun c k z w => by omega) (fun a k z w => by have := F.own z; omega) (fun c k z => by unfold chW; omega), s4.congr hn0 (fun g hg => Bool.eq_iff_iff.mpr ?_)⟩)
  rw [r4 g hg, tnG_iff, ew, tn]
  unfold taS
  constructor
  · rintro (z | ⟨g0, a1, _, a2, a3⟩)
    · exact absurd z Bool.false_ne_true
    · exact ⟨g0, a1, a2, by rw [← tuG_wa]; exact a3⟩
  · rintro ⟨g0, a1, a2, a3⟩
    exact Or.inr ⟨g0, a1, trivial, a2, by rw [tuG_wa]; exact a3⟩
theorem ch_16 (l : LX B n h) (hd : 20 ≤ d) (hn4 : 4 ≤ n) (hn : n ≤ 52) (R : Reg B n h) (F : FlI B n h) (sp : SG n h (B + 117) S) (pv : PvC B h 1 nb) (nbb : 1 ≤ nb 0 ∧ nb 0 ≤ 8) :
    Vt 0 (cll PP (ev PP (gsF gv) B) d 255 [(2, rf (B + 92)), (0, (f : Int)), (0, (16 : Int))] h) (fun v h' => v = 1 ∧ FlE B n (chW B h tl) 8 (8 * (24 * n * n)) h h' ∧ SG n h' (B + 117) (grk n S (nb 0).toNat)) := by
  obtain ⟨w, ew⟩ : ∃ w : Nat, nb 0 = (w : Int) := ⟨(nb 0).toNat, by omega⟩
  refine Vt.inq (D := 19) hd (Nat.le_of_ble_eq_true rfl) rfl (fun d hd Q K => ?_)
  refine Ends.eq (b255_0 l (by omega)) ?_
  show Ends (ev PP (gsF gv) B d 255 218 _ [] h) Q
  refine Ends.eq (b255_218 l (by omega)) ?_
  rw [show Int.toNat 0 = 0 from rfl, pv 0 (by decide), ew]
  refine Ends.cv l (by decide +kernel) (c_growK (a := B + 117) (b := w) l (by omega) hn4 hn sp (by omega) (by omega)) (fun h2 l2 _ _ _ ⟨f2, s2⟩ => ?_)
  refine Ends.eq (b255_235 l2 (by omega)) ?_
  exact Ends.sm (K _ _ ⟨rfl, f2.agr.fle l.2.2 R F (fun c k z w => by omega) (fun a k z w => by have := F.own z; omega) (fun c k z => by unfold chW; omega), by rw [ew]; exact s2⟩)
theorem ch_17 (l : LX B n h) (hd : 20 ≤ d) (hn4 : 4 ≤ n) (hn : n ≤ 52) (R : Reg B n h) (F : FlI B n h) (sp : SG n h (B + 117) S) (pv : PvC B h 1 nb) (nbb : 1 ≤ nb 0 ∧ nb 0 ≤ 8) :
    Vt 0 (cll PP (ev PP (gsF gv) B) d 255 [(2, rf (B + 92)), (0, (f : Int)), (0, (17 : Int))] h) (fun v h' => v = 1 ∧ FlE B n (chW B h tl) 8 (8 * (24 * n * n)) h h' ∧ SG n h' (B + 117) (shK n (nb 0).toNat S)) := by
  obtain ⟨w, ew⟩ : ∃ w : Nat, nb 0 = (w : Int) := ⟨(nb 0).toNat, by omega⟩
  refine Vt.inq (D := 19) hd (Nat.le_of_ble_eq_true rfl) rfl (fun d hd Q K => ?_)
  refine Ends.eq (b255_0 l (by omega)) ?_
  show Ends (ev PP (gsF gv) B d 255 237 _ [] h) Q
  refine Ends.eq (b255_237 l (by omega)) ?_
  rw [show Int.toNat 0 = 0 from rfl, pv 0 (by decide), ew]
  refine Ends.cv l (by decide +kernel) (c_shrinkK (a := B + 117) (b := w) l (by omega) hn4 hn sp (by omega) (by omega)) (fun h2 l2 _ _ _ ⟨f2, s2⟩ => ?_)
  refine Ends.eq (b255_254 l2 (by omega)) ?_
  exact Ends.sm (K _ _ ⟨rfl, f2.agr.fle l.2.2 R F (fun c k z w => by omega) (fun a k z w => by have := F.own z; omega) (fun c k z => by unfold chW; omega), by rw [ew]; exact s2⟩)
theorem ch_19 (l : LX B n h) (hd : 20 ≤ d) (hn0 : 0 < n) (hn : n ≤ 52) (m : TbC B h) (R : Reg B n h) (F : FlI B n h) (sp : SG n h (B + 117) S) (pv : PvC B h 4 nb) (b0 : -1 ≤ nb 0 ∧ nb 0 ≤ 1) (b1 : -1 ≤ nb 1 ∧ nb 1 ≤ 1) (b2 : -1 ≤ nb 2 ∧ nb 2 ≤ 1) (b3 : -200 ≤ nb 3 ∧ nb 3 ≤ 200) :
    Vt 0 (cll PP (ev PP (gsF gv) B) d 255 [(2, rf (B + 92)), (0, (f : Int)), (0, (19 : Int))] h) (fun v h' => v = 1 ∧ FlE B n (chW B h tl) 8 (8 * (24 * n * n)) h h' ∧ SG n h' (B + 117) (fun g => S g && spS n (nb 0) (nb 1) (nb 2) (nb 3) g)) := by
  refine Vt.inq (D := 19) hd (Nat.le_of_ble_eq_true rfl) rfl (fun d hd Q K => ?_)
  refine Ends.eq (b255_0 l (by omega)) ?_
  show Ends (ev PP (gsF gv) B d 255 262 _ [] h) Q
  refine Ends.eq (b255_262 l (by omega)) ?_
  refine Ends.cv l (by decide +kernel) (c_split310 l (by omega) hn0 hn m sp (pv 0 (by decide)) (pv 1 (by decide)) (pv 2 (by decide)) (pv 3 (by decide)) b0 b1 b2 (by omega)) (fun h2 l2 _ _ _ ⟨g2, s2⟩ => ?_)
  refine Ends.eq (b255_266 l2 (by omega)) ?_
  exact Ends.sm (K _ _ ⟨rfl, g2.fle l.2.2 R F (fun c k z w => by omega) (fun a k z w => by have := F.own z; omega) (fun c k z => Or.inl z), s2⟩)
theorem ch_22 (l : LX B n h) (hd : 26 ≤ d) (hn0 : 0 < n) (hn : n ≤ 52) (m : TbC B h) (so : SoC B h) (P : PtD B n h tl mo xe) (R : Reg B n h) (F : FlI B n h) (sp : SG n h (B + 117) T) (sx : SG n h xe S) :
    Vt 0 (cll PP (ev PP (gsF gv) B) d 255 [(2, rf (B + 92)), (0, (f : Int)), (0, (22 : Int))] h) (fun v h' => v = 1 ∧ FlE B n (chW B h tl) 8 (8 * (24 * n * n)) h h' ∧ ∃ T best, SG n h' (B + 117) T ∧ grB n S (rw3 (8 * n) (8 * n) 0 0) best T (fun _ => false)) := by
  obtain ⟨e12, e13, e14, pt, pm, ⟨px1, px2, px3, px4⟩, -⟩ := P
  refine Vt.inq (D := 25) hd (Nat.le_of_ble_eq_true rfl) rfl (fun d hd Q K => ?_)
  refine Ends.eq (b255_0 l (by omega)) ?_
  show Ends (ev PP (gsF gv) B d 255 268 _ [] h) Q
  refine Ends.eq (b255_268 l (by omega)) ?_
  refine Ends.cv l (by decide +kernel) (c_lump281 l (by omega) hn0 hn m so R F e14 px1 px2 px3 sx sp) (fun h2 l2 _ _ _ ⟨⟨T', best, s2, r2⟩, X2, R2, F2, L2⟩ => ?_)
  refine Ends.eq (b255_272 l2 (by omega)) ?_
  refine Ends.sm (K _ _ ⟨rfl, ⟨X2.sub (fun c k _ z => ?_) (Nat.le_refl _) (by omega), R2, F2, L2⟩, T', best, s2, r2⟩)
  unfold w281 at z
  unfold chW
  rcases z with z | z | z | z
  · omega
  · exact Or.inr (Or.inr (Or.inr (Or.inr (Or.inr (Or.inr (Or.inr (Or.inr (Or.inr (Or.inr (Or.inl z))))))))))
  · omega
  · omega
theorem v289_at {q : AH} {x : Int} (e : ∀ k, hv q (B + 2) k = hv h (B + 2) k) : v289 B q x = v289 B h x := by unfold v289 v447; exact e _
theorem ch_26 (l : LX B n h) (hd : 20 ≤ d) (hn0 : 0 < n) (hn : n ≤ 52) (m : TbC B h) (P : PtD B n h tl mo xe) (R : Reg B n h) (F : FlI B n h) (sp : SG n h (B + 117) S) (qo : q289 B h (f : Int)) (ho : v289 B h (f : Int) = (ax : Int)) (hax : ax < 3) (pv : PvC B h 3 nb) (b0 : -200 ≤ nb 0 ∧ nb 0 ≤ 200) (b1 : -200 ≤ nb 1 ∧ nb 1 ≤ 200) (b2 : 1 ≤ nb 2 ∧ nb 2 ≤ 64) :
    Vt 0 (cll PP (ev PP (gsF gv) B) d 255 [(2, rf (B + 92)), (0, (f : Int)), (0, (26 : Int))] h) (fun v h' => FlE B n (chW B h tl) 8 (8 * (24 * n * n)) h h' ∧ (((∀ g, g < gN n → drG n ax nb g = false) ∧ v = 0 ∧ hv h' (B + 92) 27 = 4 ∧ hv h' (B + 92) 28 = 0 ∧ SG n h' (B + 117) S) ∨ ((∃ g, g < gN n ∧ drG n ax nb g = true) ∧ v = 1 ∧ SG n h' (B + 117) (fun g => S g && !drG n ax nb g)))) := by
  have P0 := P
  obtain ⟨e12, e13, e14, ⟨pt1, pt2, pt3, pt4⟩, ⟨pm1, pm2, pm3, pm4⟩, ⟨px1, px2, px3, px4⟩, ne1, ne2, ne3⟩ := P
  obtain ⟨r, er⟩ : ∃ r : Nat, nb 2 = (r : Int) := ⟨(nb 2).toNat, by omega⟩
  have nfl : ¬ FlO B h tl := scr_fl R F pt3
  refine Vt.inq (D := 19) hd (Nat.le_of_ble_eq_true rfl) rfl (fun d hd Q K => ?_)
  refine Ends.eq (b255_0 l (by omega)) ?_
  show Ends (ev PP (gsF gv) B d 255 274 _ [] h) Q
  refine Ends.eq (b255_274 l (by omega)) ?_
  rw [show Int.toNat 0 = 0 from rfl, show Int.toNat 1 = 1 from rfl, show Int.toNat 2 = 2 from rfl, pv 0 (by decide), pv 1 (by decide), pv 2 (by decide), er]
  refine Ends.cv l (by decide +kernel) (c_disc260 (r := r) l (by omega) hn (by omega) b0 b1) (fun h2 l2 _ _ _ ⟨g2, q2⟩ => ?_)
  refine Ends.eq (b255_296 l2 (by omega)) ?_
  rw [g2.at _ _ (show ¬ B + 92 = B + 114 by omega), e12]
  refine Ends.cv l2 (by decide +kernel) (c_clear (a := tl) l2 (by omega) hn (by rw [g2.hk]; exact pt4) (by omega)) (fun h3 l3 _ _ _ ⟨f3, s3⟩ => ?_)
  have g3 := f3.fr.agr
  have s3' : SG n h3 tl (fun _ => false) := SG.of hn0 s3 (fun _ _ _ _ _ _ _ _ => rfl)
  have G3 : Agr (fun c _ => c = B + 114 ∨ c = tl) h h3 := (g2.sub (fun c k z => Or.inl z)).tr g3 (fun c k z => Or.inr z)
  have m3 : TbC B h3 := m.ext l.2.2 G3.ext (fun c k h1 h2 w => by omega)
  refine Ends.eq (b255_307 l3 (by omega)) ?_
  rw [v289_at (h := h) (fun k => G3.at _ _ (by omega)), ho, G3.at _ _ (show ¬ (B + 92 = B + 114 ∨ B + 92 = tl) by omega), e12]
  refine Ends.g qo ?_
  refine Ends.cv l3 (by decide +kernel) (c_unitePrism (ax := ax) (a := tl) (b := B + 114) l3 (by omega) hn0 hn m3 s3' (q2.agr g3 (fun _ z => by omega)) (by omega) (by omega) (Or.inr pt1) hax (fr := 0) (to := (n : Int)) (by omega) (by omega)) (fun h4 l4 _ _ _ ⟨f4, s4⟩ => ?_)
  have G4 : Agr (fun c _ => c = B + 114 ∨ c = tl) h h4 := G3.tr f4.agr (fun c k z => Or.inr z)
  have s4' : SG n h4 tl (drG n ax nb) := SG.congr hn0 s4 (fun g hg => by
    show (false || prG n (dsQ r (nb 0) (nb 1)) ax 0 (n : Int) g) = hlG n ax (nb 0) (nb 1) 0 (n : Int) (nb 2) g
    unfold hlG
    rw [Bool.false_or, er, tn, if_neg (by omega), if_pos (by omega)])
  have P4 : PtD B n h4 tl mo xe := by
    have sc : ∀ a, Scr B h a → Scr B h4 a := fun a ⟨k, k1, k2⟩ => ⟨k, k1, by rw [G4.at _ _ (by omega)]; exact k2⟩
    refine ⟨?_, ?_, ?_, ⟨pt1, by rw [G4.nx]; exact pt2, sc _ pt3, by rw [G4.hk]; exact pt4⟩, ⟨pm1, by rw [G4.nx]; exact pm2, sc _ pm3, by rw [G4.hk]; exact pm4⟩, ⟨px1, by rw [G4.nx]; exact px2, sc _ px3, by rw [G4.hk]; exact px4⟩, ne1, ne2, ne3⟩
    · rw [G4.at _ _ (by omega)]; exact e12
    · rw [G4.at _ _ (by omega)]; exact e13
    · rw [G4.at _ _ (by omega)]; exact e14
  refine Ends.eq (b255_332 l4 (by omega)) ?_
  refine Ends.ct l4 (by decide +kernel) (by decide) (c_takeTool314 (op := 1) l4 (by omega) hn0 hn P4 (sp.agr G4 (fun _ z => by omega)) s4') (fun v h5 l5 _ _ _ ⟨g5, r5⟩ => ?_)
  refine Ends.eq (b255_337 l5 (by omega)) (Ends.g (by rcases r5 with ⟨_, z, _⟩ | ⟨_, z, _⟩ <;> omega) ?_)
  have G5 : Agr (fun c k => c = B + 114 ∨ c = tl ∨ c = B + 117 ∨ (c = B + 92 ∧ (k = 27 ∨ k = 28))) h h5 := (G4.sub (fun c k z => by omega)).tr g5 (fun c k z => Or.inr (Or.inr z))
  refine Ends.sm (K _ _ ⟨G5.fle l.2.2 R F (fun c k z w => by omega) (fun a k z w => by
    have := F.own z
    rcases w with w | w | w | w
    · omega
    · exact nfl (w ▸ z)
    · omega
    · omega) (fun c k z => by unfold chW; omega), r5⟩)
theorem mi_ta {g : Nat} {p : Int} : taG n (fun k => k) (fun k => decide (k = ax)) (fun k => if k = ax then p else 0) g = miG n ax p g := by
  have e : ∀ k, ta8 n (fun k => k) (fun k => decide (k = ax)) (fun k => if k = ax then p else 0) g k = mi8 n ax p g k := fun k => by
    unfold ta8 mi8
    by_cases w : k = ax
    · simp only [decide_eq_true w, if_pos w]; simp; omega
    · simp only [decide_eq_false w, if_neg w]; simp
  unfold taG miG
  rw [e, e, e]
theorem ch_27 (l : LX B n h) (hd : 20 ≤ d) (hn0 : 0 < n) (hn : n ≤ 52) (m : TbC B h) (P : PtD B n h tl mo xe) (R : Reg B n h) (F : FlI B n h) (sp : SG n h (B + 117) S) (sx : SG n h xe S) (pv : PvC B h 2 nb) (b0 : 0 ≤ nb 0 ∧ nb 0 ≤ 2) (b1 : -200 ≤ nb 1 ∧ nb 1 ≤ 200) :
    Vt 0 (cll PP (ev PP (gsF gv) B) d 255 [(2, rf (B + 92)), (0, (f : Int)), (0, (27 : Int))] h) (fun v h' => v = 1 ∧ FlE B n (chW B h tl) 8 (8 * (24 * n * n)) h h' ∧ SG n h' (B + 117) (fun g => S g || mrG n (nb 0).toNat (nb 1) S g)) := by
  obtain ⟨e12, e13, e14, pt, pm, ⟨px1, px2, px3, px4⟩, -⟩ := P
  obtain ⟨w, ew⟩ : ∃ w : Nat, nb 0 = (w : Int) := ⟨(nb 0).toNat, by omega⟩
  have hw : w < 3 := by omega
  refine Vt.inq (D := 19) hd (Nat.le_of_ble_eq_true rfl) rfl (fun d hd Q K => ?_)
  refine Ends.eq (b255_0 l (by omega)) ?_
  show Ends (ev PP (gsF gv) B d 255 338 _ [] h) Q
  refine Ends.eq (b255_338 l (by omega)) ?_
  rw [show Int.toNat 0 = 0 from rfl, show Int.toNat 1 = 1 from rfl, pv 0 (by decide), pv 1 (by decide), ew]
  refine Ends.cv l (by decide +kernel) (c_mirror285 (ax := w) (p := nb 1) l (by omega) hw (by omega)) (fun h2 l2 _ _ _ ⟨g2, t2⟩ => ?_)
  refine Ends.eq (b255_354 l2 (by omega)) ?_
  have m2 : TbC B h2 := m.fr (A := fun c => c = B + 106 ∨ c = B + 107 ∨ c = B + 108) g2.fr (fun c _ _ => by omega)
  rw [g2.at _ _ (fun z => by unfold wayW at z; omega), e14]
  refine Ends.cv l2 (by decide +kernel) (c_uniteTurned l2 (by omega) hn0 hn m2 (sp.agr g2 (fun k z => by unfold wayW at z; omega)) (sx.agr g2 (fun k z => by unfold wayW at z; omega)) (by omega) (by omega) (Or.inl rfl) (Or.inr px1) t2 (Or.inl ⟨rfl, rfl, rfl⟩)) (fun h4 l4 _ _ _ ⟨f4, R', s4, r4⟩ => ?_)
  refine Ends.eq (b255_381 l4 (by omega)) ?_
  have G : Agr (fun c _ => c = B + 117 ∨ c = B + 54 ∨ c = B + 55 ∨ c = B + 106 ∨ c = B + 107 ∨ c = B + 108) h h4 := (g2.sub (fun c k z => by unfold wayW at z; omega)).tr f4.agr (fun c k z => by omega)
  refine Ends.sm (K _ _ ⟨rfl, G.fle l.2.2 R F (fun c k z w => by omega) (fun a k z w => by have := F.own z; omega) (fun c k z => by unfold chW; omega), s4.congr hn0 (fun g hg => Bool.eq_iff_iff.mpr ?_)⟩)
  rw [r4 g hg, Bool.or_eq_true, ew, tn, mrG_iff]
  refine or_congr Iff.rfl ?_
  unfold taS miS
  constructor
  · rintro ⟨g0, a1, _, a2, a3⟩
    exact ⟨g0, a1, a2, by rw [← mi_ta]; exact a3⟩
  · rintro ⟨g0, a1, a2, a3⟩
    exact ⟨g0, a1, trivial, a2, by rw [mi_ta]; exact a3⟩
theorem ch_28 (l : LX B n h) (hd : 24 ≤ d) (hn0 : 0 < n) (hn : n ≤ 52) (m : TbC B h) (P : PtD B n h tl mo xe) (R : Reg B n h) (F : FlI B n h) (sp : SG n h (B + 117) S) :
    Vt 0 (cll PP (ev PP (gsF gv) B) d 255 [(2, rf (B + 92)), (0, (f : Int)), (0, (28 : Int))] h) (fun v h' => v = 1 ∧ FlE B n (chW B h tl) 8 (8 * (24 * n * n)) h h' ∧ SG n h' (B + 117) (hoG n S)) := by
  obtain ⟨e12, e13, e14, ⟨pt1, pt2, pt3, pt4⟩, pm, px, -⟩ := P
  refine Vt.inq (D := 23) hd (Nat.le_of_ble_eq_true rfl) rfl (fun d hd Q K => ?_)
  refine Ends.eq (b255_0 l (by omega)) ?_
  show Ends (ev PP (gsF gv) B d 255 383 _ [] h) Q
  refine Ends.eq (b255_383 l (by omega)) ?_
  refine Ends.cv l (by decide +kernel) (c_fillHollows271 l (by omega) hn0 hn m R F e12 pt1 pt2 pt3 pt4 sp) (fun h2 l2 _ _ _ ⟨⟨T', s2, r2⟩, X2, R2, F2, L2⟩ => ?_)
  refine Ends.eq (b255_387 l2 (by omega)) ?_
  refine Ends.sm (K _ _ ⟨rfl, ⟨X2.sub (fun c k _ z => ?_) (by omega) (by omega), R2, F2, L2⟩, s2.congr hn0 (fun g hg => Bool.eq_iff_iff.mpr ((r2 g hg).trans hoG_iff.symm))⟩)
  unfold w271 at z
  unfold chW
  rcases z with z | z | z | z
  · omega
  · exact Or.inr (Or.inr (Or.inr (Or.inr (Or.inr (Or.inr (Or.inr (Or.inr (Or.inr (Or.inr (Or.inl z))))))))))
  · omega
  · omega
theorem ch_29 (l : LX B n h) (hd : 20 ≤ d) (hn0 : 0 < n) (hn : n ≤ 52) (m : TbC B h) (P : PtD B n h tl mo xe) (R : Reg B n h) (F : FlI B n h) (sp : SG n h (B + 117) S) (sx : SG n h xe S) (pv : PvC B h 1 nb) (nbb : 1 ≤ nb 0 ∧ nb 0 ≤ 4) :
    Vt 0 (cll PP (ev PP (gsF gv) B) d 255 [(2, rf (B + 92)), (0, (f : Int)), (0, (29 : Int))] h) (fun v h' => v = 1 ∧ FlE B n (chW B h tl) 8 (8 * (24 * n * n)) h h' ∧ SG n h' (B + 117) (fun g => S g && decide (nb 0 ≤ frn n S g))) := by
  obtain ⟨e12, e13, e14, pt, pm, ⟨px1, px2, px3, px4⟩, -⟩ := P
  refine Vt.inq (D := 19) hd (Nat.le_of_ble_eq_true rfl) rfl (fun d hd Q K => ?_)
  refine Ends.eq (b255_0 l (by omega)) ?_
  show Ends (ev PP (gsF gv) B d 255 389 _ [] h) Q
  refine Ends.eq (b255_389 l (by omega)) ?_
  refine Ends.cv l (by decide +kernel) (c_clean256 l (by omega) hn0 hn m e14 px1 sp sx (pv 0 (by decide)) nbb.1 nbb.2) (fun h2 l2 _ _ _ ⟨g2, s2⟩ => ?_)
  refine Ends.eq (b255_393 l2 (by omega)) ?_
  exact Ends.sm (K _ _ ⟨rfl, g2.fle l.2.2 R F (fun c k z w => by omega) (fun a k z w => by have := F.own z; omega) (fun c k z => Or.inl z), s2⟩)
end DALT
