/-! L3: what alters the solid as it is (model): kinds without names of faces -/
section MALT
variable {gv : Nat → Int} {B n d t ax f1 : Nat} {h : AH} {S T R0 : Nat → Bool} {nb : Nat → Int}
/-- what a drill takes -/
def drG (n ax : Nat) (nb : Nat → Int) (g : Nat) : Bool := hlG n ax (nb 0) (nb 1) 0 (n : Int) (nb 2) g
noncomputable def mrG (n a : Nat) (p : Int) (S : Nat → Bool) (g : Nat) : Bool := @decide (miS n a p S (gN n) g) (Classical.propDecidable _)
theorem mrG_iff {a g : Nat} {p : Int} : mrG n a p S g = true ↔ miS n a p S (gN n) g := by unfold mrG; exact @decide_eq_true_iff _ (Classical.propDecidable _)
/-- with all its hollows -/
noncomputable def hoG (n : Nat) (S : Nat → Bool) (g : Nat) : Bool := @decide (S g = true ∨ (S g = false ∧ ¬ bdR n (fun g => !S g) g)) (Classical.propDecidable _)
theorem hoG_iff {g : Nat} : hoG n S g = true ↔ S g = true ∨ (S g = false ∧ ¬ bdR n (fun g => !S g) g) := by unfold hoG; exact @decide_eq_true_iff _ (Classical.propDecidable _)
/-- what these kinds make of a solid -/
noncomputable def alS (n kd ax : Nat) (nb : Nat → Int) (S : Nat → Bool) (g : Nat) : Bool :=
  if kd = 14 then mvG n S (nb 0) (nb 1) (nb 2) g else if kd = 15 then tnG n (nb 0).toNat S g else if kd = 16 then grk n S (nb 0).toNat g else if kd = 17 then shK n (nb 0).toNat S g
  else if kd = 19 then S g && spS n (nb 0) (nb 1) (nb 2) (nb 3) g else if kd = 26 then S g && !drG n ax nb g else if kd = 27 then S g || mrG n (nb 0).toNat (nb 1) S g else if kd = 28 then hoG n S g else S g && decide (nb 0 ≤ frn n S g)
/-- where the model writes when it alters -/
def alW (B n : Nat) : Nat → Nat → Prop := fun c k => (c = B + 236 ∧ wN n * 12 ≤ k) ∨ c = B + 186 ∨ (c = B + 149 ∧ (74 ≤ k ∧ k ≤ 78 ∨ 90 ≤ k ∧ k ≤ 92 ∨ k = 100 ∨ k = 101)) ∨ c = B + 189 ∨ c = B + 201 ∨ c = B + 202
theorem al_149 {c k : Nat} (w : c = B + 149 ∧ (74 ≤ k ∧ k ≤ 78 ∨ 90 ≤ k ∧ k ≤ 92 ∨ k = 100 ∨ k = 101)) : alW B n c k := Or.inr (Or.inr (Or.inl w))
theorem wto_al {i c k : Nat} (ht : 12 ≤ t) (w : wto B n t i c k) : alW B n c k := by
  obtain ⟨a, b, -⟩ := w
  have := Nat.mul_le_mul_left (wN n) ht
  exact Or.inl ⟨a, by omega⟩
theorem al_row {s : Nat} {q : AH} (b : MB B n h s S) (hs : s ≤ 11) (g : Agr (alW B n) h q) : MB B n q s S := b.agr g (fun k hk z => by
  have := Nat.mul_le_mul_left (wN n) hs
  unfold alW at z
  omega)
theorem al_tb {q : AH} (m : TbM B h) (g : Agr (alW B n) h q) : TbM B q := m.agr g (fun c k _ _ _ z => by unfold alW at z; omega)
theorem al_pv {m : Nat} {q : AH} (b : PvM B h m nb) (g : Agr (alW B n) h q) : PvM B q m nb := b.agr g (fun k z => by unfold alW at z; omega)
theorem c_because552 {x y : Int} (l : LX B n h) (hd : 10 ≤ d) : Vt 0 (cll PP (ev PP (gsF gv) B) d 552 [(2, rf (B + 149)), (0, x), (0, y)] h) (fun v h' => v = 0 ∧ Agr (fun c k => c = B + 149 ∧ (k = 100 ∨ k = 101)) h h' ∧ hv h' (B + 149) 100 = x ∧ hv h' (B + 149) 101 = y) := by
  refine Vt.inq (D := 9) hd (Nat.le_of_ble_eq_true rfl) rfl (fun d hd Q K => ?_)
  refine Ends.eq (b552_0 l (by omega)) ?_
  exact Ends.sm (K _ _ ⟨rfl, (Agr.rf.set ⟨rfl, Or.inl rfl⟩).set ⟨rfl, Or.inr rfl⟩, by rw [hv_set_ne (by omega), hv_set_at], hv_set_at ..⟩)
theorem be_al {c k : Nat} (w : c = B + 149 ∧ (k = 100 ∨ k = 101)) : alW B n c k := al_149 ⟨w.1, Or.inr (Or.inr w.2)⟩
/-- the solid as it is by op with the tool -/
theorem c_with865 {op : Nat} (l : LX B n h) (hd : 12 ≤ d) (hn : n ≤ 52) (b : MB B n h 11 S) (b2 : MB B n h 12 T) (ho : op ≤ 2) :
    Vt 0 (cll PP (ev PP (gsF gv) B) d 865 [(2, rf (B + 149)), (0, (op : Int))] h) (fun v h' => Agr (alW B n) h h' ∧ (((∀ g, g < gN n → T g = false) ∧ v = 0 ∧ hv h' (B + 149) 100 = 4 ∧ hv h' (B + 149) 101 = 0) ∨ ((∃ g, g < gN n ∧ T g = true) ∧ v = 1 ∧ MB B n h' 18 (fun g => jn (op : Int) (S g) (T g))))) := by
  refine Vt.inq (D := 11) hd (Nat.le_of_ble_eq_true rfl) rfl (fun d hd Q K => ?_)
  refine Ends.eq (b865_0 l (by omega)) ?_
  refine Ends.ct l (by decide +kernel) (by decide) (c_isEmptyM (s := 12) l (by omega) hn (by decide) b2) (fun v q l1 _ _ _ ⟨e1, e2⟩ => ?_)
  obtain rfl := e1
  refine Ends.eq (b865_6 l1 (by omega)) ?_
  rcases e2 with ⟨rfl, e⟩ | ⟨rfl, e⟩
  · refine Ends.b0 (fun z => absurd z (by decide)) (fun _ => ?_)
    refine Ends.ct l1 (by decide +kernel) (by decide) (c_because552 (x := 4) (y := 0) l1 (by omega)) (fun v q2 l2 _ _ _ ⟨e3, g2, r1, r2⟩ => ?_)
    obtain rfl := e3
    refine Ends.eq (b865_15 l2 (by omega)) (Ends.g (by decide) ?_)
    exact Ends.sm (K _ _ ⟨g2.sub (fun c k z => be_al z), Or.inl ⟨e, rfl, r1, r2⟩⟩)
  · refine Ends.b0 (fun _ => ?_) (fun z => absurd rfl z)
    refine Ends.cv l1 (by decide +kernel) (c_combineM (s := 11) (t := 12) (u := 18) l1 (by omega) hn (by decide) (by decide) (by decide) b b2 (op := (op : Int)) (by omega)) (fun q2 l2 _ _ _ ⟨g2, m2⟩ => ?_)
    refine Ends.eq (b865_27 l2 (by omega)) ?_
    exact Ends.sm (K _ _ ⟨g2.sub (fun c k z => wto_al (by decide) z), Or.inr ⟨e, rfl, m2⟩⟩)
theorem v623_is {x : Int} (hn : n ≤ 52) : v623 n x = if ((n : Int) < x ∨ x < -(n : Int)) then 1 else 0 := by
  unfold v623
  rw [show uop 0 ((n : Nat) : Int) = -(n : Int) from neg32 (by omega) (by omega), ct4, ct3]
  by_cases a : (n : Int) < x
  · rw [if_pos a, if_pos (Or.inl a)]
  · rw [if_neg a]
    by_cases b : x < -(n : Int)
    · rw [if_pos b, if_pos (Or.inr b)]
    · rw [if_neg b, if_neg (by omega)]
theorem al_14 (l : LX B n h) (hd : 20 ≤ d) (hn : n ≤ 52) (m : TbM B h) (b : MB B n h 11 S) (F1 : YF B f1 h) (hk : hv h f1 1 = 14) (pv : PvM B h 3 nb) (nbb : ∀ k, k < 3 → -200 ≤ nb k ∧ nb k ≤ 200) :
    Vt 0 (cll PP (ev PP (gsF gv) B) d 546 [(2, rf (B + 149)), (2, rf f1)] h) (fun v h' => v = 1 ∧ Agr (alW B n) h h' ∧ MB B n h' 18 (mvG n S (nb 0) (nb 1) (nb 2))) := by
  refine Vt.inq (D := 19) hd (Nat.le_of_ble_eq_true rfl) rfl (fun d hd Q K => ?_)
  have n0 := nbb 0 (by decide)
  have n1 := nbb 1 (by decide)
  have n2 := nbb 2 (by decide)
  refine Ends.eq (b546_0 l (by omega) F1) ?_
  rw [hk]
  show Ends (ev PP (gsF gv) B d 546 80 _ [] h) Q
  refine Ends.eq (b546_80 l (by omega)) ?_
  rw [show Int.toNat 0 = 0 from rfl, show Int.toNat 1 = 1 from rfl, show Int.toNat 2 = 2 from rfl, pv 0 (by decide), pv 1 (by decide), pv 2 (by decide), v623_is hn, v623_is hn, v623_is hn]
  have far : (((n : Int) < nb 0 ∨ nb 0 < -(n : Int)) ∨ ((n : Int) < nb 1 ∨ nb 1 < -(n : Int)) ∨ (n : Int) < nb 2 ∨ nb 2 < -(n : Int)) → Ends (ev PP (gsF gv) B d 546 119 [(2, rf (B + 149)), (2, rf f1), (9, 0), (9, 0)] [] h) Q := fun w => by
    refine Ends.eq (b546_119 l (by omega)) ?_
    refine Ends.cv l (by decide +kernel) (c_empty (s := 18) l (by omega) hn (by decide)) (fun q2 l2 _ _ _ ⟨g2, m2⟩ => ?_)
    refine Ends.eq (b546_125 l2 (by omega)) (Ends.eq (b546_155 l2 (by omega)) ?_)
    exact Ends.sm (K _ _ ⟨rfl, g2.sub (fun c k z => wto_al (by decide) z), m2.congr (fun x hx => (mvG_far hx w).symm)⟩)
  refine Ends.b1 (fun z => far (Or.inl ?_)) (fun z0 => Ends.b1 (fun z => far (Or.inr (Or.inl ?_))) (fun z1 => Ends.b0 (fun z2 => ?_) (fun z => far (Or.inr (Or.inr ?_)))))
  · by_cases w : (n : Int) < nb 0 ∨ nb 0 < -(n : Int)
    · exact w
    · rw [if_neg w] at z; exact absurd rfl z
  · by_cases w : (n : Int) < nb 1 ∨ nb 1 < -(n : Int)
    · exact w
    · rw [if_neg w] at z; exact absurd rfl z
  · refine Ends.cv l (by decide +kernel) (c_turnM (s := 11) (t := 18) (w := 0) l (by omega) hn (by decide) (by decide) (by decide) m b (by decide) (dx := nb 0) (dy := nb 1) (dz := nb 2) (by omega) (by omega) (by omega)) (fun q2 l2 _ _ _ ⟨g2, ⟨R, mR, hR⟩, _⟩ => ?_)
    refine Ends.eq (b546_155 l2 (by omega)) ?_
    refine Ends.sm (K _ _ ⟨rfl, g2.sub (fun c k z => ?_), mR.congr (fun x hx => Bool.eq_iff_iff.mpr ((hR x hx).trans (mvG_iff hn hx).symm))⟩)
    rcases z with z | z | z
    · exact wto_al (by decide) z
    · exact Or.inr (Or.inl z)
    · exact al_149 ⟨z.1, by omega⟩
  · by_cases w : (n : Int) < nb 2 ∨ nb 2 < -(n : Int)
    · exact w
    · rw [if_neg w] at z; exact absurd rfl z
theorem al_15 (l : LX B n h) (hd : 20 ≤ d) (hn : n ≤ 52) (m : TbM B h) (b : MB B n h 11 S) (F1 : YF B f1 h) (hk : hv h f1 1 = 15) (pv : PvM B h 1 nb) (nbb : 0 ≤ nb 0 ∧ nb 0 ≤ 47) :
    Vt 0 (cll PP (ev PP (gsF gv) B) d 546 [(2, rf (B + 149)), (2, rf f1)] h) (fun v h' => v = 1 ∧ Agr (alW B n) h h' ∧ MB B n h' 18 (tnG n (nb 0).toNat S)) := by
  refine Vt.inq (D := 19) hd (Nat.le_of_ble_eq_true rfl) rfl (fun d hd Q K => ?_)
  obtain ⟨w, ew⟩ : ∃ w : Nat, nb 0 = (w : Int) := ⟨(nb 0).toNat, by omega⟩
  refine Ends.eq (b546_0 l (by omega) F1) ?_
  rw [hk]
  show Ends (ev PP (gsF gv) B d 546 157 _ [] h) Q
  refine Ends.eq (b546_157 l (by omega)) ?_
  rw [show Int.toNat 0 = 0 from rfl, pv 0 (by decide), ew]
  refine Ends.cv l (by decide +kernel) (c_turnM (s := 11) (t := 18) (w := w) l (by omega) hn (by decide) (by decide) (by decide) m b (by omega) (dx := 0) (dy := 0) (dz := 0) (by omega) (by omega) (by omega)) (fun q2 l2 _ _ _ ⟨g2, ⟨R, mR, hR⟩, _⟩ => ?_)
  refine Ends.eq (b546_174 l2 (by omega)) ?_
  refine Ends.sm (K _ _ ⟨rfl, g2.sub (fun c k z => ?_), mR.congr (fun x hx => Bool.eq_iff_iff.mpr ((hR x hx).trans (by rw [ew]; exact tnG_iff.symm)))⟩)
  rcases z with z | z | z
  · exact wto_al (by decide) z
  · exact Or.inr (Or.inl z)
  · exact al_149 ⟨z.1, by omega⟩
theorem al_16 (l : LX B n h) (hd : 20 ≤ d) (hn : n ≤ 52) (m : TbM B h) (b : MB B n h 11 S) (F1 : YF B f1 h) (hk : hv h f1 1 = 16) (pv : PvM B h 1 nb) (nbb : 1 ≤ nb 0 ∧ nb 0 ≤ 8) :
    Vt 0 (cll PP (ev PP (gsF gv) B) d 546 [(2, rf (B + 149)), (2, rf f1)] h) (fun v h' => v = 1 ∧ Agr (alW B n) h h' ∧ MB B n h' 18 (grk n S (nb 0).toNat)) := by
  refine Vt.inq (D := 19) hd (Nat.le_of_ble_eq_true rfl) rfl (fun d hd Q K => ?_)
  obtain ⟨w, ew⟩ : ∃ w : Nat, nb 0 = (w : Int) := ⟨(nb 0).toNat, by omega⟩
  refine Ends.eq (b546_0 l (by omega) F1) ?_
  rw [hk]
  show Ends (ev PP (gsF gv) B d 546 176 _ [] h) Q
  refine Ends.eq (b546_176 l (by omega)) ?_
  rw [show Int.toNat 0 = 0 from rfl, pv 0 (by decide), ew]
  refine Ends.cv l (by decide +kernel) (c_growM (s := 11) (t := 13) l (by omega) hn (by decide) (by decide) (by decide) b (r := w) (by omega)) (fun q2 l2 _ _ _ ⟨g2, R, mR, hR⟩ => ?_)
  refine Ends.eq (b546_190 l2 (by omega)) ?_
  refine Ends.cv l2 (by decide +kernel) (c_copyM (s := 13) (t := 18) l2 (by omega) hn (by decide) (by decide) mR) (fun q3 l3 _ _ _ ⟨g3, m3⟩ => ?_)
  refine Ends.eq (b546_198 l3 (by omega)) ?_
  refine Ends.sm (K _ _ ⟨rfl, (g2.sub (W' := alW B n) (fun c k z => ?_)).tr g3 (fun c k z => wto_al (by decide) z), m3.congr (fun x hx => Bool.eq_iff_iff.mpr ((hR x hx).trans (by rw [ew]; exact (grk_near w hx).symm)))⟩)
  rcases z with z | z | z
  · exact wto_al (by decide) z
  · exact wto_al (by decide) z
  · exact wto_al (by decide) z
theorem al_17 (l : LX B n h) (hd : 20 ≤ d) (hn0 : 0 < n) (hn : n ≤ 52) (b : MB B n h 11 S) (F1 : YF B f1 h) (hk : hv h f1 1 = 17) (pv : PvM B h 1 nb) (nbb : 1 ≤ nb 0 ∧ nb 0 ≤ 8) :
    Vt 0 (cll PP (ev PP (gsF gv) B) d 546 [(2, rf (B + 149)), (2, rf f1)] h) (fun v h' => v = 1 ∧ Agr (alW B n) h h' ∧ MB B n h' 18 (shK n (nb 0).toNat S)) := by
  refine Vt.inq (D := 19) hd (Nat.le_of_ble_eq_true rfl) rfl (fun d hd Q K => ?_)
  obtain ⟨w, ew⟩ : ∃ w : Nat, nb 0 = (w : Int) := ⟨(nb 0).toNat, by omega⟩
  refine Ends.eq (b546_0 l (by omega) F1) ?_
  rw [hk]
  show Ends (ev PP (gsF gv) B d 546 200 _ [] h) Q
  refine Ends.eq (b546_200 l (by omega)) ?_
  rw [show Int.toNat 0 = 0 from rfl, pv 0 (by decide), ew]
  refine Ends.cv l (by decide +kernel) (c_shrinkM (s := 11) (t := 13) l (by omega) hn0 hn (by decide) (by decide) b (r := w) (by omega)) (fun q2 l2 _ _ _ ⟨g2, R, mR, hR⟩ => ?_)
  refine Ends.eq (b546_214 l2 (by omega)) ?_
  refine Ends.cv l2 (by decide +kernel) (c_copyM (s := 13) (t := 18) l2 (by omega) hn (by decide) (by decide) mR) (fun q3 l3 _ _ _ ⟨g3, m3⟩ => ?_)
  refine Ends.eq (b546_222 l3 (by omega)) ?_
  refine Ends.sm (K _ _ ⟨rfl, (g2.sub (W' := alW B n) (fun c k z => ?_)).tr g3 (fun c k z => wto_al (by decide) z), m3.congr (fun x hx => Bool.eq_iff_iff.mpr ((hR x hx).trans (by rw [ew]; exact shK_iff.symm)))⟩)
  rcases z with (z | z | z) | z
  · exact wto_al (by decide) z
  · exact wto_al (by decide) z
  · exact wto_al (by decide) z
  · exact wto_al (by decide) z
theorem sp_val {g : Nat} (hn : n ≤ 52) (hg : g < gN n) (b0 : -1 ≤ nb 0 ∧ nb 0 ≤ 1) (b1 : -1 ≤ nb 1 ∧ nb 1 ≤ 1) (b2 : -1 ≤ nb 2 ∧ nb 2 ≤ 1) : bop32 96 (bop32 96 (bop32 104 (nb 0) ((g8 n g 0 : Nat) : Int)) (bop32 104 (nb 1) ((g8 n g 1 : Nat) : Int))) (bop32 104 (nb 2) ((g8 n g 2 : Nat) : Int)) = nb 0 * ((g8 n g 0 : Nat) : Int) + nb 1 * ((g8 n g 1 : Nat) : Int) + nb 2 * ((g8 n g 2 : Nat) : Int) := by
  have a0 := g8_lt hg 0
  have a1 := g8_lt hg 1
  have a2 := g8_lt hg 2
  obtain ⟨e0, l0, u0⟩ := mul1 b0 (w := ((g8 n g 0 : Nat) : Int)) (by omega)
  obtain ⟨e1, l1, u1⟩ := mul1 b1 (w := ((g8 n g 1 : Nat) : Int)) (by omega)
  obtain ⟨e2, l2, u2⟩ := mul1 b2 (w := ((g8 n g 2 : Nat) : Int)) (by omega)
  rw [e0, e1, e2]
  clear e0 e1 e2
  generalize nb 0 * ((g8 n g 0 : Nat) : Int) = x at *
  generalize nb 1 * ((g8 n g 1 : Nat) : Int) = y at *
  generalize nb 2 * ((g8 n g 2 : Nat) : Int) = z at *
  rw [show bop32 96 x y = x + y from add32 (by omega) (by omega)]
  exact add32 (by omega) (by omega)
theorem al_19 (l : LX B n h) (hd : 20 ≤ d) (hn : n ≤ 52) (m : TbM B h) (b : MB B n h 11 S) (F1 : YF B f1 h) (hk : hv h f1 1 = 19) (pv : PvM B h 4 nb) (b0 : -1 ≤ nb 0 ∧ nb 0 ≤ 1) (b1 : -1 ≤ nb 1 ∧ nb 1 ≤ 1) (b2 : -1 ≤ nb 2 ∧ nb 2 ≤ 1) (b3 : -200 ≤ nb 3 ∧ nb 3 ≤ 200) :
    Vt 0 (cll PP (ev PP (gsF gv) B) d 546 [(2, rf (B + 149)), (2, rf f1)] h) (fun v h' => v = 1 ∧ Agr (alW B n) h h' ∧ MB B n h' 18 (fun g => S g && spS n (nb 0) (nb 1) (nb 2) (nb 3) g)) := by
  have hN := gN_le hn
  refine Vt.inq (D := 19) hd (Nat.le_of_ble_eq_true rfl) rfl (fun d hd Q K => ?_)
  refine Ends.eq (b546_0 l (by omega) F1) ?_
  rw [hk]
  show Ends (ev PP (gsF gv) B d 546 230 _ [] h) Q
  refine Ends.eq (b546_230 l (by omega)) ?_
  refine Ends.cv l (by decide +kernel) (c_empty (s := 18) l (by omega) hn (by decide)) (fun q2 l2 _ _ _ ⟨g2, m2⟩ => ?_)
  refine Ends.eq (b546_236 l2 (by omega)) ?_
  refine mput (B := B) (n := n) (h := h) (t := 18) (W := alW B n) (R0 := fun _ => false) (E := fun i q => Ends (ev PP (gsF gv) B d 546 238 [(2, rf (B + 149)), (2, rf f1), (0, (i : Int)), (9, 0)] [] q) Q) (fun g => S g && spS n (nb 0) (nb 1) (nb 2) (nb 3) g) ?_ ?_ q2 l2 (g2.sub (fun c k z => wto_al (by decide) z)) m2
  · intro i q hi lq gq mq go
    obtain ⟨a1, a2⟩ := has_is (al_row b (by decide) gq) (by decide) hn hi
    have pq := al_pv pv gq
    have tq := al_tb m gq
    obtain ⟨x0, y0⟩ := coord_is tq hn hi (a := 0) (by decide)
    obtain ⟨x1, y1⟩ := coord_is tq hn hi (a := 1) (by decide)
    obtain ⟨x2, y2⟩ := coord_is tq hn hi (a := 2) (by decide)
    have a2' : v669 B n q 11 (i : Int) = if S i = true then 1 else 0 := a2
    have y0' : v581 B n q (i : Int) 0 = ((g8 n i 0 : Nat) : Int) := y0
    have y1' : v581 B n q (i : Int) 1 = ((g8 n i 1 : Nat) : Int) := y1
    have y2' : v581 B n q (i : Int) 2 = ((g8 n i 2 : Nat) : Int) := y2
    have nxt : ∀ q', LX B n q' → Agr (alW B n) h q' → MB B n q' 18 (fun x => false || (decide (x < i + 1) && (S x && spS n (nb 0) (nb 1) (nb 2) (nb 3) x))) → Ends (ev PP (gsF gv) B d 546 316 [(2, rf (B + 149)), (2, rf f1), (0, (i : Int)), (9, 0)] [] q') Q := fun q' l' g' m' => by
      refine Ends.eq (b546_316 l' (by omega)) ?_
      rw [w_succ (by omega)]
      exact go q' l' g' m'
    refine Ends.eq (b546_238 lq (by omega)) (Ends.b3 (fun z => by omega) (fun _ => Ends.g a1 ?_))
    rw [a2', y0', y1', y2', show Int.toNat 0 = 0 from rfl, show Int.toNat 1 = 1 from rfl, show Int.toNat 2 = 2 from rfl, show Int.toNat 3 = 3 from rfl, pq 0 (by decide), pq 1 (by decide), pq 2 (by decide), pq 3 (by decide), sp_val hn hi b0 b1 b2, show bop32 104 8 (nb 3) = 8 * nb 3 from mul32 (by omega) (by omega)]
    cases hS : S i
    · exact Ends.b0 (fun _ => nxt q lq gq (mput_skip (by show (S i && _) = false; rw [hS, Bool.false_and]) mq)) (fun z => absurd rfl z)
    · refine Ends.b0 (fun z => absurd z (by decide)) (fun _ => Ends.g x0 (Ends.g x1 (Ends.g x2 (Ends.b4 (fun z => nxt q lq gq (mput_skip ?_ mq)) (fun z => ?_)))))
      · show (S i && spS n _ _ _ _ i) = false
        unfold spS
        rw [decide_eq_false (by omega), Bool.and_false]
      · refine Ends.cv lq (by decide +kernel) (c_putM (t := 18) lq (by omega) hn (by decide) mq hi) (fun q3 l3 _ _ _ ⟨_, g3, m3⟩ => ?_)
        refine nxt q3 l3 (gq.tr g3 (fun c k z => wto_al (by decide) z)) (mput_put ?_ m3)
        show (S i && spS n _ _ _ _ i) = true
        unfold spS
        rw [hS, decide_eq_true z]; rfl
  · intro q lq gq mq
    refine Ends.eq (b546_238 lq (by omega)) (Ends.b3 (fun _ => ?_) (fun z => by omega))
    exact Ends.sm (K _ _ ⟨rfl, gq, mq.congr (fun x _ => Bool.false_or _)⟩)
theorem al_26 (l : LX B n h) (hd : 20 ≤ d) (hn : n ≤ 52) (m : TbM B h) (b : MB B n h 11 S) (F1 : YF B f1 h) (hk : hv h f1 1 = 26) (ho : hv h f1 3 = (ax : Int)) (hax : ax < 3) (pv : PvM B h 3 nb) (b0 : -200 ≤ nb 0 ∧ nb 0 ≤ 200) (b1 : -200 ≤ nb 1 ∧ nb 1 ≤ 200) (b2 : 1 ≤ nb 2 ∧ nb 2 ≤ 64) :
    Vt 0 (cll PP (ev PP (gsF gv) B) d 546 [(2, rf (B + 149)), (2, rf f1)] h) (fun v h' => Agr (alW B n) h h' ∧ (((∀ g, g < gN n → drG n ax nb g = false) ∧ v = 0 ∧ hv h' (B + 149) 100 = 4 ∧ hv h' (B + 149) 101 = 0) ∨ ((∃ g, g < gN n ∧ drG n ax nb g = true) ∧ v = 1 ∧ MB B n h' 18 (fun g => S g && !drG n ax nb g)))) := by
  have hN := gN_le hn
  have hf : fA ax < 3 := by have := fA_2 (ax := ax); omega
  have hsA : sA ax < 3 := by have := sA_2 (ax := ax); omega
  have dr : ∀ g, g < gN n → drG n ax nb g = und (nb 2).toNat (((g8 n g (fA ax) : Nat) : Int) - 8 * nb 0) (((g8 n g (sA ax) : Nat) : Int) - 8 * nb 1) 0 := fun g hg => by
    have := g8_lt hg ax
    unfold drG
    rw [hl_is hg hax, decide_eq_true, Bool.true_and]
    split <;> split <;> omega
  refine Vt.inq (D := 19) hd (Nat.le_of_ble_eq_true rfl) rfl (fun d hd Q K => ?_)
  refine Ends.eq (b546_0 l (by omega) F1) ?_
  rw [hk]
  show Ends (ev PP (gsF gv) B d 546 384 _ [] h) Q
  refine Ends.eq (b546_384 l (by omega)) ?_
  refine Ends.cv l (by decide +kernel) (c_empty (s := 12) l (by omega) hn (by decide)) (fun q2 l2 _ _ _ ⟨g2, m2⟩ => ?_)
  refine Ends.eq (b546_390 l2 (by omega)) ?_
  refine mput (B := B) (n := n) (h := h) (t := 12) (W := alW B n) (R0 := fun _ => false) (E := fun i q => Ends (ev PP (gsF gv) B d 546 392 [(2, rf (B + 149)), (2, rf f1), (0, (i : Int)), (9, 0)] [] q) Q) (drG n ax nb) ?_ ?_ q2 l2 (g2.sub (fun c k z => wto_al (by decide) z)) m2
  · intro i q hi lq gq mq go
    have fq : YF B f1 q := by
      refine ⟨⟨by rw [gq.hk]; exact F1.1.1, F1.1.2⟩, by rw [gq.hk]; exact F1.2.1, ?_⟩
      rw [gq.at _ _ (fun z => by have := F1.1.2; unfold alW at z; omega)]; exact F1.2.2
    have hoq : hv q f1 3 = (ax : Int) := by rw [gq.at _ _ (fun z => by have := F1.1.2; unfold alW at z; omega)]; exact ho
    have pq := al_pv pv gq
    have tq := al_tb m gq
    obtain ⟨x0, y0⟩ := coord_is tq hn hi hf
    obtain ⟨x1, y1⟩ := coord_is tq hn hi hsA
    have a1 := g8_lt hi (fA ax)
    have a2 := g8_lt hi (sA ax)
    have nxt : ∀ q', LX B n q' → Agr (alW B n) h q' → MB B n q' 12 (fun x => false || (decide (x < i + 1) && drG n ax nb x)) → Ends (ev PP (gsF gv) B d 546 463 [(2, rf (B + 149)), (2, rf f1), (0, (i : Int)), (9, 0)] [] q') Q := fun q' l' g' m' => by
      refine Ends.eq (b546_463 l' (by omega)) ?_
      rw [w_succ (by omega)]
      exact go q' l' g' m'
    obtain ⟨r, er⟩ : ∃ r : Nat, nb 2 = (r : Int) := ⟨(nb 2).toNat, by omega⟩
    refine Ends.eq (b546_392 lq (by omega) fq) (Ends.b3 (fun z => by omega) (fun _ => ?_))
    rw [hoq, (f635_is hax).1, (f635_is hax).2, y0, y1, show Int.toNat 0 = 0 from rfl, show Int.toNat 1 = 1 from rfl, show Int.toNat 2 = 2 from rfl, pq 0 (by decide), pq 1 (by decide), pq 2 (by decide), show bop32 104 8 (nb 0) = 8 * nb 0 from mul32 (by omega) (by omega), show bop32 104 8 (nb 1) = 8 * nb 1 from mul32 (by omega) (by omega), show bop32 100 ((g8 n i (fA ax) : Nat) : Int) (8 * nb 0) = ((g8 n i (fA ax) : Nat) : Int) - 8 * nb 0 from sub32 (by omega) (by omega), show bop32 100 ((g8 n i (sA ax) : Nat) : Int) (8 * nb 1) = ((g8 n i (sA ax) : Nat) : Int) - 8 * nb 1 from sub32 (by omega) (by omega), er, v695_is (by omega) (by omega) (by omega)]
    have dri := dr i hi
    rw [er, tn] at dri
    rw [← dri]
    refine Ends.g x0 (Ends.g x1 (Ends.b0 (fun z => ?_) (fun z => ?_)))
    · refine nxt q lq gq (mput_skip ?_ mq)
      cases e : drG n ax nb i
      · rfl
      · rw [e] at z; exact absurd z (by decide)
    · refine Ends.cv lq (by decide +kernel) (c_putM (t := 12) lq (by omega) hn (by decide) mq hi) (fun q3 l3 _ _ _ ⟨_, g3, m3⟩ => ?_)
      refine nxt q3 l3 (gq.tr g3 (fun c k z => wto_al (by decide) z)) (mput_put ?_ m3)
      cases e : drG n ax nb i
      · rw [e] at z; exact absurd rfl z
      · rfl
  · intro q lq gq mq
    refine Ends.eq (b546_392 lq (by omega) ?_) (Ends.b3 (fun _ => ?_) (fun z => by omega))
    · refine ⟨⟨by rw [gq.hk]; exact F1.1.1, F1.1.2⟩, by rw [gq.hk]; exact F1.2.1, ?_⟩
      rw [gq.at _ _ (fun z => by have := F1.1.2; unfold alW at z; omega)]; exact F1.2.2
    · refine Ends.ct lq (by decide +kernel) (by decide) (c_with865 (op := 1) (T := drG n ax nb) lq (by omega) hn (al_row b (by decide) gq) (mq.congr (fun x _ => Bool.false_or _)) (by decide)) (fun v q3 l3 _ _ _ ⟨g3, r3⟩ => ?_)
      refine Ends.eq (b546_474 l3 (by omega)) (Ends.g (by rcases r3 with ⟨_, z, _⟩ | ⟨_, z, _⟩ <;> omega) ?_)
      exact Ends.sm (K _ _ ⟨gq.tr g3 (fun c k z => z), r3⟩)
theorem al_22 (l : LX B n h) (hd : 22 ≤ d) (hn0 : 0 < n) (hn : n ≤ 52) (m : TbM B h) (b : MB B n h 11 S) (F1 : YF B f1 h) (hk : hv h f1 1 = 22) :
    Vt 0 (cll PP (ev PP (gsF gv) B) d 546 [(2, rf (B + 149)), (2, rf f1)] h) (fun v h' => v = 1 ∧ Agr (alW B n) h h' ∧ ∃ T best, MB B n h' 18 T ∧ grB n S (rw3 (8 * n) (8 * n) 0 0) best T (fun _ => false)) := by
  refine Vt.inq (D := 21) hd (Nat.le_of_ble_eq_true rfl) rfl (fun d hd Q K => ?_)
  refine Ends.eq (b546_0 l (by omega) F1) ?_
  rw [hk]
  show Ends (ev PP (gsF gv) B d 546 330 _ [] h) Q
  refine Ends.eq (b546_330 l (by omega)) ?_
  refine Ends.cv l (by decide +kernel) (c_empty (s := 18) l (by omega) hn (by decide)) (fun q2 l2 _ _ _ ⟨g2, m2⟩ => ?_)
  have ga : Agr (alW B n) h q2 := g2.sub (fun c k z => wto_al (by decide) z)
  refine Ends.eq (b546_336 l2 (by omega)) ?_
  refine Ends.cv l2 (by decide +kernel) (c_greatest666 (s := 11) (t := 18) l2 (by omega) hn0 hn (by decide) (by decide) (al_tb m ga) (al_row b (by decide) ga) m2) (fun q3 l3 _ _ _ ⟨g3, T', best, m3, r3⟩ => ?_)
  refine Ends.eq (b546_344 l3 (by omega)) ?_
  refine Ends.sm (K _ _ ⟨rfl, ga.tr g3 (fun c k z => ?_), T', best, m3, r3⟩)
  rcases z with (z | z | z | z) | z | z
  · exact wto_al (by decide) z
  · exact wto_al (by decide) z
  · exact wto_al (by decide) z
  · exact al_149 ⟨z.1, by omega⟩
  · exact wto_al (by decide) z
  · exact al_149 ⟨z.1, by have := z.2; omega⟩
theorem al_27 (l : LX B n h) (hd : 20 ≤ d) (hn : n ≤ 52) (m : TbM B h) (b : MB B n h 11 S) (F1 : YF B f1 h) (hk : hv h f1 1 = 27) (pv : PvM B h 2 nb) (b0 : 0 ≤ nb 0 ∧ nb 0 ≤ 2) (b1 : -200 ≤ nb 1 ∧ nb 1 ≤ 200) :
    Vt 0 (cll PP (ev PP (gsF gv) B) d 546 [(2, rf (B + 149)), (2, rf f1)] h) (fun v h' => v = 1 ∧ Agr (alW B n) h h' ∧ MB B n h' 18 (fun g => S g || mrG n (nb 0).toNat (nb 1) S g)) := by
  refine Vt.inq (D := 19) hd (Nat.le_of_ble_eq_true rfl) rfl (fun d hd Q K => ?_)
  obtain ⟨w, ew⟩ : ∃ w : Nat, nb 0 = (w : Int) := ⟨(nb 0).toNat, by omega⟩
  refine Ends.eq (b546_0 l (by omega) F1) ?_
  rw [hk]
  show Ends (ev PP (gsF gv) B d 546 475 _ [] h) Q
  refine Ends.eq (b546_475 l (by omega)) ?_
  rw [show Int.toNat 0 = 0 from rfl, show Int.toNat 1 = 1 from rfl, pv 0 (by decide), pv 1 (by decide), ew]
  refine Ends.cv l (by decide +kernel) (c_mirrorM (s := 11) (t := 13) l (by omega) hn (by decide) (by decide) (by decide) m b (a := w) (by omega) (p := nb 1) (by omega)) (fun q2 l2 _ _ _ ⟨g2, R, mR, hR⟩ => ?_)
  have ga : Agr (alW B n) h q2 := g2.sub (fun c k z => by
    rcases z with z | z
    · exact wto_al (by decide) z
    · exact Or.inr (Or.inl z))
  refine Ends.eq (b546_495 l2 (by omega)) ?_
  refine Ends.cv l2 (by decide +kernel) (c_combineM (s := 11) (t := 13) (u := 18) l2 (by omega) hn (by decide) (by decide) (by decide) (al_row b (by decide) ga) mR (op := 0) (by omega)) (fun q3 l3 _ _ _ ⟨g3, m3⟩ => ?_)
  refine Ends.eq (b546_506 l3 (by omega)) ?_
  refine Ends.sm (K _ _ ⟨rfl, ga.tr g3 (fun c k z => wto_al (by decide) z), m3.congr (fun x hx => ?_)⟩)
  show (S x || R x) = (S x || mrG n (nb 0).toNat (nb 1) S x)
  rw [ew, tn, show R x = mrG n w (nb 1) S x from Bool.eq_iff_iff.mpr ((hR x hx).trans mrG_iff.symm)]
theorem al_28 (l : LX B n h) (hd : 20 ≤ d) (hn0 : 0 < n) (hn : n ≤ 52) (m : TbM B h) (b : MB B n h 11 S) (F1 : YF B f1 h) (hk : hv h f1 1 = 28) :
    Vt 0 (cll PP (ev PP (gsF gv) B) d 546 [(2, rf (B + 149)), (2, rf f1)] h) (fun v h' => v = 1 ∧ Agr (alW B n) h h' ∧ MB B n h' 18 (hoG n S)) := by
  refine Vt.inq (D := 19) hd (Nat.le_of_ble_eq_true rfl) rfl (fun d hd Q K => ?_)
  refine Ends.eq (b546_0 l (by omega) F1) ?_
  rw [hk]
  show Ends (ev PP (gsF gv) B d 546 508 _ [] h) Q
  refine Ends.eq (b546_508 l (by omega)) ?_
  refine Ends.ct l (by decide +kernel) (by decide) (c_hollow (s := 11) l (by omega) hn0 hn (by decide) m b) (fun v q2 l2 _ _ _ ⟨g2, k, U, _, mU, hU, _⟩ => ?_)
  have ga : Agr (alW B n) h q2 := g2.sub (fun c k z => by
    rcases z with (z | z | z | z) | z
    · exact wto_al (by decide) z
    · exact wto_al (by decide) z
    · exact wto_al (by decide) z
    · exact al_149 ⟨z.1, by omega⟩
    · exact wto_al (by decide) z)
  refine Ends.eq (b546_516 l2 (by omega)) ?_
  refine Ends.cv l2 (by decide +kernel) (c_combineM (s := 11) (t := 16) (u := 18) l2 (by omega) hn (by decide) (by decide) (by decide) (al_row b (by decide) ga) mU (op := 0) (by omega)) (fun q3 l3 _ _ _ ⟨g3, m3⟩ => ?_)
  refine Ends.eq (b546_528 l3 (by omega)) ?_
  refine Ends.sm (K _ _ ⟨rfl, ga.tr g3 (fun c k z => wto_al (by decide) z), m3.congr (fun x hx => ?_)⟩)
  show (S x || U x) = hoG n S x
  refine Bool.eq_iff_iff.mpr ?_
  rw [hoG_iff, Bool.or_eq_true, hU x hx]
theorem al_29 (l : LX B n h) (hd : 20 ≤ d) (hn : n ≤ 52) (m : TbM B h) (b : MB B n h 11 S) (F1 : YF B f1 h) (hk : hv h f1 1 = 29) (pv : PvM B h 1 nb) :
    Vt 0 (cll PP (ev PP (gsF gv) B) d 546 [(2, rf (B + 149)), (2, rf f1)] h) (fun v h' => v = 1 ∧ Agr (alW B n) h h' ∧ MB B n h' 18 (fun g => S g && decide (nb 0 ≤ frn n S g))) := by
  have hN := gN_le hn
  refine Vt.inq (D := 19) hd (Nat.le_of_ble_eq_true rfl) rfl (fun d hd Q K => ?_)
  refine Ends.eq (b546_0 l (by omega) F1) ?_
  rw [hk]
  show Ends (ev PP (gsF gv) B d 546 530 _ [] h) Q
  refine Ends.eq (b546_530 l (by omega)) ?_
  refine Ends.cv l (by decide +kernel) (c_empty (s := 18) l (by omega) hn (by decide)) (fun q2 l2 _ _ _ ⟨g2, m2⟩ => ?_)
  refine Ends.eq (b546_536 (by decide) l2 (by omega)) ?_
  refine mput (B := B) (n := n) (h := h) (t := 18) (W := alW B n) (R0 := fun _ => false) (E := fun i q => Ends (ev PP (gsF gv) B d 546 538 [(2, rf (B + 149)), (2, rf f1), (9, 0), (0, (i : Int))] [] q) Q) (fun g => S g && decide (nb 0 ≤ frn n S g)) ?_ ?_ q2 l2 (g2.sub (fun c k z => wto_al (by decide) z)) m2
  · intro i q hi lq gq mq go
    have bq := al_row b (by decide) gq
    obtain ⟨a1, a2⟩ := has_is bq (by decide) hn hi
    have a2' : v669 B n q 11 (i : Int) = if S i = true then 1 else 0 := a2
    have nxt : ∀ q', LX B n q' → Agr (alW B n) h q' → MB B n q' 18 (fun x => false || (decide (x < i + 1) && (S x && decide (nb 0 ≤ frn n S x)))) → Ends (ev PP (gsF gv) B d 546 577 [(2, rf (B + 149)), (2, rf f1), (9, 0), (0, (i : Int))] [] q') Q := fun q' l' g' m' => by
      refine Ends.eq (b546_577 (by decide) l' (by omega)) ?_
      rw [w_succ (by omega)]
      exact go q' l' g' m'
    refine Ends.eq (b546_538 lq (by omega)) (Ends.b3 (fun z => by omega) (fun _ => Ends.g a1 ?_))
    rw [a2']
    cases hS : S i
    · exact Ends.b0 (fun _ => nxt q lq gq (mput_skip (by show (S i && _) = false; rw [hS, Bool.false_and]) mq)) (fun z => absurd rfl z)
    · refine Ends.b0 (fun z => absurd z (by decide)) (fun _ => ?_)
      refine Ends.ct lq (by decide +kernel) (by decide) (c_friends652 lq (by omega) hn (al_tb m gq) bq hi) (fun v q3 l3 _ _ _ ⟨e3, ev_⟩ => ?_)
      obtain rfl := e3
      refine Ends.eq (b546_561 l3 (by omega)) ?_
      rw [ev_, show Int.toNat 0 = 0 from rfl, (al_pv pv gq) 0 (by decide)]
      refine Ends.b2 (fun z => nxt q3 l3 gq (mput_skip ?_ mq)) (fun z => ?_)
      · show (S i && decide (nb 0 ≤ frn n S i)) = false
        rw [decide_eq_false (by omega), Bool.and_false]
      · refine Ends.cv l3 (by decide +kernel) (c_putM (t := 18) l3 (by omega) hn (by decide) mq hi) (fun q4 l4 _ _ _ ⟨_, g4, m4⟩ => ?_)
        refine nxt q4 l4 (gq.tr g4 (fun c k z => wto_al (by decide) z)) (mput_put ?_ m4)
        show (S i && decide (nb 0 ≤ frn n S i)) = true
        rw [hS, decide_eq_true z]; rfl
  · intro q lq gq mq
    refine Ends.eq (b546_538 lq (by omega)) (Ends.b3 (fun _ => ?_) (fun z => by omega))
    exact Ends.sm (K _ _ ⟨rfl, gq, mq.congr (fun x _ => Bool.false_or _)⟩)
end MALT
