/-! L3: what is made of another one's tool: rows, rings, mirrors (both) -/
section REPT
variable {gv : Nat → Int} {B n d f1 a mo : Nat} {h : AH} {S T : Nat → Bool} {nb : Nat → Int} {Q : Rs → Prop}
/-- so many copies, in a row -/
def rowU (n : Nat) (S : Nat → Bool) (nb : Nat → Int) : Nat → Nat → Bool
  | 0 => fun _ => false
  | k + 1 => fun g => rowU n S nb k g || mvG n S (((k + 1 : Nat) : Int) * nb 1) (((k + 1 : Nat) : Int) * nb 2) (((k + 1 : Nat) : Int) * nb 3) g
noncomputable def rnK (n ax : Nat) (p q : Int) (dd : Nat) (S : Nat → Bool) (g : Nat) : Bool := @decide (rgS n ax p q dd S (gN n) g) (Classical.propDecidable _)
theorem rnK_iff {ax dd g : Nat} {p q : Int} : rnK n ax p q dd S g = true ↔ rgS n ax p q dd S (gN n) g := by unfold rnK; exact @decide_eq_true_iff _ (Classical.propDecidable _)
noncomputable def rpS (n kd : Nat) (nb : Nat → Int) (S : Nat → Bool) (g : Nat) : Bool := if kd = 10 then rowU n S nb ((nb 0).toNat - 1) g else if kd = 11 then rnK n (nb 0).toNat (nb 1) (nb 2) (nb 3).toNat S g else mrG n (nb 0).toNat (nb 1) S g
/-- the numbers of their fields are good -/
def rpOK (kd : Nat) (nb : Nat → Int) : Prop := (∀ k, k < 4 → -200 ≤ nb k ∧ nb k ≤ 200) ∧ ((kd = 10 ∧ 2 ≤ nb 0 ∧ nb 0 ≤ 64) ∨ (kd = 11 ∧ 0 ≤ nb 0 ∧ nb 0 ≤ 2 ∧ (nb 1 + nb 2) % 2 = 0 ∧ 2 ≤ nb 3 ∧ nb 3 ≤ 4) ∨ (kd = 12 ∧ 0 ≤ nb 0 ∧ nb 0 ≤ 2))
def rpN (kd : Nat) : Nat := if kd = 12 then 2 else 4
theorem mulK {k : Nat} {v : Int} (hk : k ≤ 64) (hv : -200 ≤ v ∧ v ≤ 200) : bop32 104 (k : Int) v = (k : Int) * v ∧ -12800 ≤ (k : Int) * v ∧ (k : Int) * v ≤ 12800 := by
  have h1 : (k : Int) * v ≤ 64 * 200 := by
    rcases Int.le_total 0 v with z | z
    · exact Int.mul_le_mul (by omega) hv.2 z (by omega)
    · have := Int.mul_nonpos_of_nonneg_of_nonpos (a := (k : Int)) (b := v) (by omega) z
      omega
  have h2 : -(64 * 200) ≤ (k : Int) * v := by
    rcases Int.le_total 0 v with z | z
    · have := Int.mul_nonneg (a := (k : Int)) (b := v) (by omega) z
      omega
    · have := Int.mul_le_mul (a := (k : Int)) (c := 64) (b := -v) (d := 200) (by omega) (by omega) (by omega) (by omega)
      rw [Int.mul_neg] at this
      omega
  exact ⟨mul32 (by omega) (by omega), by omega, by omega⟩
/-- where the model writes when it repeats -/
def rpW (B n : Nat) : Nat → Nat → Prop := fun c k => wto B n 12 (wN n) c k ∨ wto B n 13 (wN n) c k ∨ c = B + 186 ∨ (c = B + 149 ∧ k = 78)
theorem rp_al {c k : Nat} (w : rpW B n c k) : alW B n c k := by
  rcases w with w | w | w | w
  · exact wto_al (by decide) w
  · exact wto_al (by decide) w
  · exact Or.inr (Or.inl w)
  · exact al_149 ⟨w.1, by omega⟩
theorem rp_row {s : Nat} {q : AH} (b : MB B n h s S) (h1 : s ≠ 12) (h2 : s ≠ 13) (g : Agr (rpW B n) h q) : MB B n q s S := b.agr g (fun k hk z => by
  rcases z with z | z | z | z
  · exact wto_row hk (Nat.le_refl _) h1 z
  · exact wto_row hk (Nat.le_refl _) h2 z
  · omega
  · omega)
theorem c_repeated803 {kd : Nat} (l : LX B n h) (hd : 20 ≤ d) (hn : n ≤ 52) (m : TbM B h) (b : MB B n h 17 S) (F1 : YF B f1 h) (hk : hv h f1 1 = (kd : Int)) (pv : PvM B h (rpN kd) nb) (ok : rpOK kd nb) :
    Vt 0 (cll PP (ev PP (gsF gv) B) d 803 [(2, rf (B + 149)), (2, rf f1), (0, (17 : Int)), (0, (12 : Int))] h) (fun v h' => v = 1 ∧ Agr (rpW B n) h h' ∧ MB B n h' 12 (rpS n kd nb S)) := by
  obtain ⟨nbb, ok⟩ := ok
  have n0 := nbb 0 (by decide)
  have n1 := nbb 1 (by decide)
  have n2 := nbb 2 (by decide)
  have n3 := nbb 3 (by decide)
  refine Vt.inq (D := 19) hd (Nat.le_of_ble_eq_true rfl) rfl (fun d hd Q K => ?_)
  refine Ends.eq (b803_0 l (by omega)) ?_
  refine Ends.cv l (by decide +kernel) (c_empty (s := 12) l (by omega) hn (by decide)) (fun h2 l2 _ _ _ ⟨g2, m2⟩ => ?_)
  have G2 : Agr (rpW B n) h h2 := g2.sub (fun c k z => Or.inl z)
  have tb2 : TbM B h2 := al_tb m (G2.sub (fun c k z => rp_al z))
  have pv2 : PvM B h2 (rpN kd) nb := al_pv pv (G2.sub (fun c k z => rp_al z))
  have hk2 : hv h2 f1 1 = (kd : Int) := by rw [G2.at _ _ (fun z => by have := F1.1.2; have := rp_al z; unfold alW at this; omega)]; exact hk
  have F2 : YF B f1 h2 := by
    refine ⟨⟨by rw [G2.hk]; exact F1.1.1, F1.1.2⟩, by rw [G2.hk]; exact F1.2.1, ?_⟩
    rw [G2.at _ _ (fun z => by have := F1.1.2; have := rp_al z; unfold alW at this; omega)]; exact F1.2.2
  have b2 := rp_row b (by decide) (by decide) G2
  refine Ends.eq (b803_5 l2 (by omega) F2) ?_
  rw [hk2]
  rcases ok with ⟨rfl, k1, k2⟩ | ⟨rfl, k1, k2, k3, k4, k5⟩ | ⟨rfl, k1, k2⟩
  · show Ends (ev PP (gsF gv) B d 803 36 _ [] h2) Q
    refine Ends.eq (b803_36 l2 (by omega)) ?_
    obtain ⟨w, ew⟩ : ∃ w : Nat, nb 0 = (w : Int) := ⟨(nb 0).toNat, by omega⟩
    have key : ∀ (c k : Nat) (q : AH), k + 1 + c = w → LX B n q → Agr (rpW B n) h q → MB B n q 12 (rowU n S nb k) → Ends (ev PP (gsF gv) B d 803 39 [(2, rf (B + 149)), (2, rf f1), (0, 17), (0, 12), (0, ((k + 1 : Nat) : Int))] [] q) Q := by
      intro c
      induction c with
      | zero =>
        intro k q e lq gq mq
        have pq := al_pv pv (gq.sub (fun c k z => rp_al z))
        refine Ends.eq (b803_39 lq (by omega)) ?_
        rw [show Int.toNat 0 = 0 from rfl, pq 0 (by decide), ew]
        refine Ends.b3 (fun _ => Ends.sm (K _ _ ⟨rfl, gq, ?_⟩)) (fun z => by omega)
        rw [show rpS n 10 nb S = rowU n S nb ((nb 0).toNat - 1) from rfl, ew, tn, show w - 1 = k by omega]
        exact mq
      | succ c ih =>
        intro k q e lq gq mq
        have pq := al_pv pv (gq.sub (fun c k z => rp_al z))
        obtain ⟨p1, l1, u1⟩ := mulK (k := k + 1) (by omega) n1
        obtain ⟨p2, l2_, u2⟩ := mulK (k := k + 1) (by omega) n2
        obtain ⟨p3, l3, u3⟩ := mulK (k := k + 1) (by omega) n3
        have nxt : ∀ q', LX B n q' → Agr (rpW B n) h q' → MB B n q' 12 (rowU n S nb (k + 1)) → Ends (ev PP (gsF gv) B d 803 145 [(2, rf (B + 149)), (2, rf f1), (0, 17), (0, 12), (0, ((k + 1 : Nat) : Int))] [] q') Q := fun q' l' g' m' => by
          refine Ends.eq (b803_145 l' (by omega)) ?_
          rw [w_succ (by omega)]
          exact ih (k + 1) q' (by omega) l' g' m'
        have far : (((n : Int) < ((k + 1 : Nat) : Int) * nb 1 ∨ ((k + 1 : Nat) : Int) * nb 1 < -(n : Int)) ∨ ((n : Int) < ((k + 1 : Nat) : Int) * nb 2 ∨ ((k + 1 : Nat) : Int) * nb 2 < -(n : Int)) ∨ (n : Int) < ((k + 1 : Nat) : Int) * nb 3 ∨ ((k + 1 : Nat) : Int) * nb 3 < -(n : Int)) → Ends (ev PP (gsF gv) B d 803 145 [(2, rf (B + 149)), (2, rf f1), (0, 17), (0, 12), (0, ((k + 1 : Nat) : Int))] [] q) Q := fun z => nxt q lq gq (mq.congr (fun x hx => by
          show rowU n S nb k x = (rowU n S nb k x || mvG n S _ _ _ x)
          rw [mvG_far hx z, Bool.or_false]))
        refine Ends.eq (b803_39 lq (by omega)) ?_
        rw [show Int.toNat 0 = 0 from rfl, show Int.toNat 1 = 1 from rfl, show Int.toNat 2 = 2 from rfl, show Int.toNat 3 = 3 from rfl, pq 0 (by decide), pq 1 (by decide), pq 2 (by decide), pq 3 (by decide), ew, p1, p2, p3, v623_is hn, v623_is hn, v623_is hn]
        clear p1 p2 p3
        obtain ⟨X, eX⟩ : ∃ X, X = ((k + 1 : Nat) : Int) * nb 1 := ⟨_, rfl⟩
        obtain ⟨Y, eY⟩ : ∃ Y, Y = ((k + 1 : Nat) : Int) * nb 2 := ⟨_, rfl⟩
        obtain ⟨Z, eZ⟩ : ∃ Z, Z = ((k + 1 : Nat) : Int) * nb 3 := ⟨_, rfl⟩
        rw [← eX] at l1 u1
        rw [← eY] at l2_ u2
        rw [← eZ] at l3 u3
        rw [← eX, ← eY, ← eZ] at far ⊢
        refine Ends.b3 (fun z => by omega) (fun _ => Ends.b1 (fun z => far (Or.inl ?_)) (fun z0 => Ends.b1 (fun z => far (Or.inr (Or.inl ?_))) (fun z1 => Ends.b0 (fun z2 => ?_) (fun z => far (Or.inr (Or.inr ?_))))))
        · by_cases w : (n : Int) < X ∨ X < -(n : Int)
          · exact w
          · rw [if_neg w] at z; exact absurd rfl z
        · by_cases w : (n : Int) < Y ∨ Y < -(n : Int)
          · exact w
          · rw [if_neg w] at z; exact absurd rfl z
        · have bq := rp_row b (by decide) (by decide) gq
          refine Ends.cv lq (by decide +kernel) (c_turnM (s := 17) (t := 13) (w := 0) lq (by omega) hn (by decide) (by decide) (by decide) (al_tb m (gq.sub (fun c k z => rp_al z))) bq (by decide) (dx := X) (dy := Y) (dz := Z) (by omega) (by omega) (by omega)) (fun q3 l3 _ _ _ ⟨g3, ⟨R, mR, hR⟩, _⟩ => ?_)
          have G3 : Agr (rpW B n) h q3 := gq.tr g3 (fun c k z => by
            rcases z with z | z | z
            · exact Or.inr (Or.inl z)
            · exact Or.inr (Or.inr (Or.inl z))
            · exact Or.inr (Or.inr (Or.inr z)))
          have m3 : MB B n q3 12 (rowU n S nb k) := mq.agr g3 (fun k hk z => by
            rcases z with z | z | z
            · exact wto_row hk (Nat.le_refl _) (by decide) z
            · omega
            · omega)
          refine Ends.eq (b803_136 l3 (by omega)) ?_
          refine Ends.cv l3 (by decide +kernel) (c_combineM (s := 12) (t := 13) (u := 12) l3 (by omega) hn (by decide) (by decide) (by decide) m3 mR (op := 0) (by omega)) (fun q4 l4 _ _ _ ⟨g4, m4⟩ => ?_)
          refine nxt q4 l4 (G3.tr g4 (fun c k z => Or.inl z)) (m4.congr (fun x hx => ?_))
          show (rowU n S nb k x || R x) = (rowU n S nb k x || mvG n S (((k + 1 : Nat) : Int) * nb 1) (((k + 1 : Nat) : Int) * nb 2) (((k + 1 : Nat) : Int) * nb 3) x)
          rw [← eX, ← eY, ← eZ]
          congr 1
          exact Bool.eq_iff_iff.mpr ((hR x hx).trans (mvG_iff hn hx).symm)
        · by_cases w : (n : Int) < Z ∨ Z < -(n : Int)
          · exact w
          · rw [if_neg w] at z; exact absurd rfl z
    exact key (w - 1) 0 h2 (by omega) l2 G2 m2
  · show Ends (ev PP (gsF gv) B d 803 153 _ [] h2) Q
    refine Ends.eq (b803_153 l2 (by omega)) ?_
    obtain ⟨w, ew⟩ : ∃ w : Nat, nb 0 = (w : Int) := ⟨(nb 0).toNat, by omega⟩
    obtain ⟨w3, ew3⟩ : ∃ w : Nat, nb 3 = (w : Int) := ⟨(nb 3).toNat, by omega⟩
    refine Ends.cv l2 (by decide +kernel) (c_ringM805 (s := 17) (t := 12) (ax := w) (dd := w3) (p := nb 1) (q := nb 2) l2 (by omega) hn (by decide) (by decide) (by decide) tb2 b2 m2 (by rw [pv2 0 (by decide), ew]) (pv2 1 (by decide)) (pv2 2 (by decide)) (by rw [pv2 3 (by decide), ew3]) (by omega) (by omega) n1 n2 k3) (fun q3 l3 _ _ _ ⟨g3, R, mR, hR⟩ => ?_)
    refine Ends.eq (b803_159 l3 (by omega)) ?_
    refine Ends.sm (K _ _ ⟨rfl, G2.tr g3 (fun c k z => ?_), mR.congr (fun x hx => ?_)⟩)
    · rcases z with z | z
      · exact Or.inl z
      · exact Or.inr (Or.inr (Or.inl z))
    · show R x = rnK n (nb 0).toNat (nb 1) (nb 2) (nb 3).toNat S x
      rw [ew, ew3, tn, tn]
      refine Bool.eq_iff_iff.mpr ((hR x hx).trans ?_)
      rw [rnK_iff]
      exact ⟨fun z => z.resolve_left Bool.false_ne_true, Or.inr⟩
  · show Ends (ev PP (gsF gv) B d 803 161 _ [] h2) Q
    refine Ends.eq (b803_161 l2 (by omega)) ?_
    obtain ⟨w, ew⟩ : ∃ w : Nat, nb 0 = (w : Int) := ⟨(nb 0).toNat, by omega⟩
    rw [show Int.toNat 0 = 0 from rfl, show Int.toNat 1 = 1 from rfl, pv2 0 (by decide), pv2 1 (by decide), ew]
    refine Ends.cv l2 (by decide +kernel) (c_mirrorM (s := 17) (t := 12) l2 (by omega) hn (by decide) (by decide) (by decide) tb2 b2 (a := w) (by omega) (p := nb 1) (by omega)) (fun q3 l3 _ _ _ ⟨g3, R, mR, hR⟩ => ?_)
    refine Ends.eq (b803_179 l3 (by omega)) ?_
    refine Ends.sm (K _ _ ⟨rfl, G2.tr g3 (fun c k z => ?_), mR.congr (fun x hx => ?_)⟩)
    · rcases z with z | z
      · exact Or.inl z
      · exact Or.inr (Or.inr (Or.inl z))
    · show R x = mrG n (nb 0).toNat (nb 1) S x
      rw [ew, tn]
      exact Bool.eq_iff_iff.mpr ((hR x hx).trans mrG_iff.symm)
/-- where the desk writes when it copies -/
def cpW (B a mo : Nat) : Nat → Nat → Prop := fun c _ => c = a ∨ c = mo ∨ c = B + 54 ∨ c = B + 55 ∨ c = B + 106 ∨ c = B + 107 ∨ c = B + 108
/-- the end of copies: the solid is the tool of another one -/
theorem cp_tail {kd : Nat} {x1 x3 x9 : Int} {u10 u11 : AV} (l : LX B n h) (hd : 18 ≤ d) (hn0 : 0 < n) (hn : n ≤ 52) (m : TbC B h) (e13 : hv h (B + 92) 13 = rf mo) (ha : B + 246 ≤ a) (hm : B + 246 ≤ mo) (hne : a ≠ mo) (km : hk h mo = (3, 24 * n * n)) (sa : SG n h a S) (ok : rpOK kd nb)
    (K : ∀ h', LX B n h' → Agr (cpW B a mo) h h' → SG n h' a (rpS n kd nb S) → Q ((0, (0, 1)), h')) :
    Ends (ev PP (gsF gv) B d 259 170 [(2, rf (B + 92)), (0, x1), (0, (kd : Int)), (0, x3), (2, rf a), (0, nb 0), (0, nb 1), (0, nb 2), (0, nb 3), (0, x9), u10, u11] [] h) Q := by
  obtain ⟨nbb, ok⟩ := ok
  have n0 := nbb 0 (by decide)
  have n1 := nbb 1 (by decide)
  have n2 := nbb 2 (by decide)
  have n3 := nbb 3 (by decide)
  refine Ends.eq (b259_170 l (by omega)) ?_
  rw [e13]
  refine Ends.cv l (by decide +kernel) (c_copy l (by omega) sa km (by omega)) (fun h1 l1 _ _ _ ⟨f1, s1⟩ => ?_)
  have g1 := f1.agr
  refine Ends.eq (b259_183 l1 (by omega)) ?_
  refine Ends.cv l1 (by decide +kernel) (c_clear (a := a) l1 (by omega) hn (by rw [g1.hk]; exact sa.1) (by omega)) (fun h2 l2 _ _ _ ⟨f2, s2⟩ => ?_)
  have g2 := f2.fr.agr
  have G2 : Agr (cpW B a mo) h h2 := (g1.sub (fun c k z => Or.inr (Or.inl z))).tr g2 (fun c k z => Or.inl z)
  have s1' : SG n h2 mo S := SG.agr (S := S) s1 g2 (fun _ z => hne z.symm)
  have s2' : SG n h2 a (fun _ => false) := SG.of hn0 s2 (fun _ _ _ _ _ _ _ _ => rfl)
  have tbq : ∀ {q : AH}, Agr (cpW B a mo) h q → TbC B q := fun g => m.ext l.2.2 g.ext (fun c k z1 z2 w => by unfold cpW at w; omega)
  have e13q : ∀ {q : AH}, Agr (cpW B a mo) h q → hv q (B + 92) 13 = rf mo := fun g => by rw [g.at _ _ (fun w => by unfold cpW at w; omega)]; exact e13
  have G0 : Agr (fun c _ => c = a ∨ c = B + 54 ∨ c = B + 55 ∨ c = B + 106 ∨ c = B + 107 ∨ c = B + 108) h2 h2 := Agr.rf
  have fin : ∀ (q : AH) (u10 u11 : AV), LX B n q → Agr (cpW B a mo) h q → SG n q a (rpS n kd nb S) → Ends (ev PP (gsF gv) B d 259 336 [(2, rf (B + 92)), (0, x1), (0, (kd : Int)), (0, x3), (2, rf a), (0, nb 0), (0, nb 1), (0, nb 2), (0, nb 3), (0, x9), u10, u11] [] q) Q := fun q u10 u11 lq gq sq => Ends.eq (b259_336 lq (by omega)) (Ends.sm (K _ lq gq sq))
  have toG : ∀ {q : AH}, Agr (fun c _ => c = a ∨ c = B + 54 ∨ c = B + 55 ∨ c = B + 106 ∨ c = B + 107 ∨ c = B + 108) h2 q → Agr (cpW B a mo) h q := fun g => G2.tr g (fun c k z => by unfold cpW; omega)
  refine Ends.eq (b259_192 l2 (by omega)) ?_
  rcases ok with ⟨rfl, k1, k2⟩ | ⟨rfl, k1, k2, k3, k4, k5⟩ | ⟨rfl, k1, k2⟩
  · refine Ends.b1 (fun z => absurd rfl z) (fun _ => ?_)
    obtain ⟨w, ew⟩ : ∃ w : Nat, nb 0 = (w : Int) := ⟨(nb 0).toNat, by omega⟩
    have key : ∀ (c k : Nat) (q : AH), k + 1 + c = w → LX B n q → Agr (fun c _ => c = a ∨ c = B + 54 ∨ c = B + 55 ∨ c = B + 106 ∨ c = B + 107 ∨ c = B + 108) h2 q → SG n q a (rowU n S nb k) → Ends (ev PP (gsF gv) B d 259 201 [(2, rf (B + 92)), (0, x1), (0, ((10 : Nat) : Int)), (0, x3), (2, rf a), (0, nb 0), (0, nb 1), (0, nb 2), (0, nb 3), (0, x9), (0, ((k + 1 : Nat) : Int)), u11] [] q) Q := by
      intro c
      induction c with
      | zero =>
        intro k q e lq gq sq
        refine Ends.eq (b259_201 lq (by omega)) (Ends.b3 (fun _ => fin q _ _ lq (toG gq) ?_) (fun z => by omega))
        rw [show rpS n 10 nb S = rowU n S nb ((nb 0).toNat - 1) from rfl, ew, tn, show w - 1 = k by omega]
        exact sq
      | succ c ih =>
        intro k q e lq gq sq
        obtain ⟨p1, l1, u1⟩ := mulK (k := k + 1) (by omega) n1
        obtain ⟨p2, l2_, u2⟩ := mulK (k := k + 1) (by omega) n2
        obtain ⟨p3, l3, u3⟩ := mulK (k := k + 1) (by omega) n3
        refine Ends.eq (b259_201 lq (by omega)) (Ends.b3 (fun z => by omega) (fun _ => ?_))
        rw [p1, p2, p3, e13q (toG gq)]
        clear p1 p2 p3
        refine Ends.cv lq (by decide +kernel) (c_uniteMoved lq (by omega) hn0 hn sq (s1'.agr gq (fun _ z => by omega)) hne.symm (by omega) (dx := ((k + 1 : Nat) : Int) * nb 1) (dy := ((k + 1 : Nat) : Int) * nb 2) (dz := ((k + 1 : Nat) : Int) * nb 3) (by omega) (by omega) (by omega)) (fun q3 l3 _ _ _ ⟨f3, s3⟩ => ?_)
        refine Ends.eq (b259_236 l3 (by omega)) ?_
        rw [w_succ (by omega)]
        refine ih (k + 1) q3 (by omega) l3 (gq.tr f3.agr (fun c k z => Or.inl z)) (SG.of hn0 s3 (fun t z y x ht hz hy hx => ?_))
        show (onK n _ _ _ || onK n _ _ _) = (rowU n S nb k (gI n x y z t) || mvG n S _ _ _ (gI n x y z t))
        unfold mvG
        rw [onK_at hz hy, onK_at hz hy, gSo_I ht, gZ_I hx hy ht, gY_I hx hy ht, gX_I hx ht]
    exact key (w - 1) 0 h2 (by omega) l2 G0 s2'
  · refine Ends.b1 (fun _ => Ends.b1 (fun z => absurd rfl z) (fun _ => ?_)) (fun z => absurd z (by decide))
    obtain ⟨w, ew⟩ : ∃ w : Nat, nb 0 = (w : Int) := ⟨(nb 0).toNat, by omega⟩
    obtain ⟨w3, ew3⟩ : ∃ w : Nat, nb 3 = (w : Int) := ⟨(nb 3).toNat, by omega⟩
    have key : ∀ (c k : Nat) (q : AH) (U : Nat → Bool), k + c = w3 → 1 ≤ k → LX B n q → Agr (fun c _ => c = a ∨ c = B + 54 ∨ c = B + 55 ∨ c = B + 106 ∨ c = B + 107 ∨ c = B + 108) h2 q → SG n q a U → (∀ g, g < gN n → (U g = true ↔ rgS n w (nb 1) (nb 2) k S (gN n) g)) → Ends (ev PP (gsF gv) B d 259 254 [(2, rf (B + 92)), (0, x1), (0, ((11 : Nat) : Int)), (0, x3), (2, rf a), (0, nb 0), (0, nb 1), (0, nb 2), (0, nb 3), (0, x9), (0, (k : Int)), u11] [] q) Q := by
      intro c
      induction c with
      | zero =>
        intro k q U e hk1 lq gq sq hU
        refine Ends.eq (b259_254 lq (by omega)) (Ends.b3 (fun _ => fin q _ _ lq (toG gq) (sq.congr hn0 (fun g hg => ?_))) (fun z => by omega))
        show U g = rnK n (nb 0).toNat (nb 1) (nb 2) (nb 3).toNat S g
        rw [ew, ew3, tn, tn, show w3 = k by omega]
        exact Bool.eq_iff_iff.mpr ((hU g hg).trans rnK_iff.symm)
      | succ c ih =>
        intro k q U e hk1 lq gq sq hU
        refine Ends.eq (b259_254 lq (by omega)) (Ends.b3 (fun z => by omega) (fun _ => ?_))
        rw [ew]
        refine Ends.cv lq (by decide +kernel) (c_ring303 (ax := w) (t := k) lq (by omega) hn0 hn (tbq (toG gq)) (e13q (toG gq)) sq (s1'.agr gq (fun _ z => by omega)) hne ha hm (by omega) (by omega) n1 n2 k3) (fun q3 l3 _ _ _ ⟨g3, R, s3, r3⟩ => ?_)
        refine Ends.eq (b259_275 l3 (by omega)) ?_
        rw [w_succ (by omega), ← ew]
        refine ih (k + 1) q3 R (by omega) (by omega) l3 (gq.tr g3 (fun c k z => by unfold rgW at z; omega)) s3 (fun g hg => ?_)
        rw [r3 g hg, hU g hg]
        unfold rgS taS
        constructor
        · rintro (⟨g0, k0, z1, z2, z3, z4, z5⟩ | ⟨g0, z1, _, z2, z3⟩)
          · exact ⟨g0, k0, z1, z2, z3, by omega, z5⟩
          · exact ⟨g0, k, z1, z2, hk1, by omega, z3⟩
        · rintro ⟨g0, k0, z1, z2, z3, z4, z5⟩
          by_cases e2 : k0 = k
          · rw [e2] at z5; exact Or.inr ⟨g0, z1, trivial, z2, z5⟩
          · exact Or.inl ⟨g0, k0, z1, z2, z3, by omega, z5⟩
    exact key (w3 - 1) 1 h2 _ (by omega) (Nat.le_refl 1) l2 G0 s2' (fun g hg => ⟨fun z => absurd z Bool.false_ne_true, fun ⟨g0, k0, z1, z2, z3, z4, z5⟩ => by omega⟩)
  · refine Ends.b1 (fun _ => Ends.b1 (fun _ => Ends.b1 (fun z => absurd rfl z) (fun _ => ?_)) (fun z => absurd z (by decide))) (fun z => absurd z (by decide))
    obtain ⟨w, ew⟩ : ∃ w : Nat, nb 0 = (w : Int) := ⟨(nb 0).toNat, by omega⟩
    rw [ew]
    refine Ends.cv l2 (by decide +kernel) (c_mirror285 (ax := w) (p := nb 1) l2 (by omega) (by omega) (by omega)) (fun h3 l3 _ _ _ ⟨g3, t3⟩ => ?_)
    have g3' : Agr (fun c _ => c = a ∨ c = B + 54 ∨ c = B + 55 ∨ c = B + 106 ∨ c = B + 107 ∨ c = B + 108) h2 h3 := g3.sub (fun c k z => by unfold wayW at z; omega)
    refine Ends.eq (b259_298 l3 (by omega)) ?_
    rw [e13q (toG g3')]
    refine Ends.cv l3 (by decide +kernel) (c_uniteTurned l3 (by omega) hn0 hn (tbq (toG g3')) (s2'.agr g3 (fun k z => by unfold wayW at z; omega)) (s1'.agr g3 (fun k z => by unfold wayW at z; omega)) hne (by omega) (Or.inr ha) (Or.inr hm) t3 (Or.inl ⟨rfl, rfl, rfl⟩)) (fun h4 l4 _ _ _ ⟨f4, R', s4, r4⟩ => ?_)
    refine Ends.eq (b259_323 l4 (by omega)) ?_
    rw [← ew]
    refine fin h4 _ _ l4 (toG (g3'.tr f4.agr (fun c k z => by omega))) (s4.congr hn0 (fun g hg => Bool.eq_iff_iff.mpr ?_))
    rw [r4 g hg]
    show _ ↔ mrG n (nb 0).toNat (nb 1) S g = true
    rw [ew, tn, mrG_iff]
    unfold taS miS
    constructor
    · rintro (z | ⟨g0, a1, _, a2, a3⟩)
      · exact absurd z Bool.false_ne_true
      · exact ⟨g0, a1, a2, by rw [← mi_ta]; exact a3⟩
    · rintro ⟨g0, a1, a2, a3⟩
      exact Or.inr ⟨g0, a1, trivial, a2, by rw [mi_ta]; exact a3⟩
end REPT
