/-! L3: faces found by a name (model) -/
noncomputable section FNM
variable {gv : Nat → Int} {B n d m : Nat} {h t : AH} {u N : Nat → Int} {mk : Nat → Nat} {is : Nat → Bool} {SS : Nat → Nat → Bool}
theorem enS_all {P : Int → Bool} (hP : P (-1) = false) {p i : Nat} (h1 : p ≤ i) (h2 : i < en P u m p) : P (chr u m i) = true := by
  obtain ⟨r, e⟩ : ∃ r, i = p + r := ⟨i - p, by omega⟩
  subst e
  induction r generalizing p with
  | zero =>
    cases c : P (chr u m (p + 0))
    · rw [Nat.add_zero] at c
      rw [en_f c] at h2; omega
    · rfl
  | succ r ih =>
    have c : P (chr u m p) = true := by
      cases c : P (chr u m p)
      · rw [en_f c] at h2; omega
      · rfl
    rw [(en_t hP c).1] at h2
    have := ih (p := p + 1) (by omega) (by omega)
    rw [show p + (r + 1) = p + 1 + r by omega]; exact this
def dtB (u : Nat → Int) (i : Nat) : Bool := decide (u i = 46)
theorem cnt_flat {p : Nat → Bool} {a b : Nat} (hab : a ≤ b) (no : ∀ i, a ≤ i → i < b → p i = false) : cntN p b = cntN p a := by
  obtain ⟨r, e⟩ : ∃ r, b = a + r := ⟨b - a, by omega⟩
  subst e
  induction r with
  | zero => rfl
  | succ r ih =>
    rw [show a + (r + 1) = (a + r) + 1 by omega, cntN_s, no (a + r) (by omega) (by omega), if_neg Bool.false_ne_true, Nat.add_zero]
    exact ih (by omega) (fun i h1 h2 => no i h1 (by omega))
theorem dots_is {K : Nat} (e : exN u m K) : cntN (dtB u) m = K - 1 := by
  obtain ⟨hK, o, en'⟩ := e
  have run : ∀ j, j < K → cntN (dtB u) (en isD u m (nst u m 0 j)) = cntN (dtB u) (nst u m 0 j) := fun j hj => cnt_flat en_ge (fun i h1 h2 => by
    have := isD_r (isD_chr (en_all' h1 h2)).2
    exact decide_eq_false (by omega))
  have st : ∀ j, j < K → cntN (dtB u) (nst u m 0 j) = j := fun j => by
    induction j with
    | zero => exact fun _ => rfl
    | succ j ih =>
      intro hj
      show cntN (dtB u) (en isD u m (nst u m 0 j) + 1) = j + 1
      obtain ⟨c1, c2⟩ := chr_in ((o j (by omega)).2 hj) (by decide)
      rw [cntN_s, run j (by omega), ih (by omega), show dtB u (en isD u m (nst u m 0 j)) = true from decide_eq_true c2, if_pos rfl]
  have := run (K - 1) (by omega)
  unfold nen at en'
  rw [en', st _ (by omega)] at this
  exact this
theorem exN_one {K K' : Nat} (e : exN u m K) (e' : exN u m K') : K = K' := by
  have a := dots_is e
  have b := dots_is e'
  obtain ⟨h1, -⟩ := e
  obtain ⟨h2, -⟩ := e'
  omega
theorem exN_end {K : Nat} (e : exN u m K) : 0 < m ∧ isD (chr u m 0) = true ∧ isD (chr u m (m - 1)) = true ∧ tkK u m (nen u m 0 K) = 0 := by
  obtain ⟨hK, o, en'⟩ := e
  obtain ⟨a, b⟩ := nen_le o (by omega) (Nat.zero_le _)
  have o0 := (o 0 (by omega)).1.1
  have oK := (o (K - 1) (by omega)).1.1
  refine ⟨by omega, en_all' (p := 0) (Nat.le_refl _) (by have o0 : 1 ≤ en isD u m 0 - 0 := o0; omega), ?_, ?_⟩
  · unfold nen at en'
    refine en_all' (p := nst u m 0 (K - 1)) ?_ ?_
    · unfold ndg at oK; omega
    · rw [en']; omega
  · rw [en']
    have c : chr u m m = -1 := by unfold chr; rw [if_neg (Nat.lt_irrefl _)]
    have f : tkF u m m = m := en_f (by rw [c]; decide)
    unfold tkK
    rw [f, c, if_pos (by decide)]
/-- the model's question -/
def FmN (B : Nat) (h : AH) (K : Nat) (N : Nat → Int) : Prop := hv h (B + 149) 118 = (K : Int) ∧ ∀ j, j < K → hv h (B + 204) j = N j
theorem c_isAbout679 {r mm i : Nat} {F : Nat → Nat} {S : Nat → Bool} (l : LX B n h) (hd : 14 ≤ d) (hn : n ≤ 52) (tb : TbM B h) (f : MFc B n h r S mm F) (M : MkM B n h mk) (hi : i < min mm 4096) (e0 : hv h (B + 204) 0 = N 0) (e1 : hv h (B + 204) 1 = N 1) :
    Vt 0 (cll PP (ev PP (gsF gv) B) d 679 [(2, rf (B + 149)), (0, (i : Int))] h) (fun v h' => v = (if fnM (mmk mk F) (mdr F) (N 0) (N 1) i = true then 1 else 0) ∧ Agr (fun c k => c = B + 188 ∧ k < 3) h h') := by
  have m4 : min mm 4096 ≤ 4096 := Nat.min_le_right _ _
  refine Vt.inq (D := 13) hd (Nat.le_of_ble_eq_true rfl) rfl (fun d hd Q KK => ?_)
  obtain ⟨f1, f2, f3⟩ := f.fst hi
  refine Ends.eq (b679_0 l (by omega)) (Ends.g ⟨by omega, by omega⟩ ?_)
  rw [tn, f1]
  refine Ends.ct l (by decide +kernel) (by decide) (c_direction593 l (by omega) hn tb f2) (fun v h2 l2 _ _ _ ⟨_, I2, g2⟩ => ?_)
  have M2 := M.agr g2 (fun k => by omega)
  obtain ⟨c1, c2⟩ := v743_is hn M2 f2
  refine Ends.eq (b679_10 l2 (by omega)) (Ends.g ⟨by omega, by omega⟩ ?_)
  rw [tn, g2.at (B + 190) i (by omega), f1, c2, code_at f2 I2, show Int.toNat (0 : Int) = 0 from rfl, show Int.toNat (1 : Int) = 1 from rfl, g2.at _ _ (by omega), g2.at _ _ (by omega), e0, e1]
  refine Ends.g c1 (Ends.sm (KK _ _ ⟨?_, g2⟩))
  rw [ct1, ct1]
  have fm : fnM (mmk mk F) (mdr F) (N 0) (N 1) i = true ↔ ((mk (F i) : Nat) : Int) = N 0 ∧ ((drT (F i % 96) : Nat) : Int) = N 1 := fnM_iff
  by_cases z1 : ((mk (F i) : Nat) : Int) = N 0
  · rw [if_pos z1]
    by_cases z2 : ((drT (F i % 96) : Nat) : Int) = N 1
    · rw [if_pos z2, if_pos (fm.mpr ⟨z1, z2⟩)]
    · rw [if_neg z2, if_neg (fun y => z2 (fm.mp y).2)]
  · rw [if_neg z1, if_neg (fun y => z1 (fm.mp y).1)]
theorem c_foundFace647 {K : Nat} {i : Int} (l : LX B n h) (hd : 34 ≤ d) (hn0 : 0 < n) (hn : n ≤ 52) (tb : TbM B h) (bd : BdM B n h is SS) (f : FoM B n h SS) (M : MkM B n h mk) (q : FmN B h K N) (hK : 2 ≤ K ∧ K ≤ 3) (h2N : K = 3 → 0 ≤ N 2 ∧ N 2 < 1000000) (hi : 0 ≤ i) (hi2 : i < 2147483648) :
    Vt 0 (cll PP (ev PP (gsF gv) B) d 647 [(2, rf (B + 149)), (0, i)] h) (fun v h' => ∃ mm F, MFc B n h' 10 (SS 10) mm F ∧ FoM B n h' SS ∧ Agr (fgoW B) h h' ∧ nthR (mtF (mmk mk F) (mdr F) N K) (min mm 4096) i v) := by
  obtain ⟨s1, s2⟩ := bd.sol (o := -1) (by unfold thS; rfl)
  have s1 : MB B n h 10 (SS 10) := s1
  have m4 : ∀ mm, min mm 4096 ≤ 4096 := fun mm => Nat.min_le_right _ _
  refine Vt.inq (D := 33) hd (Nat.le_of_ble_eq_true rfl) rfl (fun d hd Q KK => ?_)
  refine Ends.eq (b647_0 l (by omega)) ?_
  refine Ends.cv l (by decide +kernel) (c_makeFaces740 (s := 10) l (by omega) hn0 hn tb (by decide) s1 f.1 (f.at (by decide))) (fun h2 l2 _ _ _ ⟨⟨mm, F, f2⟩, b2, g2⟩ => ?_)
  have gi : ∀ {c k : Nat}, fgoW B c k → c ≤ B + 239 ∧ c ≠ B + 204 ∧ c ≠ B + 236 ∧ c ≠ B + 237 ∧ ¬ (B + 178 ≤ c ∧ c ≤ B + 187) ∧ ¬ (c = B + 149 ∧ k = 118) := fun z => by unfold fgoW fdfW at z; omega
  have e118 : hv h2 (B + 149) 118 = (K : Int) := by rw [g2.at _ _ (fun z => by have := gi z; omega)]; exact q.1
  have eN : ∀ j, j < K → hv h2 (B + 204) j = N j := fun j hj => by rw [g2.at _ _ (fun z => by have := gi z; omega)]; exact q.2 j hj
  have tb2 : TbM B h2 := tb.agr g2 (fun c k a b _ z => by have := gi z; omega)
  have M2 : MkM B n h2 mk := M.agr g2 (fun k z => by have := gi z; omega)
  refine Ends.eq (b647_6 l2 (by omega)) ?_
  rw [e118]
  refine Ends.b1 (fun z => ?_) (fun z => ?_)
  · -- two numbers: one by one
    have K2 : K = 2 := by omega
    subst K2
    obtain ⟨mt, emt⟩ : ∃ mt, mt = mtF (mmk mk F) (mdr F) N 2 := ⟨_, rfl⟩
    have mtk : ∀ k, mt k = fnM (mmk mk F) (mdr F) (N 0) (N 1) k := fun k => by
      rw [emt]; unfold mtF
      rw [decide_eq_true (show (2 : Nat) ≠ 3 by decide), Bool.true_or, Bool.and_true]
    have fin : ∀ h' v, Agr (fun c k => c = B + 188 ∧ k < 3) h2 h' → nthR mt (min mm 4096) i v → Q ((0, (0, v)), h') := fun h' v g r => by
      have a := f2.agr g (by omega) (by omega) (fun k => by omega)
      exact KK _ _ ⟨mm, F, a, a.foM (by decide) (b2.agr g (fun k => by omega)), g2.tr g (fun c k z => Or.inl (Or.inl z.1)), by rw [← emt]; exact r⟩
    have key : ∀ (r k : Nat) (g : AH), k + r = min mm 4096 → LX B n g → Agr (fun c k => c = B + 188 ∧ k < 3) h2 g → ((cntN mt k : Nat) : Int) ≤ i → Ends (ev PP (gsF gv) B d 647 51 [(2, rf (B + 149)), (0, i), (0, i - ((cntN mt k : Nat) : Int)), (0, (k : Int))] [] g) Q := by
      intro r
      induction r with
      | zero =>
        intro k g e lg ag ci
        have e : k = min mm 4096 := by omega
        subst e
        have fq := f2.agr ag (by omega) (by omega) (fun k => by omega)
        refine Ends.eq (b647_51 lg (by omega)) ?_
        rw [v727_is fq]
        refine Ends.b3 (fun _ => Ends.eq (b647_89 lg (by omega)) (Ends.sm (fin _ _ ag (Or.inr ⟨fun w => ?_, rfl⟩)))) (fun z => absurd z (Int.lt_irrefl _))
        have := nth_ex.mp w
        omega
      | succ r ih =>
        intro k g e lg ag ci
        have hk : k < min mm 4096 := by omega
        have := m4 mm
        have cb := cntN_le mt k
        have cs := cntN_s mt k
        have fq := f2.agr ag (by omega) (by omega) (fun k => by omega)
        refine Ends.eq (b647_51 lg (by omega)) ?_
        rw [v727_is fq]
        refine Ends.b3 (fun z => by omega) (fun _ => Ends.b2 (fun z => by omega) (fun _ => ?_))
        refine Ends.ct lg (by decide +kernel) (by decide) (c_isAbout679 (N := N) lg (by omega) hn (tb2.agr ag (fun c k a b _ z => by omega)) fq (M2.agr ag (fun k => by omega)) hk (by rw [ag.at _ _ (by omega)]; exact eN 0 (by decide)) (by rw [ag.at _ _ (by omega)]; exact eN 1 (by decide))) (fun v h3 l3 _ _ _ ⟨ev', g3⟩ => ?_)
        have ag3 := ag.tr g3 (fun _ _ z => z)
        refine Ends.eq (b647_68 l3 (by omega)) ?_
        rw [ev', ← mtk]
        cases w : mt k
        · rw [if_neg Bool.false_ne_true]
          refine Ends.b1 (fun y => absurd rfl y) (fun _ => ?_)
          refine Ends.eq (b647_83 l3 (by omega)) ?_
          rw [w_succ (by omega)]
          rw [w, if_neg Bool.false_ne_true, Nat.add_zero] at cs
          have nx := ih (k + 1) h3 (by omega) l3 ag3
          rw [cs] at nx
          exact nx ci
        · rw [if_pos rfl]
          rw [w, if_pos rfl] at cs
          refine Ends.b1 (fun _ => Ends.b1 (fun y => ?_) (fun y => Ends.sm (fin _ _ ag3 (Or.inl ⟨k, hk, w, by omega, rfl⟩)))) (fun y => absurd y (by decide))
          refine Ends.eq (b647_83 l3 (by omega)) ?_
          have nx := ih (k + 1) h3 (by omega) l3 ag3
          rw [cs] at nx
          rw [w_succ (i := k) (by omega), inc32 (by omega) (by omega), show i - ((cntN mt k : Nat) : Int) + (-1) = i - ((cntN mt k + 1 : Nat) : Int) by omega]
          exact nx (by omega)
    have st := key (min mm 4096) 0 h2 (Nat.zero_add _) l2 Agr.rf (by show ((0 : Nat) : Int) ≤ i; omega)
    rw [show cntN mt 0 = 0 from rfl, show ((0 : Nat) : Int) = 0 from rfl, Int.sub_zero] at st
    exact st
  · have K3 : K = 3 := by omega
    subst K3
    refine Ends.b1 (fun z => ?_) (fun z => ?_)
    · refine Ends.eq (b647_46 l2 (by omega)) (Ends.sm (KK _ _ ⟨mm, F, f2, f2.foM (by decide) b2, g2, Or.inr ⟨fun ⟨k, k1, k2, k3⟩ => ?_, rfl⟩⟩))
      have c0 : cntN (mtF (mmk mk F) (mdr F) N 3) k = 0 := cntN_none k (fun j hj => by
        cases e : mtF (mmk mk F) (mdr F) N 3 j
        · rfl
        · have := mt3_one e k2; omega)
      rw [c0] at k3; omega
    · rw [show Int.toNat (0 : Int) = 0 from rfl, show Int.toNat (1 : Int) = 1 from rfl, show Int.toNat (2 : Int) = 2 from rfl, eN 0 (by decide), eN 1 (by decide), eN 2 (by decide)]
      have s12 : MB B n h2 10 (SS 10) := s1.agr g2 (fun k _ z => by have := gi z; omega)
      refine Ends.ct l2 (by decide +kernel) (by decide) (c_faceNamed618 (s := 10) l2 (by omega) hn0 hn tb2 (by decide) s12 b2 ((f2.foM (SS := SS) (by decide) b2).at (by decide)) M2 (h2N rfl)) (fun v h3 l3 _ _ _ ⟨mm', F', y1, y2, y3, y4⟩ => ?_)
      refine Ends.eq (b647_42 l3 (by omega)) (Ends.eq (b647_46 l3 (by omega)) (Ends.sm (KK _ _ ⟨mm', F', y1, y1.foM (by decide) y3, g2.tr y4 (fun _ _ z => z), ?_⟩)))
      rw [z]; exact mt3_nth y2
def fmW (B : Nat) : Nat → Nat → Prop := fun c k => fgoW B c k ∨ rnW B c k ∨ (c = B + 149 ∧ (k = 0 ∨ k = 2 ∨ k = 3 ∨ k = 118)) ∨ (c = B + 204 ∧ k < 3)
theorem fmW_in {c k : Nat} (z : fmW B c k) : c ≤ B + 239 ∧ c ≠ B + 236 ∧ c ≠ B + 237 ∧ c ≠ B + 193 ∧ ¬ (B + 178 ≤ c ∧ c ≤ B + 187) := by
  unfold fmW fgoW fdfW rnW mgW at z; omega
set_option maxHeartbeats 2000000 in
theorem c_find631 (l : LX B n h) (hd : 38 ≤ d) (hn0 : 0 < n) (hn : n ≤ 52) (tb : TbM B h) (bd : BdM B n h is SS) (f : FoM B n h SS) (M : MkM B n h mk) (h2 : hv h (B + 149) 2 = (m : Int)) (hm : m ≤ 8192) (hu : ∀ i, i < m → hv h (B + 150) i = u i) (ur : ∀ i, i < m → 0 ≤ u i ∧ u i < 256) :
    Vt 0 (cll PP (ev PP (gsF gv) B) d 631 [(2, rf (B + 149))] h) (fun x h' => hv h' (B + 149) 0 = 0 ∧ hv h' (B + 149) 2 = 0 ∧ Agr (fmW B) h h' ∧ FoM B n h' SS ∧ (((¬ ∃ K, exN u m K) ∧ x = -3 ∧ hv h' (B + 149) 118 = hv h (B + 149) 118 ∧ ∀ j, hv h' (B + 204) j = hv h (B + 204) j) ∨ ∃ K, exN u m K ∧ FmN B h' K (fun j => nbV u m (nst u m 0 j)) ∧ ∃ mm F, MFc B n h' 10 (SS 10) mm F ∧ fdR (mtF (mmk mk F) (mdr F) (fun j => nbV u m (nst u m 0 j)) K) (min mm 4096) x)) := by
  have hb0 := l.2.2
  refine Vt.inq (D := 37) hd (Nat.le_of_ble_eq_true rfl) rfl (fun d hd Q KK => ?_)
  refine Ends.eq (b631_0 l (by omega)) ?_
  rw [h2]
  have l1 : LX B n (hset (hset (hset h (B + 149) 0 0) (B + 149) 3 (m : Int)) (B + 149) 2 0) := LX.setF 149 2 (LX.setF 149 3 (LX.setF 149 0 l (by decide +kernel)) (by decide +kernel)) (by decide +kernel)
  have g1 : Agr (fun c k => c = B + 149 ∧ (k = 0 ∨ k = 2 ∨ k = 3)) h (hset (hset (hset h (B + 149) 0 0) (B + 149) 3 (m : Int)) (B + 149) 2 0) := ((Agr.rf.set ⟨rfl, Or.inl rfl⟩).set ⟨rfl, Or.inr (Or.inr rfl)⟩).set ⟨rfl, Or.inr (Or.inl rfl)⟩
  have w0 : hv (hset (hset (hset h (B + 149) 0 0) (B + 149) 3 (m : Int)) (B + 149) 2 0) (B + 149) 0 = 0 := by rw [hv_set_ne (by omega), hv_set_ne (by omega), hv_set_at]
  have w3 : hv (hset (hset (hset h (B + 149) 0 0) (B + 149) 3 (m : Int)) (B + 149) 2 0) (B + 149) 3 = (m : Int) := by rw [hv_set_ne (by omega), hv_set_at]
  have w2 : hv (hset (hset (hset h (B + 149) 0 0) (B + 149) 3 (m : Int)) (B + 149) 2 0) (B + 149) 2 = 0 := hv_set_at ..
  generalize hset (hset (hset h (B + 149) 0 0) (B + 149) 3 (m : Int)) (B + 149) 2 0 = h1 at *
  have u1 : ∀ i, i < m → hv h1 (B + 150) i = u i := fun i hi => by rw [g1.at _ _ (by omega)]; exact hu i hi
  -- behind the count of points
  have rest : ∀ x2 : Int, Ends (ev PP (gsF gv) B d 631 22 [(2, rf (B + 149)), (0, ((cntN (dtB u) m : Nat) : Int)), (0, (m : Int))] [] h1) Q := fun x2 => by
    have l4 : LX B n (hset (hset h1 (B + 149) 5 0) (B + 149) 4 0) := LX.setF 149 4 (LX.setF 149 5 l1 (by decide +kernel)) (by decide +kernel)
    have g4 : Agr (fun c k => c = B + 149 ∧ (k = 4 ∨ k = 5)) h1 (hset (hset h1 (B + 149) 5 0) (B + 149) 4 0) := (Agr.rf.set ⟨rfl, Or.inr rfl⟩).set ⟨rfl, Or.inl rfl⟩
    have v5 : hv (hset (hset h1 (B + 149) 5 0) (B + 149) 4 0) (B + 149) 5 = ((0 : Nat) : Int) := by rw [hv_set_ne (by omega), hv_set_at]; rfl
    refine Ends.eq (b631_22 l1 (by omega)) ?_
    rw [w3]
    refine Ends.b3 (fun _ => ?_) (fun z => absurd z (Int.lt_irrefl _))
    generalize hset (hset h1 (B + 149) 5 0) (B + 149) 4 0 = h4 at *
    have g14 : Agr (fmW B) h h4 := (g1.sub (fun c k z => by unfold fmW; omega)).tr g4 (fun c k z => by unfold fmW rnW mgW; omega)
    have S4 : MgP B h4 m u := ⟨by rw [g4.at _ _ (by omega)]; exact w3, fun i hi => by rw [g4.at _ _ (by omega)]; exact u1 i hi, ur, hm⟩
    have f4 : FoM B n h4 SS := (f.agr g1 (fun k => by omega) (by omega) (by omega) (fun k => by omega)).agr g4 (fun k => by omega) (by omega) (by omega) (fun k => by omega)
    have no : ∀ (q : AH) (L : List AV), LX B n q → Agr (rnW B) h4 q → (¬ ∃ K, exN u m K) → ev PP (gsF gv) B d 631 117 L [] q = some ((0, (0, -3)), q) → Ends (ev PP (gsF gv) B d 631 117 L [] q) Q := fun q L lq gq no e => by
      rw [e]
      refine Ends.sm (KK _ _ ⟨?_, ?_, g14.tr gq (fun c k z => Or.inr (Or.inl z)), f4.agr gq (fun k => by unfold rnW mgW; omega) (by unfold rnW mgW; omega) (by unfold rnW mgW; omega) (fun k => by unfold rnW mgW; omega), Or.inl ⟨no, rfl, ?_, fun j => ?_⟩⟩)
      · rw [gq.at _ _ (by unfold rnW mgW; omega), g4.at _ _ (by omega)]; exact w0
      · rw [gq.at _ _ (by unfold rnW mgW; omega), g4.at _ _ (by omega)]; exact w2
      · rw [gq.at _ _ (by unfold rnW mgW; omega), g4.at _ _ (by omega), g1.at _ _ (by omega)]
      · rw [gq.at _ _ (by unfold rnW mgW; omega), g4.at _ _ (by omega), g1.at _ _ (by omega)]
    refine Ends.b2 (fun z => no h4 _ l4 Agr.rf (fun ⟨K, e⟩ => ?_) (b631_117 l4 (by omega))) (fun z1 => Ends.b4 (fun z => no h4 _ l4 Agr.rf (fun ⟨K, e⟩ => ?_) (b631_117 l4 (by omega))) (fun z2 => Ends.g (S4.q 0) ?_))
    · have a := dots_is e; have b := e.1; omega
    · have a := dots_is e; have b := e.1; omega
    obtain ⟨K, eK⟩ : ∃ K, K = cntN (dtB u) m + 1 := ⟨_, rfl⟩
    have hK : 2 ≤ K ∧ K ≤ 3 := by omega
    have only : ∀ K', exN u m K' → K' = K := fun K' e => by have a := dots_is e; have b := e.1; omega
    rw [show v829 B h4 (0 : Int) = chr u m 0 from S4.by 0, show bop32 96 ((cntN (dtB u) m : Nat) : Int) (1 : Int) = (K : Int) from by rw [eK]; exact addNN (y := 1) (by omega)]
    refine Ends.b0 (fun z => no h4 _ l4 Agr.rf (fun ⟨K', e⟩ => ?_) (b631_117 l4 (by omega))) (fun z3 => ?_)
    · have := isD_r (exN_end e).2.1; omega
    refine Ends.ct l4 (by decide +kernel) (by decide) (c_readName794 (p := 0) (K := K) l4 (by omega) S4 v5 (Nat.zero_le _) (by omega)) (fun x h5 l5 _ _ _ ⟨g5, r5⟩ => ?_)
    refine Ends.eq (b631_92 l5 (by omega)) ?_
    rcases r5 with ⟨o, ex, R5, nm⟩ | ⟨o, ex⟩
    rotate_left
    · rw [ex]
      exact Ends.b3 (fun _ => no h5 _ l5 g5 (fun ⟨K', e⟩ => o (by rw [← only K' e]; exact e.2.1)) (b631_117 l5 (by omega))) (fun z => by omega)
    rw [ex]
    refine Ends.b3 (fun z => absurd z (by decide)) (fun _ => ?_)
    rw [R5.2.2.1]
    obtain ⟨n1, n2⟩ := nen_le o (by omega) (Nat.zero_le _)
    refine Ends.b1 (fun z => no h5 _ l5 g5 (fun ⟨K', e⟩ => z ?_) (b631_117 l5 (by omega))) (fun z => ?_)
    · rw [only K' e] at e
      exact mkd_0.mpr (exN_end e).2.2.2
    have k0 := mkd_0.mp z
    have S5 : MgP B h5 m u := S4.agr g5 (by unfold rnW mgW; omega) (fun i _ => by unfold rnW mgW; omega)
    rw [S5.1, show bop32 100 (m : Int) (1 : Int) = ((m - 1 : Nat) : Int) from subNN (y := 1) (by omega) (by omega), S5.by]
    refine Ends.g (S5.q _) (Ends.b1 (fun z4 => ?_) (fun z4 => no h5 _ l5 g5 (fun ⟨K', e⟩ => ?_) (b631_117 l5 (by omega))))
    rotate_left
    · have := isD_r (exN_end e).2.2.1; omega
    -- the text is K numbers
    have exK : exN u m K := by
      refine ⟨hK, o, ?_⟩
      apply Classical.byContradiction
      intro ne
      have tf : chr u m (tkF u m (nen u m 0 K)) < 0 := by
        apply Classical.byContradiction
        intro y
        unfold tkK at k0
        rw [if_neg y] at k0
        by_cases a : isL (chr u m (tkF u m (nen u m 0 K))) = true
        · rw [if_pos a] at k0
          by_cases b : en isW u m (tkF u m (nen u m 0 K)) - tkF u m (nen u m 0 K) ≤ 12
          · rw [if_pos b] at k0; omega
          · rw [if_neg b] at k0; omega
        · rw [if_neg a] at k0
          by_cases b : isD (chr u m (tkF u m (nen u m 0 K))) = true
          · rw [if_pos b] at k0
            by_cases c : nOK u m (tkF u m (nen u m 0 K)) = true
            · rw [if_pos c] at k0; omega
            · rw [if_neg c] at k0; omega
          · rw [if_neg b] at k0; omega
      have ge : m ≤ tkF u m (nen u m 0 K) := by
        apply Classical.byContradiction
        intro y
        rw [chr_lt (by omega)] at tf
        have := ur _ (show tkF u m (nen u m 0 K) < m by omega)
        omega
      have sp := enS_all (P := isS) (u := u) (m := m) (by decide) (p := nen u m 0 K) (i := m - 1) (by omega) (by unfold tkF at ge; omega)
      unfold isS at sp
      exact z4 (of_decide_eq_true sp)
    rw [show bop32 96 ((cntN (dtB u) m : Nat) : Int) (1 : Int) = (K : Int) from by rw [eK]; exact addNN (y := 1) (by omega)]
    have l6 : LX B n (hset h5 (B + 149) 118 (K : Int)) := LX.setF 149 118 l5 (by decide +kernel)
    have g6 : Agr (fun c k => c = B + 149 ∧ k = 118) h5 (hset h5 (B + 149) 118 (K : Int)) := Agr.rf.set ⟨rfl, rfl⟩
    have v6 : hv (hset h5 (B + 149) 118 (K : Int)) (B + 149) 118 = (K : Int) := hv_set_at ..
    generalize hset h5 (B + 149) 118 (K : Int) = h6 at *
    have copy : ∀ (r j : Nat) (q : AH), j + r = 3 → LX B n q → Agr (fun c k => c = B + 204 ∧ k < 3) h6 q → (∀ i, i < j → hv q (B + 204) i = hv h5 (B + 192) i) → (∀ q, LX B n q → Agr (fun c k => c = B + 204 ∧ k < 3) h6 q → (∀ i, i < 3 → hv q (B + 204) i = hv h5 (B + 192) i) → Ends (aft PP 631 154 157 [(2, rf (B + 149)), (0, ((cntN (dtB u) m : Nat) : Int)), (0, 3)] [] (ev PP (gsF gv) B d 631) (cll PP (ev PP (gsF gv) B) d 647 [(2, rf (B + 149)), (0, 0)] q)) Q) → Ends (ev PP (gsF gv) B d 631 129 [(2, rf (B + 149)), (0, ((cntN (dtB u) m : Nat) : Int)), (0, (j : Int))] [] q) Q := by
      intro r
      induction r with
      | zero =>
        intro j q e lq gq I k
        obtain rfl : j = 3 := by omega
        exact Ends.eq (b631_129 lq (by omega)) (Ends.b3 (fun _ => k q lq gq I) (fun z => absurd z (by decide)))
      | succ r ih =>
        intro j q e lq gq I k
        refine Ends.eq (b631_129 lq (by omega)) (Ends.b3 (fun z => by omega) (fun _ => Ends.g ⟨by omega, by omega⟩ ?_))
        rw [tn, an0, w_succ (by omega)]
        refine ih (j + 1) _ (by omega) (LX.setS lq rfl) (gq.set ⟨rfl, by omega⟩) (fun i hi => ?_) k
        by_cases x : i = j
        · rw [x, hv_set_at, gq.at _ _ (by omega), g6.at _ _ (by omega)]
        · rw [hv_set_ne (by omega)]; exact I i (by omega)
    refine copy 3 0 h6 rfl l6 Agr.rf (fun i hi => absurd hi (Nat.not_lt_zero i)) (fun h7 l7 g7 I7 => ?_)
    have g46 : Agr (fun c k => rnW B c k ∨ (c = B + 149 ∧ k = 118) ∨ (c = B + 204 ∧ k < 3)) h4 h7 := ((g5.sub (fun c k z => Or.inl z)).tr g6 (fun c k z => Or.inr (Or.inl z))).tr g7 (fun c k z => Or.inr (Or.inr z))
    have G7 : Agr (fmW B) h h7 := g14.tr g46 (fun c k z => by
      rcases z with z | z | z
      · exact Or.inr (Or.inl z)
      · exact Or.inr (Or.inr (Or.inl ⟨z.1, Or.inr (Or.inr (Or.inr z.2))⟩))
      · exact Or.inr (Or.inr (Or.inr z)))
    have q7 : FmN B h7 K (fun j => nbV u m (nst u m 0 j)) := ⟨by rw [g7.at _ _ (by omega)]; exact v6, fun j hj => by rw [I7 j (by omega)]; exact nm j hj⟩
    have f7 : FoM B n h7 SS := f4.agr g46 (fun k => by unfold rnW mgW; omega) (by unfold rnW mgW; omega) (by unfold rnW mgW; omega) (fun k => by unfold rnW mgW; omega)
    have tb7 : TbM B h7 := tb.agr G7 (fun c k a b _ z => by have := fmW_in z; omega)
    have bd7 : BdM B n h7 is SS := bd.agr G7 (fun k z => by have := fmW_in z; omega) (fun s k _ _ z => by have := fmW_in z; omega)
    have M7 : MkM B n h7 mk := M.agr G7 (fun k z => by have := fmW_in z; omega)
    have h2N : K = 3 → 0 ≤ nbV u m (nst u m 0 2) ∧ nbV u m (nst u m 0 2) < 1000000 := fun e => by
      have := nbV_b (o 2 (by omega)).1
      omega
    have x0 : ∀ {q : AH} {W : Nat → Nat → Prop}, Agr W h7 q → ¬ W (B + 149) 0 → ¬ W (B + 149) 2 → hv q (B + 149) 0 = 0 ∧ hv q (B + 149) 2 = 0 := fun g a b => by
      rw [g.at _ _ a, g.at _ _ b, g46.at _ _ (by unfold rnW mgW; omega), g46.at _ _ (by unfold rnW mgW; omega), g4.at _ _ (by omega), g4.at _ _ (by omega)]
      exact ⟨w0, w2⟩
    refine Ends.ct l7 (by decide +kernel) (by decide) (c_foundFace647 (N := fun j => nbV u m (nst u m 0 j)) l7 (by omega) hn0 hn tb7 bd7 f7 M7 q7 hK h2N (Int.le_refl 0) (by decide)) (fun v h8 l8 _ _ _ ⟨mm, F, t1, t2, t3, t4⟩ => ?_)
    have gi : ∀ {c k : Nat}, fgoW B c k → c ≤ B + 239 ∧ c ≠ B + 204 ∧ c ≠ B + 236 ∧ c ≠ B + 237 ∧ c ≠ B + 193 ∧ ¬ (B + 178 ≤ c ∧ c ≤ B + 187) ∧ ¬ (c = B + 149 ∧ (k = 118 ∨ k = 0 ∨ k = 2)) := fun z => by unfold fgoW fdfW at z; omega
    have G8 : Agr (fmW B) h h8 := G7.tr t3 (fun c k z => Or.inl z)
    have q8 : FmN B h8 K (fun j => nbV u m (nst u m 0 j)) := ⟨by rw [t3.at _ _ (fun z => by have := gi z; omega)]; exact q7.1, fun j hj => by rw [t3.at _ _ (fun z => by have := gi z; omega)]; exact q7.2 j hj⟩
    obtain ⟨y0, y2⟩ := x0 t3 (fun z => by have := gi z; omega) (fun z => by have := gi z; omega)
    obtain ⟨mt, emt⟩ : ∃ mt, mt = mtF (mmk mk F) (mdr F) (fun j => nbV u m (nst u m 0 j)) K := ⟨_, rfl⟩
    rw [← emt] at t4
    refine Ends.eq (b631_157 l8 (by omega)) ?_
    rw [q8.1]
    have out : ∀ x, fdR mt (min mm 4096) x → Q ((0, (0, x)), h8) := fun x r => KK _ _ ⟨y0, y2, G8, t2, Or.inr ⟨K, exK, q8, mm, F, t1, by rw [← emt]; exact r⟩⟩
    have one : (K = 3 ∨ v < 0) → fdR mt (min mm 4096) v := fun w => by
      rcases t4 with ⟨k, k1, k2, k3, k4⟩ | ⟨no0, ev'⟩
      · have K3 : K = 3 := by rcases w with w | w; exact w; omega
        refine Or.inr (Or.inl ⟨?_, Or.inl ⟨k, k1, k2, k3, k4⟩⟩)
        subst K3
        have c := cntN_s mt k
        rw [k2, if_pos rfl] at c
        rw [cnt_flat (p := mt) (a := k + 1) (b := min mm 4096) k1 (fun j h1 h2 => ?_)]
        · omega
        · cases e : mt j
          · rfl
          · rw [emt] at e k2
            have := mt3_one e k2; omega
      · refine Or.inl ⟨?_, ev'⟩
        apply Classical.byContradiction
        intro y
        exact no0 (nth_ex.mpr ⟨Int.le_refl 0, by omega⟩)
    have done : (K = 3 ∨ v < 0) → Ends (ev PP (gsF gv) B d 631 183 [(2, rf (B + 149)), (0, ((cntN (dtB u) m : Nat) : Int)), (0, v)] [] h8) Q := fun w => Ends.eq (b631_183 l8 (by omega)) (Ends.eq (b631_184 l8 (by omega)) (Ends.sm (out _ (one w))))
    refine Ends.b1 (fun z5 => done (Or.inl (by omega))) (fun z5 => Ends.b2 (fun z6 => done (Or.inr z6)) (fun z6 => ?_))
    have K2 : K = 2 := by omega
    refine Ends.ct l8 (by decide +kernel) (by decide) (c_foundFace647 (N := fun j => nbV u m (nst u m 0 j)) l8 (by omega) hn0 hn (tb7.agr t3 (fun c k a b _ z => by have := gi z; omega)) (bd7.agr t3 (fun k z => by have := gi z; omega) (fun s k _ _ z => by have := gi z; omega)) t2 (M7.agr t3 (fun k z => by have := gi z; omega)) q8 hK h2N (by decide) (by decide)) (fun v' h9 l9 _ _ _ ⟨mm', F', r1, r2, r3, r4⟩ => ?_)
    obtain ⟨em, eF⟩ := t1.1.uniq r1.1
    subst em
    have ec : ∀ k, k < min mm 4096 → mtF (mmk mk F') (mdr F') (fun j => nbV u m (nst u m 0 j)) K k = mt k := fun k hk => by
      rw [emt]
      exact mtF_congr (M := min mm 4096) (fun k hk => by unfold mmk mdr; rw [eF k (by omega)]; exact ⟨rfl, rfl⟩) k hk
    have cc : cntN (mtF (mmk mk F') (mdr F') (fun j => nbV u m (nst u m 0 j)) K) (min mm 4096) = cntN mt (min mm 4096) := cntN_congr _ ec
    refine Ends.eq (b631_175 l9 (by omega)) (Ends.sm (KK _ _ ⟨?_, ?_, G8.tr r3 (fun c k z => Or.inl z), r2, Or.inr ⟨K, exK, ⟨by rw [r3.at _ _ (fun z => by have := gi z; omega)]; exact q8.1, fun j hj => by rw [r3.at _ _ (fun z => by have := gi z; omega)]; exact q8.2 j hj⟩, mm, F', r1, ?_⟩⟩))
    · rw [r3.at _ _ (fun z => by have := gi z; omega)]; exact y0
    · rw [r3.at _ _ (fun z => by have := gi z; omega)]; exact y2
    · have r0 : fdR mt (min mm 4096) (cond (tst 2 v' 0) v (-2)) := by
        have v0 : ∃ k, k < min mm 4096 ∧ mt k = true ∧ ((cntN mt k : Nat) : Int) = 0 := by
          rcases t4 with ⟨k, k1, k2, k3, k4⟩ | ⟨no0, ev'⟩
          · exact ⟨k, k1, k2, k3⟩
          · omega
        have pos := nth_ex.mp v0
        rw [ct2]
        have r4' : (v' < 0 ∧ cntN mt (min mm 4096) < 2) ∨ (0 ≤ v' ∧ 2 ≤ cntN mt (min mm 4096)) := by
          rcases r4 with ⟨k, k1, k2, k3, k4⟩ | ⟨no1, ev'⟩
          · have := nth_ex.mp ⟨k, k1, k2, k3⟩
            rw [cc] at this
            right; omega
          · left
            refine ⟨by omega, ?_⟩
            apply Classical.byContradiction
            intro y
            exact no1 (nth_ex.mpr ⟨by decide, by rw [cc]; omega⟩)
        rcases r4' with ⟨a, b⟩ | ⟨a, b⟩
        · rw [if_pos a]
          exact Or.inr (Or.inl ⟨by omega, t4⟩)
        · rw [if_neg (by omega)]
          exact Or.inr (Or.inr ⟨b, rfl⟩)
      rcases r0 with ⟨a, b⟩ | ⟨a, b⟩ | ⟨a, b⟩
      · exact Or.inl ⟨by rw [cc]; exact a, b⟩
      · refine Or.inr (Or.inl ⟨by rw [cc]; exact a, ?_⟩)
        have cck : ∀ k, k < min mm 4096 → cntN (mtF (mmk mk F') (mdr F') (fun j => nbV u m (nst u m 0 j)) K) k = cntN mt k := fun k hk => cntN_congr k (fun i hi => ec i (by omega))
        rcases b with ⟨k, k1, k2, k3, k4⟩ | ⟨no, e⟩
        · exact Or.inl ⟨k, k1, by rw [ec k k1]; exact k2, by rw [cck k k1]; exact k3, k4⟩
        · exact Or.inr ⟨fun ⟨k, k1, k2, k3⟩ => no ⟨k, k1, by rw [← ec k k1]; exact k2, by rw [← cck k k1]; exact k3⟩, e⟩
      · exact Or.inr (Or.inr ⟨by rw [cc]; exact a, b⟩)
  have count : ∀ (r i : Nat), i + r = m → Ends (ev PP (gsF gv) B d 631 22 [(2, rf (B + 149)), (0, ((cntN (dtB u) i : Nat) : Int)), (0, (i : Int))] [] h1) Q := by
    intro r
    induction r with
    | zero =>
      intro i e
      have e : i = m := by omega
      subst e
      exact rest 0
    | succ r ih =>
      intro i e
      have cb := cntN_le (dtB u) i
      refine Ends.eq (b631_22 l1 (by omega)) ?_
      rw [w3]
      refine Ends.b3 (fun z => by omega) (fun _ => Ends.g ⟨by omega, by omega⟩ ?_)
      have nx := ih (i + 1) (by omega)
      rw [cntN_s] at nx
      rw [tn, u1 i (by omega), ct1, w_succ (i := i) (by omega)]
      by_cases z : u i = 46
      · rw [show dtB u i = true from decide_eq_true z, if_pos rfl] at nx
        rw [if_pos z, show bop32 96 ((cntN (dtB u) i : Nat) : Int) (1 : Int) = ((cntN (dtB u) i + 1 : Nat) : Int) from addNN (y := 1) (by omega)]
        exact nx
      · rw [show dtB u i = false from decide_eq_false z, if_neg Bool.false_ne_true] at nx
        rw [if_neg z, show bop32 96 ((cntN (dtB u) i : Nat) : Int) (0 : Int) = ((cntN (dtB u) i + 0 : Nat) : Int) from addNN (y := 0) (by omega)]
        exact nx
  exact count m 0 (Nat.zero_add _)
/-- what pieces are asked of (model) -/
theorem c_piece776 {i : Int} (l : LX B n h) (hd : 36 ≤ d) (hn0 : 0 < n) (hn : n ≤ 52) (tb : TbM B h) (bd : BdM B n h is SS) (f : FoM B n h SS) (M : MkM B n h mk) (hi2 : i < 2147483648) (q : hv h (B + 149) 118 = 0 ∨ ∃ K, (2 ≤ K ∧ K ≤ 3) ∧ FmN B h K N ∧ (K = 3 → 0 ≤ N 2 ∧ N 2 < 1000000)) :
    Vt 0 (cll PP (ev PP (gsF gv) B) d 776 [(2, rf (B + 149)), (0, i)] h) (fun x h' => hv h' (B + 149) 0 = 0 ∧ FoM B n h' SS ∧ Agr (sfM B) h h' ∧ (((hv h (B + 149) 118 = 0 ∨ i < 0) ∧ x = -1) ∨ (0 ≤ i ∧ ∃ K, (2 ≤ K ∧ K ≤ 3) ∧ FmN B h K N ∧ ∃ mm F, MFc B n h' 10 (SS 10) mm F ∧ nthR (mtF (mmk mk F) (mdr F) N K) (min mm 4096) i x))) := by
  refine Vt.inq (D := 35) hd (Nat.le_of_ble_eq_true rfl) rfl (fun d hd Q KK => ?_)
  have hb0 := l.2.2
  refine Ends.eq (b776_0 l (by omega)) ?_
  have l1 : LX B n (hset h (B + 149) 0 0) := LX.setF 149 0 l (by decide +kernel)
  have g1 : Agr (fun c k => c = B + 149 ∧ k = 0) h (hset h (B + 149) 0 0) := Agr.rf.set ⟨rfl, rfl⟩
  have v0 : hv (hset h (B + 149) 0 0) (B + 149) 0 = 0 := hv_set_at ..
  have f1 : FoM B n (hset h (B + 149) 0 0) SS := f.agr g1 (fun k => by omega) (by omega) (by omega) (fun k => by omega)
  generalize hset h (B + 149) 0 0 = h1 at *
  have none : (hv h (B + 149) 118 = 0 ∨ i < 0) → Ends (ev PP (gsF gv) B d 776 16 [(2, rf (B + 149)), (0, i)] [] h1) Q := fun w => Ends.eq (b776_16 l1 (by omega)) (Ends.eq (b776_25 l1 (by omega)) (Ends.sm (KK _ _ ⟨v0, f1, g1.sub (fun c k z => Or.inr z), Or.inl ⟨w, rfl⟩⟩)))
  refine Ends.b0 (fun z => none (Or.inl z)) (fun z => Ends.b3 (fun z1 => ?_) (fun z1 => none (Or.inr z1)))
  rcases q with w | ⟨K, k1, k2, k3⟩
  · exact absurd w z
  have q1 : FmN B h1 K N := ⟨by rw [g1.at _ _ (by omega)]; exact k2.1, fun j hj => by rw [g1.at _ _ (by omega)]; exact k2.2 j hj⟩
  refine Ends.ct l1 (by decide +kernel) (by decide) (c_foundFace647 l1 (by omega) hn0 hn (tb.agr g1 (fun c k a b _ z => by omega)) (bd.agr g1 (fun k z => by omega) (fun s k _ _ z => by omega)) f1 (M.agr g1 (fun k z => by omega)) q1 k1 k3 z1 hi2) (fun v h2 l2 _ _ _ ⟨mm, F, t1, t2, t3, t4⟩ => ?_)
  refine Ends.eq (b776_25 l2 (by omega)) (Ends.sm (KK _ _ ⟨?_, t2, (g1.sub (fun c k z => Or.inr z)).tr t3 (fun c k z => Or.inl z), Or.inr ⟨z1, K, k1, k2, mm, F, t1, t4⟩⟩))
  rw [t3.at _ _ (by unfold fgoW fdfW; omega)]; exact v0
end FNM
