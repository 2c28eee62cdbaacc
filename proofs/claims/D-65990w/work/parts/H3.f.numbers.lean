/-! L3: numbers with points between them, read (both sides) -/
section NBR
variable {gv : Nat → Int} {B n d m : Nat} {h t : AH} {u : Nat → Int}
/-- how many digits from p on; whether they are a number; its value -/
def ndg (u : Nat → Int) (m p : Nat) : Nat := en isD u m p - p
def nbO (u : Nat → Int) (m p : Nat) : Prop := 1 ≤ ndg u m p ∧ ndg u m p ≤ 4 ∧ (ndg u m p = 1 ∨ u p ≠ 48)
def nbV (u : Nat → Int) (m p : Nat) : Int := hor u (ndg u m p) p 0
/-- where number j begins; whether K numbers stand there; their end -/
def nst (u : Nat → Int) (m p : Nat) : Nat → Nat
  | 0 => p
  | j + 1 => en isD u m (nst u m p j) + 1
def nmO (u : Nat → Int) (m p K : Nat) : Prop := ∀ j, j < K → nbO u m (nst u m p j) ∧ (j + 1 < K → chr u m (en isD u m (nst u m p j)) = 46)
def nen (u : Nat → Int) (m p K : Nat) : Nat := en isD u m (nst u m p (K - 1))
theorem isD_n1 : isD (-1) = false := by decide
theorem chr_in {i : Nat} {c : Int} (e : chr u m i = c) (hc : c ≠ -1) : i < m ∧ u i = c := by
  unfold chr at e
  by_cases z : i < m
  · rw [if_pos z] at e; exact ⟨z, e⟩
  · rw [if_neg z] at e; exact absurd e.symm hc
theorem chr_lt {i : Nat} (hi : i < m) : chr u m i = u i := by unfold chr; rw [if_pos hi]
theorem isD_chr {i : Nat} (e : isD (chr u m i) = true) : i < m ∧ isD (u i) = true := by
  by_cases z : i < m
  · rw [chr_lt z] at e; exact ⟨z, e⟩
  · unfold chr at e; rw [if_neg z, isD_n1] at e; exact absurd e Bool.false_ne_true
/-- a stretch's place by what is there -/
theorem en_is {p x : Nat} (hx : p ≤ x) (a : ∀ i, p ≤ i → i < x → isD (chr u m i) = true) (b : isD (chr u m x) = false) : en isD u m p = x := by
  obtain ⟨r, e⟩ : ∃ r, x = p + r := ⟨x - p, by omega⟩
  subst e
  induction r generalizing p with
  | zero => rw [Nat.add_zero] at b; exact en_f b
  | succ r ih =>
    rw [(en_t isD_n1 (a p (Nat.le_refl _) (by omega))).1]
    have := ih (p := p + 1) (by omega) (fun i h1 h2 => a i (by omega) (by omega)) (by rw [show p + 1 + r = p + (r + 1) by omega]; exact b)
    rw [this]; omega
theorem en_all' {p i : Nat} (h1 : p ≤ i) (h2 : i < en isD u m p) : isD (chr u m i) = true := by
  obtain ⟨r, e⟩ : ∃ r, i = p + r := ⟨i - p, by omega⟩
  subst e
  induction r generalizing p with
  | zero =>
    cases c : isD (chr u m (p + 0))
    · rw [Nat.add_zero] at c
      rw [en_f c] at h2; omega
    · rfl
  | succ r ih =>
    have c : isD (chr u m p) = true := by
      cases c : isD (chr u m p)
      · rw [en_f c] at h2; omega
      · rfl
    rw [(en_t isD_n1 c).1] at h2
    have := ih (p := p + 1) (by omega) (by omega)
    rw [show p + (r + 1) = p + 1 + r by omega]; exact this
theorem en_D (p : Nat) : isD (chr u m (en isD u m p)) = false := en_stop isD_n1
/-- a stretch in a shorter text -/
theorem en_cut {p e : Nat} (he : e ≤ m) (h : en isD u m p ≤ e) : en isD u e p = en isD u m p := by
  refine en_is en_ge (fun i h1 h2 => ?_) ?_
  · have := en_all' h1 h2
    rw [chr_lt (by omega)]
    rw [chr_lt (by omega)] at this
    exact this
  · by_cases z : en isD u m p < e
    · have := en_D (u := u) (m := m) p
      rw [chr_lt z]
      rw [chr_lt (by omega)] at this
      exact this
    · unfold chr; rw [if_neg z]; exact isD_n1
theorem nst_le {p : Nat} : ∀ {j K : Nat}, nmO u m p K → j < K → p ≤ m → p ≤ nst u m p j ∧ nst u m p j ≤ m
  | 0, _, _, _, hp => ⟨Nat.le_refl _, hp⟩
  | j + 1, K, o, hj, hp => by
    obtain ⟨a, b⟩ := nst_le (j := j) o (by omega) hp
    have c := (o j (by omega)).2 hj
    obtain ⟨c1, -⟩ := chr_in c (by decide)
    have ge : nst u m p j ≤ en isD u m (nst u m p j) := en_ge
    show p ≤ en isD u m (nst u m p j) + 1 ∧ en isD u m (nst u m p j) + 1 ≤ m
    omega
theorem nen_le {p K : Nat} (o : nmO u m p K) (hK : 0 < K) (hp : p ≤ m) : p < nen u m p K ∧ nen u m p K ≤ m := by
  obtain ⟨a, b⟩ := nst_le (j := K - 1) o (by omega) hp
  have c : en isD u m (nst u m p (K - 1)) ≤ m := en_le b
  have w := (o (K - 1) (by omega)).1.1
  unfold ndg at w
  unfold nen
  omega
theorem nst_mono {p : Nat} : ∀ {j k : Nat}, j < k → en isD u m (nst u m p j) < nst u m p k
  | j, 0, h => absurd h (Nat.not_lt_zero j)
  | j, k + 1, h => by
    show _ < en isD u m (nst u m p k) + 1
    rcases (by omega : j < k ∨ j = k) with z | z
    · have := nst_mono (p := p) z
      have ge : nst u m p k ≤ en isD u m (nst u m p k) := en_ge
      omega
    · rw [z]; omega
/-- numbers in a shorter text -/
theorem nm_cut {p K e : Nat} (o : nmO u m p K) (hp : p ≤ m) (he : e ≤ m) (hK : 0 < K) (h : nen u m p K ≤ e) : (∀ j, j < K → nst u e p j = nst u m p j ∧ en isD u e (nst u m p j) = en isD u m (nst u m p j) ∧ nbV u e (nst u m p j) = nbV u m (nst u m p j)) ∧ nmO u e p K ∧ nen u e p K = nen u m p K := by
  have lim : ∀ j, j < K → en isD u m (nst u m p j) ≤ e := fun j hj => by
    rcases (by omega : j < K - 1 ∨ j = K - 1) with z | z
    · have := nst_mono (u := u) (m := m) (p := p) z
      have ge : nst u m p (K - 1) ≤ en isD u m (nst u m p (K - 1)) := en_ge
      unfold nen at h; omega
    · rw [z]; exact h
  have cut : ∀ j, j < K → en isD u e (nst u m p j) = en isD u m (nst u m p j) := fun j hj => en_cut he (lim j hj)
  have st : ∀ j, j < K → nst u e p j = nst u m p j := fun j => by
    induction j with
    | zero => exact fun _ => rfl
    | succ j ih =>
      intro hj
      show en isD u e (nst u e p j) + 1 = _
      rw [ih (by omega), cut j (by omega)]; rfl
  refine ⟨fun j hj => ⟨st j hj, cut j hj, by unfold nbV ndg; rw [cut j hj]⟩, fun j hj => ?_, ?_⟩
  · obtain ⟨a, b⟩ := o j hj
    rw [st j hj, cut j hj]
    refine ⟨?_, fun z => ?_⟩
    · unfold nbO ndg at a ⊢; rw [cut j hj]; exact a
    · obtain ⟨c1, c2⟩ := chr_in (b z) (by decide)
      have := nst_mono (u := u) (m := m) (p := p) (show j < j + 1 by omega)
      have l2 := lim (j + 1) z
      have ge : nst u m p (j + 1) ≤ en isD u m (nst u m p (j + 1)) := en_ge
      rw [chr_lt (by omega), c2]
  · unfold nen
    rw [st _ (by omega), cut _ (by omega)]
theorem hor_at {p : Nat} : ∀ {k : Nat}, k ≤ 5 → (∀ j, j < k → isD (u (p + j)) = true) → 0 ≤ hor u k p 0 ∧ hor u k p 0 < 100000 := fun {k} hk a => by
  obtain ⟨h1, h2⟩ := hor_b (u := u) (p := p) k 0 (fun j hj => isD_r (a j hj)) (Int.le_refl 0)
  have := p10' (j := k) hk
  rw [Int.zero_add, Int.one_mul] at h2
  omega
theorem nbV_b {p : Nat} (o : nbO u m p) : 0 ≤ nbV u m p ∧ nbV u m p < 100000 := by
  refine hor_at (by unfold nbO at o; omega) (fun j hj => ?_)
  have e := en_all' (u := u) (m := m) (p := p) (i := p + j) (by omega) (by unfold ndg at hj; omega)
  exact (isD_chr e).2
/-- a signed byte -/
theorem byD {b c : Int} (h1 : -128 ≤ b) (h2 : b < 128) (e : b % 256 = c) : isD b = isD c ∧ (b = 46 ↔ c = 46) ∧ (b = 48 ↔ c = 48) ∧ (isD b = true → b = c) := by
  refine ⟨?_, by omega, by omega, fun z => ?_⟩
  · unfold isD
    by_cases z : 0 ≤ b
    · rw [show b = c by omega]
    · rw [decide_eq_false (show ¬ 48 ≤ b by omega), decide_eq_false (show ¬ c ≤ 57 by omega), Bool.false_and, Bool.and_false]
  · have := isD_r z; omega
/-- where three numbers end (desk) -/
theorem c_nameEnd286 {a p NN : Nat} (l : LX B n h) (hd : 10 ≤ d) (ka : hk h a = (4, NN)) (hN : m ≤ NN) (hm : m ≤ 8192) (hb : ∀ i, i < m → (-128 ≤ hv h a i ∧ hv h a i < 128) ∧ hv h a i % 256 = u i) (hp : p ≤ m) :
    Vt 0 (cll PP (ev PP (gsF gv) B) d 286 [(2, (rf a)), (0, (p : Int)), (0, (m : Int))] h) (fun x h' => h' = h ∧ ((nmO u m p 3 ∧ x = ((nen u m p 3 : Nat) : Int)) ∨ (¬ nmO u m p 3 ∧ x = -1))) := by
  refine Vt.inq (D := 9) hd (Nat.le_of_ble_eq_true rfl) rfl (fun d hd Q K => ?_)
  refine Ends.eq (b286_0 l (by omega)) ?_
  have gd : ∀ i : Nat, i < m → (0 < rf a ∧ ((4, NN) : Nat × Nat).1 = 2 + 2 ∧ (0 : Int) ≤ (i : Int) ∧ (i : Int) < (((4, NN) : Nat × Nat).2 : Int)) := fun i hi => ⟨rf_pos _, rfl, by omega, by show (i : Int) < (NN : Int); omega⟩
  -- the digits of one number
  have run : ∀ (k : Nat) (s : Nat), (Ends (ev PP (gsF gv) B d 286 57 [(2, rf a), (0, (p : Int)), (0, (m : Int)), (0, ((en isD u m s : Nat) : Int)), (0, (k : Int)), (0, (s : Int))] [] h) Q) → ∀ (r x : Nat), x + r = en isD u m s → s ≤ x → Ends (ev PP (gsF gv) B d 286 37 [(2, rf a), (0, (p : Int)), (0, (m : Int)), (0, (x : Int)), (0, (k : Int)), (0, (s : Int))] [] h) Q := by
    intro k s kn r
    induction r with
    | zero =>
      intro x e hx
      obtain rfl : x = en isD u m s := by omega
      refine Ends.eq (b286_37 l (by omega)) (Ends.b3 (fun _ => kn) (fun z => ?_))
      have zi : en isD u m s < m := by omega
      rw [ad_rf, ka, tn, v369_is, (byD (hb _ zi).1.1 (hb _ zi).1.2 (hb _ zi).2).1]
      have st := en_D (u := u) (m := m) s
      rw [chr_lt zi] at st
      rw [st, if_neg Bool.false_ne_true]
      exact Ends.g (gd _ zi) (Ends.b0 (fun _ => kn) (fun z => absurd rfl z))
    | succ r ih =>
      intro x e hx
      have dg := isD_chr (en_all' (u := u) (m := m) hx (show x < en isD u m s by omega))
      refine Ends.eq (b286_37 l (by omega)) (Ends.b3 (fun z => by omega) (fun _ => ?_))
      rw [ad_rf, ka, tn, v369_is, (byD (hb _ dg.1).1.1 (hb _ dg.1).1.2 (hb _ dg.1).2).1, dg.2, if_pos rfl, w_succ (by omega)]
      exact Ends.g (gd _ dg.1) (Ends.b0 (fun z => absurd z (by decide)) (fun _ => ih (x + 1) (by omega) (by omega)))
  have bad : ∀ (pcx : Nat) (L : List AV), ¬ nmO u m p 3 → ev PP (gsF gv) B d 286 pcx L [] h = some ((0, (0, -1)), h) → Ends (ev PP (gsF gv) B d 286 pcx L [] h) Q := fun pcx L no e => by
    rw [e]; exact Ends.sm (K _ _ ⟨rfl, Or.inr ⟨no, rfl⟩⟩)
  -- number k begins at nst k, those ahead are good
  have key : ∀ (r k : Nat) (u5 : AV), k + (r + 1) = 3 → (∀ j, j < k → nbO u m (nst u m p j) ∧ chr u m (en isD u m (nst u m p j)) = 46) → nst u m p k ≤ m → Ends (ev PP (gsF gv) B d 286 34 [(2, rf a), (0, (p : Int)), (0, (m : Int)), (0, ((nst u m p k : Nat) : Int)), (0, (k : Int)), u5] [] h) Q := by
    intro r
    induction r with
    | zero =>
      intro k u5 e gb sl
      obtain rfl : k = 2 := by omega
      have le : en isD u m (nst u m p 2) ≤ m := en_le sl
      have ge : nst u m p 2 ≤ en isD u m (nst u m p 2) := en_ge
      refine Ends.eq (b286_34 l (by omega)) (run 2 (nst u m p 2) ?_ (en isD u m (nst u m p 2) - nst u m p 2) (nst u m p 2) (by omega) (Nat.le_refl _))
      have nb : ¬ nbO u m (nst u m p 2) → ¬ nmO u m p 3 := fun z o => z (o 2 (by decide)).1
      refine Ends.eq (b286_57 l (by omega)) ?_
      rw [sub32 (by omega) (by omega)]
      refine Ends.b0 (fun z => bad _ _ (nb (fun y => by unfold nbO ndg at y; omega)) (b286_88 l (by omega))) (fun z1 => Ends.b4 (fun z => bad _ _ (nb (fun y => by unfold nbO ndg at y; omega)) (b286_88 l (by omega))) (fun z2 => ?_))
      have si : nst u m p 2 < m := by omega
      rw [ad_rf, ka, tn]
      refine Ends.g (gd _ si) ?_
      have good : nbO u m (nst u m p 2) → Ends (ev PP (gsF gv) B d 286 90 [(2, rf a), (0, (p : Int)), (0, (m : Int)), (0, ((en isD u m (nst u m p 2) : Nat) : Int)), (0, ((2 : Nat) : Int)), (0, ((nst u m p 2 : Nat) : Int))] [] h) Q := fun o => by
        refine Ends.eq (b286_90 l (by omega)) ?_
        rw [w_succ (i := 2) (by omega)]
        refine Ends.eq (b286_5 l (by omega)) (Ends.b3 (fun _ => Ends.sm (K _ _ ⟨rfl, Or.inl ⟨fun j hj => ?_, rfl⟩⟩)) (fun z => absurd z (by decide)))
        rcases (by omega : j < 2 ∨ j = 2) with y | y
        · exact ⟨(gb j y).1, fun _ => (gb j y).2⟩
        · subst y; exact ⟨o, fun z => by omega⟩
      refine Ends.b1 (fun z3 => good ⟨by unfold ndg; omega, by unfold ndg; omega, Or.inr (fun y => z3 ((byD (hb _ si).1.1 (hb _ si).1.2 (hb _ si).2).2.2.1.mpr y))⟩) (fun z3 => Ends.b5 (fun z4 => good ⟨by unfold ndg; omega, by unfold ndg; omega, Or.inl (by unfold ndg; omega)⟩) (fun z4 => bad _ _ (nb (fun y => ?_)) (b286_88 l (by omega))))
      have y3 := y.2.2
      unfold ndg at y3
      have := (byD (hb _ si).1.1 (hb _ si).1.2 (hb _ si).2).2.2.1.mp z3
      omega
    | succ r ih =>
      intro k u5 e gb sl
      have le : en isD u m (nst u m p k) ≤ m := en_le sl
      have ge : nst u m p k ≤ en isD u m (nst u m p k) := en_ge
      refine Ends.eq (b286_34 l (by omega)) (run k (nst u m p k) ?_ (en isD u m (nst u m p k) - nst u m p k) (nst u m p k) (by omega) (Nat.le_refl _))
      have nb : ¬ nbO u m (nst u m p k) → ¬ nmO u m p 3 := fun z o => z (o k (by omega)).1
      refine Ends.eq (b286_57 l (by omega)) ?_
      rw [sub32 (by omega) (by omega)]
      refine Ends.b0 (fun z => bad _ _ (nb (fun y => by unfold nbO ndg at y; omega)) (b286_88 l (by omega))) (fun z1 => Ends.b4 (fun z => bad _ _ (nb (fun y => by unfold nbO ndg at y; omega)) (b286_88 l (by omega))) (fun z2 => ?_))
      have si : nst u m p k < m := by omega
      rw [ad_rf, ka, tn]
      refine Ends.g (gd _ si) ?_
      have good : nbO u m (nst u m p k) → Ends (ev PP (gsF gv) B d 286 90 [(2, rf a), (0, (p : Int)), (0, (m : Int)), (0, ((en isD u m (nst u m p k) : Nat) : Int)), (0, (k : Int)), (0, ((nst u m p k : Nat) : Int))] [] h) Q := fun o => by
        refine Ends.eq (b286_90 l (by omega)) ?_
        rw [w_succ (i := k) (by omega)]
        refine Ends.eq (b286_5 l (by omega)) (Ends.b3 (fun z => by omega) (fun _ => Ends.b5 (fun z => by omega) (fun _ => Ends.b3 (fun z => ?_) (fun z => ?_))))
        · refine bad _ _ (fun o3 => ?_) (b286_29 l (by omega))
          have := chr_in ((o3 k (by omega)).2 (by omega)) (by decide)
          omega
        · have zi : en isD u m (nst u m p k) < m := by omega
          rw [ad_rf, ka, tn]
          refine Ends.g (gd _ zi) (Ends.b0 (fun y => ?_) (fun y => ?_))
          · rw [w_succ (by omega)]
            refine ih (k + 1) _ (by omega) (fun j hj => ?_) (by show en isD u m (nst u m p k) + 1 ≤ m; omega)
            rcases (by omega : j < k ∨ j = k) with w | w
            · exact gb j w
            · subst w
              exact ⟨o, by rw [chr_lt zi]; exact (byD (hb _ zi).1.1 (hb _ zi).1.2 (hb _ zi).2).2.1.mp y⟩
          · refine bad _ _ (fun o3 => y ?_) (b286_29 l (by omega))
            have := (o3 k (by omega)).2 (by omega)
            rw [chr_lt zi] at this
            exact (byD (hb _ zi).1.1 (hb _ zi).1.2 (hb _ zi).2).2.1.mpr this
      refine Ends.b1 (fun z3 => good ⟨by unfold ndg; omega, by unfold ndg; omega, Or.inr (fun y => z3 ((byD (hb _ si).1.1 (hb _ si).1.2 (hb _ si).2).2.2.1.mpr y))⟩) (fun z3 => Ends.b5 (fun z4 => good ⟨by unfold ndg; omega, by unfold ndg; omega, Or.inl (by unfold ndg; omega)⟩) (fun z4 => bad _ _ (nb (fun y => ?_)) (b286_88 l (by omega))))
      have y3 := y.2.2
      unfold ndg at y3
      have := (byD (hb _ si).1.1 (hb _ si).1.2 (hb _ si).2).2.2.1.mp z3
      omega
  refine Ends.eq (b286_5 l (by omega)) (Ends.b3 (fun z => absurd z (by decide)) (fun _ => Ends.b5 (fun _ => ?_) (fun z => absurd z (by decide))))
  exact key 2 0 _ rfl (fun j hj => absurd hj (Nat.not_lt_zero j)) hp
/-- numbers read (desk) -/
theorem c_numbers66 {p q at' : Nat} (l : LX B n h) (hd : 10 ≤ d) (hq : q ≤ 8192) (hb : ∀ i, i < q → (-128 ≤ hv h (B + 26) i ∧ hv h (B + 26) i < 128) ∧ hv h (B + 26) i % 256 = u i) (hp : p ≤ q) (hat : at' ≤ 3) :
    Vt 0 (cll PP (ev PP (gsF gv) B) d 66 [(2, rf (B + 0)), (0, (p : Int)), (0, (q : Int)), (0, (at' : Int))] h) (fun x h' => Agr (fun c k => c = B + 33 ∧ at' ≤ k ∧ k < at' + 3) h h' ∧ ((∃ K, (1 ≤ K ∧ K ≤ 3) ∧ nmO u q p K ∧ nen u q p K = q ∧ x = (K : Int) ∧ ∀ j, j < K → hv h' (B + 33) (at' + j) = nbV u q (nst u q p j)) ∨ ((¬ ∃ K, (1 ≤ K ∧ K ≤ 3) ∧ nmO u q p K ∧ nen u q p K = q) ∧ x = 0))) := by
  refine Vt.inq (D := 9) hd (Nat.le_of_ble_eq_true rfl) rfl (fun d hd Q KK => ?_)
  refine Ends.eq (b66_0 l (by omega)) ?_
  -- the digits of one number, five at most
  have run : ∀ (k s : Nat) (g : AH), LX B n g → Agr (fun c k => c = B + 33 ∧ at' ≤ k ∧ k < at' + 3) h g → (∀ (c : Nat), c = min (ndg u q s) 5 → (c ≤ 5 → (∀ j, j < c → isD (u (s + j)) = true) → Ends (ev PP (gsF gv) B d 66 65 [(2, rf (B + 0)), (0, (p : Int)), (0, (q : Int)), (0, (at' : Int)), (0, ((s + c : Nat) : Int)), (0, (k : Int)), (0, (s : Int)), (0, hor u c s 0)] [] g) Q)) → ∀ (r x : Nat), x + r = min (ndg u q s) 5 → Ends (ev PP (gsF gv) B d 66 13 [(2, rf (B + 0)), (0, (p : Int)), (0, (q : Int)), (0, (at' : Int)), (0, ((s + x : Nat) : Int)), (0, (k : Int)), (0, (s : Int)), (0, hor u x s 0)] [] g) Q := by
    intro k s g lg ag kn r
    have ge : s ≤ en isD u q s := en_ge
    have dg : ∀ j, j < ndg u q s → s + j < q ∧ isD (u (s + j)) = true := fun j hj => isD_chr (en_all' (u := u) (m := q) (p := s) (i := s + j) (by omega) (by unfold ndg at hj; omega))
    have m5 : min (ndg u q s) 5 ≤ 5 := Nat.min_le_right _ _
    induction r with
    | zero =>
      intro x e
      have fin := kn x e (by omega) (fun j hj => (dg j (by omega)).2)
      refine Ends.eq (b66_13 lg (by omega)) (Ends.b3 (fun _ => fin) (fun z => Ends.g ⟨by omega, by omega⟩ ?_))
      have zi : s + x < q := by omega
      rw [tn, ag.at _ _ (by omega), v369_is, (byD (hb _ zi).1.1 (hb _ zi).1.2 (hb _ zi).2).1]
      refine Ends.b0 (fun _ => fin) (fun w => ?_)
      have w : isD (u (s + x)) = true := by
        cases y : isD (u (s + x))
        · rw [y, if_neg Bool.false_ne_true] at w; exact absurd rfl w
        · rfl
      rw [sub32 (by omega) (by omega)]
      refine Ends.b3 (fun _ => fin) (fun y => ?_)
      have x5 : x = ndg u q s := by omega
      have st := en_D (u := u) (m := q) s
      rw [show en isD u q s = s + x by unfold ndg at x5; omega, chr_lt zi, w] at st
      exact absurd st.symm Bool.false_ne_true
    | succ r ih =>
      intro x e
      obtain ⟨zi, zd⟩ := dg x (by omega)
      obtain ⟨b1, b2⟩ := hor_at (u := u) (p := s) (k := x) (by omega) (fun j hj => (dg j (by omega)).2)
      obtain ⟨y1, y2, y3, y4⟩ := byD (hb _ zi).1.1 (hb _ zi).1.2 (hb _ zi).2
      have cu := y4 (y1.trans zd)
      have cr := isD_r zd
      refine Ends.eq (b66_13 lg (by omega)) (Ends.b3 (fun z => by omega) (fun _ => Ends.g ⟨by omega, by omega⟩ ?_))
      rw [tn, ag.at _ _ (by omega), v369_is, y1, zd, if_pos rfl, sub32 (x := ((s + x : Nat) : Int)) (by omega) (by omega), cu]
      refine Ends.b0 (fun z => absurd z (by decide)) (fun _ => Ends.b3 (fun z => by omega) (fun _ => ?_))
      have nx := ih (x + 1) (by omega)
      rw [hor_s] at nx
      rw [w_succ (by omega), mul32 (x := 10) (by omega) (by omega), add32 (by omega) (by omega), sub32 (by omega) (by omega), show 10 * hor u x s 0 + u (s + x) - 48 = 10 * hor u x s 0 + (u (s + x) - 48) by omega]
      exact nx
  have bad : ∀ (g : AH) (L : List AV), LX B n g → Agr (fun c k => c = B + 33 ∧ at' ≤ k ∧ k < at' + 3) h g → (¬ ∃ K, (1 ≤ K ∧ K ≤ 3) ∧ nmO u q p K ∧ nen u q p K = q) → ev PP (gsF gv) B d 66 108 L [] g = some ((0, (0, 0)), g) → Ends (ev PP (gsF gv) B d 66 108 L [] g) Q := fun g L lg ag no e => by
    rw [e]; exact Ends.sm (KK _ _ ⟨ag, Or.inr ⟨no, rfl⟩⟩)
  have key : ∀ (r k : Nat) (g : AH) (u6 u7 : AV), k + r = 3 → LX B n g → Agr (fun c k => c = B + 33 ∧ at' ≤ k ∧ k < at' + 3) h g → (∀ j, j < k → (nbO u q (nst u q p j) ∧ chr u q (en isD u q (nst u q p j)) = 46) ∧ hv g (B + 33) (at' + j) = nbV u q (nst u q p j)) → nst u q p k ≤ q → Ends (ev PP (gsF gv) B d 66 6 [(2, rf (B + 0)), (0, (p : Int)), (0, (q : Int)), (0, (at' : Int)), (0, ((nst u q p k : Nat) : Int)), (0, (k : Int)), u6, u7] [] g) Q := by
    intro r
    induction r with
    | zero =>
      intro k g u6 u7 e lg ag gb sl
      obtain rfl : k = 3 := by omega
      have no : ¬ ∃ K, (1 ≤ K ∧ K ≤ 3) ∧ nmO u q p K ∧ nen u q p K = q := fun ⟨K, k1, k2, k3⟩ => by
        have := chr_in (gb (K - 1) (by omega)).1.2 (by decide)
        unfold nen at k3
        omega
      refine Ends.eq (b66_6 lg (by omega)) ?_
      refine run 3 (nst u q p 3) g lg ag (fun c ec c5 cd => ?_) (min (ndg u q (nst u q p 3)) 5) 0 (Nat.zero_add _)
      obtain ⟨s, es⟩ : ∃ s, s = nst u q p 3 := ⟨_, rfl⟩
      rw [← es] at ec cd sl ⊢
      refine Ends.eq (b66_65 lg (by omega)) ?_
      rw [sub32 (x := ((s + c : Nat) : Int)) (by omega) (by omega)]
      have sc : c ≠ 0 → s < q := fun z => by
        have := (isD_chr (en_all' (u := u) (m := q) (p := s) (i := s) (Nat.le_refl _) (by unfold ndg at ec; omega))).1
        exact this
      refine Ends.b0 (fun z => bad _ _ lg ag no (b66_108 lg (by omega))) (fun z1 => Ends.b4 (fun z => bad _ _ lg ag no (b66_108 lg (by omega))) (fun z2 => Ends.g ⟨by omega, by have := sc (by omega); omega⟩ ?_))
      have go : Ends (ev PP (gsF gv) B d 66 102 [(2, rf (B + 0)), (0, (p : Int)), (0, (q : Int)), (0, (at' : Int)), (0, ((s + c : Nat) : Int)), (0, ((3 : Nat) : Int)), (0, (s : Int)), (0, hor u c s 0)] [] g) Q := Ends.eq (b66_102 lg (by omega)) (Ends.b1 (fun z => absurd rfl z) (fun _ => bad _ _ lg ag no (b66_108 lg (by omega))))
      exact Ends.b1 (fun _ => go) (fun _ => Ends.b4 (fun _ => bad _ _ lg ag no (b66_108 lg (by omega))) (fun _ => go))
    | succ r ih =>
      intro k g u6 u7 e lg ag gb sl
      have hk3 : k < 3 := by omega
      have uniq : ∀ K, (1 ≤ K ∧ K ≤ 3) → nmO u q p K → nen u q p K = q → k < K := fun K k1 k2 k3 => by
        apply Classical.byContradiction
        intro z
        have := chr_in (gb (K - 1) (by omega)).1.2 (by decide)
        unfold nen at k3
        omega
      refine Ends.eq (b66_6 lg (by omega)) ?_
      refine run k (nst u q p k) g lg ag (fun c ec c5 cd => ?_) (min (ndg u q (nst u q p k)) 5) 0 (Nat.zero_add _)
      obtain ⟨s, es⟩ : ∃ s, s = nst u q p k := ⟨_, rfl⟩
      rw [← es] at ec cd sl ⊢
      have nb : ¬ nbO u q s → ¬ ∃ K, (1 ≤ K ∧ K ≤ 3) ∧ nmO u q p K ∧ nen u q p K = q := fun z ⟨K, k1, k2, k3⟩ => z (by rw [es]; exact (k2 k (uniq K k1 k2 k3)).1)
      refine Ends.eq (b66_65 lg (by omega)) ?_
      rw [sub32 (x := ((s + c : Nat) : Int)) (by omega) (by omega)]
      have sc : c ≠ 0 → s < q := fun z => (isD_chr (en_all' (u := u) (m := q) (p := s) (i := s) (Nat.le_refl _) (by unfold ndg at ec; omega))).1
      refine Ends.b0 (fun z => bad _ _ lg ag (nb (fun y => by have := y.1; omega)) (b66_108 lg (by omega))) (fun z1 => Ends.b4 (fun z => bad _ _ lg ag (nb (fun y => by have := y.2.1; omega)) (b66_108 lg (by omega))) (fun z2 => Ends.g ⟨by omega, by have := sc (by omega); omega⟩ ?_))
      have si := sc (by omega)
      have cn : c = ndg u q s := by omega
      have ex : en isD u q s = s + c := by have : s ≤ en isD u q s := en_ge; unfold ndg at cn; omega
      obtain ⟨y1, y2, y3, y4⟩ := byD (hb _ si).1.1 (hb _ si).1.2 (hb _ si).2
      have vb : hor u c s 0 = nbV u q s := by unfold nbV; rw [← cn]
      have good : nbO u q s → Ends (ev PP (gsF gv) B d 66 102 [(2, rf (B + 0)), (0, (p : Int)), (0, (q : Int)), (0, (at' : Int)), (0, ((s + c : Nat) : Int)), (0, (k : Int)), (0, (s : Int)), (0, hor u c s 0)] [] g) Q := fun o => by
        have a2 : bop32 96 (at' : Int) (k : Int) = ((at' + k : Nat) : Int) := addNN (by omega)
        refine Ends.eq (b66_102 lg (by omega)) (Ends.b1 (fun _ => ?_) (fun z => by omega))
        rw [a2, tn, an0]
        clear a2
        refine Ends.g ⟨by omega, by omega⟩ ?_
        have lg2 : LX B n (hset g (B + 33) (at' + k) (hor u c s 0)) := LX.setS lg rfl
        have ag2 : Agr (fun c k => c = B + 33 ∧ at' ≤ k ∧ k < at' + 3) h (hset g (B + 33) (at' + k) (hor u c s 0)) := ag.set ⟨rfl, by omega, by omega⟩
        have cells : ∀ j, j < k + 1 → hv (hset g (B + 33) (at' + k) (hor u c s 0)) (B + 33) (at' + j) = nbV u q (nst u q p j) := fun j hj => by
          rcases (by omega : j < k ∨ j = k) with w | w
          · rw [hv_set_ne (by omega)]; exact (gb j w).2
          · rw [w, hv_set_at, vb, es]
        refine Ends.b1 (fun z3 => ?_) (fun z3 => ?_)
        · have zi : s + c < q := by
            have : en isD u q s ≤ q := en_le sl
            omega
          refine Ends.g ⟨by omega, by omega⟩ ?_
          rw [tn, ag.at _ _ (by omega), w_succ (i := k) (by omega), w_succ (i := s + c) (by omega)]
          obtain ⟨t1, t2, t3, t4⟩ := byD (hb _ zi).1.1 (hb _ zi).1.2 (hb _ zi).2
          refine Ends.b0 (fun w => ?_) (fun w => ?_)
          · have d46 : chr u q (en isD u q (nst u q p k)) = 46 := by rw [← es, ex, chr_lt zi]; exact t2.mp w
            have nx := ih (k + 1) _ (0, (s : Int)) (0, hor u c s 0) (by omega) lg2 ag2 (fun j hj => ⟨?_, cells j hj⟩) (by show en isD u q (nst u q p k) + 1 ≤ q; rw [← es, ex]; omega)
            · rw [show nst u q p (k + 1) = s + c + 1 from by show en isD u q (nst u q p k) + 1 = _; rw [← es, ex]] at nx
              exact nx
            · rcases (by omega : j < k ∨ j = k) with w2 | w2
              · exact (gb j w2).1
              · rw [w2]; exact ⟨by rw [← es]; exact o, d46⟩
          · refine Ends.sm (KK _ _ ⟨ag2, Or.inr ⟨fun ⟨K, k1, k2, k3⟩ => ?_, rfl⟩⟩)
            have kK := uniq K k1 k2 k3
            rcases (by omega : k + 1 < K ∨ k + 1 = K) with w2 | w2
            · have := (k2 k kK).2 w2
              rw [← es, ex, chr_lt zi] at this
              exact w (t2.mpr this)
            · unfold nen at k3
              rw [show K - 1 = k by omega, ← es, ex] at k3
              omega
        · have zq : s + c = q := by omega
          rw [w_succ (i := k) (by omega)]
          refine Ends.sm (KK _ _ ⟨ag2, Or.inl ⟨k + 1, ⟨by omega, by omega⟩, fun j hj => ?_, ?_, rfl, cells⟩⟩)
          · rcases (by omega : j < k ∨ j = k) with w2 | w2
            · exact ⟨(gb j w2).1.1, fun _ => (gb j w2).1.2⟩
            · rw [w2]; exact ⟨by rw [← es]; exact o, fun z => by omega⟩
          · unfold nen
            rw [Nat.add_sub_cancel, ← es, ex, zq]
      rw [tn, ag.at _ _ (by omega)]
      refine Ends.b1 (fun z3 => good ⟨by omega, by omega, Or.inr (fun y => z3 (y3.mpr y))⟩) (fun z3 => Ends.b4 (fun z4 => bad _ _ lg ag (nb (fun y => ?_)) (b66_108 lg (by omega))) (fun z4 => good ⟨by omega, by omega, Or.inl (by omega)⟩))
      have := y3.mp z3
      rcases y.2.2 with w | w
      · omega
      · exact w this
  exact key 3 0 h _ _ rfl l Agr.rf (fun j hj => absurd hj (Nat.not_lt_zero j)) hp
end NBR
