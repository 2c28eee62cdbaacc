/-! L3: features dropped: desk -/
noncomputable section DRPF
variable {gv : Nat → Int} {B n d f k p : Nat} {h : AH} {H : Nat → Nat → Int} {t : Nat → Nat} {dn tt tu mw : Nat} {x y : Int} {c : Nat → Int} {ord : Nat → Nat}
/-- the desk's order of features -/
def OrD (c : Nat → Int) (k : Nat) (ord : Nat → Nat) : Prop := c 5 = (k : Int) ∧ k ≤ 24 ∧ (0 ≤ c 4 ∧ c 4 ≤ 24) ∧ (∀ i, i < k → c (6 + i) = ((ord i : Nat) : Int) ∧ ord i < 24) ∧ (∀ i j, i < j → j < k → ord i ≠ ord j) ∧ ∀ f : Nat, f < 24 → (((f : Int) < c 4 ∧ c (feA f) = 1) ↔ ∃ i, i < k ∧ ord i = f)
theorem i_6 {i : Nat} (hi : i < 1000) : bop32 96 6 (i : Int) = ((6 + i : Nat) : Int) := addNN (x := 6) (by omega)
theorem c_placeOf292 (l : LX B n h) (hd : 10 ≤ d) (hc : ∀ z, z < 37368 → hv h (B + 2) z = c z) (hi : ∀ i, i ≤ p → c (6 + i) = ((ord i : Nat) : Int)) (p24 : p < 24) (ne : ∀ i, i < p → ord i ≠ ord p) : Vt 0 (cll PP (ev PP (gsF gv) B) d 292 [(2, rf (B + 92)), (0, ((ord p : Nat) : Int))] h) (fun x h' => h' = h ∧ x = (p : Int)) := by
  refine Vt.inq (D := 9) hd (Nat.le_of_ble_eq_true rfl) rfl (fun d hd Q K => ?_)
  have key : ∀ (r i : Nat), i + r = p → Ends (ev PP (gsF gv) B d 292 2 [(2, rf (B + 92)), (0, ((ord p : Nat) : Int)), (0, (i : Int))] [] h) Q := by
    intro r
    induction r with
    | zero =>
      intro i ei
      obtain ⟨a1, a2⟩ := cell_is (i := 6 + i) hc (by omega)
      refine Ends.eq (b292_2 l (by omega)) ?_
      rw [i_6 (by omega), a2, hi i (by omega), show i = p by omega]
      rw [show i = p by omega] at a1
      exact Ends.g a1 (Ends.b0 (fun _ => Ends.sm (K _ _ ⟨rfl, rfl⟩)) (fun z => absurd rfl z))
    | succ r ih =>
      intro i ei
      obtain ⟨a1, a2⟩ := cell_is (i := 6 + i) hc (by omega)
      have := ne i (by omega)
      refine Ends.eq (b292_2 l (by omega)) ?_
      rw [i_6 (by omega), a2, hi i (by omega), w_succ (by omega)]
      exact Ends.g a1 (Ends.b0 (fun z => absurd z (by omega)) (fun _ => ih (i + 1) (by omega)))
  refine Ends.eq (b292_0 l (by omega)) ?_
  exact key p 0 (by omega)
/-- some feature of the desk needs x -/
def ndD (c : Nat → Int) (k : Nat) (ord : Nat → Nat) (x : Int) : Prop := ∃ i, i < k ∧ v246 (c (feA (ord i) + 1)) = 3 ∧ c (feA (ord i) + 3) = x
theorem c_needed276 (l : LX B n h) (hd : 10 ≤ d) (hc : ∀ z, z < 37368 → hv h (B + 2) z = c z) (O : OrD c k ord) : Vt 0 (cll PP (ev PP (gsF gv) B) d 276 [(2, rf (B + 92)), (0, x)] h) (fun r h' => h' = h ∧ ((r = 1 ∧ ndD c k ord x) ∨ (r = 0 ∧ ¬ ndD c k ord x))) := by
  obtain ⟨O1, O2, -, O3, -, -⟩ := O
  refine Vt.inq (D := 9) hd (Nat.le_of_ble_eq_true rfl) rfl (fun d hd Q K => ?_)
  obtain ⟨b1, b2⟩ := cell_is (i := 5) hc (by decide)
  have key : ∀ (r i : Nat) (u3 : AV), i + r = k → (∀ j, j < i → ¬ (v246 (c (feA (ord j) + 1)) = 3 ∧ c (feA (ord j) + 3) = x)) → Ends (ev PP (gsF gv) B d 276 2 [(2, rf (B + 92)), (0, x), (0, (i : Int)), u3] [] h) Q := by
    intro r
    induction r with
    | zero =>
      intro i u3 ei no
      refine Ends.eq (b276_2 l (by omega)) ?_
      rw [show v447 B h 5 = (k : Int) from b2.trans O1]
      exact Ends.g b1 (Ends.b3 (fun _ => Ends.sm (K _ _ ⟨rfl, Or.inr ⟨rfl, fun ⟨j, hj, z⟩ => no j (by omega) z⟩⟩)) (fun z => absurd z (by omega)))
    | succ r ih =>
      intro i u3 ei no
      obtain ⟨e1, e2⟩ := O3 i (by omega)
      obtain ⟨a1, a2⟩ := cell_is (i := 6 + i) hc (by omega)
      have fb := fe_b e2
      obtain ⟨f1, f2⟩ := cell_is (i := feA (ord i) + 1) hc (by omega)
      obtain ⟨g1, g2⟩ := cell_is (i := feA (ord i) + 3) hc (by omega)
      have x1 : ∀ _ : Unit, bop32 96 (v254 ((ord i : Nat) : Int)) 1 = ((feA (ord i) + 1 : Nat) : Int) := fun _ => fe_ix (i := 1) e2 (by decide)
      have x3 : ∀ _ : Unit, bop32 96 (v254 ((ord i : Nat) : Int)) 3 = ((feA (ord i) + 3 : Nat) : Int) := fun _ => fe_ix (i := 3) e2 (by decide)
      have next : ∀ x3 : Int, ¬ (v246 (c (feA (ord i) + 1)) = 3 ∧ c (feA (ord i) + 3) = x) → Ends (ev PP (gsF gv) B d 276 49 [(2, rf (B + 92)), (0, x), (0, (i : Int)), (0, x3)] [] h) Q := fun x3 z => by
        refine Ends.eq (b276_49 l (by omega)) ?_
        rw [w_succ (by omega)]
        refine ih (i + 1) _ (by omega) (fun j hj => ?_)
        rcases (by omega : j < i ∨ j = i) with w | w
        · exact no j w
        · rw [w]; exact z
      refine Ends.eq (b276_2 l (by omega)) ?_
      unfold q278 v278 q289 v289
      rw [show v447 B h 5 = (k : Int) from b2.trans O1, i_6 (by omega), a2, e1, x1 (), x3 (), f2, g2]
      refine Ends.g b1 (Ends.b3 (fun z => absurd z (by omega)) (fun _ => Ends.g a1 (Ends.g f1 (Ends.b1 (fun z => next _ (fun w => z w.1)) (fun z => Ends.g g1 (Ends.b1 (fun w => next _ (fun u => w u.2)) (fun w => Ends.sm (K _ _ ⟨rfl, Or.inl ⟨rfl, i, by omega, z, w⟩⟩))))))))
  refine Ends.eq (b276_0 l (by omega)) ?_
  exact key k 0 _ (by omega) (fun j hj => absurd hj (Nat.not_lt_zero j))
/-- the cells while a feature is dropped, and behind -/
def drI (c : Nat → Int) (p f i : Nat) : Nat → Int := fun z => if z = feA f then 0 else if 6 + p ≤ z ∧ z < 6 + i then c (z + 1) else c z
def drF (c : Nat → Int) (k p f : Nat) : Nat → Int := upc (drI c p f (k - 1)) 5 ((k : Int) - 1)
theorem c_drop262 (l : LX B n h) (hd : 18 ≤ d) (S : St B h H t dn tt tu mw) (O : OrD (H dn) k ord) (hp : p < k) (hdn : dn < 100) (htu : tu < 1000000) (hmw : mw + 100 < 1000000) :
    Vd (cll PP (ev PP (gsF gv) B) d 262 [(2, rf (B + 92)), (0, ((ord p : Nat) : Int))] h) (fun h' => EdR B H dn tu mw (drF (H dn) k p (ord p)) h h') := by
  obtain ⟨O1, O2, -, O3, O4, -⟩ := id O
  obtain ⟨e1, f24⟩ := O3 p hp
  have fb := fe_b f24
  have fa : 25512 ≤ feA (ord p) := by unfold feA; omega
  refine Vd.inq (D := 17) hd (Nat.le_of_ble_eq_true rfl) rfl (fun d hd Q K => ?_)
  obtain ⟨b1, b2⟩ := ix_is (i := 5) S (by decide)
  refine Ends.eq (b262_0 l (by omega)) (Ends.g b1 ?_)
  rw [show v447 B h 5 = (k : Int) from b2.trans O1]
  refine Ends.cv l (by decide +kernel) (c_stBegin l (by omega) S hdn htu) (fun h0 l0 _ _ _ ⟨_, x0, S0⟩ => ?_)
  refine Ends.eq (b262_16 l0 (by omega)) ?_
  rw [v254_is f24]
  refine Ends.cv l0 (by decide +kernel) (c_stSet (k := feA (ord p)) (v := 0) l0 (by omega) S0 (by omega) (by omega)) (fun h1 l1 _ _ _ ⟨y1, S1⟩ => ?_)
  have X1 := x0.tr y1
  have c0 : upc (H dn) (feA (ord p)) 0 = drI (H dn) p (ord p) p := by
    funext z
    unfold upc drI
    by_cases e : z = feA (ord p)
    · rw [if_pos e, if_pos e]
    · rw [if_neg e, if_neg e, if_neg (by omega)]
  rw [c0] at S1
  refine Ends.eq (b262_28 l1 (by omega)) ?_
  refine Ends.ct l1 (by decide +kernel) (by decide) (c_placeOf292 (c := drI (H dn) p (ord p) p) (ord := ord) l1 (by omega) S1.2.2.2.2.2.2.1 (fun i hi => by unfold drI; rw [if_neg (by omega), if_neg (by omega)]; exact (O3 i (by omega)).1) (by omega) (fun i hi => O4 i p hi hp)) (fun r h2 l2 _ _ _ ⟨eh, er⟩ => ?_)
  subst eh
  rw [er]
  refine Ends.eq (b262_33 l2 (by omega)) ?_
  have key : ∀ (r i m' : Nat) (q : AH), i + 1 + r = k → p ≤ i → m' ≤ mw + 1 + i → LX B n q → SX B h q → Sw B q H t dn (tu + 1) m' (drI (H dn) p (ord p) i) → Ends (ev PP (gsF gv) B d 262 34 [(2, rf (B + 92)), (0, ((ord p : Nat) : Int)), (0, (k : Int)), (0, (i : Int))] [] q) Q := by
    intro r
    induction r with
    | zero =>
      intro i m' q ei pi hm lq X Sq
      refine Ends.eq (b262_34 lq (by omega)) ?_
      rw [show bop32 96 (i : Int) 1 = ((i + 1 : Nat) : Int) from addNN (y := 1) (by omega), show bop32 100 (k : Int) 1 = (k : Int) - 1 from sub32 (by omega) (by omega)]
      refine Ends.b3 (fun _ => ?_) (fun z => absurd z (by omega))
      refine Ends.cv lq (by decide +kernel) (c_stSet (k := 5) (v := (k : Int) - 1) lq (by omega) Sq (by decide) (by omega)) (fun h3 l3 _ _ _ ⟨y3, S3⟩ => ?_)
      refine Ends.eq (b262_82 l3 (by omega)) ?_
      refine Ends.cv l3 (by decide +kernel) (c_stEnd l3 (by omega) S3 hdn) (fun h9 l9 _ _ _ ⟨_, x9, t9, S9⟩ => ?_)
      refine Ends.eq (b262_89 l9 (by omega)) (Ends.sm (K _ ⟨(X.tr y3).tr x9, t9, ?_⟩))
      have ef : drF (H dn) k p (ord p) = upc (drI (H dn) p (ord p) i) 5 ((k : Int) - 1) := by unfold drF; rw [show k - 1 = i by omega]
      rw [ef]
      exact S9.mw (by omega)
    | succ r ih =>
      intro i m' q ei pi hm lq X Sq
      obtain ⟨a1, a2⟩ := cell_is (i := 6 + i + 1) Sq.2.2.2.2.2.2.1 (by omega)
      refine Ends.eq (b262_34 lq (by omega)) ?_
      rw [show bop32 96 (i : Int) 1 = ((i + 1 : Nat) : Int) from addNN (y := 1) (by omega), i_6 (by omega), show bop32 96 ((6 + i : Nat) : Int) 1 = ((6 + i + 1 : Nat) : Int) from i_1 (by omega), a2]
      refine Ends.b3 (fun z => absurd z (by omega)) (fun _ => Ends.g a1 ?_)
      refine Ends.cv lq (by decide +kernel) (c_stSet (k := 6 + i) (v := drI (H dn) p (ord p) i (6 + i + 1)) lq (by omega) Sq (by omega) (by omega)) (fun h3 l3 _ _ _ ⟨y3, S3⟩ => ?_)
      have cs : upc (drI (H dn) p (ord p) i) (6 + i) (drI (H dn) p (ord p) i (6 + i + 1)) = drI (H dn) p (ord p) (i + 1) := by
        funext z
        unfold upc drI
        by_cases e : z = 6 + i
        · rw [if_pos e, if_neg (by omega), if_neg (by omega), if_neg (by omega), if_pos (by omega), e]
        · rw [if_neg e]
          by_cases e2 : z = feA (ord p)
          · rw [if_pos e2, if_pos e2]
          · rw [if_neg e2, if_neg e2]
            by_cases e3 : 6 + p ≤ z ∧ z < 6 + i
            · rw [if_pos e3, if_pos (by omega)]
            · rw [if_neg e3, if_neg (by omega)]
      rw [cs] at S3
      refine Ends.eq (b262_65 l3 (by omega)) ?_
      rw [w_succ (by omega)]
      exact ih (i + 1) (m' + 1) h3 (by omega) (by omega) (by omega) l3 (X.tr y3) S3
  exact key (k - 1 - p) p (mw + 1) h2 (by omega) (Nat.le_refl p) (by omega) l2 X1 S1
/-- the desk's drop of a feature -/
theorem c_dropF24 (l : LX B n h) (hd : 22 ≤ d) (S : St B h H t dn tt tu mw) (O : OrD (H dn) k ord) (hdn : dn < 100) (htu : tu < 1000000) (hmw : mw + 100 < 1000000) :
    Opx 0 (cll PP (ev PP (gsF gv) B) d 24 [(2, rf (B + 0)), (0, x)] h) (fun r h' => feL (H dn) x ∧ ((r = 0 ∧ ndD (H dn) k ord x ∧ h' = h) ∨ (r = 1 ∧ ¬ ndD (H dn) k ord x ∧ ∃ p, p < k ∧ ord p = x.toNat ∧ EdR B H dn tu mw (drF (H dn) k p x.toNat) h h'))) (fun c q => q = h ∧ c = 31 ∧ ¬ feL (H dn) x) := by
  refine Opx.inq (D := 21) hd (Nat.le_of_ble_eq_true rfl) rfl (fun d hd R K KE => ?_)
  obtain ⟨a1, a2⟩ := v274_is (x := x) S O.2.2.1
  refine Ends.eq (b24_0 l (by omega)) (Ends.g a1 ?_)
  rw [a2]
  refine Ends.there l (by omega) rfl (fun p1 => ?_) (fun p1 => Ends.thn rfl (KE 31 h ⟨rfl, rfl, of_decide_eq_false p1⟩))
  have p1' := of_decide_eq_true p1
  have c4 := O.2.2.1
  obtain ⟨f, ef⟩ : ∃ f : Nat, x = (f : Int) := ⟨x.toNat, by omega⟩
  subst ef
  rw [tn] at K
  obtain ⟨p, hp, ep⟩ := (O.2.2.2.2.2 f (by omega)).mp ⟨p1'.2.1, by have := p1'.2.2; rw [tn] at this; exact this⟩
  refine Ends.eq (b24_11 l (by omega)) ?_
  refine Ends.ct l (by decide +kernel) (by decide) (c_needed276 (x := (f : Int)) l (by omega) S.2.2.2.2.2.2.2 O) (fun r h1 l1 _ _ _ ⟨e1, hr⟩ => ?_)
  subst e1
  refine Ends.eq (b24_19 l1 (by omega)) ?_
  rcases hr with ⟨er, nd⟩ | ⟨er, nd⟩
  · rw [er]
    exact Ends.b0 (fun z => absurd z (by decide)) (fun _ => Ends.sm (K _ _ ⟨p1', Or.inl ⟨rfl, nd, rfl⟩⟩))
  · rw [er, ← ep]
    refine Ends.b0 (fun _ => ?_) (fun z => absurd rfl z)
    refine Ends.cv l1 (by decide +kernel) (c_drop262 l1 (by omega) S O hp hdn htu hmw) (fun h' l' _ _ _ E => ?_)
    exact Ends.eq (b24_32 l' (by omega)) (Ends.sm (K _ _ ⟨p1', Or.inr ⟨rfl, nd, p, hp, ep, by rw [← ep]; exact E⟩⟩))
end DRPF
