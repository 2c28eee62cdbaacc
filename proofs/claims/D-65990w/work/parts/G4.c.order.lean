/-! L3: features put elsewhere: desk -/
noncomputable section ORDD
variable {gv : Nat → Int} {B n d f k p e : Nat} {h : AH} {H : Nat → Nat → Int} {t : Nat → Nat} {dn tt tu mw : Nat} {x y : Int} {c : Nat → Int} {ord : Nat → Nat}
/-- what hinders it: x would come before its original, or behind one that needs it -/
def blD (c : Nat → Int) (ord : Nat → Nat) (p e : Nat) (x : Int) (i : Nat) : Prop := ((ord i : Nat) : Int) ≠ x ∧ ((e < p ∧ v246 (c (feA x.toNat + 1)) = 3 ∧ c (feA x.toNat + 3) = ((ord i : Nat) : Int)) ∨ (p < e ∧ v246 (c (feA (ord i) + 1)) = 3 ∧ c (feA (ord i) + 3) = x))
def bkD (c : Nat → Int) (ord : Nat → Nat) (p e : Nat) (x : Int) : Prop := ∃ i, min p e ≤ i ∧ i ≤ max p e ∧ blD c ord p e x i
def upI (c : Nat → Int) (p i : Nat) : Nat → Int := fun z => if 6 + p ≤ z ∧ z < 6 + i then c (z + 1) else c z
def dnI (c : Nat → Int) (p i : Nat) : Nat → Int := fun z => if 6 + i < z ∧ z ≤ 6 + p then c (z - 1) else c z
/-- the cells behind -/
def orF (c : Nat → Int) (p e f : Nat) : Nat → Int := upc (if p ≤ e then upI c p e else dnI c p e) (6 + e) (f : Int)
set_option maxHeartbeats 1000000 in
theorem c_order290 (l : LX B n h) (hd : 18 ≤ d) (S : St B h H t dn tt tu mw) (O : OrD (H dn) k ord) (hp : p < k) (he : e < k) (ep : ord p = f) (hdn : dn < 100) (htu : tu < 1000000) (hmw : mw + 100 < 1000000) :
    Vt 0 (cll PP (ev PP (gsF gv) B) d 290 [(2, rf (B + 92)), (0, (f : Int)), (0, (e : Int))] h) (fun r h' => (r = 0 ∧ bkD (H dn) ord p e (f : Int) ∧ h' = h) ∨ (r = 1 ∧ ¬ bkD (H dn) ord p e (f : Int) ∧ EdR B H dn tu mw (orF (H dn) p e f) h h')) := by
  obtain ⟨O1, O2, -, O3, O4, -⟩ := id O
  obtain ⟨e1, f24⟩ := O3 p hp
  rw [ep] at e1 f24
  have fb := fe_b f24
  have fa : 25512 ≤ feA f := by unfold feA; omega
  have hc := S.2.2.2.2.2.2.2
  refine Vt.inq (D := 17) hd (Nat.le_of_ble_eq_true rfl) rfl (fun d hd Q K => ?_)
  refine Ends.eq (b290_0 l (by omega)) ?_
  have pl := c_placeOf292 (gv := gv) (d := d) (p := p) (ord := ord) l (by omega) hc (fun i hi => (O3 i (by omega)).1) (by omega) (fun i hi => O4 i p hi hp)
  rw [ep] at pl
  refine Ends.ct l (by decide +kernel) (by decide) pl (fun r h0 l0 _ _ _ ⟨eh, er⟩ => ?_)
  subst eh
  rw [er]
  refine Ends.eq (b290_5 l0 (by omega)) ?_
  rw [v892_is, v891_is]
  obtain ⟨lo, elo⟩ : ∃ lo, lo = min p e := ⟨_, rfl⟩
  obtain ⟨hi, ehi⟩ : ∃ hi, hi = max p e := ⟨_, rfl⟩
  rw [show min (p : Int) (e : Int) = (lo : Int) by omega, show max (p : Int) (e : Int) = (hi : Int) by omega]
  -- the moves, when nothing hinders
  have moves : ¬ bkD (H dn) ord p e (f : Int) → ∀ (x6 : Int) (u7 : AV), Ends (aft PP 290 123 126 [(2, rf (B + 92)), (0, (f : Int)), (0, (e : Int)), (0, (p : Int)), (0, (lo : Int)), (0, (hi : Int)), (0, x6), u7] [] (ev PP (gsF gv) B d 290) (cll PP (ev PP (gsF gv) B) d 444 [(2, rf (B + 1))] h0)) Q := fun nb x6 u7 => by
    refine Ends.cv l0 (by decide +kernel) (c_stBegin l0 (by omega) S hdn htu) (fun h1 l1 _ _ _ ⟨_, x0, S0⟩ => ?_)
    refine Ends.eq (b290_126 l1 (by omega)) ?_
    -- the last cell
    have last : ∀ (m' : Nat) (q : AH) (i : Nat), i ≤ e → m' ≤ mw + 30 → LX B n q → SX B h0 q → Sw B q H t dn (tu + 1) m' (if p ≤ e then upI (H dn) p e else dnI (H dn) p e) → ∀ u7 : AV, Ends (ev PP (gsF gv) B d 290 170 [(2, rf (B + 92)), (0, (f : Int)), (0, (e : Int)), (0, (p : Int)), (0, (lo : Int)), (0, (hi : Int)), (0, (i : Int)), u7] [] q) Q := fun m' q i hi hm lq X Sq u7 => by
      refine Ends.eq (b290_170 lq (by omega)) (Ends.b5 (fun _ => ?_) (fun z => absurd z (by omega)))
      rw [i_6 (by omega)]
      refine Ends.cv lq (by decide +kernel) (c_stSet (k := 6 + e) (v := (f : Int)) lq (by omega) Sq (by omega) (by omega)) (fun h3 l3 _ _ _ ⟨y3, S3⟩ => ?_)
      refine Ends.eq (b290_220 l3 (by omega)) ?_
      refine Ends.cv l3 (by decide +kernel) (c_stEnd l3 (by omega) S3 hdn) (fun h9 l9 _ _ _ ⟨_, x9, t9, S9⟩ => ?_)
      exact Ends.eq (b290_227 l9 (by omega)) (Ends.sm (K _ _ (Or.inr ⟨rfl, nb, (X.tr y3).tr x9, t9, S9.mw (by omega)⟩)))
    by_cases pe : p ≤ e
    · -- up
      have key : ∀ (r i m' : Nat) (q : AH) (u7 : AV), i + r = e → p ≤ i → m' ≤ mw + i → LX B n q → SX B h0 q → Sw B q H t dn (tu + 1) m' (upI (H dn) p i) → Ends (ev PP (gsF gv) B d 290 129 [(2, rf (B + 92)), (0, (f : Int)), (0, (e : Int)), (0, (p : Int)), (0, (lo : Int)), (0, (hi : Int)), (0, (i : Int)), u7] [] q) Q := by
        intro r
        induction r with
        | zero =>
          intro i m' q u7 ei pi hm lq X Sq
          obtain rfl : i = e := by omega
          refine Ends.eq (b290_129 lq (by omega)) (Ends.b3 (fun _ => ?_) (fun z => absurd z (by omega)))
          exact last m' q p pe (by omega) lq X (by rw [if_pos pe]; exact Sq) _
        | succ r ih =>
          intro i m' q u7 ei pi hm lq X Sq
          obtain ⟨a1, a2⟩ := cell_is (i := 6 + i + 1) Sq.2.2.2.2.2.2.1 (by omega)
          refine Ends.eq (b290_129 lq (by omega)) ?_
          rw [i_6 (by omega), show bop32 96 ((6 + i : Nat) : Int) 1 = ((6 + i + 1 : Nat) : Int) from i_1 (by omega), a2]
          refine Ends.b3 (fun z => absurd z (by omega)) (fun _ => Ends.g a1 ?_)
          refine Ends.cv lq (by decide +kernel) (c_stSet (k := 6 + i) (v := upI (H dn) p i (6 + i + 1)) lq (by omega) Sq (by omega) (by omega)) (fun h3 l3 _ _ _ ⟨y3, S3⟩ => ?_)
          have cs : upc (upI (H dn) p i) (6 + i) (upI (H dn) p i (6 + i + 1)) = upI (H dn) p (i + 1) := by
            funext z
            unfold upc upI
            by_cases e : z = 6 + i
            · rw [if_pos e, if_neg (by omega), if_pos (by omega), e]
            · rw [if_neg e]
              by_cases e3 : 6 + p ≤ z ∧ z < 6 + i
              · rw [if_pos e3, if_pos (by omega)]
              · rw [if_neg e3, if_neg (by omega)]
          rw [cs] at S3
          refine Ends.eq (b290_161 l3 (by omega)) ?_
          rw [w_succ (by omega)]
          exact ih (i + 1) (m' + 1) h3 _ (by omega) (by omega) (by omega) l3 (X.tr y3) S3
      have c0 : H dn = upI (H dn) p p := by
        funext z
        unfold upI
        rw [if_neg (by omega)]
      rw [c0] at S0
      rw [← c0] at S0
      refine key (e - p) p mw h1 _ (by omega) (Nat.le_refl p) (by omega) l1 x0 (by rw [← c0]; exact S0)
    · -- down
      have key : ∀ (r i m' : Nat) (q : AH) (u7 : AV), i = e + r → i ≤ p → m' + i ≤ mw + p → LX B n q → SX B h0 q → Sw B q H t dn (tu + 1) m' (dnI (H dn) p i) → Ends (ev PP (gsF gv) B d 290 170 [(2, rf (B + 92)), (0, (f : Int)), (0, (e : Int)), (0, (p : Int)), (0, (lo : Int)), (0, (hi : Int)), (0, (i : Int)), u7] [] q) Q := by
        intro r
        induction r with
        | zero =>
          intro i m' q u7 ei pi hm lq X Sq
          obtain rfl : i = e := by omega
          exact last m' q i (Nat.le_refl i) (by omega) lq X (by rw [if_neg pe]; exact Sq) _
        | succ r ih =>
          intro i m' q u7 ei pi hm lq X Sq
          obtain ⟨a1, a2⟩ := cell_is (i := 6 + i - 1) Sq.2.2.2.2.2.2.1 (by omega)
          refine Ends.eq (b290_170 lq (by omega)) ?_
          rw [i_6 (i := i) (by omega), show bop32 100 ((6 + i : Nat) : Int) 1 = ((6 + i - 1 : Nat) : Int) from subNN (y := 1) (by omega) (by omega), a2]
          refine Ends.b5 (fun z => absurd z (by omega)) (fun _ => Ends.g a1 ?_)
          refine Ends.cv lq (by decide +kernel) (c_stSet (k := 6 + i) (v := dnI (H dn) p i (6 + i - 1)) lq (by omega) Sq (by omega) (by omega)) (fun h3 l3 _ _ _ ⟨y3, S3⟩ => ?_)
          have cs : upc (dnI (H dn) p i) (6 + i) (dnI (H dn) p i (6 + i - 1)) = dnI (H dn) p (i - 1) := by
            funext z
            unfold upc dnI
            by_cases e : z = 6 + i
            · rw [if_pos e, if_neg (by omega), if_pos (by omega), e]
            · rw [if_neg e]
              by_cases e3 : 6 + i < z ∧ z ≤ 6 + p
              · rw [if_pos e3, if_pos (by omega)]
              · rw [if_neg e3, if_neg (by omega)]
          rw [cs] at S3
          refine Ends.eq (b290_202 l3 (by omega)) ?_
          rw [show w32 ((i : Int) + (-1)) = ((i - 1 : Nat) : Int) from by rw [inc32 (by omega) (by omega)]; omega]
          exact ih (i - 1) (m' + 1) h3 _ (by omega) (by omega) (by omega) l3 (X.tr y3) S3
      have c0 : H dn = dnI (H dn) p p := by
        funext z
        unfold dnI
        rw [if_neg (by omega)]
      refine Ends.eq (b290_129 l1 (by omega)) (Ends.b3 (fun _ => ?_) (fun z => absurd z (by omega)))
      refine key (p - e) p mw h1 _ (by omega) (Nat.le_refl p) (by omega) l1 x0 (by rw [← c0]; exact S0)
  have x1 : ∀ (g : Nat) (hg : g < 24) (_ : Unit), bop32 96 (v254 (g : Int)) 1 = ((feA g + 1 : Nat) : Int) := fun g hg _ => fe_ix (i := 1) hg (by decide)
  have x3 : ∀ (g : Nat) (hg : g < 24) (_ : Unit), bop32 96 (v254 (g : Int)) 3 = ((feA g + 3 : Nat) : Int) := fun g hg _ => fe_ix (i := 3) hg (by decide)
  have look : ∀ (r i : Nat) (u7 : AV), i + r = hi + 1 → lo ≤ i → (∀ j, lo ≤ j → j < i → ¬ blD (H dn) ord p e (f : Int) j) → Ends (ev PP (gsF gv) B d 290 24 [(2, rf (B + 92)), (0, (f : Int)), (0, (e : Int)), (0, (p : Int)), (0, (lo : Int)), (0, (hi : Int)), (0, (i : Int)), u7] [] h0) Q := by
    intro r
    induction r with
    | zero =>
      intro i u7 ei li no
      refine Ends.eq (b290_24 l0 (by omega)) (Ends.b4 (fun _ => ?_) (fun z => absurd z (by omega)))
      exact moves (fun ⟨j, j1, j2, j3⟩ => no j (by omega) (by omega) j3) _ _
    | succ r ih =>
      intro i u7 ei li no
      have ik : i < k := by omega
      obtain ⟨g1, g24⟩ := O3 i ik
      have gb := fe_b g24
      obtain ⟨a1, a2⟩ := cell_is (i := 6 + i) hc (by omega)
      obtain ⟨p1, p2⟩ := cell_is (i := feA f + 1) hc (by omega)
      obtain ⟨q1, q2⟩ := cell_is (i := feA f + 3) hc (by omega)
      obtain ⟨r1, r2⟩ := cell_is (i := feA (ord i) + 1) hc (by omega)
      obtain ⟨s1, s2⟩ := cell_is (i := feA (ord i) + 3) hc (by omega)
      have next : ∀ x7 : Int, ¬ blD (H dn) ord p e (f : Int) i → Ends (ev PP (gsF gv) B d 290 113 [(2, rf (B + 92)), (0, (f : Int)), (0, (e : Int)), (0, (p : Int)), (0, (lo : Int)), (0, (hi : Int)), (0, (i : Int)), (0, x7)] [] h0) Q := fun x7 z => by
        refine Ends.eq (b290_113 l0 (by omega)) ?_
        rw [w_succ (by omega)]
        refine ih (i + 1) _ (by omega) (by omega) (fun j h1 h2 => ?_)
        rcases (by omega : j < i ∨ j = i) with w | w
        · exact no j h1 w
        · rw [w]; exact z
      have stop : blD (H dn) ord p e (f : Int) i → bkD (H dn) ord p e (f : Int) := fun z => ⟨i, by omega, by omega, z⟩
      -- the second look
      have second : ((ord i : Nat) : Int) ≠ (f : Int) → ¬ (e < p ∧ v246 (H dn (feA f + 1)) = 3 ∧ H dn (feA f + 3) = ((ord i : Nat) : Int)) → Ends (ev PP (gsF gv) B d 290 83 [(2, rf (B + 92)), (0, (f : Int)), (0, (e : Int)), (0, (p : Int)), (0, (lo : Int)), (0, (hi : Int)), (0, (i : Int)), (0, ((ord i : Nat) : Int))] [] h0) Q := fun ne n1 => by
        refine Ends.eq (b290_83 l0 (by omega)) ?_
        unfold q278 v278 q289 v289
        rw [x1 _ g24 (), x3 _ g24 (), r2, s2]
        refine Ends.b5 (fun z => next _ (fun w => ?_)) (fun z => Ends.g r1 (Ends.b1 (fun z1 => next _ (fun w => ?_)) (fun z1 => Ends.g s1 (Ends.b1 (fun z2 => next _ (fun w => ?_)) (fun z2 => Ends.sm (K _ _ (Or.inl ⟨rfl, stop ⟨ne, Or.inr ⟨by omega, z1, z2⟩⟩, rfl⟩)))))))
        · rcases w.2 with w | w
          · rw [tn] at w; exact n1 w
          · omega
        · rcases w.2 with w | w
          · rw [tn] at w; exact n1 w
          · exact z1 w.2.1
        · rcases w.2 with w | w
          · rw [tn] at w; exact n1 w
          · exact z2 w.2.2
      refine Ends.eq (b290_24 l0 (by omega)) (Ends.b4 (fun z => absurd z (by omega)) (fun _ => ?_))
      unfold q278 v278 q289 v289
      rw [i_6 (by omega), a2, g1, x1 _ f24 (), x3 _ f24 (), p2, q2]
      refine Ends.g a1 (Ends.b1 (fun ne => ?_) (fun eq_ => next _ (fun w => w.1 eq_)))
      refine Ends.b3 (fun z => second ne (fun w => by omega)) (fun z => Ends.g p1 (Ends.b1 (fun z1 => second ne (fun w => z1 w.2.1)) (fun z1 => Ends.g q1 (Ends.b1 (fun z2 => second ne (fun w => z2 w.2.2)) (fun z2 => Ends.sm (K _ _ (Or.inl ⟨rfl, stop ⟨ne, Or.inl ⟨by omega, by rw [tn]; exact z1, by rw [tn]; exact z2⟩⟩, rfl⟩)))))))
  exact look (hi + 1 - lo) lo _ (by omega) (Nat.le_refl lo) (fun j h1 h2 => absurd h2 (by omega))
/-- the desk's order -/
theorem c_order67 (l : LX B n h) (hd : 22 ≤ d) (S : St B h H t dn tt tu mw) (O : OrD (H dn) k ord) (hdn : dn < 100) (htu : tu < 1000000) (hmw : mw + 100 < 1000000) :
    Opx 0 (cll PP (ev PP (gsF gv) B) d 67 [(2, rf (B + 0)), (0, x), (0, y)] h) (fun r h' => feL (H dn) x ∧ (0 ≤ y ∧ y < (k : Int)) ∧ ∃ p, p < k ∧ ord p = x.toNat ∧ ((r = 0 ∧ bkD (H dn) ord p y.toNat x ∧ h' = h) ∨ (r = 1 ∧ ¬ bkD (H dn) ord p y.toNat x ∧ EdR B H dn tu mw (orF (H dn) p y.toNat x.toNat) h h'))) (fun c q => q = h ∧ ((c = 31 ∧ ¬ feL (H dn) x) ∨ (c = 27 ∧ feL (H dn) x ∧ ¬ (0 ≤ y ∧ y < (k : Int))))) := by
  have k24 := O.2.1
  refine Opx.inq (D := 21) hd (Nat.le_of_ble_eq_true rfl) rfl (fun d hd R K KE => ?_)
  obtain ⟨a1, a2⟩ := v274_is (x := x) S O.2.2.1
  refine Ends.eq (b67_0 l (by omega)) (Ends.g a1 ?_)
  rw [a2]
  refine Ends.there l (by omega) rfl (fun p1 => ?_) (fun p1 => Ends.thn rfl (KE 31 h ⟨rfl, Or.inl ⟨rfl, of_decide_eq_false p1⟩⟩))
  have p1' := of_decide_eq_true p1
  have c4 := O.2.2.1
  obtain ⟨b1, b2⟩ := ix_is (i := 5) S (by decide)
  refine Ends.eq (b67_11 l (by omega)) (Ends.g b1 ?_)
  rw [show v447 B h 5 = (k : Int) from b2.trans O.1, in_is, show bop32 100 (k : Int) 1 = (k : Int) - 1 from sub32 (by omega) (by omega)]
  refine Ends.need l (by omega) rfl (fun p2 => ?_) (fun p2 => Ends.thn rfl (KE 27 h ⟨rfl, Or.inr ⟨rfl, p1', fun z => of_decide_eq_false p2 (by omega)⟩⟩))
  have p2' := of_decide_eq_true p2
  obtain ⟨f, ef⟩ : ∃ f : Nat, x = (f : Int) := ⟨x.toNat, by omega⟩
  obtain ⟨e, ee⟩ : ∃ e : Nat, y = (e : Int) := ⟨y.toNat, by omega⟩
  subst ef ee
  rw [tn, tn] at K
  obtain ⟨p, hp, ep⟩ := (O.2.2.2.2.2 f (by omega)).mp ⟨p1'.2.1, by have := p1'.2.2; rw [tn] at this; exact this⟩
  refine Ends.eq (b67_29 l (by omega)) ?_
  refine Ends.ct l (by decide +kernel) (by decide) (c_order290 (e := e) l (by omega) S O hp (by omega) ep hdn htu hmw) (fun r h' l' _ _ _ res => ?_)
  have r01 : r = 0 ∨ r = 1 := by rcases res with ⟨z, _⟩ | ⟨z, _⟩ <;> omega
  exact Ends.eq (b67_38 l' (by omega)) (Ends.g r01 (Ends.sm (K _ _ ⟨p1', by omega, p, hp, ep, res⟩)))
end ORDD
