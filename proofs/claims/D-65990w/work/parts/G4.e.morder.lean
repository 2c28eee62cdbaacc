/-! L3: features put elsewhere: model -/
noncomputable section ORDM
variable {gv : Nat → Int} {B n d f k p e q : Nat} {h : AH} {dn tt al : Nat} {x y : Int} {Q : Nat → Nat} {ord : Nat → Nat}
def bkM (h : AH) (q : Nat) (ord : Nat → Nat) (p e : Nat) (x : Int) : Prop := ∃ i, min p e ≤ i ∧ i ≤ max p e ∧ i ≠ p ∧ ((e < p ∧ nfM h q x.toNat ((ord i : Nat) : Int)) ∨ (p < e ∧ nfM h q (ord i) x))
/-- which feature comes to a place -/
def mvI (p e i : Nat) : Nat := if i = e then p else if p ≤ i ∧ i < e then i + 1 else if e < i ∧ i ≤ p then i - 1 else i
def orE (h : AH) (q k : Nat) (x y : Int) : Int := if ¬ ftL h q x then 1 else if y < 0 ∨ (k : Int) ≤ y then 2 else 0
theorem TD.o7 {t : AH} (T : TD h q) (g : Agr (fun c _ => c = q + 7) h t) : TD t q := by
  obtain ⟨T1, T2, T3, T4, T5⟩ := T
  exact ⟨fun j hj => by rw [g.at _ _ (by omega)]; exact (T1 j hj).agr g, fun s' hs' => (T2 s' hs').off g (fun c k z => by omega), fun f' hf' => (T3 f' hf').off g (fun c k z => by omega), by rw [g.at _ _ (by omega)]; exact T4, by rw [g.at _ _ (by omega)]; exact T5⟩
theorem YD.o7 {t : AH} (D : YD B q h) (g : Agr (fun c _ => c = q + 7) h t) : YD B q t := D.agr g (fun c j p z => by rw [z] at p; rcases p with p | p | p | ⟨s', hs', p, p2⟩ | ⟨s', hs', p, _⟩ <;> omega)
set_option maxHeartbeats 1000000 in
theorem c_order772 (l : LX B n h) (hd : 20 ≤ d) (M : MRg B h Q al dn tt) (hdn : dn < 99) (O : OrM h (Q dn) k ord) :
    Vt 0 (cll PP (ev PP (gsF gv) B) d 772 [(2, rf (B + 149)), (0, x), (0, y)] h) (fun r h' => AnM B h (orE h (Q dn) k x y) r h' (∃ p, p < k ∧ ord p = x.toNat ∧ ((r = 0 ∧ bkM h (Q dn) ord p y.toNat x ∧ h' = hset h (B + 149) 0 0) ∨ (r = 1 ∧ ¬ bkM h (Q dn) ord p y.toNat x ∧ EdQ B h Q al dn h' (fun h3 q => Agr (fun c _ => c = q + 7) h3 h' ∧ ∀ i, i < k → hv h' (q + 7) i = ((ord (mvI p y.toNat i) : Nat) : Int)))))) := by
  have m4 := M.2.2.2.2.2.2.2.1 dn (by have := M.2.2.2.2.1; have := M.2.2.2.2.2.1; omega)
  have D := m4.2.1
  have hq := M.2.2.2.1
  have lo := D.lo
  obtain ⟨O1, O2, O3, O4, O5⟩ := id O
  refine Vt.inq (D := 19) hd (Nat.le_of_ble_eq_true rfl) rfl (fun d hd R KR => ?_)
  obtain ⟨a1, a2⟩ := v760_is (h := h) (q := Q dn) (x := x)
  obtain ⟨er, eer⟩ : ∃ er, er = orE h (Q dn) k x y := ⟨_, rfl⟩
  rw [← eer] at KR
  have code : cond (tst 0 (v760 (Q dn) h x) 0) (cond (tst 2 y 0) (2 : Int) (cond (tst 2 y (hv h (Q dn) 5)) (0 : Int) 2)) 1 = er := by
    rw [eer, a2, O1, ct0, ct2, ct2]
    unfold orE
    by_cases z : ftL h (Q dn) x
    · rw [if_pos z, if_pos rfl, if_neg (show ¬ ¬ ftL h (Q dn) x from fun w => w z)]
      by_cases y1 : y < 0
      · rw [if_pos y1, if_pos (Or.inl y1)]
      · rw [if_neg y1]
        by_cases y2 : y < (k : Int)
        · rw [if_pos y2, if_neg (by omega)]
        · rw [if_neg y2, if_pos (by omega)]
    · rw [if_neg z, if_pos z, if_neg (by decide)]
  have ce : er = 0 ∨ 0 < er := by rw [eer]; unfold orE; split; omega; split <;> omega
  refine Ends.eq (b772_0 l (by omega) hq D) (Ends.g a1 ?_)
  rw [code]
  refine Ends.ct l (by decide +kernel) (by decide) (c_fails l (by omega) (x := er)) (fun v h2 l2 _ _ _ ⟨ev_, e2⟩ => ?_)
  refine Ends.eq (b772_36 l2 (by omega)) ?_
  rcases ce with z | z
  rotate_left
  · rw [if_pos z] at ev_
    rw [ev_]
    exact Ends.b0 (fun w => absurd w (by decide)) (fun _ => Ends.sm (KR _ _ (Or.inl ⟨by omega, rfl, e2⟩)))
  rw [z, if_neg (by decide)] at ev_
  rw [ev_]
  have e2' : h2 = hset h (B + 149) 0 0 := by rw [e2, z]
  obtain ⟨M2, g2⟩ := f0_edit l M h2 e2'
  have m42 := M2.2.2.2.2.2.2.2.1 dn (by have := M.2.2.2.2.1; have := M.2.2.2.2.2.1; omega)
  have rd : ∀ c j, B + 246 ≤ c → hv h2 c j = hv h c j := fun c j hc => g2.at _ _ (by omega)
  have hq2 := M2.2.2.2.1
  have D2 := m42.2.1
  have ok : ftL h (Q dn) x ∧ 0 ≤ y ∧ y < (k : Int) := by
    rw [eer] at z
    unfold orE at z
    by_cases w : ftL h (Q dn) x
    · rw [if_neg (fun u => u w)] at z
      by_cases w2 : y < 0 ∨ (k : Int) ≤ y
      · rw [if_pos w2] at z; omega
      · exact ⟨w, by omega, by omega⟩
    · rw [if_pos w] at z; omega
  obtain ⟨f, ef⟩ : ∃ f : Nat, x = (f : Int) := ⟨x.toNat, by have := ok.1.1; omega⟩
  obtain ⟨e, ee⟩ : ∃ e : Nat, y = (e : Int) := ⟨y.toNat, by omega⟩
  subst ef ee
  rw [tn, tn] at KR
  have hf : f < 24 := by have := ok.1.2.1; omega
  have he : e < k := by omega
  obtain ⟨p, hp, ep⟩ := (O5 f hf).mp (by have := ok.1.2.2; rw [tn] at this; exact this)
  refine Ends.b0 (fun _ => ?_) (fun w => absurd rfl w)
  have pl := c_placeOf778 (gv := gv) (d := d) (p := p) (ord := ord) l2 (by omega) hq2 D2 (fun i hi => by rw [rd _ _ (by omega)]; exact (O3 i (by omega)).1) (by omega) (fun i hi => O4 i p hi hp)
  rw [ep] at pl
  refine Ends.ct l2 (by decide +kernel) (by decide) pl (fun v h4 l4 _ _ _ ⟨eh, ev4⟩ => ?_)
  subst eh
  rw [ev4]
  refine Ends.eq (b772_46 l4 (by omega)) ?_
  rw [ct5]
  have st : ∀ r : Int, ∀ h' : AH, ((r = 0 ∧ bkM h (Q dn) ord p e (f : Int) ∧ h' = hset h (B + 149) 0 0) ∨ (r = 1 ∧ ¬ bkM h (Q dn) ord p e (f : Int) ∧ EdQ B h Q al dn h' (fun h3 q => Agr (fun c _ => c = q + 7) h3 h' ∧ ∀ i, i < k → hv h' (q + 7) i = ((ord (mvI p e i) : Nat) : Int)))) → R ((0, (0, r)), h') := fun r h' w => KR _ _ (Or.inr ⟨z, p, hp, ep, w⟩)
  -- the edit
  have edit : ¬ bkM h (Q dn) ord p e (f : Int) → ∀ (x5 : Int) (u6 : AV), Ends (aft PP 772 124 127 [(2, rf (B + 149)), (0, (f : Int)), (0, (e : Int)), (0, (p : Int)), (0, if (p : Int) < (e : Int) then 1 else -1), (0, x5), u6] [] (ev PP (gsF gv) B d 772) (cll PP (ev PP (gsF gv) B) d 603 [(2, rf (B + 149))] h4)) R := fun nb x5 u6 => by
    refine Ends.cv l4 (by decide +kernel) (c_edQ l4 (by omega) M l e2' hdn) (fun h3 l3 _ _ _ ⟨q, hq3, D3, T3, E3, lo3, _, fin⟩ => ?_)
    have o3 : ∀ i, i < k → hv h3 (q + 7) i = ((ord i : Nat) : Int) := fun i hi => by rw [E3.2.2.2.2.2.2.2 i (by omega)]; exact (O3 i hi).1
    refine Ends.eq (b772_127 l3 (by omega)) ?_
    have last : ∀ (t : AH) (u4 u6 : Int → AV), LX B n t → Agr (fun c _ => c = q + 7) h3 t → (∀ j, j < k → j ≠ e → hv t (q + 7) j = ((ord (mvI p e j) : Nat) : Int)) → ∀ (s4 : Int) (u6 : AV), Ends (ev PP (gsF gv) B d 772 130 [(2, rf (B + 149)), (0, (f : Int)), (0, (e : Int)), (0, (p : Int)), (0, s4), (0, (e : Int)), u6] [] t) R := fun t _ _ lt g vals s4 u6 => by
      refine Ends.eq (b772_130 lt (by omega) (by rw [g.at _ _ (by omega)]; exact hq3) (D3.o7 g)) (Ends.b0 (fun _ => ?_) (fun w => absurd rfl w))
      rw [tn, an0]
      refine Ends.g ⟨by omega, by omega⟩ (Ends.sm (st _ _ (Or.inr ⟨rfl, nb, fin _ _ _ (g.set rfl) (fun c j w => by rw [w]; exact ar_dW (Or.inr rfl)) (T3.o7 (g.set rfl)) ⟨g.set rfl, fun i hi => ?_⟩⟩)))
      by_cases w : i = e
      · rw [w, hv_set_at]
        unfold mvI
        rw [if_pos rfl, ep]
      · rw [hv_set_ne (by omega)]; exact vals i hi w
    by_cases pe : p < e
    · rw [if_pos (by omega)]
      have key : ∀ (r i : Nat) (t : AH) (u6 : AV), i + r = e → p ≤ i → LX B n t → Agr (fun c _ => c = q + 7) h3 t → (∀ j, j < k → hv t (q + 7) j = if p ≤ j ∧ j < i then ((ord (j + 1) : Nat) : Int) else ((ord j : Nat) : Int)) → Ends (ev PP (gsF gv) B d 772 130 [(2, rf (B + 149)), (0, (f : Int)), (0, (e : Int)), (0, (p : Int)), (0, 1), (0, (i : Int)), u6] [] t) R := by
        intro r
        induction r with
        | zero =>
          intro i t u6 ei pi lt g vals
          obtain rfl : i = e := by omega
          refine last t (fun v => (0, v)) (fun v => (0, v)) lt g (fun j hj ne => ?_) 1 _
          rw [vals j hj]
          unfold mvI
          rw [if_neg ne]
          by_cases w : p ≤ j ∧ j < i
          · rw [if_pos w, if_pos w]
          · rw [if_neg w, if_neg w, if_neg (by omega)]
        | succ r ih =>
          intro i t u6 ei pi lt g vals
          have Dt := D3.o7 g
          refine Ends.eq (b772_130 lt (by omega) (by rw [g.at _ _ (by omega)]; exact hq3) Dt) ?_
          rw [show bop32 96 (i : Int) 1 = ((i + 1 : Nat) : Int) from addNN (y := 1) (by omega), tn, tn, tn, an0, vals (i + 1) (by omega), if_neg (by omega)]
          refine Ends.b0 (fun w => absurd w (by omega)) (fun _ => Ends.g ⟨by omega, by omega⟩ (Ends.g ⟨by omega, by omega⟩ ?_))
          refine ih (i + 1) _ _ (by omega) (by omega) (lt.setA (t := 0) (by rw [Dt.k7])) (g.set rfl) (fun j hj => ?_)
          by_cases w : j = i
          · rw [w, hv_set_at, if_pos (by omega), an0]
          · rw [hv_set_ne (by omega), vals j hj]
            by_cases u : p ≤ j ∧ j < i
            · rw [if_pos u, if_pos (by omega)]
            · rw [if_neg u, if_neg (by omega)]
      exact key (e - p) p h3 _ (by omega) (Nat.le_refl p) l3 Agr.rf (fun j hj => by rw [if_neg (by omega)]; exact o3 j hj)
    · rw [if_neg (by omega)]
      have key : ∀ (r i : Nat) (t : AH) (u6 : AV), i = e + r → i ≤ p → LX B n t → Agr (fun c _ => c = q + 7) h3 t → (∀ j, j < k → hv t (q + 7) j = if i < j ∧ j ≤ p then ((ord (j - 1) : Nat) : Int) else ((ord j : Nat) : Int)) → Ends (ev PP (gsF gv) B d 772 130 [(2, rf (B + 149)), (0, (f : Int)), (0, (e : Int)), (0, (p : Int)), (0, -1), (0, (i : Int)), u6] [] t) R := by
        intro r
        induction r with
        | zero =>
          intro i t u6 ei pi lt g vals
          obtain rfl : i = e := by omega
          refine last t (fun v => (0, v)) (fun v => (0, v)) lt g (fun j hj ne => ?_) (-1) _
          rw [vals j hj]
          unfold mvI
          rw [if_neg ne]
          by_cases w : i < j ∧ j ≤ p
          · rw [if_pos w, if_neg (by omega), if_pos w]
          · rw [if_neg w, if_neg (by omega), if_neg w]
        | succ r ih =>
          intro i t u6 ei pi lt g vals
          have Dt := D3.o7 g
          refine Ends.eq (b772_130 lt (by omega) (by rw [g.at _ _ (by omega)]; exact hq3) Dt) ?_
          rw [show bop32 96 (i : Int) (-1) = ((i - 1 : Nat) : Int) from (add32 (by omega) (by omega)).trans (by omega), tn, tn, tn, an0, vals (i - 1) (by omega), if_neg (by omega)]
          refine Ends.b0 (fun w => absurd w (by omega)) (fun _ => Ends.g ⟨by omega, by omega⟩ (Ends.g ⟨by omega, by omega⟩ ?_))
          refine ih (i - 1) _ _ (by omega) (by omega) (lt.setA (t := 0) (by rw [Dt.k7])) (g.set rfl) (fun j hj => ?_)
          by_cases w : j = i
          · rw [w, hv_set_at, if_pos (by omega), an0]
          · rw [hv_set_ne (by omega), vals j hj]
            by_cases u : i < j ∧ j ≤ p
            · rw [if_pos u, if_pos (by omega)]
            · rw [if_neg u, if_neg (by omega)]
      exact key (p - e) p h3 _ (by omega) (Nat.le_refl p) l3 Agr.rf (fun j hj => by rw [if_neg (by omega)]; exact o3 j hj)
  have stop : bkM h (Q dn) ord p e (f : Int) → ∀ x1 x2 x3 x4 x5 x6 : Int, Ends (ev PP (gsF gv) B d 772 111 [(2, rf (B + 149)), (0, x1), (0, x2), (0, x3), (0, x4), (0, x5), (0, x6)] [] h4) R := fun w x1 x2 x3 x4 x5 x6 => Ends.eq (b772_111 l4 (by omega)) (Ends.sm (st _ _ (Or.inl ⟨rfl, w, e2'⟩)))
  have nf_ : ∀ g x, nfM h4 (Q dn) g x ↔ nfM h (Q dn) g x := fun g x => by unfold nfM; rw [rd _ _ (by omega), rd _ _ (by omega)]
  by_cases pe : p < e
  · rw [if_pos (by omega)] at edit
    rw [if_pos (by omega)]
    have look : ∀ (r i : Nat) (u6 : AV), i + r = e → p ≤ i → (∀ j, p < j → j ≤ i → ¬ nfM h (Q dn) (ord j) (f : Int)) → Ends (ev PP (gsF gv) B d 772 62 [(2, rf (B + 149)), (0, (f : Int)), (0, (e : Int)), (0, (p : Int)), (0, 1), (0, (i : Int)), u6] [] h4) R := by
      intro r
      induction r with
      | zero =>
        intro i u6 ei pi no
        obtain rfl : i = e := by omega
        refine Ends.eq (b772_62 l4 (by omega) hq2 D2) (Ends.b0 (fun _ => edit (fun ⟨j, j1, j2, j3, j4⟩ => ?_) _ _) (fun w => absurd rfl w))
        rcases j4 with j4 | j4
        · omega
        · exact no j (by omega) (by omega) j4.2
      | succ r ih =>
        intro i u6 ei pi no
        obtain ⟨g1, g24⟩ := O3 (i + 1) (by omega)
        refine Ends.eq (b772_62 l4 (by omega) hq2 D2) ?_
        rw [show bop32 96 (i : Int) 1 = ((i + 1 : Nat) : Int) from addNN (y := 1) (by omega), tn, rd _ _ (by omega), g1, v707_is, v707_is]
        refine Ends.b0 (fun w => absurd w (by omega)) (fun _ => Ends.g ⟨by omega, by omega⟩ (Ends.b5 (fun w => absurd w (by decide)) (fun _ => Ends.g ⟨by omega, by omega⟩ ?_)))
        by_cases nf : nfM h (Q dn) (ord (i + 1)) (f : Int)
        · rw [if_pos ((nf_ _ _).mpr nf)]
          exact Ends.b0 (fun w => absurd w (by decide)) (fun _ => stop ⟨i + 1, by omega, by omega, by omega, Or.inr ⟨pe, nf⟩⟩ _ _ _ _ _ _)
        · rw [if_neg (fun w => nf ((nf_ _ _).mp w))]
          refine Ends.b0 (fun _ => ?_) (fun w => absurd rfl w)
          refine Ends.eq (b772_113 l4 (by omega)) ?_
          rw [show bop32 96 (i : Int) 1 = ((i + 1 : Nat) : Int) from addNN (y := 1) (by omega)]
          refine ih (i + 1) _ (by omega) (by omega) (fun j h1 h2 => ?_)
          rcases (by omega : j ≤ i ∨ j = i + 1) with w | w
          · exact no j h1 w
          · rw [w]; exact nf
    exact look (e - p) p _ (by omega) (Nat.le_refl p) (fun j h1 h2 => absurd h2 (by omega))
  · rw [if_neg (by omega)] at edit
    rw [if_neg (by omega)]
    have look : ∀ (r i : Nat) (u6 : AV), i = e + r → i ≤ p → (∀ j, i ≤ j → j < p → ¬ nfM h (Q dn) f ((ord j : Nat) : Int)) → Ends (ev PP (gsF gv) B d 772 62 [(2, rf (B + 149)), (0, (f : Int)), (0, (e : Int)), (0, (p : Int)), (0, -1), (0, (i : Int)), u6] [] h4) R := by
      intro r
      induction r with
      | zero =>
        intro i u6 ei pi no
        obtain rfl : i = e := by omega
        refine Ends.eq (b772_62 l4 (by omega) hq2 D2) (Ends.b0 (fun _ => edit (fun ⟨j, j1, j2, j3, j4⟩ => ?_) _ _) (fun w => absurd rfl w))
        rcases j4 with j4 | j4
        · have := j4.2
          rw [tn] at this
          exact no j (by omega) (by omega) this
        · omega
      | succ r ih =>
        intro i u6 ei pi no
        obtain ⟨g1, g24⟩ := O3 (i - 1) (by omega)
        refine Ends.eq (b772_62 l4 (by omega) hq2 D2) ?_
        rw [show bop32 96 (i : Int) (-1) = ((i - 1 : Nat) : Int) from (add32 (by omega) (by omega)).trans (by omega), tn, rd _ _ (by omega), g1, v707_is, v707_is]
        refine Ends.b0 (fun w => absurd w (by omega)) (fun _ => Ends.g ⟨by omega, by omega⟩ (Ends.b5 (fun _ => Ends.g ⟨by omega, by omega⟩ ?_) (fun w => absurd w (by decide))))
        by_cases nf : nfM h (Q dn) f ((ord (i - 1) : Nat) : Int)
        · rw [if_pos ((nf_ _ _).mpr nf)]
          exact Ends.b0 (fun w => absurd w (by decide)) (fun _ => stop ⟨i - 1, by omega, by omega, by omega, Or.inl ⟨by omega, by rw [tn]; exact nf⟩⟩ _ _ _ _ _ _)
        · rw [if_neg (fun w => nf ((nf_ _ _).mp w))]
          refine Ends.b0 (fun _ => ?_) (fun w => absurd rfl w)
          refine Ends.eq (b772_113 l4 (by omega)) ?_
          rw [show bop32 96 (i : Int) (-1) = ((i - 1 : Nat) : Int) from (add32 (by omega) (by omega)).trans (by omega)]
          refine ih (i - 1) _ (by omega) (by omega) (fun j h1 h2 => ?_)
          rcases (by omega : i ≤ j ∨ j = i - 1) with w | w
          · exact no j w h2
          · rw [w]; exact nf
    exact look (p - e) p _ (by omega) (Nat.le_refl p) (fun j h1 h2 => absurd h2 (by omega))
end ORDM
