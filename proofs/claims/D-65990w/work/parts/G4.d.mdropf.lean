/-! L3: features dropped: model -/
noncomputable section DRPM
variable {gv : Nat → Int} {B n d f k p q : Nat} {h : AH} {dn tt al : Nat} {x y : Int} {Q : Nat → Nat} {ord : Nat → Nat}
/-- the model's order of features -/
def OrM (h : AH) (q k : Nat) (ord : Nat → Nat) : Prop := hv h q 5 = (k : Int) ∧ k ≤ 24 ∧ (∀ i, i < k → hv h (q + 7) i = ((ord i : Nat) : Int) ∧ ord i < 24) ∧ (∀ i j, i < j → j < k → ord i ≠ ord j) ∧ ∀ f : Nat, f < 24 → (hv h (q + (92 + 2 * f)) 0 ≠ 0 ↔ ∃ i, i < k ∧ ord i = f)
theorem c_placeOf778 (l : LX B n h) (hd : 10 ≤ d) (hq : hv h (B + 149) 19 = rf q) (D : YD B q h) (hi : ∀ i, i ≤ p → hv h (q + 7) i = ((ord i : Nat) : Int)) (p24 : p < 24) (ne : ∀ i, i < p → ord i ≠ ord p) : Vt 0 (cll PP (ev PP (gsF gv) B) d 778 [(2, rf (B + 149)), (0, ((ord p : Nat) : Int))] h) (fun x h' => h' = h ∧ x = (p : Int)) := by
  refine Vt.inq (D := 9) hd (Nat.le_of_ble_eq_true rfl) rfl (fun d hd R K => ?_)
  have key : ∀ (r i : Nat), i + r = p → Ends (ev PP (gsF gv) B d 778 2 [(2, rf (B + 149)), (0, ((ord p : Nat) : Int)), (0, (i : Int))] [] h) R := by
    intro r
    induction r with
    | zero =>
      intro i ei
      refine Ends.eq (b778_2 l (by omega) hq D) ?_
      rw [tn, hi i (by omega), show i = p by omega]
      exact Ends.g ⟨by omega, by omega⟩ (Ends.b0 (fun _ => Ends.sm (K _ _ ⟨rfl, rfl⟩)) (fun z => absurd rfl z))
    | succ r ih =>
      intro i ei
      have := ne i (by omega)
      refine Ends.eq (b778_2 l (by omega) hq D) ?_
      rw [tn, hi i (by omega), w_succ (by omega)]
      exact Ends.g ⟨by omega, by omega⟩ (Ends.b0 (fun z => absurd z (by omega)) (fun _ => ih (i + 1) (by omega)))
  refine Ends.eq (b778_0 l (by omega)) ?_
  exact key p 0 (by omega)
/-- the feature g of the model needs x -/
abbrev nfM (h : AH) (q g : Nat) (x : Int) : Prop := v711 (hv h (q + (92 + 2 * g)) 1) ≠ 0 ∧ hv h (q + (92 + 2 * g)) 3 = x
theorem v707_is {g : Nat} : v707 q h (g : Int) x = if nfM h q g x then 1 else 0 := by
  unfold v707
  rw [ct0, ct1, tn]
  by_cases z1 : v711 (hv h (q + (92 + 2 * g)) 1) = 0
  · rw [if_pos z1, if_neg (fun w => w.1 z1)]
  · rw [if_neg z1]
    by_cases z2 : hv h (q + (92 + 2 * g)) 3 = x
    · rw [if_pos z2, if_pos ⟨z1, z2⟩]
    · rw [if_neg z2, if_neg (fun w => z2 w.2)]
def ndM (h : AH) (q : Nat) (x : Int) : Prop := ∃ g : Nat, g < 24 ∧ hv h (q + (92 + 2 * g)) 0 ≠ 0 ∧ nfM h q g x
/-- what is written when a feature is dropped -/
def dfM (q f : Nat) : Nat → Nat → Prop := fun c j => (c = q ∧ j = 5) ∨ c = q + 7 ∨ (c = q + (92 + 2 * f) ∧ j = 0)
theorem df_dW {c j : Nat} (hf : f < 24) (z : dfM q f c j) : dW q c j := by
  rcases z with z | z | z
  · rw [z.1, z.2]; exact hd_dW (by decide)
  · rw [z]; exact ar_dW (Or.inr rfl)
  · rw [z.1, z.2]; exact ft_dW hf (Or.inl ⟨rfl, by decide⟩)
theorem TD.df {t : AH} (T : TD h q) (hf : f < 24) (g : Agr (dfM q f) h t) (e0 : hv t (q + (92 + 2 * f)) 0 = 0 ∨ hv t (q + (92 + 2 * f)) 0 = 1) : TD t q := by
  obtain ⟨T1, T2, T3, T4, T5⟩ := T
  refine ⟨fun j hj => by rw [g.at _ _ (by unfold dfM; omega)]; exact (T1 j hj).agr g, fun s' hs' => (T2 s' hs').off g (fun c k z => by unfold dfM at z; omega), fun f' hf' => ?_, by rw [g.at _ _ (by unfold dfM; omega)]; exact T4, by rw [g.at _ _ (by unfold dfM; omega)]; exact T5⟩
  obtain ⟨a, b, c⟩ := T3 f' hf'
  refine ⟨?_, ?_, fun j hj => ?_⟩
  · by_cases e : f' = f
    · rw [e]; exact e0
    · rw [g.at _ _ (by unfold dfM; omega)]; exact a
  · rw [g.at _ _ (by unfold dfM; omega)]; exact b
  · rw [g.at _ _ (by unfold dfM; omega)]; exact (c j hj).agr g
set_option maxHeartbeats 1000000 in
theorem c_dropF600 (l : LX B n h) (hd : 20 ≤ d) (M : MRg B h Q al dn tt) (hdn : dn < 99) (O : OrM h (Q dn) k ord) :
    Vt 0 (cll PP (ev PP (gsF gv) B) d 600 [(2, rf (B + 149)), (0, x)] h) (fun r h' => (¬ ftL h (Q dn) x ∧ r = 0 ∧ h' = hset h (B + 149) 0 1) ∨ (ftL h (Q dn) x ∧ ((r = 0 ∧ ndM h (Q dn) x ∧ h' = hset h (B + 149) 0 0) ∨ (r = 1 ∧ ¬ ndM h (Q dn) x ∧ ∃ p, p < k ∧ ord p = x.toNat ∧ EdQ B h Q al dn h' (fun h3 q => Agr (dfM q x.toNat) h3 h' ∧ hv h' q 5 = (k : Int) - 1 ∧ hv h' (q + (92 + 2 * x.toNat)) 0 = 0 ∧ ∀ i, i + 1 < k → hv h' (q + 7) i = ((ord (if i < p then i else i + 1) : Nat) : Int)))))) := by
  have m4 := M.2.2.2.2.2.2.2.1 dn (by have := M.2.2.2.2.1; have := M.2.2.2.2.2.1; omega)
  have D := m4.2.1
  have hq := M.2.2.2.1
  have lo := D.lo
  obtain ⟨O1, O2, O3, O4, O5⟩ := id O
  refine Vt.inq (D := 19) hd (Nat.le_of_ble_eq_true rfl) rfl (fun d hd R KR => ?_)
  obtain ⟨a1, a2⟩ := v760_is (h := h) (q := Q dn) (x := x)
  refine Ends.eq (b600_0 l (by omega) hq D) (Ends.g a1 ?_)
  rw [a2, ct0]
  by_cases z : ftL h (Q dn) x
  rotate_left
  · rw [if_neg z, if_neg (by decide)]
    refine Ends.ct l (by decide +kernel) (by decide) (c_fails l (by omega) (x := 1)) (fun r h2 l2 _ _ _ ⟨er, e2⟩ => ?_)
    rw [if_pos (by decide)] at er
    refine Ends.eq (b600_17 l2 (by omega)) ?_
    rw [er]
    exact Ends.b0 (fun w => absurd w (by decide)) (fun _ => Ends.sm (KR _ _ (Or.inl ⟨z, rfl, e2⟩)))
  rw [if_pos z, if_pos rfl]
  refine Ends.ct l (by decide +kernel) (by decide) (c_fails l (by omega) (x := 0)) (fun r h2 l2 _ _ _ ⟨er, e2⟩ => ?_)
  rw [if_neg (by decide)] at er
  obtain ⟨M2, g2⟩ := f0_edit l M h2 e2
  have m42 := M2.2.2.2.2.2.2.2.1 dn (by have := M.2.2.2.2.1; have := M.2.2.2.2.2.1; omega)
  have rd : ∀ c j, B + 246 ≤ c → hv h2 c j = hv h c j := fun c j hc => g2.at _ _ (by omega)
  refine Ends.eq (b600_17 l2 (by omega)) ?_
  rw [er]
  refine Ends.b0 (fun _ => ?_) (fun w => absurd rfl w)
  obtain ⟨f, ef⟩ : ∃ f : Nat, x = (f : Int) := ⟨x.toNat, by omega⟩
  subst ef
  rw [tn] at KR
  have hf : f < 24 := by omega
  obtain ⟨p, hp, ep⟩ := (O5 f hf).mp (by have := z.2.2; rw [tn] at this; exact this)
  -- the edit
  have edit : ¬ ndM h (Q dn) (f : Int) → ∀ x2 : Int, Ends (aft PP 600 56 59 [(2, rf (B + 149)), (0, (f : Int)), (0, x2)] [] (ev PP (gsF gv) B d 600) (cll PP (ev PP (gsF gv) B) d 603 [(2, rf (B + 149))] h2)) R := fun nd x2 => by
    refine Ends.cv l2 (by decide +kernel) (c_edQ l2 (by omega) M l e2 hdn) (fun h3 l3 _ _ _ ⟨q, hq3, D3, T3, E3, lo3, _, fin⟩ => ?_)
    have o3 : ∀ i, i < k → hv h3 (q + 7) i = ((ord i : Nat) : Int) := fun i hi => by rw [E3.2.2.2.2.2.2.2 i (by omega)]; exact (O3 i hi).1
    have k3 : hv h3 q 5 = (k : Int) := by rw [E3.1 5 (by decide)]; exact O1
    refine Ends.eq (b600_59 l3 (by omega)) ?_
    have pl := c_placeOf778 (gv := gv) (d := d) (p := p) (ord := ord) l3 (by omega) hq3 D3 (fun i hi => o3 i (by omega)) (by omega) (fun i hi => O4 i p hi hp)
    rw [ep] at pl
    refine Ends.ct l3 (by decide +kernel) (by decide) pl (fun r h4 l4 _ _ _ ⟨eh, er⟩ => ?_)
    subst eh
    rw [er]
    refine Ends.eq (b600_64 l4 (by omega)) ?_
    have key : ∀ (r i : Nat) (t : AH), i + 1 + r = k → p ≤ i → LX B n t → Agr (fun c _ => c = q + 7) h4 t → (∀ j, j < k → hv t (q + 7) j = if p ≤ j ∧ j < i then ((ord (j + 1) : Nat) : Int) else ((ord j : Nat) : Int)) → Ends (ev PP (gsF gv) B d 600 65 [(2, rf (B + 149)), (0, (f : Int)), (0, (i : Int))] [] t) R := by
      intro r
      induction r with
      | zero =>
        intro i t ei pi lt g vals
        have Dt : YD B q t := D3.agr g (fun c j p z => by rw [z] at p; rcases p with p | p | p | ⟨s', hs', p, p2⟩ | ⟨s', hs', p, _⟩ <;> omega)
        refine Ends.eq (b600_65 lt (by omega) (by rw [g.at _ _ (by omega)]; exact hq3) Dt) ?_
        rw [show bop32 96 (i : Int) 1 = ((i + 1 : Nat) : Int) from addNN (y := 1) (by omega), g.at q 5 (by omega), k3, tn, show bop32 100 (k : Int) 1 = (k : Int) - 1 from sub32 (by omega) (by omega)]
        refine Ends.b3 (fun _ => Ends.g ⟨by omega, by omega⟩ (Ends.sm (KR _ _ (Or.inr ⟨z, Or.inr ⟨rfl, nd, p, hp, ep, ?_⟩⟩)))) (fun w => absurd w (by omega))
        have gF : Agr (dfM q f) h4 (hset (hset t q 5 ((k : Int) - 1)) (q + (92 + 2 * f)) 0 0) := ((g.sub (fun c j w => Or.inr (Or.inl w))).set (Or.inl ⟨rfl, rfl⟩)).set (Or.inr (Or.inr ⟨rfl, rfl⟩))
        refine fin _ _ (dfM q f) gF (fun c j w => df_dW hf w) (T3.df hf gF (Or.inl (hv_set_at _ _ _ _))) ⟨gF, ?_, hv_set_at _ _ _ _, fun j hj => ?_⟩
        · rw [hv_set_ne (by omega)]; exact hv_set_at _ _ _ _
        · rw [hv_set_ne (by omega), hv_set_ne (by omega), vals j (by omega)]
          by_cases w : j < p
          · rw [if_neg (by omega), if_pos w]
          · rw [if_pos (by omega), if_neg w]
      | succ r ih =>
        intro i t ei pi lt g vals
        have Dt : YD B q t := D3.agr g (fun c j p z => by rw [z] at p; rcases p with p | p | p | ⟨s', hs', p, p2⟩ | ⟨s', hs', p, _⟩ <;> omega)
        refine Ends.eq (b600_65 lt (by omega) (by rw [g.at _ _ (by omega)]; exact hq3) Dt) ?_
        rw [show bop32 96 (i : Int) 1 = ((i + 1 : Nat) : Int) from addNN (y := 1) (by omega), g.at q 5 (by omega), k3, tn, tn, tn, an0, vals (i + 1) (by omega), if_neg (by omega), w_succ (by omega)]
        refine Ends.b3 (fun w => absurd w (by omega)) (fun _ => Ends.g ⟨by omega, by omega⟩ (Ends.g ⟨by omega, by omega⟩ ?_))
        refine ih (i + 1) _ (by omega) (by omega) (lt.setA (t := 0) (by rw [Dt.k7])) (g.set rfl) (fun j hj => ?_)
        by_cases w : j = i
        · rw [w, hv_set_at, if_pos (by omega)]
        · rw [hv_set_ne (by omega), vals j hj]
          by_cases u : p ≤ j ∧ j < i
          · rw [if_pos u, if_pos (by omega)]
          · rw [if_neg u, if_neg (by omega)]
    exact key (k - 1 - p) p h4 (by omega) (Nat.le_refl p) l4 Agr.rf (fun j hj => by rw [if_neg (by omega)]; exact o3 j hj)
  have hq2 := M2.2.2.2.1
  have D2 := m42.2.1
  have look : ∀ (r i : Nat), i + r = 24 → (∀ g, g < i → ¬ (hv h (Q dn + (92 + 2 * g)) 0 ≠ 0 ∧ nfM h (Q dn) g (f : Int))) → Ends (ev PP (gsF gv) B d 600 24 [(2, rf (B + 149)), (0, (f : Int)), (0, (i : Int))] [] h2) R := by
    intro r
    induction r with
    | zero =>
      intro i ei no
      refine Ends.eq (b600_24 l2 (by omega) hq2 D2) (Ends.b3 (fun _ => ?_) (fun w => absurd w (by omega)))
      exact edit (fun ⟨g, g24, w⟩ => no g (by omega) w) _
    | succ r ih =>
      intro i ei no
      have next : ¬ (hv h (Q dn + (92 + 2 * i)) 0 ≠ 0 ∧ nfM h (Q dn) i (f : Int)) → Ends (ev PP (gsF gv) B d 600 49 [(2, rf (B + 149)), (0, (f : Int)), (0, (i : Int))] [] h2) R := fun w => by
        refine Ends.eq (b600_49 l2 (by omega)) ?_
        rw [w_succ (by omega)]
        refine ih (i + 1) (by omega) (fun g hg => ?_)
        rcases (by omega : g < i ∨ g = i) with u | u
        · exact no g u
        · rw [u]; exact w
      obtain ⟨c1, c2⟩ := v760_is (h := h2) (q := Q dn) (x := (i : Int))
      refine Ends.eq (b600_24 l2 (by omega) hq2 D2) (Ends.b3 (fun w => absurd w (by omega)) (fun _ => Ends.g c1 ?_))
      rw [c2, v707_is]
      unfold ftL nfM
      rw [tn, rd _ _ (by omega), rd _ _ (by omega), rd _ _ (by omega)]
      by_cases al : hv h (Q dn + (92 + 2 * i)) 0 ≠ 0
      · rw [if_pos ⟨by omega, by omega, al⟩]
        refine Ends.b1 (fun w => absurd rfl w) (fun _ => Ends.g ⟨by omega, by omega⟩ ?_)
        by_cases nf : nfM h (Q dn) i (f : Int)
        · rw [if_pos nf]
          exact Ends.b0 (fun w => absurd w (by decide)) (fun _ => Ends.sm (KR _ _ (Or.inr ⟨z, Or.inl ⟨rfl, ⟨i, by omega, al, nf⟩, e2⟩⟩)))
        · rw [if_neg nf]
          exact Ends.b0 (fun _ => next (fun w => nf w.2)) (fun w => absurd rfl w)
      · rw [if_neg (fun w => al w.2.2)]
        exact Ends.b1 (fun _ => next (fun w => al w.1)) (fun w => absurd w (by decide))
  exact look 24 0 rfl (fun g hg => absurd hg (Nat.not_lt_zero g))
end DRPM
