/-! L3: views (model): the line through a piece -/
section MLN
variable {gv : Nat → Int} {B n d : Nat} {h : AH} {ax dn p t : Nat}
def wvL (ax p a : Nat) : Nat := if a = fA ax then puL p else pvL p
def bvL (ax p t : Nat) : Nat := if hiB t = true then 8 - wvL ax p (aB t) else wvL ax p (aB t)
def cvL (ax p t : Nat) : Nat := if hiC t = true then 8 - wvL ax p (aC t) else wvL ax p (aC t)
def cpL (ax p t : Nat) : Nat := if wvL ax p (aA t) < 8 - wvL ax p (aA t) then wvL ax p (aA t) else 8 - wvL ax p (aA t)
def siL (ax p t : Nat) : Nat := if wvL ax p (aA t) < 8 - wvL ax p (aA t) then 2 else 3
/-- whether a line meets a sort; where it begins, by which facet it comes into it -/
def mlM (ax p t : Nat) : Bool := if ax = aA t then (!decide (bvL ax p t < cvL ax p t) && decide (bvL ax p t < 4)) else if ax = aB t then decide (cvL ax p t < cpL ax p t) else decide (bvL ax p t ≤ cpL ax p t)
def mlB (ax dn p t : Nat) : Nat := if dn = 0 then (if ax = aA t then bvL ax p t else if ax = aB t then (if hiB t = true then 8 - cpL ax p t else cvL ax p t) else (if hiC t = true then 8 - bvL ax p t else 0)) else 8 - (if ax = aA t then 8 - bvL ax p t else if ax = aB t then (if hiB t = true then 8 - cvL ax p t else cpL ax p t) else (if hiC t = true then 8 else bvL ax p t))
def mlE (ax dn p t : Nat) : Nat := if dn = 0 then (if ax = aA t then 2 else if ax = aB t then (if hiB t = true then siL ax p t else 1) else (if hiC t = true then 1 else 0)) else (if ax = aA t then 3 else if ax = aB t then (if hiB t = true then 1 else siL ax p t) else (if hiC t = true then 0 else 1))
theorem pu_lt : ∀ p : Fin 8, 1 ≤ puL p ∧ puL p ≤ 7 ∧ 1 ≤ pvL p ∧ pvL p ≤ 7 := by decide +kernel
def vmeW (B : Nat) : Nat → Nat → Prop := fun c k => c = B + 186 ∨ (c = B + 149 ∧ (k = 148 ∨ k = 149))
set_option maxHeartbeats 4000000 in
theorem c_meetsLine749 (l : LX B n h) (hd : 11 ≤ d) (m : TbM B h) (hax : ax < 3) (hdn : dn < 2) (hp : p < 8) (ht : t < 24) :
    Vt 0 (cll PP (ev PP (gsF gv) B) d 749 [(2, rf (B + 149)), (0, (t : Int)), (0, (ax : Int)), (0, ((puL p : Nat) : Int)), (0, ((pvL p : Nat) : Int)), (0, (dn : Int))] h) (fun v h' => v = (if mlM ax p t = true then 1 else 0) ∧ Agr (vmeW B) h h' ∧ (mlM ax p t = true → hv h' (B + 149) 148 = ((mlB ax dn p t : Nat) : Int) ∧ hv h' (B + 149) 149 = ((mlE ax dn p t : Nat) : Int))) := by
  obtain ⟨u3, v3, uv, ua, va⟩ := fs_A ⟨ax, hax⟩
  simp only at u3 v3 uv ua va
  obtain ⟨n1, n2, n3, n4, n5, n6, n7⟩ := ax_ne ht
  obtain ⟨m1, m2, m3, m4, m5, m6, m7⟩ := m.1 t ht
  obtain ⟨rB, rC⟩ := rBC ⟨t, ht⟩
  simp only at rB rC
  obtain ⟨pu1, pu2, pv1, pv2⟩ := pu_lt ⟨p, hp⟩
  simp only at pu1 pu2 pv1 pv2
  refine Vt.inq (D := 10) hd (Nat.le_of_ble_eq_true rfl) rfl (fun d hd Q K => ?_)
  refine Ends.eq (b749_0 (by decide) l (by omega)) ?_
  rw [(f635_is hax).1, (f635_is hax).2, tn, tn, tn, an0, an0, m4, m5, m6, tn, tn, tn]
  have l2 : LX B n (hset (hset h (B + 186) (fA ax) ((puL p : Nat) : Int)) (B + 186) (sA ax) ((pvL p : Nat) : Int)) := LX.setS (LX.setS l rfl) rfl
  have G2 : Agr (vmeW B) h (hset (hset h (B + 186) (fA ax) ((puL p : Nat) : Int)) (B + 186) (sA ax) ((pvL p : Nat) : Int)) := (Agr.rf.set (Or.inl rfl)).set (Or.inl rfl)
  have w2 : ∀ a, a < 3 → a ≠ ax → hv (hset (hset h (B + 186) (fA ax) ((puL p : Nat) : Int)) (B + 186) (sA ax) ((pvL p : Nat) : Int)) (B + 186) a = ((wvL ax p a : Nat) : Int) := fun a ha hne => by
    unfold wvL
    by_cases z : a = fA ax
    · rw [z, hv_set_ne (by omega), hv_set_at, if_pos rfl]
    · have : a = sA ax := by omega
      rw [this, hv_set_at, if_neg (by omega)]
  generalize hset (hset h (B + 186) (fA ax) ((puL p : Nat) : Int)) (B + 186) (sA ax) ((pvL p : Nat) : Int) = h2 at *
  have mm2 : TbM B h2 := m.agr G2 (fun c k h1 h2 h3 z => by unfold vmeW at z; omega)
  obtain ⟨qB, vB⟩ := rest_is mm2 ht n5
  obtain ⟨qC, vC⟩ := rest_is mm2 ht n6
  rw [vB, vC, rB, rC]
  have LB : cond (tst 1 (((if hiB t = true then 6 else 2 : Nat)) : Int) 2) (0 : Int) 1 = if hiB t = true then 0 else 1 := by cases hiB t <;> rfl
  have LC : cond (tst 1 (((if hiC t = true then 7 else 1 : Nat)) : Int) 1) (0 : Int) 1 = if hiC t = true then 0 else 1 := by cases hiC t <;> rfl
  rw [LB, LC]
  clear vB vC LB LC
  have sB : ∀ {α : Type} {x y : α}, cond (tst 0 (if hiB t = true then (0 : Int) else 1) 0) x y = if hiB t = true then x else y := fun {α x y} => by cases hiB t <;> rfl
  have sC : ∀ {α : Type} {x y : α}, cond (tst 0 (if hiC t = true then (0 : Int) else 1) 0) x y = if hiC t = true then x else y := fun {α x y} => by cases hiC t <;> rfl
  have wl : ∀ a, 1 ≤ wvL ax p a ∧ wvL ax p a ≤ 7 := fun a => by unfold wvL; split <;> omega
  have bl : 1 ≤ bvL ax p t ∧ bvL ax p t ≤ 7 := by have := wl (aB t); unfold bvL; split <;> omega
  have cl : 1 ≤ cvL ax p t ∧ cvL ax p t ≤ 7 := by have := wl (aC t); unfold cvL; split <;> omega
  have pl : 1 ≤ cpL ax p t ∧ cpL ax p t ≤ 7 := by have := wl (aA t); unfold cpL; split <;> omega
  have s8 : ∀ x : Nat, x ≤ 8 → bop32 100 (8 : Int) (x : Int) = ((8 - x : Nat) : Int) := fun x hx => subNN (x := 8) (by omega) hx
  have EB : aB t ≠ ax → (if hiB t = true then bop32 100 (8 : Int) (hv h2 (B + 186) (aB t)) else hv h2 (B + 186) (aB t)) = ((bvL ax p t : Nat) : Int) := fun z => by
    rw [w2 _ n5 z, s8 _ (by have := wl (aB t); omega)]; unfold bvL; split <;> rfl
  have EC : aC t ≠ ax → (if hiC t = true then bop32 100 (8 : Int) (hv h2 (B + 186) (aC t)) else hv h2 (B + 186) (aC t)) = ((cvL ax p t : Nat) : Int) := fun z => by
    rw [w2 _ n6 z, s8 _ (by have := wl (aC t); omega)]; unfold cvL; split <;> rfl
  have EP : aA t ≠ ax → cond (tst 3 (hv h2 (B + 186) (aA t)) (bop32 100 (8 : Int) (hv h2 (B + 186) (aA t)))) (bop32 100 (8 : Int) (hv h2 (B + 186) (aA t))) (hv h2 (B + 186) (aA t)) = ((cpL ax p t : Nat) : Int) ∧ cond (tst 3 (hv h2 (B + 186) (aA t)) (bop32 100 (8 : Int) (hv h2 (B + 186) (aA t)))) (3 : Int) 2 = ((siL ax p t : Nat) : Int) := fun z => by
    rw [w2 _ n4 z, s8 _ (by have := wl (aA t); omega), ct3, ct3]
    unfold cpL siL
    by_cases y : wvL ax p (aA t) < 8 - wvL ax p (aA t)
    · rw [if_pos (by omega), if_pos (by omega), if_pos (by omega), if_pos (by omega)]; exact ⟨rfl, rfl⟩
    · rw [if_neg (by omega), if_neg (by omega), if_neg (by omega), if_neg (by omega)]; exact ⟨rfl, rfl⟩
  have ok3 : ∀ a : Nat, a < 3 → 0 ≤ (a : Int) ∧ (a : Int) < 3 := fun a ha => ⟨by omega, by omega⟩
  refine Ends.g (ok3 _ u3) (Ends.g (ok3 _ v3) (Ends.g ⟨by omega, by omega⟩ (Ends.g qB (Ends.g qC (Ends.g (ok3 _ n4) (Ends.g ?_ (Ends.g ?_ ?_)))))))
  · rw [sB]; split <;> exact ok3 _ n5
  · rw [sC]; split <;> exact ok3 _ n6
  simp only [sB, sC]
  -- it meets it
  have yes : ∀ (x6 x7 x8 x9 x10 x11 x12 x13 x14 x15 : Int) (u16 : AV), mlM ax p t = true → cond (tst 0 (dn : Int) 0) x11 (bop32 100 (8 : Int) x12) = ((mlB ax dn p t : Nat) : Int) → cond (tst 0 (dn : Int) 0) x13 x14 = ((mlE ax dn p t : Nat) : Int) → Ends (ev PP (gsF gv) B d 749 377 [(2, rf (B + 149)), (0, (t : Int)), (0, (ax : Int)), (0, ((puL p : Nat) : Int)), (0, ((pvL p : Nat) : Int)), (0, (dn : Int)), (0, x6), (0, x7), (0, x8), (0, x9), (0, x10), (0, x11), (0, x12), (0, x13), (0, x14), (0, x15), u16] [] h2) Q := by
    intro x6 x7 x8 x9 x10 x11 x12 x13 x14 x15 u16 e1 e2 e3
    refine Ends.eq (b749_377 l2 (by omega)) (Ends.sm (K _ _ ⟨by rw [if_pos e1], (G2.set (Or.inr ⟨rfl, Or.inl rfl⟩)).set (Or.inr ⟨rfl, Or.inr rfl⟩), fun _ => ⟨?_, ?_⟩⟩))
    · rw [hv_set_ne (by omega), hv_set_at, e2]
    · rw [hv_set_at, e3]
  have no : mlM ax p t = false → Q ((0, (0, 0)), h2) := fun e => K _ _ ⟨by rw [if_neg (by rw [e]; decide)], G2, fun z => by rw [e] at z; exact absurd z (by decide)⟩
  have dn01 : dn = 0 ∨ dn = 1 := by omega
  by_cases zA : ax = aA t
  · have zB : aB t ≠ ax := by omega
    have zC : aC t ≠ ax := by omega
    have eM : mlM ax p t = (!decide (bvL ax p t < cvL ax p t) && decide (bvL ax p t < 4)) := by unfold mlM; rw [if_pos zA]
    rw [EB zB, EC zC]
    refine Ends.b1 (fun z => absurd (by omega) z) (fun _ => Ends.b4 (fun z => ?_) (fun z => Ends.b2 (fun z2 => ?_) (fun z2 => ?_)))
    · exact Ends.eq (b749_193 l2 (by omega)) (Ends.sm (no (by rw [eM, decide_eq_true (by omega)]; rfl)))
    · refine yes _ _ _ _ _ _ _ _ _ _ _ (by rw [eM, decide_eq_false (by omega), decide_eq_true (by omega)]; rfl) ?_ ?_
      · rw [s8 _ (by omega), s8 _ (by omega)]
        unfold mlB
        rw [if_pos zA, if_pos zA]
        rcases dn01 with rfl | rfl
        · rfl
        · rfl
      · unfold mlE
        rw [if_pos zA, if_pos zA]
        rcases dn01 with rfl | rfl <;> rfl
    · exact Ends.eq (b749_193 l2 (by omega)) (Ends.sm (no (by rw [eM, decide_eq_false (p := bvL ax p t < 4) (by omega), Bool.and_false])))
  · have zA' : aA t ≠ ax := by omega
    obtain ⟨EP1, EP2⟩ := EP zA'
    refine Ends.b1 (fun _ => ?_) (fun z => absurd z (by omega))
    by_cases zB : ax = aB t
    · have zC : aC t ≠ ax := by omega
      have eM : mlM ax p t = decide (cvL ax p t < cpL ax p t) := by unfold mlM; rw [if_neg zA, if_pos zB]
      rw [EC zC, EP1, EP2]
      refine Ends.b1 (fun z => absurd (by omega) z) (fun _ => Ends.b2 (fun z2 => ?_) (fun z2 => ?_))
      · refine yes _ _ _ _ _ _ _ _ _ _ _ (by rw [eM, decide_eq_true (by omega)]) ?_ ?_
        · unfold mlB
          rw [if_neg zA, if_neg zA, if_pos zB, if_pos zB]
          rcases dn01 with rfl | rfl
          · rw [s8 _ (by omega)]
            cases hiB t <;> rfl
          · rw [s8 (cvL ax p t) (by omega)]
            cases hiB t
            · exact s8 _ (by omega)
            · exact s8 _ (by omega)
        · unfold mlE
          rw [if_neg zA, if_neg zA, if_pos zB, if_pos zB]
          rcases dn01 with rfl | rfl <;> cases hiB t <;> rfl
      · exact Ends.sm (no (by rw [eM, decide_eq_false (by omega)]))
    · have zB' : aB t ≠ ax := by omega
      have eM : mlM ax p t = decide (bvL ax p t ≤ cpL ax p t) := by unfold mlM; rw [if_neg zA, if_neg zB]
      rw [EB zB', EP1]
      refine Ends.b1 (fun _ => Ends.b5 (fun z2 => ?_) (fun z2 => ?_)) (fun z => absurd z (by omega))
      · refine yes _ _ _ _ _ _ _ _ _ _ _ (by rw [eM, decide_eq_true (by omega)]) ?_ ?_
        · unfold mlB
          rw [if_neg zA, if_neg zA, if_neg zB, if_neg zB]
          rcases dn01 with rfl | rfl
          · rw [s8 _ (by omega)]
            cases hiC t <;> rfl
          · cases hiC t
            · exact s8 _ (by omega)
            · exact s8 8 (by omega)
        · unfold mlE
          rw [if_neg zA, if_neg zA, if_neg zB, if_neg zB]
          rcases dn01 with rfl | rfl <;> cases hiC t <;> rfl
      · exact Ends.sm (no (by rw [eM, decide_eq_false (by omega)]))
/-- where a new one comes among those told -/
def psR (f : Nat → Nat) (b : Nat) : Nat → Nat
  | 0 => 0
  | i + 1 => if b < f i then psR f b i else i + 1
def shF (f : Nat → Nat) (ps x : Nat) : Nat → Nat := fun j => if j < ps then f j else if j = ps then x else f (j - 1)
theorem psR_le {f : Nat → Nat} {b : Nat} : ∀ {i : Nat}, psR f b i ≤ i
  | 0 => Nat.le_refl _
  | i + 1 => by unfold psR; split; exact Nat.le_succ_of_le psR_le; exact Nat.le_refl _
/-- the line so far: how many, where they begin, sorts, facets -/
def mkS (ax dn p : Nat) : Nat → Nat × (Nat → Nat) × (Nat → Nat) × (Nat → Nat)
  | 0 => (0, fun _ => 0, fun _ => 0, fun _ => 0)
  | t + 1 => if mlM ax p t = true then ((mkS ax dn p t).1 + 1, shF (mkS ax dn p t).2.1 (psR (mkS ax dn p t).2.1 (mlB ax dn p t) (mkS ax dn p t).1) (mlB ax dn p t), shF (mkS ax dn p t).2.2.1 (psR (mkS ax dn p t).2.1 (mlB ax dn p t) (mkS ax dn p t).1) t, shF (mkS ax dn p t).2.2.2 (psR (mkS ax dn p t).2.1 (mlB ax dn p t) (mkS ax dn p t).1) (mlE ax dn p t)) else mkS ax dn p t
theorem mkS_le : ∀ t, (mkS ax dn p t).1 ≤ t
  | 0 => Nat.le_refl _
  | t + 1 => by
    have := mkS_le t
    show (if mlM ax p t = true then ((mkS ax dn p t).1 + 1, _) else mkS ax dn p t : Nat × (Nat → Nat) × (Nat → Nat) × (Nat → Nat)).1 ≤ t + 1
    split
    · show (mkS ax dn p t).1 + 1 ≤ t + 1; omega
    · omega
set_option maxRecDepth 100000 in
theorem mkS_all : ∀ ax : Fin 3, ∀ dn : Fin 2, ∀ p : Fin 8, (mkS ax dn p 24).1 = 5 ∧ ∀ k : Fin 5, (mkS ax dn p 24).2.2.1 k = vlT ax dn p k ∧ (mkS ax dn p 24).2.2.2 k = vlE ax dn p k := by decide +kernel
/-- the line, as the model has it -/
def VlM (B : Nat) (h : AH) (ax dn p : Nat) : Prop := hv h (B + 149) 147 = 5 ∧ ∀ k, k < 5 → hv h (B + 223) k = ((vlT ax dn p k : Nat) : Int) ∧ hv h (B + 224) k = ((vlE ax dn p k : Nat) : Int)
def MkI (B : Nat) (q : AH) (s : Nat × (Nat → Nat) × (Nat → Nat) × (Nat → Nat)) : Prop := hv q (B + 149) 147 = ((s.1 : Nat) : Int) ∧ ∀ j, j < s.1 → hv q (B + 225) j = ((s.2.1 j : Nat) : Int) ∧ hv q (B + 223) j = ((s.2.2.1 j : Nat) : Int) ∧ hv q (B + 224) j = ((s.2.2.2 j : Nat) : Int)
def mkLW (B : Nat) : Nat → Nat → Prop := fun c k => c = B + 186 ∨ (c = B + 149 ∧ 147 ≤ k ∧ k ≤ 149) ∨ (B + 223 ≤ c ∧ c ≤ B + 225)
/-- the model's points -/
def PtM (B : Nat) (h : AH) : Prop := ∀ k, k < 8 → hv h (B + 221) k = ((puL k : Nat) : Int) ∧ hv h (B + 222) k = ((pvL k : Nat) : Int)
set_option maxHeartbeats 2000000 in
theorem c_makeLine741 (l : LX B n h) (hd : 14 ≤ d) (m : TbM B h) (pt : PtM B h) (hax : ax < 3) (hdn : dn < 2) (hp : p < 8) :
    Vd (cll PP (ev PP (gsF gv) B) d 741 [(2, rf (B + 149)), (0, (ax : Int)), (0, (p : Int)), (0, (dn : Int))] h) (fun h' => Agr (mkLW B) h h' ∧ VlM B h' ax dn p) := by
  refine Vd.inq (D := 13) hd (Nat.le_of_ble_eq_true rfl) rfl (fun d hd Q K => ?_)
  have key : ∀ (r t : Nat) (q : AH) (u5 : AV), t + r = 24 → LX B n q → Agr (mkLW B) h q → MkI B q (mkS ax dn p t) → Ends (ev PP (gsF gv) B d 741 8 [(2, rf (B + 149)), (0, (ax : Int)), (0, (p : Int)), (0, (dn : Int)), (0, (t : Int)), u5] [] q) Q := by
    intro r
    induction r with
    | zero =>
      intro t q u5 e lq g I
      obtain rfl : t = 24 := by omega
      obtain ⟨f1, f2⟩ := mkS_all ⟨ax, hax⟩ ⟨dn, hdn⟩ ⟨p, hp⟩
      simp only at f1
      obtain ⟨I1, I2⟩ := I
      refine Ends.eq (b741_8 lq (by omega)) (Ends.b3 (fun _ => Ends.sm (K _ ⟨g, by rw [I1, f1]; rfl, fun k hk => ?_⟩)) (fun z => absurd z (by decide)))
      obtain ⟨g1, g2⟩ := f2 ⟨k, hk⟩
      simp only at g1 g2
      obtain ⟨-, j2, j3⟩ := I2 k (by rw [f1]; exact hk)
      rw [j2, j3, g1, g2]
      exact ⟨rfl, rfl⟩
    | succ r ih =>
      intro t q u5 e lq g I
      have ht : t < 24 := by omega
      have mq : TbM B q := m.agr g (fun c k h1 h2 h3 z => by unfold mkLW at z; omega)
      have cle := mkS_le (ax := ax) (dn := dn) (p := p) t
      have next : ∀ (q3 : AH) (u5 : AV), LX B n q3 → Agr (mkLW B) h q3 → MkI B q3 (mkS ax dn p (t + 1)) → Ends (ev PP (gsF gv) B d 741 163 [(2, rf (B + 149)), (0, (ax : Int)), (0, (p : Int)), (0, (dn : Int)), (0, (t : Int)), u5] [] q3) Q := fun q3 u5 l3 g3 I3 => by
        refine Ends.eq (b741_163 l3 (by omega)) ?_
        rw [w_succ (by omega)]
        exact ih (t + 1) q3 _ (by omega) l3 g3 I3
      refine Ends.eq (b741_8 lq (by omega)) (Ends.b3 (fun z => absurd z (by omega)) (fun _ => Ends.g ⟨by omega, by omega⟩ ?_))
      rw [tn, g.at _ _ (by unfold mkLW; omega), g.at _ _ (by unfold mkLW; omega), (pt p hp).1, (pt p hp).2]
      refine Ends.ct lq (by decide +kernel) (by decide) (c_meetsLine749 lq (by omega) mq hax hdn hp ht) (fun v h2 l2 _ _ _ ⟨ev2, g2, w2⟩ => ?_)
      have G2 : Agr (mkLW B) h h2 := g.tr g2 (fun c k z => by unfold vmeW at z; unfold mkLW; omega)
      have I2 : MkI B h2 (mkS ax dn p t) := ⟨by rw [g2.at _ _ (by unfold vmeW; omega)]; exact I.1, fun j hj => by rw [g2.at _ _ (by unfold vmeW; omega), g2.at _ _ (by unfold vmeW; omega), g2.at _ _ (by unfold vmeW; omega)]; exact I.2 j hj⟩
      refine Ends.eq (b741_35 l2 (by omega)) ?_
      rw [ev2]
      cases hM : mlM ax p t
      · refine Ends.b1 (fun z => absurd rfl z) (fun _ => next h2 _ l2 G2 ?_)
        rw [show mkS ax dn p (t + 1) = mkS ax dn p t from by show (if mlM ax p t = true then _ else mkS ax dn p t) = _; rw [hM]; rfl]
        exact I2
      · refine Ends.b1 (fun _ => ?_) (fun z => absurd z (by decide))
        obtain ⟨w148, w149⟩ := w2 hM
        obtain ⟨S, eS⟩ : ∃ S, S = mkS ax dn p t := ⟨_, rfl⟩
        rw [← eS] at I2 cle
        obtain ⟨c, ec⟩ : ∃ c, c = S.1 := ⟨_, rfl⟩
        obtain ⟨J1, J2⟩ := I2
        rw [← ec] at J1 J2 cle
        rw [J1]
        obtain ⟨b, eb⟩ : ∃ b, b = mlB ax dn p t := ⟨_, rfl⟩
        rw [← eb] at w148
        have em : mkS ax dn p (t + 1) = (c + 1, shF S.2.1 (psR S.2.1 b c) b, shF S.2.2.1 (psR S.2.1 b c) t, shF S.2.2.2 (psR S.2.1 b c) (mlE ax dn p t)) := by
          show (if mlM ax p t = true then _ else mkS ax dn p t) = _
          rw [if_pos hM, ← eS, ← ec, ← eb]
        have place : ∀ (i : Nat) (q3 : AH), i ≤ c → LX B n q3 → Agr (fun c k => B + 223 ≤ c ∧ c ≤ B + 225) h2 q3 → psR S.2.1 b c = i → (∀ j, j < i → hv q3 (B + 225) j = ((S.2.1 j : Nat) : Int) ∧ hv q3 (B + 223) j = ((S.2.2.1 j : Nat) : Int) ∧ hv q3 (B + 224) j = ((S.2.2.2 j : Nat) : Int)) → (∀ j, i < j → j ≤ c → hv q3 (B + 225) j = ((S.2.1 (j - 1) : Nat) : Int) ∧ hv q3 (B + 223) j = ((S.2.2.1 (j - 1) : Nat) : Int) ∧ hv q3 (B + 224) j = ((S.2.2.2 (j - 1) : Nat) : Int)) → Ends (ev PP (gsF gv) B d 741 122 [(2, rf (B + 149)), (0, (ax : Int)), (0, (p : Int)), (0, (dn : Int)), (0, (t : Int)), (0, (i : Int))] [] q3) Q := by
          intro i q3 hi l3 g3 eps A1 A2
          refine Ends.eq (b741_122 l3 (by omega)) ?_
          rw [tn, an0, an0, an0, g3.at _ _ (by omega), g3.at _ _ (by omega), g3.at _ _ (by omega), w148, w149, J1, show bop32 96 (c : Int) 1 = ((c + 1 : Nat) : Int) from addNN (y := 1) (by omega)]
          refine Ends.g ⟨by omega, by omega⟩ (next _ _ (LX.setF 149 147 (LX.setS (LX.setS (LX.setS l3 rfl) rfl) rfl) (by decide +kernel)) ((((G2.tr g3 (fun c k z => by unfold mkLW; omega)).set (by unfold mkLW; omega)).set (by unfold mkLW; omega)).set (by unfold mkLW; omega) |>.set (by unfold mkLW; omega)) ?_)
          rw [em]
          refine ⟨hv_set_at .., fun j hj => ?_⟩
          have hj : j < c + 1 := hj
          show _ = ((shF S.2.1 (psR S.2.1 b c) b j : Nat) : Int) ∧ _ = ((shF S.2.2.1 (psR S.2.1 b c) t j : Nat) : Int) ∧ _ = ((shF S.2.2.2 (psR S.2.1 b c) (mlE ax dn p t) j : Nat) : Int)
          rw [eps]
          unfold shF
          rcases (by omega : j < i ∨ j = i ∨ i < j) with z | z | z
          · rw [if_pos z, if_pos z, if_pos z]
            obtain ⟨x1, x2, x3⟩ := A1 j z
            refine ⟨?_, ?_, ?_⟩
            · rw [hv_set_ne (by omega), hv_set_ne (by omega), hv_set_ne (by omega), hv_set_ne (by omega)]; exact x1
            · rw [hv_set_ne (by omega), hv_set_ne (by omega), hv_set_ne (by omega), hv_set_ne (by omega)]; exact x2
            · rw [hv_set_ne (by omega), hv_set_ne (by omega), hv_set_ne (by omega), hv_set_ne (by omega)]; exact x3
          · subst z
            rw [if_neg (Nat.lt_irrefl _), if_neg (Nat.lt_irrefl _), if_neg (Nat.lt_irrefl _), if_pos rfl, if_pos rfl, if_pos rfl]
            refine ⟨?_, ?_, ?_⟩
            · rw [hv_set_ne (by omega), hv_set_ne (by omega), hv_set_ne (by omega), hv_set_at]
            · rw [hv_set_ne (by omega), hv_set_ne (by omega), hv_set_at]
            · rw [hv_set_ne (by omega), hv_set_at]
          · rw [if_neg (by omega), if_neg (by omega), if_neg (by omega), if_neg (by omega), if_neg (by omega), if_neg (by omega)]
            obtain ⟨x1, x2, x3⟩ := A2 j z (by omega)
            refine ⟨?_, ?_, ?_⟩
            · rw [hv_set_ne (by omega), hv_set_ne (by omega), hv_set_ne (by omega), hv_set_ne (by omega)]; exact x1
            · rw [hv_set_ne (by omega), hv_set_ne (by omega), hv_set_ne (by omega), hv_set_ne (by omega)]; exact x2
            · rw [hv_set_ne (by omega), hv_set_ne (by omega), hv_set_ne (by omega), hv_set_ne (by omega)]; exact x3
        have shift : ∀ (i : Nat) (q3 : AH), i ≤ c → LX B n q3 → Agr (fun c k => B + 223 ≤ c ∧ c ≤ B + 225) h2 q3 → psR S.2.1 b c = psR S.2.1 b i → (∀ j, j < i → hv q3 (B + 225) j = ((S.2.1 j : Nat) : Int) ∧ hv q3 (B + 223) j = ((S.2.2.1 j : Nat) : Int) ∧ hv q3 (B + 224) j = ((S.2.2.2 j : Nat) : Int)) → (∀ j, i < j → j ≤ c → hv q3 (B + 225) j = ((S.2.1 (j - 1) : Nat) : Int) ∧ hv q3 (B + 223) j = ((S.2.2.1 (j - 1) : Nat) : Int) ∧ hv q3 (B + 224) j = ((S.2.2.2 (j - 1) : Nat) : Int)) → Ends (ev PP (gsF gv) B d 741 47 [(2, rf (B + 149)), (0, (ax : Int)), (0, (p : Int)), (0, (dn : Int)), (0, (t : Int)), (0, (i : Int))] [] q3) Q := by
          intro i
          induction i with
          | zero =>
            intro q3 hi l3 g3 eps A1 A2
            exact Ends.eq (b741_47 l3 (by omega)) (Ends.b5 (fun _ => place 0 q3 hi l3 g3 eps A1 A2) (fun z => absurd z (by decide)))
          | succ i ihi =>
            intro q3 hi l3 g3 eps A1 A2
            obtain ⟨x1, x2, x3⟩ := A1 i (Nat.lt_succ_self i)
            have p1 : psR S.2.1 b (i + 1) = if b < S.2.1 i then psR S.2.1 b i else i + 1 := rfl
            refine Ends.eq (b741_47 l3 (by omega)) (Ends.b5 (fun z => by omega) (fun _ => ?_))
            rw [show bop32 100 ((i + 1 : Nat) : Int) 1 = (i : Int) from by rw [sub32 (by omega) (by omega)]; omega, tn, tn, x1, x2, x3, an0, an0, an0, g3.at _ _ (by omega), w148]
            refine Ends.g ⟨by omega, by omega⟩ (Ends.b5 (fun z => ?_) (fun z => ?_))
            · exact place (i + 1) q3 hi l3 g3 (by rw [eps, p1, if_neg (by omega)]) A1 A2
            · refine Ends.g ⟨by omega, by omega⟩ ?_
              rw [show w32 (((i + 1 : Nat) : Int) + (-1)) = (i : Int) from by rw [w32_id ⟨by omega, by omega⟩]; omega]
              refine ihi _ (by omega) (LX.setS (LX.setS (LX.setS l3 rfl) rfl) rfl) (((g3.set (by omega)).set (by omega)).set (by omega)) (by rw [eps, p1, if_pos (by omega)]) (fun j hj => ?_) (fun j h1 h2 => ?_)
              · obtain ⟨y1, y2, y3⟩ := A1 j (by omega)
                refine ⟨?_, ?_, ?_⟩
                · rw [hv_set_ne (by omega), hv_set_ne (by omega), hv_set_ne (by omega)]; exact y1
                · rw [hv_set_ne (by omega), hv_set_ne (by omega), hv_set_ne (by omega)]; exact y2
                · rw [hv_set_ne (by omega), hv_set_ne (by omega), hv_set_ne (by omega)]; exact y3
              · by_cases z2 : j = i + 1
                · rw [z2, Nat.add_sub_cancel]
                  refine ⟨?_, ?_, ?_⟩
                  · rw [hv_set_ne (by omega), hv_set_ne (by omega), hv_set_at]
                  · rw [hv_set_ne (by omega), hv_set_at]
                  · rw [hv_set_at]
                · obtain ⟨y1, y2, y3⟩ := A2 j (by omega) h2
                  refine ⟨?_, ?_, ?_⟩
                  · rw [hv_set_ne (by omega), hv_set_ne (by omega), hv_set_ne (by omega)]; exact y1
                  · rw [hv_set_ne (by omega), hv_set_ne (by omega), hv_set_ne (by omega)]; exact y2
                  · rw [hv_set_ne (by omega), hv_set_ne (by omega), hv_set_ne (by omega)]; exact y3
        exact shift c h2 (Nat.le_refl _) l2 Agr.rf rfl J2 (fun j h1 h2 => by omega)
  refine Ends.eq (b741_0 l (by omega)) ?_
  exact key 24 0 _ _ rfl (LX.setF 149 147 l (by decide +kernel)) (Agr.rf.set (by unfold mkLW; omega)) ⟨hv_set_at .., fun j hj => absurd hj (Nat.not_lt_zero j)⟩
/-- what a line comes to first (model) -/
theorem c_firstFacet636 {s u v : Nat} {S : Nat → Bool} (l : LX B n h) (hd : 10 ≤ d) (hn : n ≤ 52) (hs : s < 19) (bS : MB B n h s S) (ln : VlM B h ax dn p) (hax : ax < 3) (hdn : dn < 2) (hp : p < 8) (hu : u < n) (hv' : v < n) :
    Vt 0 (cll PP (ev PP (gsF gv) B) d 636 [(2, rf (B + 149)), (0, (s : Int)), (0, (ax : Int)), (0, (u : Int)), (0, (v : Int)), (0, (dn : Int))] h) (fun x h' => h' = h ∧ x = ffF n S ax dn p u v) := by
  have hG := gN_le hn
  obtain ⟨lm, ln⟩ := ln
  refine Vt.inq (D := 9) hd (Nat.le_of_ble_eq_true rfl) rfl (fun d hd Q K => ?_)
  have outer : ∀ (r w : Nat) (u7 u8 u9 u10 u11 u12 : AV), w + r = n → (∀ j, j < 5 * w → S (lnG n ax dn p u v j) = false) → Ends (ev PP (gsF gv) B d 636 3 [(2, rf (B + 149)), (0, (s : Int)), (0, (ax : Int)), (0, (u : Int)), (0, (v : Int)), (0, (dn : Int)), (0, (w : Int)), u7, u8, u9, u10, u11, u12] [] h) Q := by
    intro r
    induction r with
    | zero =>
      intro w u7 u8 u9 u10 u11 u12 e no
      obtain rfl : n = w := by omega
      refine Ends.eq (b636_3 l (by omega)) (Ends.b3 (fun _ => Ends.sm (K _ _ ⟨rfl, ?_⟩)) (fun z => absurd z (Int.lt_irrefl _)))
      have : ffP n S ax dn p u v = 5 * n := ffI_no no
      unfold ffF
      rw [if_neg (by omega)]
    | succ r ih =>
      intro w u7 u8 u9 u10 u11 u12 e no
      have hw : w < n := by omega
      have hc := lnC_lt (dn := dn) hw
      have ec : cond (tst 0 (dn : Int) 0) (w : Int) (bop32 100 (bop32 100 (n : Int) 1) (w : Int)) = ((vlC n dn w : Nat) : Int) := by
        rw [ct0]
        unfold vlC
        by_cases z : dn = 0
        · rw [if_pos (by omega), if_pos z]
        · rw [if_neg (by omega), if_neg z, show bop32 100 (n : Int) 1 = ((n - 1 : Nat) : Int) from subNN (y := 1) (by omega) (by omega), subNN (by omega) (by omega)]
      have e0 : cond (tst 1 (ax : Int) 0) (u : Int) ((vlC n dn w : Nat) : Int) = ((pkA ax 0 u v (vlC n dn w) : Nat) : Int) := by
        rcases (by omega : ax = 0 ∨ ax = 1 ∨ ax = 2) with rfl | rfl | rfl <;> rfl
      have e1 : cond (tst 1 (ax : Int) 1) (cond (tst 1 (ax : Int) 0) (v : Int) (u : Int)) ((vlC n dn w : Nat) : Int) = ((pkA ax 1 u v (vlC n dn w) : Nat) : Int) := by
        rcases (by omega : ax = 0 ∨ ax = 1 ∨ ax = 2) with rfl | rfl | rfl <;> rfl
      have e2 : cond (tst 1 (ax : Int) 2) (v : Int) ((vlC n dn w : Nat) : Int) = ((pkA ax 2 u v (vlC n dn w) : Nat) : Int) := by
        rcases (by omega : ax = 0 ∨ ax = 1 ∨ ax = 2) with rfl | rfl | rfl <;> rfl
      refine Ends.eq (b636_3 l (by omega)) (Ends.b3 (fun z => absurd z (by omega)) (fun _ => ?_))
      rw [ec, e0, e1, e2]
      clear ec e0 e1 e2
      have h0 := pkA_lt (ax := ax) (w := 0) hu hv' hc
      have h1 := pkA_lt (ax := ax) (w := 1) hu hv' hc
      have h2 := pkA_lt (ax := ax) (w := 2) hu hv' hc
      have inner : ∀ (r2 k : Nat) (u12 : AV), k + r2 = 5 → (∀ j, j < 5 * w + k → S (lnG n ax dn p u v j) = false) → Ends (ev PP (gsF gv) B d 636 84 [(2, rf (B + 149)), (0, (s : Int)), (0, (ax : Int)), (0, (u : Int)), (0, (v : Int)), (0, (dn : Int)), (0, (w : Int)), (0, ((vlC n dn w : Nat) : Int)), (0, ((pkA ax 0 u v (vlC n dn w) : Nat) : Int)), (0, ((pkA ax 1 u v (vlC n dn w) : Nat) : Int)), (0, ((pkA ax 2 u v (vlC n dn w) : Nat) : Int)), (0, (k : Int)), u12] [] h) Q := by
        intro r2
        induction r2 with
        | zero =>
          intro k u12 ek no
          obtain rfl : k = 5 := by omega
          refine Ends.eq (b636_84 l (by omega)) ?_
          rw [lm]
          refine Ends.b3 (fun _ => ?_) (fun z => absurd z (by decide))
          rw [w_succ (by omega)]
          exact ih (w + 1) _ _ _ _ _ _ (by omega) (fun j hj => no j (by omega))
        | succ r2 ih2 =>
          intro k u12 ek no
          have hk5 : k < 5 := by omega
          have i5 : (5 * w + k) / 5 = w ∧ (5 * w + k) % 5 = k := by omega
          obtain ⟨g1, g2, g3, g4, g5, g6⟩ := lnG_is (n := n) (i := 5 * w + k) hax hdn hp hu hv' (by omega)
          rw [i5.2] at g6
          have eg : gI n (pkA ax 0 u v (vlC n dn w)) (pkA ax 1 u v (vlC n dn w)) (pkA ax 2 u v (vlC n dn w)) (vlT ax dn p k) = lnG n ax dn p u v (5 * w + k) := by unfold lnG; rw [i5.1, i5.2]
          refine Ends.eq (b636_84 l (by omega)) ?_
          rw [lm, tn, (ln k hk5).1, (ln k hk5).2, grain_is hn h0 h1 h2 g6, eg]
          obtain ⟨q1, q2⟩ := has_is bS hs hn g1
          rw [q2]
          refine Ends.b3 (fun z => absurd z (by omega)) (fun _ => Ends.g ⟨by omega, by omega⟩ (Ends.g q1 ?_))
          cases hS : S (lnG n ax dn p u v (5 * w + k))
          · refine Ends.b0 (fun _ => ?_) (fun z => absurd rfl z)
            rw [w_succ (by omega)]
            refine ih2 (k + 1) _ (by omega) (fun j hj => ?_)
            rcases (by omega : j < 5 * w + k ∨ j = 5 * w + k) with z | z
            · exact no j z
            · rw [z]; exact hS
          · have eP : ffP n S ax dn p u v = 5 * w + k := ffI_at (f := fun i => S (lnG n ax dn p u v i)) (by omega) hS no
            have el : vlE ax dn p k < 4 := lnE_lt
            rw [show bop32 104 (4 : Int) ((lnG n ax dn p u v (5 * w + k) : Nat) : Int) = ((4 * lnG n ax dn p u v (5 * w + k) : Nat) : Int) from mulNN (x := 4) (by omega), addNN (by omega)]
            refine Ends.b0 (fun z => absurd z (by decide)) (fun _ => Ends.sm (K _ _ ⟨rfl, ?_⟩))
            unfold ffF ffK
            rw [eP, if_pos (by omega), i5.2]
      exact inner 5 0 _ rfl (fun j hj => no j (by omega))
  refine Ends.eq (b636_0 l (by omega)) ?_
  exact outer n 0 _ _ _ _ _ _ (Nat.zero_add _) (fun j hj => absurd hj (Nat.not_lt_zero j))
end MLN
