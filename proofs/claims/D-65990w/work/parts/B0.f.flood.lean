/-! L3: Flood between calls; lumps, hollows, clearance of the desk -/
section FLI
variable {gv : Nat → Int} {B n d : Nat} {h : AH} {W : Nat → Bool}
/-- Flood between calls -/
def FlI (B n : Nat) (h : AH) : Prop := (hv h (B + 81) 2 = 0 ∧ hv h (B + 81) 3 = 0 ∧ hv h (B + 81) 4 = 0 ∧ hv h (B + 81) 5 = 0 ∧ hv h (B + 81) 6 = 0 ∧ hv h (B + 81) 7 = 0) ∨ ∃ se fs qu qd hd, (hv h (B + 81) 2 = rf se ∧ hv h (B + 81) 3 = rf fs ∧ hv h (B + 81) 4 = rf qu ∧ hv h (B + 81) 5 = rf qd) ∧ (hk h se = (3, 24 * n * n) ∧ hk h qu = (2, 24 * n * n) ∧ hk h qd = (5, 24 * n * n)) ∧ (B + 246 ≤ se ∧ B + 246 ≤ fs ∧ B + 246 ≤ qu ∧ B + 246 ≤ qd) ∧ (se < hnx h ∧ fs < hnx h ∧ qu < hnx h ∧ qd < hnx h) ∧ SG n h fs (fun _ => false) ∧ FlQ B n h qu qd (fun _ => false) hd 0
/-- Flood's own cells -/
def FlO (B : Nat) (h : AH) (c : Nat) : Prop := ∃ k, 2 ≤ k ∧ k ≤ 5 ∧ hv h (B + 81) k = rf c
/-- what may still be made for it, beside the registered -/
def lzF (B n : Nat) (h : AH) : Nat := if hv h (B + 81) 2 = 0 then 2 * (24 * n * n) else 0
theorem beg4_v {N c k : Nat} (hc : c ≠ B + 81) : hv (beg4 B N h) c k = if hnx h ≤ c ∧ c ≤ hnx h + 3 then 0 else hv h c k := by
  unfold beg4
  rw [hv_na hc, hv_new, hv_na hc, hv_new, hv_na hc, hv_new, hv_na hc, hv_new]
  show (if c = hnx h + 3 then 0 else if c = hnx h + 2 then 0 else if c = hnx h + 1 then 0 else if c = hnx h then 0 else hv h c k) = _
  by_cases e : hnx h ≤ c ∧ c ≤ hnx h + 3
  · rw [if_pos e]
    split
    · rfl
    · split
      · rfl
      · split
        · rfl
        · rw [if_pos (by omega)]
  · rw [if_neg e, if_neg (by omega), if_neg (by omega), if_neg (by omega), if_neg (by omega)]
theorem beg4_f {N : Nat} (hb : B + 246 ≤ hnx h) : hv (beg4 B N h) (B + 81) 3 = rf (hnx h + 1) ∧ hv (beg4 B N h) (B + 81) 4 = rf (hnx h + 2) ∧ hv (beg4 B N h) (B + 81) 5 = rf (hnx h + 3) ∧ ∀ k, ¬ (2 ≤ k ∧ k ≤ 5) → hv (beg4 B N h) (B + 81) k = hv h (B + 81) k := by
  have a0 : ¬ B + 81 = hnx h := by omega
  have a1 : ¬ B + 81 = hnx h + 1 := by omega
  have a2 : ¬ B + 81 = hnx h + 2 := by omega
  have a3 : ¬ B + 81 = hnx h + 3 := by omega
  unfold beg4
  refine ⟨?_, ?_, ?_, fun k hk => ?_⟩
  · rw [hv_set_ne (by omega), hv_new]
    show (if B + 81 = hnx h + 3 then 0 else _) = _
    rw [if_neg a3, hv_set_ne (by omega), hv_new]
    show (if B + 81 = hnx h + 2 then 0 else _) = _
    rw [if_neg a2, hv_set_at]
  · rw [hv_set_ne (by omega), hv_new]
    show (if B + 81 = hnx h + 3 then 0 else _) = _
    rw [if_neg a3, hv_set_at]
  · rw [hv_set_at]
  · rw [hv_set_ne (by omega), hv_new]
    show (if B + 81 = hnx h + 3 then 0 else _) = _
    rw [if_neg a3, hv_set_ne (by omega), hv_new]
    show (if B + 81 = hnx h + 2 then 0 else _) = _
    rw [if_neg a2, hv_set_ne (by omega), hv_new]
    show (if B + 81 = hnx h + 1 then 0 else _) = _
    rw [if_neg a1, hv_set_ne (by omega), hv_new, if_neg a0]
theorem beg4_x {N : Nat} : Ext (fun c _ => c = B + 81) 4 (N + N + N + N) h (beg4 B N h) ∧ hnx (beg4 B N h) = hnx h + 4 ∧ hus (beg4 B N h) = hus h + N + N + N + N := by
  refine ⟨?_, rfl, rfl⟩
  unfold beg4
  have X : ∀ {c s : Nat} {q : AH} {kd : Nat × Nat} {k : Nat} {v : Int}, Ext (fun c _ => c = B + 81) c s h q → Ext (fun c _ => c = B + 81) (c + 1) (s + N) h (hset (hnew q kd N) (B + 81) k v) := fun x => Ext.set (x.tr Ext.new (fun _ _ _ z => z)) (fun _ => rfl)
  have := X (kd := (5, N)) (k := 5) (v := rf (hnx h + 3)) (X (kd := (2, N)) (k := 4) (v := rf (hnx h + 2)) (X (kd := (3, N)) (k := 3) (v := rf (hnx h + 1)) (X (kd := (3, N)) (k := 2) (v := rf (hnx h)) (Ext.rf (W := fun c _ => c = B + 81) (c := 0) (s := 0) (h := h)))))
  exact this.sub (fun _ _ _ z => z) (Nat.le_refl _) (by omega)
theorem rgV_37 : rgV B h 37 = hv h (B + 81) 2 := rfl
theorem rgV_38 : rgV B h 38 = hv h (B + 81) 3 := rfl
theorem rg_81 : ∀ i : Fin 37, rgC i ≠ 81 := by decide +kernel
/-- begun: nothing is seen -/
theorem c_beginI (l : LX B n h) (hd : 12 ≤ d) (hn0 : 0 < n) (hn : n ≤ 52) (R : Reg B n h) (F : FlI B n h) {wi : Nat} (w : SG n h wi W) (hw : wi < hnx h) (hw2 : wi = B + 117 ∨ B + 246 ≤ wi) (hw3 : ∀ k, 2 ≤ k → k ≤ 3 → hv h (B + 81) k ≠ rf wi) :
    Vd (cll PP (ev PP (gsF gv) B) d 176 [(2, rf (B + 81)), (2, (rf wi))] h) (fun h' => ∃ se fs qu qd, Flo B n h' se fs qu qd wi W (fun _ => false) (fun _ => false) ∧ (se < hnx h' ∧ fs < hnx h' ∧ qu < hnx h' ∧ qd < hnx h') ∧ (∀ c, flA B se fs qu qd c → c < hnx h → c = B + 81 ∨ FlO B h c) ∧ Reg B n h' ∧ hus h' + lzy B n h' + lzF B n h' = hus h + lzy B n h + lzF B n h ∧ Ext (fun c _ => c = B + 81 ∨ FlO B h c) 4 (24 * n * n + 24 * n * n + 24 * n * n + 24 * n * n) h h') := by
  have hb := l.2.2
  have hN0 : 0 < 24 * n * n := Nat.mul_pos (Nat.mul_pos (by decide) hn0) hn0
  rcases F with ⟨e2, e3, e4, e5, e6, e7⟩ | ⟨se, fs, qu, qd, hh, ⟨e2, e3, e4, e5⟩, ⟨k1, k2, k3⟩, ⟨b1, b2, b3, b4⟩, ⟨c1, c2, c3, c4⟩, sf, fq⟩
  · obtain ⟨h', ee, f, z, e8, ef⟩ := c_beginNew (gv := gv) (d := d) (wi := wi) l (by omega) hn e2
    refine ⟨h', ee, hnx h, hnx h + 1, hnx h + 2, hnx h + 3, ?_, ?_, ?_, ?_⟩
    · have g := f.agr
      obtain ⟨f3, f4, f5, fo⟩ := beg4_f (N := 24 * n * n) hb
      have kk : ∀ c, hk h' c = hk (beg4 B (24 * n * n) h) c := fun c => g.hk c
      have q0 : hk h' (hnx h) = (3, 24 * n * n) := by rw [kk, beg4_k, if_neg (by omega), if_neg (by omega), if_neg (by omega), if_pos rfl]
      have q1 : hk h' (hnx h + 1) = (3, 24 * n * n) := by rw [kk, beg4_k, if_neg (by omega), if_neg (by omega), if_pos rfl]
      have q2 : hk h' (hnx h + 2) = (2, 24 * n * n) := by rw [kk, beg4_k, if_neg (by omega), if_pos rfl]
      have q3 : hk h' (hnx h + 3) = (5, 24 * n * n) := by rw [kk, beg4_k, if_pos rfl]
      have vv : ∀ c k, c ≠ hnx h → c ≠ B + 81 → hv h' c k = if hnx h ≤ c ∧ c ≤ hnx h + 3 then 0 else hv h c k := fun c k h1 h2 => by rw [g.at c k (by omega), beg4_v h2]
      refine Flo.idle ⟨by rw [ef 2 (by decide), beg4_2 hb], by rw [ef 3 (by decide), f3], by rw [ef 4 (by decide), f4], by rw [ef 5 (by decide), f5], e8, q2, q3, by omega, by omega, by omega, by omega, hw2, by omega, by omega, by omega, by omega, by omega, by omega, by omega, by omega, by omega, by omega⟩ ?_ q0 z (SG.zero q1 (fun k hk => by rw [vv _ _ (by omega) (by omega), if_pos (by omega)])) ⟨by rw [ef 6 (by decide), fo 6 (by omega), e6]; rfl, by rw [ef 7 (by decide), fo 7 (by omega), e7]; rfl, hN0, (cntN_none _ (fun _ _ => rfl)).symm, fun r hr => by rw [vv _ _ (by omega) (by omega), if_pos (by omega)]; rfl, fun i hi => absurd hi (by omega), fun i j hi => absurd hi (by omega)⟩
      exact ⟨by rw [kk, beg4_k, if_neg (by omega), if_neg (by omega), if_neg (by omega), if_neg (by omega)]; exact w.1, fun k hk => by rw [vv _ _ (by omega) (by omega), if_neg (by omega)]; exact w.2 k hk⟩
    · have : hnx h' = hnx h + 4 := by rw [f.2.2.1]; exact beg4_x.2.1
      omega
    · intro c hc hl
      unfold flA at hc
      omega
    · obtain ⟨f3, f4, f5, fo⟩ := beg4_f (N := 24 * n * n) hb
      have g := f.agr
      obtain ⟨X4, n4, u4⟩ := beg4_x (B := B) (N := 24 * n * n) (h := h)
      have X : Ext (fun c _ => c = B + 81 ∨ FlO B h c) 4 (24 * n * n + 24 * n * n + 24 * n * n + 24 * n * n) h h' := (X4.tr (c' := 0) (s' := 0) g.ext (fun a k ha z => by omega)).sub (fun _ _ _ z => Or.inl z) (Nat.le_refl _) (Nat.le_refl _)
      have n5 : hnx h' = hnx h + 4 := by rw [f.2.2.1, n4]
      have u5 : hus h' = hus h + 24 * n * n + 24 * n * n + 24 * n * n + 24 * n * n := by rw [f.2.2.2, u4]
      have r2 : hv h' (B + 81) 2 = rf (hnx h) := by rw [ef 2 (by decide), beg4_2 hb]
      have r3 : hv h' (B + 81) 3 = rf (hnx h + 1) := by rw [ef 3 (by decide), f3]
      have same : ∀ i, i < 37 → rgV B h' i = rgV B h i := fun i hi => by
        have a1 := rgC_lt ⟨i, by omega⟩
        have a2 := rg_81 ⟨i, hi⟩
        have a3 : rgC i < 149 := a1.1
        have a4 : rgC i ≠ 81 := a2
        unfold rgV
        rw [g.at _ _ (by omega), beg4_v (by omega), if_neg (by omega)]
      have hkn : ∀ a, a < hnx h → hk h' a = hk h a := fun a ha => X.hk ha
      have ne : ∀ i, i < 37 → ∀ a, hnx h ≤ a → rgV B h i ≠ rf a := fun i hi a ha z => by
        rcases R.1 i (by omega) with y | ⟨x, y1, y2, y3, y4⟩
        · rw [y] at z; have := rf_pos a; omega
        · rw [y1] at z; unfold rf at z; omega
      refine ⟨⟨fun i hi => ?_, fun i j hi hj hij z => ?_⟩, ?_, X⟩
      · by_cases y : i < 37
        · rw [same i y]
          rcases R.1 i hi with z | ⟨a, z1, z2, z3, z4⟩
          · exact Or.inl z
          · exact Or.inr ⟨a, z1, z2, by omega, by rw [hkn a z3]; exact z4⟩
        · have : i = 37 ∨ i = 38 := by omega
          rcases this with rfl | rfl
          · exact Or.inr ⟨hnx h, r2, hb, by omega, by rw [g.hk, beg4_k, if_neg (by omega), if_neg (by omega), if_neg (by omega), if_pos rfl]⟩
          · exact Or.inr ⟨hnx h + 1, r3, by omega, by omega, by rw [g.hk, beg4_k, if_neg (by omega), if_neg (by omega), if_pos rfl]⟩
      · have v37 : rgV B h' 37 = rf (hnx h) := r2
        have v38 : rgV B h' 38 = rf (hnx h + 1) := r3
        by_cases yi : i < 37
        · by_cases yj : j < 37
          · rw [same i yi, same j yj] at z
            rw [same i yi]
            exact R.2 i j hi hj hij z
          · exfalso
            have : j = 37 ∨ j = 38 := by omega
            rcases this with rfl | rfl
            · rw [same i yi, v37] at z; exact ne i yi _ (Nat.le_refl _) z
            · rw [same i yi, v38] at z; exact ne i yi _ (by omega) z
        · by_cases yj : j < 37
          · exfalso
            have : i = 37 ∨ i = 38 := by omega
            rcases this with rfl | rfl
            · rw [same j yj, v37] at z; exact ne j yj _ (Nat.le_refl _) z.symm
            · rw [same j yj, v38] at z; exact ne j yj _ (by omega) z.symm
          · exfalso
            have : (i = 37 ∧ j = 38) ∨ (i = 38 ∧ j = 37) := by omega
            rcases this with ⟨rfl, rfl⟩ | ⟨rfl, rfl⟩
            · rw [v37, v38] at z; unfold rf at z; omega
            · rw [v37, v38] at z; unfold rf at z; omega
      · have L1 : lzy B n h' = lzS B n h 37 := by
          show lzS B n h' 37 + (if rgV B h' 37 = 0 then 24 * n * n else 0) + (if rgV B h' 38 = 0 then 24 * n * n else 0) = _
          rw [show rgV B h' 37 = rf (hnx h) from r2, show rgV B h' 38 = rf (hnx h + 1) from r3, if_neg (by have := rf_pos (hnx h); omega), if_neg (by have := rf_pos (hnx h + 1); omega), lzS_same same]
          rfl
        have L2 : lzy B n h = lzS B n h 37 + 24 * n * n + 24 * n * n := by
          show lzS B n h 37 + (if rgV B h 37 = 0 then 24 * n * n else 0) + (if rgV B h 38 = 0 then 24 * n * n else 0) = _
          rw [show rgV B h 37 = 0 from e2, show rgV B h 38 = 0 from e3, if_pos rfl]
        unfold lzF
        rw [r2, if_neg (by have := rf_pos (hnx h); omega), if_pos e2]
        omega
  · obtain ⟨h', ee, f, z, e8, ef⟩ := c_beginOn (gv := gv) (d := d) (wi := wi) l (by omega) hn e2 k1 b1
    have g := f.agr
    have sef : se ≠ fs := fun y => by
      have := R.2 37 38 (by decide) (by decide) (by decide) (by rw [rgV_37, rgV_38, e2, e3, y])
      rw [rgV_37, e2] at this
      have := rf_pos se
      omega
    have seq : se ≠ qu := fun y => by rw [y, k2] at k1; exact absurd (congrArg Prod.fst k1) (show ¬ (2 : Nat) = 3 by decide)
    have sed : se ≠ qd := fun y => by rw [y, k3] at k1; exact absurd (congrArg Prod.fst k1) (show ¬ (5 : Nat) = 3 by decide)
    have fsq : fs ≠ qu := fun y => by have := sf.1; rw [y, k2] at this; exact absurd (congrArg Prod.fst this) (show ¬ (2 : Nat) = 3 by decide)
    have fsd : fs ≠ qd := fun y => by have := sf.1; rw [y, k3] at this; exact absurd (congrArg Prod.fst this) (show ¬ (5 : Nat) = 3 by decide)
    have qud : qu ≠ qd := fun y => by rw [y, k3] at k2; exact absurd (congrArg Prod.fst k2) (show ¬ (5 : Nat) = 2 by decide)
    have wse : se ≠ wi := fun y => hw3 2 (by decide) (by decide) (by rw [e2, y])
    have wfs : fs ≠ wi := fun y => hw3 3 (by decide) (by decide) (by rw [e3, y])
    have wqu : qu ≠ wi := fun y => by have := w.1; rw [← y, k2] at this; exact absurd (congrArg Prod.fst this) (show ¬ (2 : Nat) = 3 by decide)
    have wqd : qd ≠ wi := fun y => by have := w.1; rw [← y, k3] at this; exact absurd (congrArg Prod.fst this) (show ¬ (5 : Nat) = 3 by decide)
    obtain ⟨q1, q2, q3, q4, q5, q6, q7⟩ := fq
    have nx : hnx h' = hnx h := g.nx
    refine ⟨h', ee, se, fs, qu, qd, ?_, ⟨by omega, by omega, by omega, by omega⟩, ?_, ?_⟩
    · refine Flo.idle (hd := hh) ⟨by rw [ef 2 (by decide), e2], by rw [ef 3 (by decide), e3], by rw [ef 4 (by decide), e4], by rw [ef 5 (by decide), e5], e8, by rw [g.hk]; exact k2, by rw [g.hk]; exact k3, b1, b2, b3, b4, hw2, sef, seq, sed, wse, fsq, fsd, wfs, qud, wqu, wqd⟩ (w.agr g (fun k y => by omega)) (by rw [g.hk]; exact k1) z (sf.agr g (fun k y => by omega)) ⟨by rw [ef 6 (by decide), q1], by rw [ef 7 (by decide), q2], q3, q4, fun r hr => by rw [g.at _ _ (by omega)]; exact q5 r hr, fun i hi => absurd hi (by omega), fun i j hi => absurd hi (by omega)⟩
    · intro c hc _
      unfold flA at hc
      rcases hc with rfl | rfl | rfl | rfl | hc
      · exact Or.inr ⟨2, by decide, by decide, e2⟩
      · exact Or.inr ⟨3, by decide, by decide, e3⟩
      · exact Or.inr ⟨4, by decide, by decide, e4⟩
      · exact Or.inr ⟨5, by decide, by decide, e5⟩
      · exact Or.inl hc
    · have X : Ext (fun c k => c = se ∨ (c = B + 81 ∧ k = 8)) 0 0 h h' := ⟨fun a _ => g.hk a, fun a k _ hw => by
        by_cases y : a = B + 81
        · rw [y]; exact ef k (fun e => hw (Or.inr ⟨y, e⟩))
        · exact g.at a k (fun e => by rcases e with e | e; exact hw (Or.inl e); exact y e), by omega, by omega, by rw [g.us]; exact Nat.le_refl _, by rw [g.us]; exact Nat.le_refl _⟩
      obtain ⟨R', L'⟩ := R.ext hb X (fun i hi y => by
        have a1 := rgC_lt ⟨i, hi⟩
        have a2 : rgC i < 149 := a1.1
        rcases y with y | ⟨y1, y2⟩
        · omega
        · by_cases z : i < 37
          · have a5 : rgC i ≠ 81 := rg_81 ⟨i, z⟩
            omega
          · have : i = 37 ∨ i = 38 := by omega
            rcases this with rfl | rfl <;> exact absurd y2 (by decide))
      refine ⟨R', ?_, X.sub (fun c k _ y => ?_) (by omega) (by omega)⟩
      · have : lzF B n h' = lzF B n h := by unfold lzF; rw [ef 2 (by decide)]
        rw [L', this, g.us]
      · rcases y with y | y
        · exact Or.inr ⟨2, by decide, by decide, by rw [y]; exact e2⟩
        · exact Or.inl y.1
/-- behind a call of Flood's -/
theorem Flo.end {se fs qu qd wi : Nat} {Se : Nat → Bool} (hn0 : 0 < n) (F : Flo B n h se fs qu qd wi W Se (fun _ => false)) (c : se < hnx h ∧ fs < hnx h ∧ qu < hnx h ∧ qd < hnx h) : FlI B n h := by
  obtain ⟨⟨e2, e3, e4, e5, e8, k2, k3, b1, b2, b3, b4, _⟩, w, ss, sf, _, _, Q, hd, wt, ⟨q1, q2, q3, q4, q5, q6, q7⟩, hQ⟩ := F
  have hq : ∀ r, r < 24 * n * n → Q r = false := fun r hr => by
    cases e : Q r
    · rfl
    · obtain ⟨_, _, _, z⟩ := (hQ r hr).mp e; exact absurd z Bool.false_ne_true
  have w0 : wt = 0 := by rw [q4]; exact cntN_none _ hq
  refine Or.inr ⟨se, fs, qu, qd, hd, ⟨e2, e3, e4, e5⟩, ⟨ss.1, k2, k3⟩, ⟨b1, b2, b3, b4⟩, c, sf, q1, by rw [q2, w0], q3, (cntN_none _ (fun _ _ => rfl)).symm, fun r hr => by rw [q5 r hr, hq r hr], fun i hi => absurd hi (by omega), fun i j hi => absurd hi (by omega)⟩
end FLI
section LUMP
variable {gv : Nat → Int} {B n d : Nat} {h : AH} {is : Nat → Bool} {cl : Nat → Nat} {S : Nat → Nat → Bool} {o p : Int}
theorem fl_ne (l : LX B n h) (b : BdC B n h is cl S) (R : Reg B n h) (hs : thS is o = true) : ∀ k, 2 ≤ k → k ≤ 3 → hv h (B + 81) k ≠ rf (clS B cl o) := by
  have hb := l.2.2
  intro k h1 h2 z
  have hk37 : rgV B h (35 + k) = rf (clS B cl o) := by
    have : k = 2 ∨ k = 3 := by omega
    rcases this with rfl | rfl
    · exact z
    · exact z
  rcases thS_c hs with rfl | ⟨i, hi, rfl, e2⟩
  · rcases R.1 (35 + k) (by omega) with y | ⟨a, y1, y2, _⟩
    · rw [y] at hk37; have := rf_pos (clS B cl (-1)); omega
    · have : clS B cl (-1) = B + 117 := rfl
      rw [y1, this] at hk37
      unfold rf at hk37
      omega
  · have e3 : clS B cl (i : Int) = cl i := by unfold clS; rw [if_neg (by omega)]; rfl
    have e4 := ((b.1 i hi).2 e2).1
    have := R.2 (35 + k) i (by omega) (by omega) (by omega) (by rw [hk37, rgV_b hi, e4, e3])
    rw [hk37] at this
    have := rf_pos (clS B cl (i : Int))
    omega
theorem clo_0 {W : Nat → Bool} : Clo n W (fun _ => false) (fun _ => false) (fun _ _ => False) := fun g g' f _ _ _ z => absurd z Bool.false_ne_true
theorem NC.congr {W U U' : Nat → Bool} {k : Nat} (a : NC n W U k) (e : ∀ g, g < gN n → U g = U' g) : NC n W U' k := by
  obtain ⟨rep, a1, a2, a3⟩ := a
  exact ⟨rep, fun i hi => ⟨(a1 i hi).1, by rw [← e _ (a1 i hi).1]; exact (a1 i hi).2.1, (a1 i hi).2.2⟩, a2, fun g hg hu => a3 g hg (by rw [e g hg]; exact hu)⟩
/-- what Flood's work leaves -/
def FlE (B n : Nat) (W : Nat → Nat → Prop) (c s : Nat) (h q : AH) : Prop := Ext W c s h q ∧ Reg B n q ∧ FlI B n q ∧ hus q + lzy B n q + lzF B n q = hus h + lzy B n h + lzF B n h ∧ ∀ c, c < hnx h → FlO B q c → FlO B h c
theorem FlC.fo {q : AH} {c se fs qu qd wi : Nat} (F : FlC B n q se fs qu qd wi) (z : FlO B q c) : flA B se fs qu qd c := by
  obtain ⟨k, z1, z2, z3⟩ := z
  obtain ⟨f2, f3, f4, f5, -⟩ := F
  have hk : k = 2 ∨ k = 3 ∨ k = 4 ∨ k = 5 := by omega
  rcases hk with rfl | rfl | rfl | rfl
  · rw [f2] at z3; exact Or.inl (by unfold rf at z3; omega)
  · rw [f3] at z3; exact Or.inr (Or.inl (by unfold rf at z3; omega))
  · rw [f4] at z3; exact Or.inr (Or.inr (Or.inl (by unfold rf at z3; omega)))
  · rw [f5] at z3; exact Or.inr (Or.inr (Or.inr (Or.inl (by unfold rf at z3; omega))))
theorem FlI.own {c : Nat} (F : FlI B n h) (z : FlO B h c) : B + 246 ≤ c := by
  obtain ⟨k, z1, z2, z3⟩ := z
  have : k = 2 ∨ k = 3 ∨ k = 4 ∨ k = 5 := by omega
  have := rf_pos c
  rcases F with ⟨f2, f3, f4, f5, _⟩ | ⟨se', fs', qu', qd', _, ⟨f2, f3, f4, f5⟩, _, ⟨f6, f7, f8, f9⟩, _⟩
  · rcases ‹k = 2 ∨ k = 3 ∨ k = 4 ∨ k = 5› with rfl | rfl | rfl | rfl <;> omega
  · rcases ‹k = 2 ∨ k = 3 ∨ k = 4 ∨ k = 5› with rfl | rfl | rfl | rfl
    · rw [f2] at z3; unfold rf at z3; omega
    · rw [f3] at z3; unfold rf at z3; omega
    · rw [f4] at z3; unfold rf at z3; omega
    · rw [f5] at z3; unfold rf at z3; omega
def w59 (B : Nat) (h : AH) : Nat → Nat → Prop := fun c _ => c = B + 81 ∨ FlO B h c
theorem rg_flA {se fs qu qd i : Nat} (hs : B + 246 ≤ se ∧ B + 246 ≤ fs ∧ B + 246 ≤ qu ∧ B + 246 ≤ qd) (hi : i < 37) : ¬ flA B se fs qu qd (B + rgC i) := by
  have a1 := rgC_lt ⟨i, by omega⟩
  have a3 : rgC i < 149 := a1.1
  have a4 : rgC i ≠ 81 := rg_81 ⟨i, hi⟩
  unfold flA
  omega
/-- Flood's calls keep the places -/
theorem Reg.flo {W Se Fs Se' Fs' : Nat → Bool} {se fs qu qd wi : Nat} {q t : AH} (l : LX B n q) (R : Reg B n q) (F : Flo B n q se fs qu qd wi W Se Fs) (g : Fr (flA B se fs qu qd) q t) (F' : Flo B n t se fs qu qd wi W Se' Fs') : Reg B n t ∧ lzy B n t = lzy B n q ∧ lzF B n t = lzF B n q := by
  have hb := l.2.2
  have A := F.1
  have A' := F'.1
  have same : ∀ i, i < 39 → rgV B t i = rgV B q i := fun i hi => by
    by_cases z : i < 37
    · unfold rgV
      exact g.agr.at _ _ (rg_flA ⟨A.2.2.2.2.2.2.2.1, A.2.2.2.2.2.2.2.2.1, A.2.2.2.2.2.2.2.2.2.1, A.2.2.2.2.2.2.2.2.2.2.1⟩ z)
    · have : i = 37 ∨ i = 38 := by omega
      rcases this with rfl | rfl
      · exact (A'.1).trans A.1.symm
      · exact (A'.2.1).trans A.2.1.symm
  refine ⟨⟨fun i hi => ?_, fun i j hi hj hij z => ?_⟩, lzS_same same, ?_⟩
  · rw [same i hi]
    rcases R.1 i hi with z | ⟨a, z1, z2, z3, z4⟩
    · exact Or.inl z
    · exact Or.inr ⟨a, z1, z2, by rw [g.agr.nx]; exact z3, by rw [g.agr.hk]; exact z4⟩
  · rw [same i hi, same j hj] at z
    rw [same i hi]
    exact R.2 i j hi hj hij z
  · unfold lzF
    rw [A'.1, A.1]
theorem c_lumps59 (l : LX B n h) (hd : 20 ≤ d) (hn0 : 0 < n) (hn : n ≤ 52) (m : TbC B h) (b : BdC B n h is cl S) (R : Reg B n h) (F : FlI B n h) :
    Opx 0 (cll PP (ev PP (gsF gv) B) d 59 [(2, rf (B + 0)), (0, o)] h) (fun x h' => thS is o = true ∧ (∃ k : Nat, x = (k : Int) ∧ NC n (S (rwS o)) (S (rwS o)) k) ∧ FlE B n (w59 B h) 4 (24 * n * n + 24 * n * n + 24 * n * n + 24 * n * n) h h') (fun c q => c = 31 ∧ thS is o = false ∧ q = h) := by
  have hb := l.2.2
  refine Vtx.into (D := 19) hd (Nat.le_of_ble_eq_true rfl) rfl (fun d hd => ?_)
  refine Ends.eq (b59_0 (n := n) (by (repeat' first | assumption | refine LX.setF _ _ ?_ (by decide +kernel) | refine LX.setS ?_ rfl | refine LX.setA ?_ (by first | assumption | omega))) (by first | assumption | omega)) ?_
  refine Ends.sol l (by omega) b (fun ho => ?_) (fun ho => Ends.thn rfl (Or.inr ⟨_, _, rfl, _, _, ⟨rfl, ho, rfl⟩, rfl, rfl⟩))
  refine Ends.eq (b59_9 (n := n) (by (repeat' first | assumption | refine LX.setF _ _ ?_ (by decide +kernel) | refine LX.setS ?_ rfl | refine LX.setA ?_ (by first | assumption | omega))) (by first | assumption | omega)) ?_
  obtain ⟨s1, s2, s3⟩ := b.sol l ho
  refine Ends.cv l (by decide +kernel) (c_beginI l (by omega) hn0 hn R F s1 s3 s2 (fl_ne l b R ho)) (fun h1 l1 _ _ _ ⟨se, fs, qu, qd, F1, c1, A1, R1, L1, X1⟩ => ?_)
  refine Ends.eq (b59_12 (n := n) (by (repeat' first | assumption | refine LX.setF _ _ ?_ (by decide +kernel) | refine LX.setS ?_ rfl | refine LX.setA ?_ (by first | assumption | omega))) (by first | assumption | omega)) ?_
  have m1 : TbC B h1 := m.ext l.2.2 X1 (fun c k hc1 hc2 z => by
    rcases z with z | ⟨k, z1, z2, z3⟩
    · omega
    · have := F.own ⟨k, z1, z2, z3⟩
      omega)
  refine Ends.ct l1 (by decide +kernel) (by decide) (c_lumps l1 (by omega) hn0 hn m1 F1 clo_0) (fun x h2 l2 _ _ _ ⟨f2, ⟨Se', F2⟩, k, ek, N⟩ => ?_)
  refine Ends.eq (b59_19 (n := n) (by (repeat' first | assumption | refine LX.setF _ _ ?_ (by decide +kernel) | refine LX.setS ?_ rfl | refine LX.setA ?_ (by first | assumption | omega))) (by first | assumption | omega)) ?_
  obtain ⟨R2, L2, L3⟩ := R1.flo l1 F1 f2 F2
  have E2 := F2.end hn0 (by rw [f2.agr.nx]; exact c1)
  refine Ends.sm (Or.inl ⟨_, _, rfl, ho, ⟨k, ek, N.congr (fun g _ => by simp)⟩, ?_, R2, E2, by rw [f2.agr.us]; omega, fun c hc z => (A1 c (F2.1.fo z) hc).resolve_left (by have := E2.own z; omega)⟩)
  exact X1.tr (c' := 0) (s' := 0) f2.agr.ext (fun c k hc z => A1 c z hc)
end LUMP
section HOLLOW
variable {gv : Nat → Int} {B n d : Nat} {h : AH} {is : Nat → Bool} {cl : Nat → Nat} {S : Nat → Nat → Bool} {o p : Int} {T : Nat → Bool}
/-- what is not in T, row by row -/
theorem not_bits {v : Int} {r : Nat → Bool} (hn : n ≤ 52) (hv : ∀ x, x < 64 → tb v x = (decide (x < n) && r x)) {x : Nat} (hx : x < 64) : tb (bop64 127 (bop64 131 v (-1)) (2 ^ n - 1 : Int)) x = (decide (x < n) && !r x) := by
  rw [tb_and, tb_not _ hx, tb_mask hn, hv x hx]
  by_cases e : x < n
  · simp [e]
  · simp [e]
theorem e_compl {a s : Nat} {Q : Rs → Prop} (l : LX B n h) (hd : 10 ≤ d) (hn0 : 0 < n) (hn : n ≤ 52) (sa : SG n h a T) (e29 : hv h (B + 0) 29 = rf s) (ks : hk h s = (3, 24 * n * n)) (hs : B + 246 ≤ s) (hne : a ≠ s) {u : Int} (K : ∀ h', LX B n h' → Agr (fun c _ => c = s) h h' → SG n h' s (fun g => !T g) → Ends (ev PP (gsF gv) B d 41 12 [(2, rf (B + 0)), (0, u), (2, rf a), (0, ((24 * n * n : Nat) : Int))] [] h') Q) :
    Ends (ev PP (gsF gv) B d 41 12 [(2, rf (B + 0)), (0, u), (2, rf a), (0, (0 : Int))] [] h) Q := by
  have hN := rows_le hn
  let f : Nat → Int := fun j => bop64 127 (bop64 131 (hv h a j) (-1)) (2 ^ n - 1 : Int)
  have key : ∀ (r i : Nat), i + r = 24 * n * n → Ends (ev PP (gsF gv) B d 41 12 [(2, rf (B + 0)), (0, u), (2, rf a), (0, (i : Int))] [] (hup h s (part f (hv h s) i))) Q := by
    intro r
    induction r with
    | zero =>
      intro i hi
      obtain rfl : i = 24 * n * n := by omega
      refine K _ (l.up (t := 1) (by rw [ks])) (Agr.rf.up (fun k z => absurd rfl z)) ?_
      refine Sol.of ks (fun k hk => ⟨cn_bop64, fun x hx => ?_⟩)
      show tb (f k) x = _
      have := not_bits hn (sa.2 k hk).2 hx
      rw [this]
      rfl
    | succ r ih =>
      intro i hi
      have lq : LX B n (hup h s (part f (hv h s) i)) := l.up (t := 1) (by rw [ks])
      refine Ends.eq (b41_12 (n := n) (by (repeat' first | assumption | refine LX.setF _ _ ?_ (by decide +kernel) | refine LX.setS ?_ rfl | refine LX.setA ?_ (by first | assumption | omega))) (by first | assumption | omega)) ?_
      refine Ends.b3 (fun z => by omega) (fun _ => ?_)
      rw [hk_up, ad_rf, sa.1]
      refine Ends.g ⟨rf_pos _, rfl, by omega, by omega⟩ ?_
      rw [hv_up, if_neg (show ¬ B + 0 = s by omega), e29, ad_rf, hk_up, ks]
      refine Ends.g ⟨rf_pos _, rfl, by omega, by omega, by omega⟩ ?_
      rw [tn, hv_up, if_neg hne, an1, w_succ (by omega), hset_part (f := f) rfl]
      exact ih (i + 1) (by omega)
  have := key (24 * n * n) 0 (by omega)
  rw [part0, hup_self] at this
  exact this
def w41 (B : Nat) (h : AH) : Nat → Nat → Prop := fun c j => (c = B + 53 ∧ j < 2) ∨ (c = B + 0 ∧ (j = 29 ∨ j = 30)) ∨ c = B + 81 ∨ FlO B h c ∨ Scr B h c
theorem FlI.ext {W : Nat → Nat → Prop} {c s : Nat} {q : AH} (F : FlI B n h) (hb : B + 246 ≤ hnx h) (X : Ext W c s h q) (h1 : ∀ k, ¬ W (B + 81) k) (h2 : ∀ a k, FlO B h a → ¬ W a k) : FlI B n q ∧ lzF B n q = lzF B n h := by
  have e : ∀ k, hv q (B + 81) k = hv h (B + 81) k := fun k => X.at k (by omega) (h1 k)
  refine ⟨?_, by unfold lzF; rw [e]⟩
  rcases F with ⟨f2, f3, f4, f5, f6, f7⟩ | ⟨se, fs, qu, qd, hh, ⟨f2, f3, f4, f5⟩, ⟨k1, k2, k3⟩, b, ⟨c1, c2, c3, c4⟩, sf, ⟨q1, q2, q3, q4, q5, q6, q7⟩⟩
  · exact Or.inl ⟨by rw [e]; exact f2, by rw [e]; exact f3, by rw [e]; exact f4, by rw [e]; exact f5, by rw [e]; exact f6, by rw [e]; exact f7⟩
  · have nx := X.2.2.1
    refine Or.inr ⟨se, fs, qu, qd, hh, ⟨by rw [e]; exact f2, by rw [e]; exact f3, by rw [e]; exact f4, by rw [e]; exact f5⟩, ⟨by rw [X.hk c1]; exact k1, by rw [X.hk c3]; exact k2, by rw [X.hk c4]; exact k3⟩, b, ⟨by omega, by omega, by omega, by omega⟩, sf.ext X c2 (fun k => h2 _ k ⟨3, by decide, by decide, f3⟩), by rw [e]; exact q1, by rw [e]; exact q2, q3, q4, fun r hr => by rw [X.at _ c4 (h2 _ _ ⟨5, by decide, by decide, f5⟩)]; exact q5 r hr, fun i hi => absurd hi (by omega), fun i j hi => absurd hi (by omega)⟩
theorem FlO.keep {W : Nat → Nat → Prop} {c s a : Nat} {q : AH} (hb : B + 246 ≤ hnx h) (X : Ext W c s h q) (h1 : ∀ k, ¬ W (B + 81) k) : FlO B q a ↔ FlO B h a := by
  unfold FlO
  constructor
  · rintro ⟨k, z1, z2, z3⟩; exact ⟨k, z1, z2, by rw [← X.at k (by omega) (h1 k)]; exact z3⟩
  · rintro ⟨k, z1, z2, z3⟩; exact ⟨k, z1, z2, by rw [X.at k (by omega) (h1 k)]; exact z3⟩
/-- scratch cells are none of Flood's -/
theorem scr_fl {a : Nat} (R : Reg B n h) (F : FlI B n h) (sc : Scr B h a) : ¬ FlO B h a := by
  obtain ⟨k, hk6, e⟩ := sc
  have pa := rf_pos a
  rintro ⟨j, z1, z2, z3⟩
  have kd : hk h a = (3, 24 * n * n) := by
    rcases R.1 (10 + k) (by omega) with y | ⟨x, y1, y2, y3, y4⟩
    · rw [rgV_s hk6, e] at y; omega
    · rw [rgV_s hk6, e] at y1
      have : a = x := by unfold rf at y1; omega
      rw [this]; exact y4
  have hj : j = 2 ∨ j = 3 ∨ j = 4 ∨ j = 5 := by omega
  rcases F with ⟨f2, f3, f4, f5, f6, f7⟩ | ⟨se, fs, qu, qd, hh, ⟨f2, f3, f4, f5⟩, ⟨k1, k2, k3⟩, _⟩
  · rcases hj with rfl | rfl | rfl | rfl <;> omega
  · rcases hj with rfl | rfl | rfl | rfl
    · have := R.2 (10 + k) 37 (by omega) (by decide) (by omega) (by rw [rgV_s hk6, rgV_37, e, z3])
      rw [rgV_s hk6, e] at this
      omega
    · have := R.2 (10 + k) 38 (by omega) (by decide) (by omega) (by rw [rgV_s hk6, rgV_38, e, z3])
      rw [rgV_s hk6, e] at this
      omega
    · rw [f4] at z3
      have : qu = a := by unfold rf at z3; omega
      rw [this, kd] at k2
      exact absurd (congrArg Prod.fst k2) (show ¬ (3 : Nat) = 2 by decide)
    · rw [f5] at z3
      have : qd = a := by unfold rf at z3; omega
      rw [this, kd] at k3
      exact absurd (congrArg Prod.fst k3) (show ¬ (3 : Nat) = 5 by decide)
theorem c_hollows41 (l : LX B n h) (hd : 20 ≤ d) (hn0 : 0 < n) (hn : n ≤ 52) (m : TbC B h) (b : BdC B n h is cl S) (R : Reg B n h) (F : FlI B n h) :
    Opx 0 (cll PP (ev PP (gsF gv) B) d 41 [(2, rf (B + 0)), (0, o)] h) (fun x h' => thS is o = true ∧ (∃ (k : Nat) (U : Nat → Bool), x = (k : Int) ∧ NC n (fun g => !S (rwS o) g) (fun g => !S (rwS o) g && !U g) k ∧ ∀ g, g < gN n → (U g = true ↔ ∃ b, b < gN n ∧ (!S (rwS o) b) = true ∧ brd n b ∧ Rch n (fun g => !S (rwS o) g) b g)) ∧ FlE B n (w41 B h) 6 (6 * (24 * n * n)) h h') (fun c q => c = 31 ∧ thS is o = false ∧ q = h) := by
  have hb := l.2.2
  refine Vtx.into (D := 19) hd (Nat.le_of_ble_eq_true rfl) rfl (fun d hd => ?_)
  refine Ends.eq (b41_0 (n := n) (by (repeat' first | assumption | refine LX.setF _ _ ?_ (by decide +kernel) | refine LX.setS ?_ rfl | refine LX.setA ?_ (by first | assumption | omega))) (by first | assumption | omega)) ?_
  refine Ends.sol l (by omega) b (fun ho => ?_) (fun ho => Ends.thn rfl (Or.inr ⟨_, _, rfl, _, _, ⟨rfl, ho, rfl⟩, rfl, rfl⟩))
  refine Ends.eq (b41_5 (n := n) (by (repeat' first | assumption | refine LX.setF _ _ ?_ (by decide +kernel) | refine LX.setS ?_ rfl | refine LX.setA ?_ (by first | assumption | omega))) (by first | assumption | omega)) ?_
  obtain ⟨t1, t2, t3⟩ := b.sol l ho
  refine Ends.cv l (by decide +kernel) (c_needSpare65 l (by omega) hn R) (fun h2 l2 m2 _ _ ⟨s0, s1, a1, a2, a3, a4, ⟨a5, a6, a7, c7⟩, ⟨a8, a9, a10, c10⟩, a11, a12, a13, a14, a15⟩ => ?_)
  have hb2 := l2.2.2
  have n0 := scr_c l b R ho a5 c7
  have u2 : SG n h2 (clS B cl o) (S (rwS o)) := t1.ext a15 t3 (fun j z => by omega)
  have tb2 : TbC B h2 := m.ext hb a15 (fun c k h1 h2 z => by omega)
  obtain ⟨F2, LF2⟩ := F.ext hb a15 (fun k z => by omega) (fun a k z y => by have := F.own z; omega)
  have O2 : ∀ a, FlO B h2 a ↔ FlO B h a := fun a => FlO.keep hb a15 (fun k z => by omega)
  refine Ends.eq (b41_10 (n := n) (by (repeat' first | assumption | refine LX.setF _ _ ?_ (by decide +kernel) | refine LX.setS ?_ rfl | refine LX.setA ?_ (by first | assumption | omega))) (by first | assumption | omega)) ?_
  refine e_compl l2 (by omega) hn0 hn u2 a1 a7 a5 n0 (fun h3 l3 g3 s3 => ?_)
  have sc2 : Scr B h2 s0 := ⟨0, by decide, a3⟩
  have nfl : ¬ FlO B h2 s0 := scr_fl a12 F2 sc2
  obtain ⟨R3, L3⟩ := a12.ext hb2 g3.ext (fun i hi z => by have := rgi hi; omega)
  obtain ⟨F3, LF3⟩ := F2.ext hb2 g3.ext (fun k z => by omega) (fun a k z y => by rw [y] at z; exact nfl z)
  have O3 : ∀ a, FlO B h3 a ↔ FlO B h2 a := fun a => FlO.keep hb2 g3.ext (fun k z => by omega)
  have tb3 : TbC B h3 := tb2.ext hb2 g3.ext (fun c k h1 h2 z => by omega)
  refine Ends.eq (b41_12 (n := n) (by (repeat' first | assumption | refine LX.setF _ _ ?_ (by decide +kernel) | refine LX.setS ?_ rfl | refine LX.setA ?_ (by first | assumption | omega))) (by first | assumption | omega)) ?_
  refine Ends.b3 (fun _ => ?_) (fun z => absurd z (by omega))
  rw [g3.at _ _ (show ¬ B + 0 = s0 by omega), a1]
  have sne : ∀ k, 2 ≤ k → k ≤ 3 → hv h3 (B + 81) k ≠ rf s0 := fun k z1 z2 z3 => by
    have : FlO B h3 s0 := ⟨k, z1, by omega, z3⟩
    rw [O3] at this
    exact nfl this
  refine Ends.cv l3 (by decide +kernel) (c_beginI l3 (by omega) hn0 hn R3 F3 s3 (by rw [g3.nx]; exact a6) (Or.inr a5) sne) (fun h4 l4 _ _ _ ⟨se, fs, qu, qd, F4, c4, A4, R4, L4, X4⟩ => ?_)
  refine Ends.eq (b41_61 (n := n) (by (repeat' first | assumption | refine LX.setF _ _ ?_ (by decide +kernel) | refine LX.setS ?_ rfl | refine LX.setA ?_ (by first | assumption | omega))) (by first | assumption | omega)) ?_
  have tb4 : TbC B h4 := tb3.ext l3.2.2 X4 (fun c k h1 h2 z => by
    rcases z with z | z
    · omega
    · have := F3.own z
      omega)
  refine Ends.cv l4 (by decide +kernel) (c_fromBorder l4 (by omega) hn0 hn tb4 F4) (fun h5 l5 _ _ _ ⟨f5, U, F5, cl5, e5⟩ => ?_)
  obtain ⟨R5, L5, LF5⟩ := R4.flo l4 F4 f5 F5
  have tb5 : TbC B h5 := tb4.fr f5 (fun c h1 h2 z => by
    have A := F4.1
    unfold flA at z
    have := A.2.2.2.2.2.2.2.1
    have := A.2.2.2.2.2.2.2.2.1
    have := A.2.2.2.2.2.2.2.2.2.1
    have := A.2.2.2.2.2.2.2.2.2.2.1
    omega)
  refine Ends.eq (b41_68 (n := n) (by (repeat' first | assumption | refine LX.setF _ _ ?_ (by decide +kernel) | refine LX.setS ?_ rfl | refine LX.setA ?_ (by first | assumption | omega))) (by first | assumption | omega)) ?_
  refine Ends.ct l5 (by decide +kernel) (by decide) (c_lumps l5 (by omega) hn0 hn tb5 F5 cl5) (fun x h6 l6 _ _ _ ⟨f6, ⟨Se6, F6⟩, k, ek, N⟩ => ?_)
  refine Ends.eq (b41_75 (n := n) (by (repeat' first | assumption | refine LX.setF _ _ ?_ (by decide +kernel) | refine LX.setS ?_ rfl | refine LX.setA ?_ (by first | assumption | omega))) (by first | assumption | omega)) ?_
  obtain ⟨R6, L6, LF6⟩ := R5.flo l5 F5 f6 F6
  have E6 := F6.end hn0 (by rw [f6.agr.nx, f5.agr.nx]; exact c4)
  refine Ends.sm (Or.inl ⟨_, _, rfl, ho, ⟨k, U, ek, N, e5⟩, ?_, R6, E6, ?_, fun c hc z => (O2 c).mp ((O3 c).mp ((A4 c (F6.1.fo z) (by have := g3.nx; omega)).resolve_left (by have := E6.own z; omega)))⟩)
  · have e2 : Ext (w41 B h) 2 (24 * n * n + 24 * n * n) h h2 := a15.sub (fun c j _ z => by rcases z with z | z; exact Or.inl z; exact Or.inr (Or.inl z)) (Nat.le_refl _) (Nat.le_refl _)
    have e3 := e2.tr (c' := 0) (s' := 0) g3.ext (fun c j hc z => Or.inr (Or.inr (Or.inr (Or.inr (by rw [z]; exact c7 (by omega))))))
    have fl : ∀ c j, c = B + 81 ∨ FlO B h3 c → w41 B h c j := fun c j z => by
      rcases z with z | z
      · exact Or.inr (Or.inr (Or.inl z))
      · exact Or.inr (Or.inr (Or.inr (Or.inl ((O2 c).mp ((O3 c).mp z)))))
    have e4 := e3.tr X4 (fun c j hc z => fl c j z)
    have hh3 : hnx h ≤ hnx h3 := by rw [g3.nx]; exact m2
    have e5 := e4.tr (c' := 0) (s' := 0) f5.agr.ext (fun c j hc z => fl c j (A4 c z (by omega)))
    exact (e5.tr (c' := 0) (s' := 0) f6.agr.ext (fun c j hc z => fl c j (A4 c z (by omega)))).sub (fun _ _ _ z => z) (by omega) (by omega)
  · have := g3.us
    have := f5.agr.us
    have := f6.agr.us
    omega
end HOLLOW
