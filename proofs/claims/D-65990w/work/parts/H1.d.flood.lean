/-! L3: a face is gone over (model) -/
noncomputable section MFD
variable {gv : Nat → Int} {B n d K0 s : Nat} {h : AH} {E P D V S : Nat → Bool}
/-- a face is being gone over: P is done, D still to be looked at; X: sides not looked at yet -/
def TrD (n : Nat) (E : Nat → Bool) (K0 : Nat) (P D : Nat → Bool) (X : Nat → Nat → Prop) : Prop :=
  (∀ k, D k = true → k < 4 * gN n ∧ E k = true ∧ FRe n E K0 k ∧ P k = false) ∧ (∀ k, P k = true → k < 4 * gN n ∧ E k = true ∧ FRe n E K0 k) ∧
  (∀ k y s, k < 4 * gN n → y < 4 * gN n → s < 3 → P k = true → ¬ X k s → bsd n k s = (y : Int) → E y = true → P y = true ∨ D y = true) ∧ (P K0 = true ∨ D K0 = true)
theorem TrD.ini (hK : K0 < 4 * gN n) (hE : E K0 = true) : TrD n E K0 (fun _ => false) (fun k => false || decide (k = K0)) (fun _ _ => False) :=
  ⟨fun k z => by
    have z : (false || decide (k = K0)) = true := z
    rw [Bool.false_or, decide_eq_true_eq] at z
    rw [z]; exact ⟨hK, hE, FRe.rf, rfl⟩, fun k z => absurd z Bool.false_ne_true, fun k y s _ _ _ z => absurd z Bool.false_ne_true, Or.inr (by show (false || decide (K0 = K0)) = true; simp)⟩
variable {c : Nat} {X : Nat → Nat → Prop}
theorem TrD.take (T : TrD n E K0 P D (fun _ _ => False)) (hc : D c = true) : TrD n E K0 (fun k => P k || decide (k = c)) (fun k => D k && !decide (k = c)) (fun k _ => k = c) := by
  obtain ⟨t1, t2, t3, t4⟩ := T
  refine ⟨fun k hk => ?_, fun k hk => ?_, fun k y s hk hy hs hp nx e hE => ?_, ?_⟩
  · rw [Bool.and_eq_true, Bool.not_eq_true', decide_eq_false_iff_not] at hk
    obtain ⟨a1, a2, a3, a4⟩ := t1 k hk.1
    exact ⟨a1, a2, a3, by show (P k || decide (k = c)) = false; rw [a4, decide_eq_false hk.2]; rfl⟩
  · rw [Bool.or_eq_true, decide_eq_true_eq] at hk
    rcases hk with z | z
    · exact t2 k z
    · obtain ⟨a1, a2, a3, -⟩ := t1 c hc
      rw [z]; exact ⟨a1, a2, a3⟩
  · rw [Bool.or_eq_true, decide_eq_true_eq] at hp
    rcases hp with z | z
    · rcases t3 k y s hk hy hs z (fun q => q) e hE with w | w
      · exact Or.inl (by show (P y || _) = true; rw [w]; rfl)
      · by_cases q : y = c
        · exact Or.inl (by show (P y || decide (y = c)) = true; rw [decide_eq_true q, Bool.or_true])
        · exact Or.inr (by show (D y && !decide (y = c)) = true; rw [w, decide_eq_false q]; rfl)
    · exact absurd z nx
  · rcases t4 with w | w
    · exact Or.inl (by show (P K0 || _) = true; rw [w]; rfl)
    · by_cases q : K0 = c
      · exact Or.inl (by show (P K0 || decide (K0 = c)) = true; rw [decide_eq_true q, Bool.or_true])
      · exact Or.inr (by show (D K0 && !decide (K0 = c)) = true; rw [w, decide_eq_false q]; rfl)
theorem TrD.non (T : TrD n E K0 P D X) (hs : s < 3) (h : ∀ y, y < 4 * gN n → bsd n c s = (y : Int) → E y = true → P y = true ∨ D y = true) : TrD n E K0 P D (fun k s' => X k s' ∧ ¬ (k = c ∧ s' = s)) := by
  obtain ⟨t1, t2, t3, t4⟩ := T
  refine ⟨t1, t2, fun k y s' hk hy hs' hp nx e hE => ?_, t4⟩
  by_cases z : k = c ∧ s' = s
  · obtain ⟨rfl, rfl⟩ := z
    exact h y hy e hE
  · exact t3 k y s' hk hy hs' hp (fun w => nx ⟨w, z⟩) e hE
theorem TrD.push {y : Nat} (T : TrD n E K0 P D X) (hs : s < 3) (hc : P c = true) (e : bsd n c s = (y : Int)) (hE : E y = true) (hP : P y = false) : TrD n E K0 P (fun k => D k || decide (k = y)) (fun k s' => X k s' ∧ ¬ (k = c ∧ s' = s)) := by
  obtain ⟨t1, t2, t3, t4⟩ := T
  obtain ⟨c1, c2, c3⟩ := t2 c hc
  have yl := bsd_lt hs e
  refine ⟨fun k hk => ?_, t2, fun k y' s' hk hy hs' hp nx e' hE' => ?_, ?_⟩
  · rw [Bool.or_eq_true, decide_eq_true_eq] at hk
    rcases hk with z | z
    · exact t1 k z
    · rw [z]; exact ⟨yl, hE, c3.st c1 yl hs e hE, hP⟩
  · by_cases z : k = c ∧ s' = s
    · obtain ⟨rfl, rfl⟩ := z
      have : y' = y := by omega
      exact Or.inr (by show (D y' || decide (y' = y)) = true; rw [decide_eq_true this, Bool.or_true])
    · rcases t3 k y' s' hk hy hs' hp (fun w => nx ⟨w, z⟩) e' hE' with w | w
      · exact Or.inl w
      · exact Or.inr (by show (D y' || _) = true; rw [w]; rfl)
  · rcases t4 with w | w
    · exact Or.inl w
    · exact Or.inr (by show (D K0 || _) = true; rw [w]; rfl)
theorem TrD.sub {X' : Nat → Nat → Prop} (T : TrD n E K0 P D X) (e : ∀ k s, s < 3 → X k s → X' k s) : TrD n E K0 P D X' := ⟨T.1, T.2.1, fun k y s hk hy hs hp nx => T.2.2.1 k y s hk hy hs hp (fun w => nx (e k s hs w)), T.2.2.2⟩
theorem TrD.fin (T : TrD n E K0 P D (fun _ _ => False)) (hD : ∀ k, k < 4 * gN n → D k = false) (hK : K0 < 4 * gN n) (k : Nat) : P k = true ↔ FRe n E K0 k := by
  obtain ⟨t1, t2, t3, t4⟩ := T
  refine ⟨fun z => (t2 k z).2.2, fun r => ?_⟩
  have k0 : P K0 = true := by
    rcases t4 with w | w
    · exact w
    · rw [hD K0 hK] at w; exact absurd w (by decide)
  exact r (fun k => P k = true) k0 (fun x y s hx hy hs p e hE => by
    rcases t3 x y s hx hy hs p (fun q => q) e hE with w | w
    · exact w
    · rw [hD y hy] at w; exact absurd w (by decide))
/-- who looks on (model): a mode of visit -/
def MWat (gv : Nat → Int) (B n : Nat) (E : Nat → Bool) (K0 : Nat) (md face : Int) (Ww : Nat → Nat → Prop) (WI : (Nat → Bool) → AH → Prop) : Prop :=
  ∀ d, 20 ≤ d → ∀ V K q, LX B n q → WI V q → K < 4 * gN n → V K = false → FRe n E K0 K → Vd (cll PP (ev PP (gsF gv) B) d 864 [(2, rf (B + 149)), (0, md), (0, (K : Int)), (0, face)] q) (fun q' => Agr Ww q q' ∧ WI (fun k => V k || decide (k = K)) q')
/-- what going over writes -/
def fdfW (B : Nat) : Nat → Nat → Prop := fun c k => c = B + 188 ∨ c = B + 189 ∨ c = B + 238 ∨ c = B + 239 ∨ (c = B + 149 ∧ (k = 88 ∨ k = 89))
/-- places that a visit must leave alone -/
def flN (B : Nat) : Nat → Nat → Prop := fun c k => (fdfW B c k ∧ c ≠ B + 189) ∨ c = B + 236 ∨ (B + 178 ≤ c ∧ c ≤ B + 187 ∧ c ≠ B + 186)
set_option maxHeartbeats 8000000 in
theorem c_flood639 {V0 : Nat → Bool} {md face : Int} {Ww : Nat → Nat → Prop} {WI : (Nat → Bool) → AH → Prop} (l : LX B n h) (hd : 24 ≤ d) (hn : n ≤ 52) (m : TbM B h) (hs : s < 19) (bS : MB B n h s S) (hK : K0 < 4 * gN n) (hE : bdr n S K0 = true) (b8 : BtM n h (B + 238) V0) (b9 : BtM n h (B + 239) (fun _ => false)) (cl : FCl n (bdr n S) V0) (hV : V0 K0 = false) (wt : MWat gv B n (bdr n S) K0 md face Ww WI) (w0 : WI (fun _ => false) h)
    (hWw : ∀ c k, Ww c k → ¬ flN B c k) (hst : ∀ V q q', WI V q → Agr (fdfW B) q q' → WI V q') :
    Vd (cll PP (ev PP (gsF gv) B) d 639 [(2, rf (B + 149)), (0, (s : Int)), (0, (K0 : Int)), (0, face), (0, md)] h) (fun h' => ∃ P, (∀ k, k < 4 * gN n → (P k = true ↔ FRe n (bdr n S) K0 k)) ∧ BtM n h' (B + 238) (fun k => V0 k || P k) ∧ BtM n h' (B + 239) (fun _ => false) ∧ Agr (fun c k => fdfW B c k ∨ Ww c k) h h' ∧ WI P h') := by
  have hG := gN_le hn
  obtain ⟨E, eE⟩ : ∃ E : Nat → Bool, E = fun k => bdr n S k && !V0 k := ⟨_, rfl⟩
  have eE' : ∀ k, E k = true ↔ bdr n S k = true ∧ V0 k = false := fun k => by rw [eE]; show (bdr n S k && !V0 k) = true ↔ _; rw [Bool.and_eq_true, Bool.not_eq_true']
  have left : ∀ {b}, FRe n E K0 b ↔ FRe n (bdr n S) K0 b := fun {b} => FRe.left cl (fun x _ => eE' x) hK hE hV
  obtain ⟨dd, ed⟩ : ∃ dd, dd = drT (K0 % 96) := ⟨_, rfl⟩
  obtain ⟨WW, eWW⟩ : ∃ WW : Nat → Nat → Prop, WW = fun c k => fdfW B c k ∨ Ww c k := ⟨_, rfl⟩
  have wf : ∀ c k, fdfW B c k → WW c k := fun c k z => by rw [eWW]; exact Or.inl z
  have wn : ∀ c k, WW c k → c ≠ B + 236 ∧ ¬ (B + 178 ≤ c ∧ c ≤ B + 187 ∧ c ≠ B + 186) := fun c k z => by
    rw [eWW] at z
    rcases z with z | z
    · unfold fdfW at z; omega
    · have := hWw c k z
      unfold flN at this
      omega
  have tb : ∀ {q : AH}, Agr WW h q → TbM B q := fun g => m.agr g (fun c k h1 h2 h3 z => (wn c k z).2 ⟨h1, h2, h3⟩)
  have sb : ∀ {q : AH}, Agr WW h q → MB B n q s S := fun g => bS.agr g (fun k _ z => (wn _ _ z).1 rfl)
  refine Vd.inq (D := 23) hd (Nat.le_of_ble_eq_true rfl) rfl (fun d hd Q KK => ?_)
  -- the state
  have main : ∀ (M : Nat) (q : AH) (P D : Nat → Bool) (w : Nat) (u10 u11 : AV) (y0 : Int), 4 * gN n - cntN P (4 * gN n) = M → LX B n q → Agr WW h q → TrD n E K0 P D (fun _ _ => False) → BtM n q (B + 238) (fun k => V0 k || (P k || D k)) → BtM n q (B + 239) D → hv q (B + 149) 89 = ((cntN D (4 * gN n) : Nat) : Int) → (∀ k, D k = true → w ≤ k / 64) → WI P q → Ends (ev PP (gsF gv) B d 639 58 [(2, rf (B + 149)), (0, (s : Int)), (0, (K0 : Int)), (0, face), (0, md), (0, y0), (0, nvI dd 0), (0, nvI dd 1), (0, nvI dd 2), (0, (w : Int)), u10, u11] [] q) Q := by
    intro M
    refine Nat.strongRecOn M (fun M ihM => ?_)
    intro q P D w u10 u11 y0 eM lq g T f1 f2 f3 hw wi
    have words : ∀ (N w : Nat) (u10 u11 : AV), 4 * gN n / 64 + 1 - w = N → (∀ k, D k = true → w ≤ k / 64) → Ends (ev PP (gsF gv) B d 639 58 [(2, rf (B + 149)), (0, (s : Int)), (0, (K0 : Int)), (0, face), (0, md), (0, y0), (0, nvI dd 0), (0, nvI dd 1), (0, nvI dd 2), (0, (w : Int)), u10, u11] [] q) Q := by
      intro N
      refine Nat.strongRecOn N (fun N ihN => ?_)
      intro w u10 u11 eN hw
      refine Ends.eq (b639_58 lq (by omega)) ?_
      rw [f3]
      refine Ends.b5 (fun z => ?_) (fun z => ?_)
      · -- nothing is left
        have c0 : cntN D (4 * gN n) = 0 := by omega
        have hD : ∀ k, k < 4 * gN n → D k = false := cntN_zero _ c0
        refine Ends.sm (KK _ ⟨P, fun k _ => by rw [T.fin hD hK k, left], f1.congr (fun k hk => ?_), f2.congr hD, by rw [← eWW]; exact g, wi⟩)
        rw [hD k hk, Bool.or_false]
      · -- where a facet waits
        obtain ⟨k0, hk0, dk0⟩ : ∃ k, k < 4 * gN n ∧ D k = true := by
          apply Classical.byContradiction
          intro no
          have := cntN_none (S := D) (4 * gN n) (fun k hk => by
            cases e : D k
            · rfl
            · exact absurd ⟨k, hk, e⟩ no)
          omega
        have wk := hw k0 dk0
        have wl : w < 4 * gN n / 64 + 1 := by omega
        rw [tn]
        refine Ends.g ⟨by omega, by omega⟩ (Ends.b1 (fun z1 => ?_) (fun z1 => ?_))
        · -- a word that has one
          obtain ⟨x, lk⟩ := Low.ex (f2 w wl).1 (fun e => z1 (cmp64_z.mpr e))
          have hx64 := lk.1
          have hb := lk.2.1
          rw [(f2 w wl).2 x hx64, Bool.and_eq_true, decide_eq_true_eq] at hb
          obtain ⟨hc, hDc⟩ := hb
          refine Ends.ct lq (by decide +kernel) (by decide) (c_lowest lq (by omega) lk) (fun r h5 l5 _ _ _ ⟨e5, e6⟩ => ?_)
          subst e5 e6
          refine Ends.eq (b639_98 l5 (by omega)) ?_
          rw [show bop32 104 (64 : Int) (w : Int) = ((64 * w : Nat) : Int) from mulNN (x := 64) (by omega), addNN (by omega)]
          obtain ⟨c, ec⟩ : ∃ c, c = 64 * w + x := ⟨_, rfl⟩
          rw [← ec] at hc hDc ⊢
          have k9 : hk h5 (B + 239) = (3, 4 * gN n / 64 + 1) := lk_239 l5
          refine Ends.cv l5 (by decide +kernel) (c_off768 l5 (by omega) hn k9 (by omega) f2 hc) (fun h6 l6 _ _ _ ⟨g6, b6⟩ => ?_)
          refine Ends.eq (b639_110 l6 (by omega)) ?_
          have e89 : hv h6 (B + 149) 89 = ((cntN D (4 * gN n) : Nat) : Int) := by rw [g6.at _ _ (by omega)]; exact f3
          have rem := cntN_rem hDc hc
          have cle := cntN_le D (4 * gN n)
          obtain ⟨T1c, T1e, T1r, T1p⟩ := T.1 c hDc
          rw [e89, show bop32 100 ((cntN D (4 * gN n) : Nat) : Int) 1 = ((cntN (fun k => D k && !decide (k = c)) (4 * gN n) : Nat) : Int) from by rw [sub32 (by omega) (by omega)]; omega]
          have l7 : LX B n (hset h6 (B + 149) 89 ((cntN (fun k => D k && !decide (k = c)) (4 * gN n) : Nat) : Int)) := LX.setF 149 89 l6 (by decide +kernel)
          have g7 : Agr (fun c k => c = B + 239 ∨ (c = B + 149 ∧ k = 89)) h5 (hset h6 (B + 149) 89 ((cntN (fun k => D k && !decide (k = c)) (4 * gN n) : Nat) : Int)) := (g6.sub (fun _ _ z => Or.inl z)).set (Or.inr ⟨rfl, rfl⟩)
          have v7 : hv (hset h6 (B + 149) 89 ((cntN (fun k => D k && !decide (k = c)) (4 * gN n) : Nat) : Int)) (B + 149) 89 = ((cntN (fun k => D k && !decide (k = c)) (4 * gN n) : Nat) : Int) := hv_set_at ..
          have d7 : BtM n (hset h6 (B + 149) 89 ((cntN (fun k => D k && !decide (k = c)) (4 * gN n) : Nat) : Int)) (B + 239) (fun k => D k && !decide (k = c)) := b6.agr (W := fun c _ => c = B + 149) (Agr.rf.set rfl) (fun k z => by omega)
          generalize hset h6 (B + 149) 89 ((cntN (fun k => D k && !decide (k = c)) (4 * gN n) : Nat) : Int) = h7 at *
          have G7 : Agr WW h h7 := g.tr g7 (fun c k z => wf c k (by unfold fdfW; omega))
          have wi7 : WI P h7 := hst P h5 h7 wi (g7.sub (fun c k z => by unfold fdfW; omega))
          have s7 : BtM n h7 (B + 238) (fun k => V0 k || (P k || D k)) := f1.agr g7 (fun k z => by omega)
          refine Ends.cv l7 (by decide +kernel) (wt d (by omega) P c h7 l7 wi7 hc T1p (left.mp T1r)) (fun h8 l8 _ _ _ ⟨g8', wi8⟩ => ?_)
          have ww : ∀ c k, Ww c k → ¬ (fdfW B c k ∧ c ≠ B + 189) := fun c k z y => hWw c k z (Or.inl y)
          have G8 : Agr WW h h8 := G7.tr g8' (fun c k z => by rw [eWW]; exact Or.inr z)
          have s8 : BtM n h8 (B + 238) (fun k => V0 k || (P k || D k)) := s7.agr g8' (fun k z => ww _ _ z (by unfold fdfW; omega))
          have d8 : BtM n h8 (B + 239) (fun k => D k && !decide (k = c)) := d7.agr g8' (fun k z => ww _ _ z (by unfold fdfW; omega))
          have v8 : hv h8 (B + 149) 89 = ((cntN (fun k => D k && !decide (k = c)) (4 * gN n) : Nat) : Int) := by rw [g8'.at _ _ (fun z => ww _ _ z (by unfold fdfW; omega))]; exact v7
          refine Ends.eq (b639_129 l8 (by omega)) ?_
          have l9 : LX B n (hset h8 (B + 149) 88 (w : Int)) := LX.setF 149 88 l8 (by decide +kernel)
          have g9 : Agr (fun c k => c = B + 149 ∧ k = 88) h8 (hset h8 (B + 149) 88 (w : Int)) := Agr.rf.set ⟨rfl, rfl⟩
          have v9 : hv (hset h8 (B + 149) 88 (w : Int)) (B + 149) 88 = (w : Int) := hv_set_at ..
          generalize hset h8 (B + 149) 88 (w : Int) = h9 at *
          have G9 : Agr WW h h9 := G8.tr g9 (fun c k z => wf c k (by unfold fdfW; omega))
          have T9 := T.take hDc
          have wi9 := hst _ h8 h9 wi8 (g9.sub (fun c k z => by unfold fdfW; omega))
          have fl9 : MFl B n h9 (fun k => V0 k || ((P k || decide (k = c)) || (D k && !decide (k = c)))) (fun k => D k && !decide (k = c)) w := by
            refine ⟨(s8.agr g9 (fun k z => by omega)).congr (fun k _ => ?_), d8.agr g9 (fun k z => by omega), by rw [g9.at _ _ (by omega)]; exact v8, v9⟩
            by_cases y : k = c
            · rw [y, hDc]; simp
            · simp [y]
          -- the sides
          have f4 : c % 4 < 4 := Nat.mod_lt _ (by decide)
          have drc : drT (c % 96) = dd := by rw [ed]; exact (left.mp T1r).pl.1
          have others : ∀ (r j : Nat) (q : AH) (D : Nat → Bool) (lo : Nat), j + r = 4 → LX B n q → Agr WW h q → TrD n E K0 (fun k => P k || decide (k = c)) D (fun k s' => k = c ∧ ∀ o, o < j → o ≠ c % 4 → sdT (c % 4) o ≠ s') → MFl B n q (fun k => V0 k || ((P k || decide (k = c)) || D k)) D lo → (∀ k, D k = true → lo ≤ k / 64) → WI (fun k => P k || decide (k = c)) q → Ends (ev PP (gsF gv) B d 639 138 [(2, rf (B + 149)), (0, (s : Int)), (0, (K0 : Int)), (0, face), (0, md), (0, y0), (0, nvI dd 0), (0, nvI dd 1), (0, nvI dd 2), (0, (w : Int)), (0, (c : Int)), (0, (j : Int))] [] q) Q := by
            intro r
            induction r with
            | zero =>
              intro j q D lo ej lq g T fl hlo wi
              obtain rfl : j = 4 := by omega
              refine Ends.eq (b639_138 lq (by omega)) (Ends.b3 (fun _ => ?_) (fun z => absurd z (by decide)))
              rw [fl.2.2.2]
              refine ihM (4 * gN n - cntN (fun k => P k || decide (k = c)) (4 * gN n)) ?_ q _ D lo _ _ _ rfl lq g (T.sub (fun k s' hs' z => ?_)) fl.1 fl.2.1 fl.2.2.1 hlo wi
              · rw [cntN_set T1p, if_pos hc]
                have := cntN_lt hc T1p
                omega
              · obtain ⟨o, o1, o2, o3⟩ := sd_ex f4 hs'
                exact z.2 o o1 o2 o3
            | succ r ih =>
              intro j q D lo ej lq g T fl hlo wi
              have hj : j < 4 := by omega
              have next : ∀ (q : AH) (D : Nat → Bool) (lo : Nat), LX B n q → Agr WW h q → TrD n E K0 (fun k => P k || decide (k = c)) D (fun k s' => k = c ∧ ∀ o, o < j + 1 → o ≠ c % 4 → sdT (c % 4) o ≠ s') → MFl B n q (fun k => V0 k || ((P k || decide (k = c)) || D k)) D lo → (∀ k, D k = true → lo ≤ k / 64) → WI (fun k => P k || decide (k = c)) q → Ends (ev PP (gsF gv) B d 639 192 [(2, rf (B + 149)), (0, (s : Int)), (0, (K0 : Int)), (0, face), (0, md), (0, y0), (0, nvI dd 0), (0, nvI dd 1), (0, nvI dd 2), (0, (w : Int)), (0, (c : Int)), (0, (j : Int))] [] q) Q := fun q D lo lq g T fl hlo wi => by
                refine Ends.eq (b639_192 lq (by omega)) ?_
                rw [w_succ (by omega)]
                exact ih (j + 1) q D lo (by omega) lq g T fl hlo wi
              refine Ends.eq (b639_138 lq (by omega)) (Ends.b3 (fun z => absurd z (by omega)) (fun _ => ?_))
              rw [show bop32 112 (c : Int) 4 = ((c % 4 : Nat) : Int) from modNN (y := 4) (by decide) (by decide)]
              refine Ends.b1 (fun z => ?_) (fun z => next q D lo lq g (T.sub (fun k s' _ z2 => ⟨z2.1, fun o h1 h2 => z2.2 o (by omega) h2⟩)) fl hlo wi)
              have hjf : c % 4 ≠ j := by omega
              obtain ⟨sd, esd⟩ : ∃ sd, sd = sdT (c % 4) j := ⟨_, rfl⟩
              have sdl : sd < 3 := by rw [esd]; exact sdT_lt
              have sub : ∀ x, D x = true → (fun k => V0 k || ((P k || decide (k = c)) || D k)) x = true := fun x hx => by
                show (V0 x || ((P x || decide (x = c)) || D x)) = true
                rw [hx]; simp
              have aw : ∀ c k, aeW B c k → fdfW B c k := fun c k z => by unfold aeW ntW at z; unfold fdfW; omega
              have ar1 := c_aroundEdge550 (gv := gv) (d := d) (b := 0) lq (by omega) hn (tb g) hs (sb g) hc hj hjf (by decide) fl sub
              rw [if_pos rfl, drc, ← esd] at ar1
              refine Ends.cv lq (by decide +kernel) ar1 (fun q1 lq1 _ _ _ ⟨ga, st1⟩ => ?_)
              have g1 : Agr WW h q1 := g.tr ga (fun c k z => wf c k (aw c k z))
              have wi1 := hst _ q q1 wi (ga.sub aw)
              refine Ends.eq (b639_173 lq1 (by omega)) ?_
              rw [show bop32 112 (c : Int) 4 = ((c % 4 : Nat) : Int) from modNN (y := 4) (by decide) (by decide)]
              have PcT : (fun k => P k || decide (k = c)) c = true := by simp
              -- at the end a new one
              have add : ∀ (q : AH) (Y : Nat), LX B n q → Agr WW h q → WI (fun k => P k || decide (k = c)) q → bsd n c sd = (Y : Int) → ((fun k => V0 k || ((P k || decide (k = c)) || D k)) Y = false ∧ bdr n S Y = true) → MFl B n q (fun x => (fun k => V0 k || ((P k || decide (k = c)) || D k)) x || decide (x = Y)) (fun x => D x || decide (x = Y)) (min lo (Y / 64)) → Ends (ev PP (gsF gv) B d 639 192 [(2, rf (B + 149)), (0, (s : Int)), (0, (K0 : Int)), (0, face), (0, md), (0, y0), (0, nvI dd 0), (0, nvI dd 1), (0, nvI dd 2), (0, (w : Int)), (0, (c : Int)), (0, (j : Int))] [] q) Q := fun q Y lq g wi eY ⟨n1, n2⟩ fl => by
                have n1 : (V0 Y || ((P Y || decide (Y = c)) || D Y)) = false := n1
                rw [Bool.or_eq_false_iff, Bool.or_eq_false_iff] at n1
                refine next q _ _ lq g ((T.push sdl PcT eY ((eE' Y).mpr ⟨n2, n1.1⟩) n1.2.1).sub (fun k s' _ z2 => ⟨z2.1.1, fun o h1 h2 h3 => ?_⟩)) ⟨fl.1.congr (fun k _ => ?_), fl.2⟩ (fun k hk => ?_) wi
                · rcases (by omega : o < j ∨ o = j) with y | y
                  · exact z2.1.2 o y h2 h3
                  · rw [y, ← esd] at h3
                    exact z2.2 ⟨z2.1.1, h3.symm⟩
                · show ((V0 k || ((P k || decide (k = c)) || D k)) || decide (k = Y)) = (V0 k || ((P k || decide (k = c)) || (D k || decide (k = Y))))
                  cases V0 k <;> cases P k <;> cases decide (k = c) <;> cases D k <;> cases decide (k = Y) <;> rfl
                · rw [Bool.or_eq_true, decide_eq_true_eq] at hk
                  rcases hk with y | y
                  · have := hlo k y; omega
                  · rw [y]; omega
              rcases st1 with ⟨fl1, c1⟩ | ⟨Y, eY, nY, fl1⟩
              · have ar2 := c_aroundEdge550 (gv := gv) (d := d) (b := 1) lq1 (by omega) hn (tb g1) hs (sb g1) hc hj hjf (by decide) fl1 sub
                rw [if_neg (by decide), drc, ← esd] at ar2
                refine Ends.cv lq1 (by decide +kernel) ar2 (fun q2 lq2 _ _ _ ⟨gb, st2⟩ => ?_)
                have g2 : Agr WW h q2 := g1.tr gb (fun c k z => wf c k (aw c k z))
                have wi2 := hst _ q1 q2 wi1 (gb.sub aw)
                rcases st2 with ⟨fl2, c2⟩ | ⟨Y, eY, nY, fl2⟩
                · have no : ∀ Y : Nat, bsd n c sd = (Y : Int) → ¬ ((fun k => V0 k || ((P k || decide (k = c)) || D k)) Y = false ∧ bdr n S Y = true) := by
                    obtain ⟨b, jj, hb, hj'⟩ := ra_is (t := gSo (c / 4)) (f := c % 4) (o := j) (g_lt (K4_lt hc)).2.2.2.2 f4 hj hjf
                    rcases (by omega : b = 0 ∨ b = 1) with rfl | rfl
                    · exact c1 ⟨jj, hj'⟩
                    · exact c2 ⟨jj, hj'⟩
                  refine next q2 D lo lq2 g2 ((T.non (c := c) sdl (fun y hy e hEy => ?_)).sub (fun k s' _ z2 => ⟨z2.1.1, fun o h1 h2 h3 => ?_⟩)) fl2 hlo wi2
                  · have ny := no y e
                    obtain ⟨e1, e2⟩ := (eE' y).mp hEy
                    apply Classical.byContradiction
                    intro nor
                    refine ny ⟨?_, e1⟩
                    show (V0 y || ((P y || decide (y = c)) || D y)) = false
                    rw [e2, Bool.false_or, Bool.or_eq_false_iff]
                    constructor
                    · cases q1 : (P y || decide (y = c))
                      · rfl
                      · exact absurd (Or.inl q1) nor
                    · cases q1 : D y
                      · rfl
                      · exact absurd (Or.inr q1) nor
                  · rcases (by omega : o < j ∨ o = j) with y | y
                    · exact z2.1.2 o y h2 h3
                    · rw [y, ← esd] at h3
                      exact z2.2 ⟨z2.1.1, h3.symm⟩
                · exact add q2 Y lq2 g2 wi2 eY nY fl2
              · have ar2 := c_aroundEdge550 (gv := gv) (d := d) (b := 1) lq1 (by omega) hn (tb g1) hs (sb g1) hc hj hjf (by decide) fl1 (fun x hx => by
                  have hx : (D x || decide (x = Y)) = true := hx
                  rw [Bool.or_eq_true] at hx
                  show ((V0 x || ((P x || decide (x = c)) || D x)) || decide (x = Y)) = true
                  rw [Bool.or_eq_true]
                  exact hx.imp (sub x) id)
                rw [if_neg (by decide), drc, ← esd] at ar2
                refine Ends.cv lq1 (by decide +kernel) ar2 (fun q2 lq2 _ _ _ ⟨gb, st2⟩ => ?_)
                have g2 : Agr WW h q2 := g1.tr gb (fun c k z => wf c k (aw c k z))
                have wi2 := hst _ q1 q2 wi1 (gb.sub aw)
                rcases st2 with ⟨fl2, -⟩ | ⟨Y2, eY2, nY2, -⟩
                · exact add q2 Y lq2 g2 wi2 eY nY fl2
                · exfalso
                  have : Y2 = Y := by omega
                  rw [this] at nY2
                  have := nY2.1
                  simp at this
          exact others 4 0 h9 _ w rfl l9 G9 (T9.sub (fun k s' _ z => ⟨z, fun o h1 => absurd h1 (Nat.not_lt_zero o)⟩)) fl9 (fun k hk => by
            rw [Bool.and_eq_true] at hk
            exact hw k hk.1) wi9
        · -- an empty word
          rw [cmp64_z] at z1
          rw [w_succ (by omega)]
          refine ihN (4 * gN n / 64 + 1 - (w + 1)) (by omega) (w + 1) _ _ rfl (fun k hk => ?_)
          have a := hw k hk
          rcases (by omega : w + 1 ≤ k / 64 ∨ k / 64 = w) with y | y
          · exact y
          · have kk := (T.1 k hk).1
            have := f2.at kk
            rw [y, z1, tb_0, hk] at this
            exact absurd this (by decide)
    exact words _ w u10 u11 rfl hw
  -- the beginning
  refine Ends.eq (b639_0 l (by omega)) ?_
  refine Ends.ct l (by decide +kernel) (by decide) (c_direction593 l (by omega) hn m hK) (fun y0 h1 l1 _ _ _ ⟨_, I1, g1⟩ => ?_)
  refine Ends.eq (b639_5 l1 (by omega)) ?_
  rw [show Int.toNat 0 = 0 from rfl, show Int.toNat 1 = 1 from rfl, show Int.toNat 2 = 2 from rfl, I1 0 (by decide), I1 1 (by decide), I1 2 (by decide), ← ed]
  have k8 : hk h1 (B + 238) = (3, 4 * gN n / 64 + 1) := lk_238 l1
  refine Ends.cv l1 (by decide +kernel) (c_on769 l1 (by omega) hn k8 (by omega) (b8.agr g1 (fun k z => by omega)) hK) (fun h2 l2 _ _ _ ⟨g2, b2⟩ => ?_)
  refine Ends.eq (b639_39 l2 (by omega)) ?_
  have k9 : hk h2 (B + 239) = (3, 4 * gN n / 64 + 1) := lk_239 l2
  refine Ends.cv l2 (by decide +kernel) (c_on769 l2 (by omega) hn k9 (by omega) ((b9.agr g1 (fun k z => by omega)).agr g2 (fun k z => by omega)) hK) (fun h3 l3 _ _ _ ⟨g3, b3⟩ => ?_)
  refine Ends.eq (b639_47 l3 (by omega)) ?_
  rw [shr6 (by omega)]
  have c1 : cntN (fun x => false || decide (x = K0)) (4 * gN n) = 1 := by
    have := cntN_set (S := fun _ => false) (a := K0) rfl (4 * gN n)
    rw [if_pos hK, cntN_none (S := fun _ => false) _ (fun _ _ => rfl)] at this
    exact this
  have l4 : LX B n (hset h3 (B + 149) 89 1) := LX.setF 149 89 l3 (by decide +kernel)
  have g4 : Agr (fun c k => c = B + 149 ∧ k = 89) h3 (hset h3 (B + 149) 89 1) := Agr.rf.set ⟨rfl, rfl⟩
  have v4 : hv (hset h3 (B + 149) 89 1) (B + 149) 89 = 1 := hv_set_at ..
  generalize hset h3 (B + 149) 89 1 = h4 at *
  have G4 : Agr (fdfW B) h h4 := (((g1.sub (fun c k z => by unfold fdfW; omega)).tr g2 (fun c k z => by unfold fdfW; omega)).tr g3 (fun c k z => by unfold fdfW; omega)).tr g4 (fun c k z => by unfold fdfW; omega)
  refine main _ h4 (fun _ => false) (fun k => false || decide (k = K0)) (K0 / 64) _ _ _ rfl l4 (G4.sub wf) (TrD.ini hK ((eE' K0).mpr ⟨hE, hV⟩)) ((b2.agr g3 (fun k z => by omega)).agr g4 (fun k z => by omega) |>.congr (fun k _ => by simp)) (b3.agr g4 (fun k z => by omega)) (by rw [v4, c1]; rfl) (fun k hk => ?_) (hst _ h h4 w0 G4)
  have hk : (false || decide (k = K0)) = true := hk
  rw [Bool.false_or, decide_eq_true_eq] at hk
  rw [hk]; exact Nat.le_refl _
end MFD
