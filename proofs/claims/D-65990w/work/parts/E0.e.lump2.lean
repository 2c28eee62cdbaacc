/-! L3: the greatest lump (desk): the whole -/
section LMP2
variable {gv : Nat → Int} {B n d se fs qu qd xe wi : Nat} {h q t : AH} {S S1 Se Fs Se' Fs' : Nat → Bool}
theorem Reg.flo2 {W : Nat → Bool} (R : Reg B n q) (F : Flo B n q se fs qu qd wi W Se Fs) (g : Agr (lmW B se fs qu qd) q t) (F' : Flo B n t se fs qu qd wi W Se' Fs') : Reg B n t ∧ lzy B n t = lzy B n q ∧ lzF B n t = lzF B n q := by
  have A := F.1
  have A' := F'.1
  have same : ∀ i, i < 39 → rgV B t i = rgV B q i := fun i hi => by
    by_cases z : i < 37
    · unfold rgV
      refine g.at _ _ (fun w => ?_)
      rcases w with w | w
      · exact rg_flA ⟨A.2.2.2.2.2.2.2.1, A.2.2.2.2.2.2.2.2.1, A.2.2.2.2.2.2.2.2.2.1, A.2.2.2.2.2.2.2.2.2.2.1⟩ z w
      · have := rgi hi; omega
    · have : i = 37 ∨ i = 38 := by omega
      rcases this with rfl | rfl
      · exact (A'.1).trans A.1.symm
      · exact (A'.2.1).trans A.2.1.symm
  refine ⟨⟨fun i hi => ?_, fun i j hi hj hij z => ?_⟩, lzS_same same, ?_⟩
  · rw [same i hi]
    rcases R.1 i hi with z | ⟨a, z1, z2, z3, z4⟩
    · exact Or.inl z
    · exact Or.inr ⟨a, z1, z2, by rw [g.nx]; exact z3, by rw [g.hk]; exact z4⟩
  · rw [same i hi, same j hj] at z
    rw [same i hi]
    exact R.2 i j hi hj hij z
  · unfold lzF
    rw [A'.1, A.1]
theorem flo_O {W : Nat → Bool} (F : Flo B n q se fs qu qd wi W Se Fs) {c : Nat} (w : FlO B q c) : flA B se fs qu qd c := by
  obtain ⟨k, k1, k2, k3⟩ := w
  have A := F.1
  have r : ∀ a b : Nat, rf a = rf b → a = b := fun a b e => by unfold rf at e; omega
  have hk : k = 2 ∨ k = 3 ∨ k = 4 ∨ k = 5 := by omega
  unfold flA
  rcases hk with rfl | rfl | rfl | rfl
  · rw [A.1] at k3; exact Or.inl (r _ _ k3).symm
  · rw [A.2.1] at k3; exact Or.inr (Or.inl (r _ _ k3).symm)
  · rw [A.2.2.1] at k3; exact Or.inr (Or.inr (Or.inl (r _ _ k3).symm))
  · rw [A.2.2.2.1] at k3; exact Or.inr (Or.inr (Or.inr (Or.inl (r _ _ k3).symm)))
def w281 (B : Nat) (h : AH) : Nat → Nat → Prop := fun c k => c = B + 81 ∨ FlO B h c ∨ c = B + 117 ∨ (c = B + 92 ∧ (k = 41 ∨ k = 42))
theorem rw3_mono {N Z Y Y' : Nat} (hY : Y ≤ Y') : rw3 N Z Y 0 ≤ rw3 N Z Y' 0 := rw3_lez hY
theorem c_lump281 (l : LX B n h) (hd : 24 ≤ d) (hn0 : 0 < n) (hn : n ≤ 52) (m : TbC B h) (so : SoC B h) (R : Reg B n h) (F : FlI B n h) (e14 : hv h (B + 92) 14 = rf xe) (hx : B + 246 ≤ xe) (hx2 : xe < hnx h) (hxs : Scr B h xe) (sx : SG n h xe S) (sp : SG n h (B + 117) S1) :
    Vd (cll PP (ev PP (gsF gv) B) d 281 [(2, rf (B + 92))] h) (fun h' => (∃ T best, SG n h' (B + 117) T ∧ grB n S (rw3 (8 * n) (8 * n) 0 0) best T (fun _ => false)) ∧ FlE B n (w281 B h) 8 (4 * (24 * n * n) + 4 * (24 * n * n)) h h') := by
  have hb0 := l.2.2
  refine Vd.inq (D := 23) hd (Nat.le_of_ble_eq_true rfl) rfl (fun d hd Q K => ?_)
  have nx : ∀ {q : AH}, Reg B n q → FlI B n q → Scr B q xe → ∀ k, 2 ≤ k → k ≤ 3 → hv q (B + 81) k ≠ rf xe := fun R F s k z1 z2 z3 => scr_fl R F s ⟨k, z1, by omega, z3⟩
  refine Ends.eq (b281_0 (n := n) (by (repeat' first | assumption | refine LX.setF _ _ ?_ (by decide +kernel) | refine LX.setS ?_ rfl | refine LX.setA ?_ (by first | assumption | omega))) (by first | assumption | omega)) ?_
  rw [e14]
  refine Ends.cv l (by decide +kernel) (c_beginI l (by omega) hn0 hn R F sx hx2 (Or.inr hx) (nx R F hxs)) (fun h1 l1 n1 _ _ ⟨se, fs, qu, qd, F1, c1, A1, R1, L1, X1⟩ => ?_)
  refine Ends.eq (b281_11 (n := n) (by (repeat' first | assumption | refine LX.setF _ _ ?_ (by decide +kernel) | refine LX.setS ?_ rfl | refine LX.setA ?_ (by first | assumption | omega))) (by first | assumption | omega)) ?_
  have fo : ∀ c, FlO B h c → B + 246 ≤ c := fun c w => F.own w
  have s1 : SG n h1 (B + 117) S1 := sp.ext X1 (by omega) (fun k w => by rcases w with w | w; omega; have := fo _ w; omega)
  refine Ends.cv l1 (by decide +kernel) (c_clear l1 (by omega) hn s1.1 (by omega)) (fun h2 l2 n2 _ _ ⟨o2, s2⟩ => ?_)
  have G2 : Agr (fun c _ => c = B + 117) h1 h2 := o2.fr.agr
  have b1 := F1.1
  have F2 := F1.agr G2 (fun k w => by omega) (fun c w k e => by unfold FlC at b1; omega)
  have s2 : SG n h2 (B + 117) (fun _ => false) := s2.congr (fun k x _ _ => by unfold onK; rfl)
  have m2 : TbC B h2 := (m.ext hb0 X1 (fun c k z1 z2 w => by rcases w with w | w; omega; have := fo _ w; omega)).ext l1.2.2 G2.ext (fun c k z1 z2 w => by omega)
  have so2 : ∀ {q : AH}, Agr (lmW B se fs qu qd) h2 q → ∀ a b m, a < 5 → b < 5 → m < 2 → hv q (B + 91) (10 * a + 2 * b + m) = soT a b m := fun g a b m z1 z2 z3 => by
    rw [g.at _ _ (lmW_no F2 (by omega) (by omega) (by omega)), G2.at _ _ (by omega), X1.at _ (by omega) (fun w => by rcases w with w | w; omega; have := fo _ w; omega)]
    exact so a b m z1 z2 z3
  have e142 : hv h2 (B + 92) 14 = rf xe := by
    rw [G2.at _ _ (by omega), X1.at _ (by omega) (fun w => by rcases w with w | w; omega; have := fo _ w; omega)]
    exact e14
  refine Ends.eq (b281_22 (n := n) (by (repeat' first | assumption | refine LX.setF _ _ ?_ (by decide +kernel) | refine LX.setS ?_ rfl | refine LX.setA ?_ (by first | assumption | omega))) (by first | assumption | omega)) ?_
  obtain ⟨N, eN⟩ : ∃ N, N = 8 * n := ⟨_, rfl⟩
  have hN0 : 0 < N := by omega
  -- what follows when all is looked at
  have fin : ∀ (q : AH) (best : Nat) (Se T : Nat → Bool) (u3 u4 u5 : AV), LX B n q → LmS B n h2 se fs qu qd xe S (rw3 N N 0 0) best q Se T → Ends (ev PP (gsF gv) B d 281 26 [(2, rf (B + 92)), (0, (best : Int)), (0, (n : Int)), u3, u4, u5] [] q) Q := by
    intro q best Se T u3 u4 u5 lq i
    obtain ⟨a1, a2, a3, a4, a5, a6, a7⟩ := i
    rw [eN] at a5
    have nq : hnx q = hnx h1 := by rw [a1.nx, G2.nx]
    have uq : hus q = hus h1 := by rw [a1.us, G2.us]
    obtain ⟨R2, L2⟩ := R1.ext l1.2.2 G2.ext (fun i hi w => by have := rgi hi; omega)
    obtain ⟨R3, L3, LF3⟩ := R2.flo2 F2 a1 a2
    have LF2 : lzF B n h2 = lzF B n h1 := by unfold lzF; rw [G2.at _ _ (by omega)]
    have XX : Ext (w281 B h) 4 (4 * (24 * n * n)) h q := by
      have e1 : Ext (w281 B h) 4 (4 * (24 * n * n)) h h1 := X1.sub (fun c k _ w => by rcases w with w | w; exact Or.inl w; exact Or.inr (Or.inl w)) (Nat.le_refl _) (by omega)
      have e2 := e1.tr (c' := 0) (s' := 0) G2.ext (fun c k _ w => Or.inr (Or.inr (Or.inl w)))
      exact e2.tr (c' := 0) (s' := 0) a1.ext (fun c k hc w => by
        rcases w with w | w
        · rcases A1 c w hc with w | w
          · exact Or.inl w
          · exact Or.inr (Or.inl w)
        · exact Or.inr (Or.inr (Or.inr w)))
    have sq : SG n q (B + 117) (fun _ => false) := s2.agr a1 (fun k => lmW_no F2 (by omega) (by omega) (by omega))
    have I3 : FlI B n q := a2.end hn0 (by rw [nq]; exact c1)
    refine Ends.eq (b281_26 (n := n) (by (repeat' first | assumption | refine LX.setF _ _ ?_ (by decide +kernel) | refine LX.setS ?_ rfl | refine LX.setA ?_ (by first | assumption | omega))) (by first | assumption | omega)) ?_
    refine Ends.b3 (fun _ => ?_) (fun w => absurd w (by omega))
    refine Ends.b1 (fun w => ?_) (fun w => ?_)
    rotate_left
    · refine Ends.sm (K _ ⟨⟨T, best, sq.congr hn0 (fun x hx => ?_), a5⟩, XX.sub (fun _ _ _ w => w) (by omega) (by omega), R3, I3, by omega, fun c hc z => (A1 c (flo_O a2 z) hc).resolve_left (by have := I3.own z; omega)⟩)
      rcases a5 with ⟨z1, z2, z3⟩ | ⟨c0, g0, z1, z2, z3, z4, z5, z6⟩
      · exact (z2 x hx).symm
      · have := pc_pos (S := S) z2.2.2.1; omega
    obtain ⟨g0, w1, w2, w3, w4, w5⟩ := a7 (by omega)
    have e14q : hv q (B + 92) 14 = rf xe := by
      rw [a1.at _ _ (lmW_no F2 (by omega) (by omega) (by omega))]
      exact e142
    have scq : Scr B q xe := by
      obtain ⟨k, k1, k2⟩ := hxs
      refine ⟨k, k1, ?_⟩
      rw [a1.at _ _ (lmW_no F2 (by omega) (by omega) (by omega)), G2.at _ _ (by omega), X1.at _ (by omega) (fun w => by rcases w with w | w; omega; have := fo _ w; omega)]
      exact k2
    rw [e14q]
    refine Ends.cv lq (by decide +kernel) (c_beginI lq (by omega) hn0 hn R3 I3 a2.2.1 (by omega) (Or.inr hx) (nx R3 I3 scq)) (fun h4 l4 n4 _ _ ⟨se4, fs4, qu4, qd4, F4, c4, A4, R4, L4, X4⟩ => ?_)
    have oq : ∀ c, FlO B q c → flA B se fs qu qd c := fun c w => flo_O a2 w
    have k92 : ∀ k, hv h4 (B + 92) k = hv q (B + 92) k := fun k => X4.at _ (by have := lq.2.2; omega) (fun w => by
      rcases w with w | w
      · omega
      · have := flA_ge F2 (oq _ w); omega)
    refine Ends.eq (b281_147 (n := n) (by (repeat' first | assumption | refine LX.setF _ _ ?_ (by decide +kernel) | refine LX.setS ?_ rfl | refine LX.setA ?_ (by first | assumption | omega))) (by first | assumption | omega)) ?_
    obtain ⟨hn0', hx', hy', hz', ht'⟩ := g_lt w1
    rw [k92 41, k92 42, w4, w5]
    refine Ends.cv l4 (by decide +kernel) (c_pour (gv := gv) (d := d) (t := gSo g0) (z := gZ n g0) (y := gY n g0) (b := sop64 121 1 ((gX n g0 : Nat) : Int)) l4 (by omega) hn0 hn F4 ht' hz' hy') (fun h5 l5 _ _ _ ⟨f5, F5⟩ => ?_)
    have M1 : ∀ g', g' < gN n → (poM n S (fun _ => false) (rw3 n (gSo g0) (gZ n g0) (gY n g0)) (sop64 121 1 ((gX n g0 : Nat) : Int)) g' = true ↔ g' = g0) := fun g' hg' => by
      obtain ⟨-, hx2, -, -, -⟩ := g_lt hg'
      rw [poM_is, rk_eq hg' hz' hy', one_bit (by omega) (by omega), decide_eq_true_eq]
      constructor
      · rintro ⟨q1, q2, -, -⟩; rw [← gI_g (n := n) (g := g'), q1.1, q1.2.1, q1.2.2, q2, gI_g]
      · rintro rfl
        exact ⟨⟨rfl, rfl, rfl⟩, rfl, w2, rfl⟩
    have c5 : Clo n S (fun g => (fun _ => false) g || poM n S (fun _ => false) (rw3 n (gSo g0) (gZ n g0) (gY n g0)) (sop64 121 1 ((gX n g0 : Nat) : Int)) g) (fun g => (fun _ => false) g || poM n S (fun _ => false) (rw3 n (gSo g0) (gZ n g0) (gY n g0)) (sop64 121 1 ((gX n g0 : Nat) : Int)) g) (fun _ _ => False) := fun g g' f h1 h2 h3 h4 h5 h6 h7 h8 => by
      rw [h5] at h4; exact absurd h4 Bool.false_ne_true
    have tb5 : TbC B h5 := by
      have e1 : TbC B q := m2.ext l2.2.2 a1.ext (fun c k z1 z2 => lmW_no F2 (by omega) (by omega) (by omega))
      have e2 : TbC B h4 := e1.ext lq.2.2 X4 (fun c k z1 z2 w => by
        rcases w with w | w
        · omega
        · have := flA_ge F2 (oq _ w); omega)
      exact e2.fr f5 (fun c z1 z2 w => by have := flA_ge F4 w; omega)
    refine Ends.eq (b281_162 (n := n) (by (repeat' first | assumption | refine LX.setF _ _ ?_ (by decide +kernel) | refine LX.setS ?_ rfl | refine LX.setA ?_ (by first | assumption | omega))) (by first | assumption | omega)) ?_
    refine Ends.ct l5 (by decide +kernel) (by decide) (c_run l5 (by omega) hn0 hn tb5 F5 c5) (fun v h6 l6 _ _ _ ⟨f6, S6, F6, s6, c6, ge6, kk, ev_, ck⟩ => ?_)
    obtain ⟨P1, -⟩ := piece_law w1 w2 rfl M1 clo_0 s6 c6 ge6 (fun g hg e => F6.2.2.2.2.2.1 g hg e) ck
    refine Ends.eq (b281_169 (n := n) (by (repeat' first | assumption | refine LX.setF _ _ ?_ (by decide +kernel) | refine LX.setS ?_ rfl | refine LX.setA ?_ (by first | assumption | omega))) (by first | assumption | omega)) ?_
    rw [F6.1.1]
    have k117 : hk h6 (B + 117) = (3, 24 * n * n) := lk_117 l6
    refine Ends.cv l6 (by decide +kernel) (c_copy (b := B + 117) l6 (by omega) F6.2.2.1 k117 (by omega)) (fun h7 l7 _ _ _ ⟨f7, s7⟩ => ?_)
    refine Ends.eq (b281_188 (n := n) (by (repeat' first | assumption | refine LX.setF _ _ ?_ (by decide +kernel) | refine LX.setS ?_ rfl | refine LX.setA ?_ (by first | assumption | omega))) (by first | assumption | omega)) ?_
    have s7 : SG n h7 (B + 117) S6 := s7
    have B6 := F6.1
    have F7 := F6.agr f7.agr (fun k w => by omega) (fun c w k e => by unfold FlC at B6; omega)
    have h45 := f5.agr.tr f6.agr (fun c k w => w)
    obtain ⟨R6, L6, LF6⟩ := R4.flo l4 F4 (Agr.fr h45) F6
    obtain ⟨R7, L7⟩ := R6.ext l6.2.2 f7.agr.ext (fun i hi w => by have := rgi hi; omega)
    have LF7 : lzF B n h7 = lzF B n h6 := by unfold lzF; rw [f7.agr.at _ _ (by omega)]
    have u7 := f7.agr.us
    have u6 := h45.us
    have E7 := F7.end hn0 (by rw [f7.agr.nx, h45.nx]; exact c4)
    refine Ends.sm (K _ ⟨⟨T, best, s7.congr hn0 (fun x hx => ?_), a5⟩, ?_, R7, E7, by omega, fun c hc z => (A1 c (oq c ((A4 c (flo_O F7 z) (by have := X1.2.2.1; omega)).resolve_left (by have := E7.own z; omega))) hc).resolve_left (by have := E7.own z; omega)⟩)
    · rw [w3 x hx]
      refine Bool.eq_iff_iff.mpr ?_
      rw [pcB_iff, P1 x hx]
      exact ⟨fun w => w.elim (fun w => absurd w Bool.false_ne_true) id, Or.inr⟩
    · have fl : ∀ c, c < hnx h → FlO B q c → c = B + 81 ∨ FlO B h c := fun c hc w => A1 c (oq c w) hc
      have e4 := XX.tr X4 (fun c k hc w => by
        rcases w with w | w
        · exact Or.inl w
        · rcases fl c hc w with w | w
          · exact Or.inl w
          · exact Or.inr (Or.inl w))
      have hh : hnx h ≤ hnx q := XX.2.2.1
      have e5 := e4.tr (c' := 0) (s' := 0) h45.ext (fun c k hc w => by
        rcases A4 c w (by omega) with w | w
        · exact Or.inl w
        · rcases fl c hc w with w | w
          · exact Or.inl w
          · exact Or.inr (Or.inl w))
      exact (e5.tr (c' := 0) (s' := 0) f7.agr.ext (fun c k hc w => Or.inr (Or.inr (Or.inl w)))).sub (fun _ _ _ w => w) (by omega) (by omega)
  -- the loops
  have tbx : ∀ {q : AH}, LX B n q → TbC B h2 := fun _ => m2
  have lb : ∀ (z a y : Nat), z < n → a < 5 → y < n → ∀ (c b best : Nat) (q : AH) (Se T : Nat → Bool), b + c = 5 → LX B n q → LmS B n h2 se fs qu qd xe S (rw3 N (8 * z + rsN a) (8 * y + rsN b) 0) best q Se T → (∀ (best' : Nat) (q' : AH) (Se' T' : Nat → Bool) (u5 : AV), LX B n q' → LmS B n h2 se fs qu qd xe S (rw3 N (8 * z + rsN a) (8 * (y + 1)) 0) best' q' Se' T' → Ends (ev PP (gsF gv) B d 281 44 [(2, rf (B + 92)), (0, (best' : Int)), (0, (z : Int)), (0, (a : Int)), (0, ((y + 1 : Nat) : Int)), u5] [] q') Q) → Ends (ev PP (gsF gv) B d 281 56 [(2, rf (B + 92)), (0, (best : Int)), (0, (z : Int)), (0, (a : Int)), (0, (y : Int)), (0, (b : Int))] [] q) Q := by
    intro z a y hz ha hy c
    induction c with
    | zero =>
      intro b best q Se T e lq i nx
      obtain rfl : b = 5 := by omega
      refine Ends.eq (b281_56 lq (by omega)) (Ends.b3 (fun _ => ?_) (fun w => absurd w (by omega)))
      rw [w_succ (by omega)]
      exact nx best q Se T _ lq (by rw [show 8 * (y + 1) = 8 * y + rsN 5 from rfl]; exact i)
    | succ c ih =>
      intro b best q Se T e lq i nx
      have hb : b < 5 := by omega
      have v1 := so2 i.1 a b 0 ha hb (by decide)
      have v2 := so2 i.1 a b 1 ha hb (by decide)
      have t1 : bop32 96 (bop32 104 (10 : Int) (a : Int)) (bop32 104 (2 : Int) (b : Int)) = ((10 * a + 2 * b + 0 : Nat) : Int) := by
        rw [show bop32 104 (10 : Int) (a : Int) = ((10 * a : Nat) : Int) from mulNN (x := 10) (by omega), show bop32 104 (2 : Int) (b : Int) = ((2 * b : Nat) : Int) from mulNN (x := 2) (by omega)]
        exact addNN (by omega)
      have t2 : bop32 96 ((10 * a + 2 * b + 0 : Nat) : Int) 1 = ((10 * a + 2 * b + 1 : Nat) : Int) := addNN (y := 1) (by omega)
      refine Ends.eq (b281_56 lq (by omega)) (Ends.b3 (fun w => absurd w (by omega)) (fun _ => ?_))
      rw [t1, t2, tn, tn, v1, v2]
      refine Ends.g ⟨by omega, by omega⟩ (Ends.g ⟨by omega, by omega⟩ ?_)
      have ra := rs_b ⟨a, by omega⟩
      have rb := rs_b ⟨b, by omega⟩
      simp only at ra rb
      rw [eN] at i
      refine Ends.ct lq (by decide +kernel) (by decide) (c_lumpAt282 lq (by omega) hn0 hn m2 e142 (so_row ha hb) (ra.2.2 ha).1 (rb.2.2 hb).1 hz hy i) (fun v q' l' _ _ _ ⟨best', e', Se', T', i'⟩ => ?_)
      rw [← eN] at i'
      refine Ends.eq (b281_106 l' (by omega)) ?_
      rw [e', w_succ (by omega)]
      refine ih (b + 1) best' q' Se' T' (by omega) l' (i'.skip0 (rw3_mono (by have := (rb.2.2 hb).2; omega)) (fun c' h1 h2 => ?_)) nx
      have hy8 : 8 * y + rsN (b + 1) ≤ N := by have := (rs_b ⟨b + 1, by omega⟩).2.1; simp only at this; omega
      obtain ⟨-, z2, z3⟩ := rngY hN0 h1 h2 hy8
      refine no_scan (Or.inl ?_)
      have hb5 : b = 0 ∨ b = 1 ∨ b = 2 ∨ b = 3 ∨ b = 4 := by omega
      rw [eN] at z2 z3
      rcases hb5 with rfl | rfl | rfl | rfl | rfl <;> simp only [rsN, List.getD_cons_zero, List.getD_cons_succ] at z2 z3 <;> omega
  have ly : ∀ (z a : Nat), z < n → a < 5 → ∀ (c y best : Nat) (q : AH) (Se T : Nat → Bool) (u5 : AV), y + c = n → LX B n q → LmS B n h2 se fs qu qd xe S (rw3 N (8 * z + rsN a) (8 * y) 0) best q Se T → (∀ (best' : Nat) (q' : AH) (Se' T' : Nat → Bool) (u4 u5 : AV), LX B n q' → LmS B n h2 se fs qu qd xe S (rw3 N (8 * z + rsN a) (8 * n) 0) best' q' Se' T' → Ends (ev PP (gsF gv) B d 281 36 [(2, rf (B + 92)), (0, (best' : Int)), (0, (z : Int)), (0, ((a + 1 : Nat) : Int)), u4, u5] [] q') Q) → Ends (ev PP (gsF gv) B d 281 44 [(2, rf (B + 92)), (0, (best : Int)), (0, (z : Int)), (0, (a : Int)), (0, (y : Int)), u5] [] q) Q := by
    intro z a hz ha c
    induction c with
    | zero =>
      intro y best q Se T u5 e lq i nx
      obtain rfl : n = y := by omega
      refine Ends.eq (b281_44 lq (by omega)) (Ends.b3 (fun _ => ?_) (fun w => absurd w (by omega)))
      rw [w_succ (by omega)]
      exact nx best q Se T _ _ lq i
    | succ c ih =>
      intro y best q Se T u5 e lq i nx
      have hy : y < n := by omega
      refine Ends.eq (b281_44 lq (by omega)) (Ends.b3 (fun w => absurd w (by omega)) (fun _ => ?_))
      refine lb z a y hz ha hy 5 0 best q Se T rfl lq (i.skip0 (rw3_mono (by omega)) (fun c' h1 h2 => ?_)) (fun best' q' Se' T' u5 l' i' => ih (y + 1) best' q' Se' T' u5 (by omega) l' i' nx)
      obtain ⟨-, z2, z3⟩ := rngY hN0 h1 h2 (by have := (rs_b ⟨0, by omega⟩).2.1; simp only at this; omega)
      refine no_scan (Or.inl ?_)
      simp only [rsN, List.getD_cons_zero] at z3
      rw [eN] at z2 z3
      omega
  have la : ∀ (z : Nat), z < n → ∀ (c a best : Nat) (q : AH) (Se T : Nat → Bool) (u4 u5 : AV), a + c = 5 → LX B n q → LmS B n h2 se fs qu qd xe S (rw3 N (8 * z + rsN a) 0 0) best q Se T → (∀ (best' : Nat) (q' : AH) (Se' T' : Nat → Bool) (u3 u4 u5 : AV), LX B n q' → LmS B n h2 se fs qu qd xe S (rw3 N (8 * (z + 1)) 0 0) best' q' Se' T' → Ends (ev PP (gsF gv) B d 281 26 [(2, rf (B + 92)), (0, (best' : Int)), (0, ((z + 1 : Nat) : Int)), u3, u4, u5] [] q') Q) → Ends (ev PP (gsF gv) B d 281 36 [(2, rf (B + 92)), (0, (best : Int)), (0, (z : Int)), (0, (a : Int)), u4, u5] [] q) Q := by
    intro z hz c
    induction c with
    | zero =>
      intro a best q Se T u4 u5 e lq i nx
      obtain rfl : a = 5 := by omega
      refine Ends.eq (b281_36 lq (by omega)) (Ends.b3 (fun _ => ?_) (fun w => absurd w (by omega)))
      rw [w_succ (by omega)]
      exact nx best q Se T _ _ _ lq (by rw [show 8 * (z + 1) = 8 * z + rsN 5 from rfl]; exact i)
    | succ c ih =>
      intro a best q Se T u4 u5 e lq i nx
      have ha : a < 5 := by omega
      have ra := rs_b ⟨a, by omega⟩
      simp only at ra
      refine Ends.eq (b281_36 lq (by omega)) (Ends.b3 (fun w => absurd w (by omega)) (fun _ => ?_))
      refine ly z a hz ha n 0 best q Se T u5 (by omega) lq i (fun best' q' Se' T' u4 u5 l' i' => ih (a + 1) best' q' Se' T' u4 u5 (by omega) l' (i'.skip0 ?_ (fun c' h1 h2 => ?_)) nx)
      · rw [← eN, ← rw3_t]
        exact rw3_let (by have := (ra.2.2 ha).2; omega)
      · rw [← eN, ← rw3_t] at h1
        refine no_scan (Or.inr ?_)
        have d1 : 8 * z + rsN a + 1 ≤ c' / (N * N) := by
          rw [Nat.le_div_iff_mul_le (Nat.mul_pos hN0 hN0)]
          unfold rw3 at h1
          rw [← Nat.mul_assoc]
          omega
        have d2 : c' / (N * N) < 8 * z + rsN (a + 1) := by
          rw [Nat.div_lt_iff_lt_mul (Nat.mul_pos hN0 hN0)]
          unfold rw3 at h2
          rw [← Nat.mul_assoc]
          omega
        have ha5 : a = 0 ∨ a = 1 ∨ a = 2 ∨ a = 3 ∨ a = 4 := by omega
        rw [eN] at d1 d2
        rcases ha5 with rfl | rfl | rfl | rfl | rfl <;> simp only [rsN, List.getD_cons_zero, List.getD_cons_succ] at d1 d2 <;> omega
  have lz : ∀ (c z best : Nat) (q : AH) (Se T : Nat → Bool) (u3 u4 u5 : AV), z + c = n → LX B n q → LmS B n h2 se fs qu qd xe S (rw3 N (8 * z) 0 0) best q Se T → Ends (ev PP (gsF gv) B d 281 26 [(2, rf (B + 92)), (0, (best : Int)), (0, (z : Int)), u3, u4, u5] [] q) Q := by
    intro c
    induction c with
    | zero =>
      intro z best q Se T u3 u4 u5 e lq i
      have e : z = n := by omega
      rw [e] at i ⊢
      rw [← eN] at i
      exact fin q best Se T u3 u4 u5 lq i
    | succ c ih =>
      intro z best q Se T u3 u4 u5 e lq i
      have hz : z < n := by omega
      refine Ends.eq (b281_26 lq (by omega)) (Ends.b3 (fun w => absurd w (by omega)) (fun _ => ?_))
      refine la z hz 5 0 best q Se T u4 u5 rfl lq (i.skip0 (rw3_let (by omega)) (fun c' h1 h2 => ?_)) (fun best' q' Se' T' u3 u4 u5 l' i' => ih (z + 1) best' q' Se' T' u3 u4 u5 (by omega) l' i')
      refine no_scan (Or.inr ?_)
      have d1 : 8 * z ≤ c' / (N * N) := by
        rw [Nat.le_div_iff_mul_le (Nat.mul_pos hN0 hN0)]
        unfold rw3 at h1
        rw [← Nat.mul_assoc]
        omega
      have d2 : c' / (N * N) < 8 * z + rsN 0 := by
        rw [Nat.div_lt_iff_lt_mul (Nat.mul_pos hN0 hN0)]
        unfold rw3 at h2
        rw [← Nat.mul_assoc]
        omega
      simp only [rsN, List.getD_cons_zero] at d2
      rw [eN] at d1 d2
      omega
  refine lz n 0 0 h2 (fun _ => false) (fun _ => false) _ _ _ (by omega) l2 ⟨Agr.rf, F2, clo_0, fun x hx => ?_, Or.inl ⟨rfl, fun _ _ => rfl, fun c g hc => ?_⟩, Nat.zero_le _, fun e => absurd rfl e⟩
  · refine ⟨fun w => ?_, fun w => ?_⟩
    · have w : (S x && !false) = true := w
      rw [Bool.not_false, Bool.and_true] at w
      exact ⟨w, fun c g hc => absurd hc (by unfold rw3; simp)⟩
    · show (S x && !false) = true
      rw [w.1]; rfl
  · exact absurd hc (by unfold rw3; simp)
end LMP2
