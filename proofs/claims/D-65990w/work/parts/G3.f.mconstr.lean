/-! L3: the model's edits of sketches: constrain -/
noncomputable section MED6
variable {gv : Nat → Int} {B n d s w m nv nc nk : Nat} {h h2 : AH} {Q : Nat → Nat} {al dn tt : Nat} {x1 x2 x3 x4 x5 x6 x7 x8 x9 y kd : Int} {c b u : Nat → Int}
/-- the cells of one constraint more -/
def coH (h : AH) (w nk : Nat) (kd a b c y : Int) : AH := hset (hset (hset (hset (hset (hset (hset h (w + 8) nk kd) (w + 9) nk a) (w + 10) nk b) (w + 11) nk c) (w + 13) nk y) (w + 12) nk 1) w 5 ((nk : Int) + 1)
theorem e_con244 {R : Rs → Prop} {u11 u12 : AV} (l : LX B n h) (hd : 20 ≤ d) (lo : B + 246 ≤ Q dn) (M : MRg B h Q al dn tt) (k0 : hv h (B + 149) 0 = 0) (hdn : dn < 99) (hs : s < 6) (hs3 : (s : Int) < hv h (Q dn) 3) (enk : hv h (Q dn + (8 + 14 * s)) 5 = (nk : Int)) (n32 : nk < 32) (fr : FR0 h y)
    (K : ∀ h', hv h' (B + 149) 2 = hv h (B + 149) 2 → EdSk B h Q al dn s h' (fun h3 w => h' = coH h3 w nk x2 x3 x4 x5 y) → R ((0, (0, (nk : Int))), h')) :
    Ends (ev PP (gsF gv) B d 578 244 [(2, rf (B + 149)), (0, (s : Int)), (0, x2), (0, x3), (0, x4), (0, x5), (0, x6), (0, x7), (0, x8), (0, x9), (2, y), u11, u12] [] h) R := by
  refine Ends.eq (b578_244 l (by omega)) ?_
  refine Ends.ct l (by decide +kernel) (by decide) (c_edB0 (h := h) l (by omega) lo M Agr.rf k0 hdn hs hs3) (fun x h4 l4 _ _ _ ⟨w, ex, Sw, E, ts, eE, fin⟩ => ?_)
  rw [ex]
  have nk_ : hv h4 w 5 = (nk : Int) := by rw [E.1 5 (by decide)]; exact enk
  have fr4 : FR0 h4 y := fr.ext eE
  have wl := Sw.lo
  refine Ends.eq (b578_249 l4 (by omega) Sw) ?_
  rw [nk_, tn, an0, an0, an0, an0]
  refine Ends.g ⟨by omega, by omega⟩ (Ends.g ⟨⟨by omega, by omega⟩, fr4.ro⟩ ?_)
  obtain ⟨h5, e5⟩ : ∃ h5, h5 = hset (hset (hset (hset (hset h4 (w + 8) nk x2) (w + 9) nk x3) (w + 10) nk x4) (w + 11) nk x5) (w + 13) nk y := ⟨_, rfl⟩
  have g5 : Agr (fun c k => c = w + 8 ∨ c = w + 9 ∨ c = w + 10 ∨ c = w + 11 ∨ c = w + 13) h4 h5 := by rw [e5]; exact ((((Agr.rf.set (Or.inl rfl)).set (Or.inr (Or.inl rfl))).set (Or.inr (Or.inr (Or.inl rfl)))).set (Or.inr (Or.inr (Or.inr (Or.inl rfl))))).set (Or.inr (Or.inr (Or.inr (Or.inr rfl))))
  have l5 : LX B n h5 := by
    rw [e5]
    refine LX.setA (t := 6) (LX.setA (t := 0) (LX.setA (t := 0) (LX.setA (t := 0) (LX.setA (t := 0) l4 (by rw [Sw.k8])) ?_) ?_) ?_) ?_
    · show (hk h4 (w + 9)).1 = 0 + 2; rw [Sw.k9]
    · show (hk h4 (w + 10)).1 = 0 + 2; rw [Sw.k10]
    · show (hk h4 (w + 11)).1 = 0 + 2; rw [Sw.k11]
    · show (hk h4 (w + 13)).1 = 6 + 2; rw [Sw.k13]
  have S5 : YS B w h5 := Sw.agr g5 (fun k h6 z => by omega)
  have fr4' : ∀ t : AH, Agr (fun c k => c = w + 8 ∨ c = w + 9 ∨ c = w + 10 ∨ c = w + 11 ∨ c = w + 13) h4 t → FR0 t y := fun t g => fr4.agr g
  have ts5 : TS h5 w := by
    rw [e5]
    exact ((((ts.st (Or.inl (by omega))).st (Or.inl (by omega))).st (Or.inl (by omega))).st (Or.inl (by omega))).st (Or.inr (Or.inr ⟨Or.inr rfl, fr4' _ ((((Agr.rf.set (Or.inl rfl)).set (Or.inr (Or.inl rfl))).set (Or.inr (Or.inr (Or.inl rfl)))).set (Or.inr (Or.inr (Or.inr (Or.inl rfl)))))⟩))
  have n5 : hv h5 w 5 = (nk : Int) := by rw [g5.at _ _ (by omega)]; exact nk_
  rw [← e5]
  refine Ends.eq (b578_306 l5 (by omega) S5) ?_
  rw [tn, n5, an3 (Or.inr rfl), show bop32 96 (nk : Int) 1 = (nk : Int) + 1 from (addNN (y := 1) (by omega)).trans (by omega)]
  refine Ends.g ⟨by omega, by omega⟩ (Ends.sm (K _ ?_ (fin _ _ ?_ ((ts5.st (Or.inr (Or.inl ⟨Or.inr rfl, Or.inr rfl⟩))).st (Or.inl (by omega))) (by rw [e5]; rfl))))
  · rw [hv_set_ne (by omega), hv_set_ne (by omega), g5.at _ _ (by omega), eE.at _ (by have := l.2.2; omega) (fun y => ?_)]
    unfold edW at y
    rcases y with ⟨-, a, -⟩ | ⟨a, -⟩ | a | ⟨a, b⟩
    · omega
    · omega
    · omega
    · have := (M.2.2.2.2.2.2.2.1 (dn + 1) a).2.1.lo
      have := b.1
      omega
  · exact ((g5.sub (W' := csW w) (fun c k z => Or.inr (by omega))).set (Or.inr ⟨by omega, by omega⟩)).set (Or.inl ⟨rfl, by decide⟩)
/-- a point, a line that is none -/
abbrev ptB (h : AH) (q : Nat) (x p : Int) : Prop := (x < 0 ∨ hv h q 3 ≤ x) ∨ p < 0 ∨ hv h (q + (8 + 14 * Int.toNat x)) 2 ≤ p
abbrev lnB (h : AH) (q : Nat) (x y : Int) : Prop := (x < 0 ∨ hv h q 3 ≤ x) ∨ y < 0 ∨ hv h (q + (8 + 14 * Int.toNat x)) 3 ≤ y ∨ hv h (q + (8 + 14 * Int.toNat x) + 5) y.toNat = 0
abbrev agB (h : AH) (q : Nat) (x kd a b c : Int) : Prop := (kd < 17 ∧ (ptB h q x a ∨ 2 ≤ kd ∧ (ptB h q x b ∨ 11 ≤ kd ∧ ptB h q x c))) ∨ (17 ≤ kd ∧ (lnB h q x a ∨ lnB h q x b))
def coE (h : AH) (q : Nat) (x kd a b c : Int) : Int := if x < 0 ∨ hv h q 3 ≤ x then 1 else if kd < 0 ∨ 23 < kd then 2 else if agB h q x kd a b c then 1 else if hv h (q + (8 + 14 * Int.toNat x)) 5 = 32 then 3 else 0
theorem ag_gen {pa pb pc la lb : Prop} [Decidable pa] [Decidable pb] [Decidable pc] [Decidable la] [Decidable lb] : cond (tst 2 kd 17) (cond (tst 1 (if pa then (1 : Int) else 0) 0) (1 : Int) (cond (tst 2 kd 2) (cond (tst 2 kd 11) (0 : Int) (cond (tst 0 (if pc then (1 : Int) else 0) 0) (0 : Int) 1)) (cond (tst 1 (if pb then (1 : Int) else 0) 0) (1 : Int) (cond (tst 2 kd 11) (0 : Int) (cond (tst 0 (if pc then (1 : Int) else 0) 0) (0 : Int) 1))))) (cond (tst 1 (if la then (1 : Int) else 0) 0) (1 : Int) (cond (tst 0 (if lb then (1 : Int) else 0) 0) (0 : Int) 1)) = if (kd < 17 ∧ (pa ∨ 2 ≤ kd ∧ (pb ∨ 11 ≤ kd ∧ pc))) ∨ (17 ≤ kd ∧ (la ∨ lb)) then 1 else 0 := by
  simp only [ct0, ct1, ct2]
  by_cases k17 : kd < 17
  · have k17' : ¬ 17 ≤ kd := by omega
    by_cases k2 : kd < 2
    · have k2' : ¬ 2 ≤ kd := by omega
      have k11 : kd < 11 := by omega
      by_cases a : pa <;> simp [k17, k17', k2, k2', k11, a]
    · have k2' : 2 ≤ kd := by omega
      by_cases k11 : kd < 11
      · have k11' : ¬ 11 ≤ kd := by omega
        by_cases a : pa <;> by_cases b : pb <;> simp [k17, k17', k2, k2', k11, k11', a, b]
      · have k11' : 11 ≤ kd := by omega
        by_cases a : pa <;> by_cases b : pb <;> by_cases c : pc <;> simp [k17, k17', k2, k2', k11, k11', a, b, c]
  · have k17' : 17 ≤ kd := by omega
    by_cases a : la <;> by_cases b : lb <;> simp [k17, k17', a, b]
theorem kb_is : cond (tst 2 kd 0) (1 : Int) (cond (tst 5 kd 23) (0 : Int) 1) = if kd < 0 ∨ 23 < kd then 1 else 0 := by
  rw [ct2, ct5]
  by_cases y1 : kd < 0
  · rw [if_pos y1, if_pos (Or.inl y1)]
  · rw [if_neg y1]
    by_cases y2 : 23 < kd
    · rw [if_pos y2, if_pos (Or.inr y2)]
    · rw [if_neg y2, if_neg (fun z => z.elim y1 y2)]
theorem cond_tt {b : Bool} {p q : Prop} (hp : p) (hq : q) : cond b p q := by cases b; exact hq; exact hp
theorem co_code {q : Nat} : cond (tst 0 (v764 q h x1) 0) (cond (tst 0 (cond (tst 2 x2 0) (1 : Int) (cond (tst 5 x2 (23 : Int)) (0 : Int) (1 : Int))) 0) (cond (tst 0 (cond (tst 1 (v764 q h x1) 0) (v764 q h x1) (cond (tst 1 (cond (tst 2 x2 0) (1 : Int) (cond (tst 5 x2 (23 : Int)) (0 : Int) (1 : Int))) 0) (v764 q h x1) (cond (tst 2 x2 (17 : Int)) (cond (tst 1 (v763 q h x1 x3) 0) (1 : Int) (cond (tst 2 x2 (2 : Int)) (cond (tst 2 x2 (11 : Int)) (0 : Int) (cond (tst 0 (v763 q h x1 x5) 0) (0 : Int) (1 : Int))) (cond (tst 1 (v763 q h x1 x4) 0) (1 : Int) (cond (tst 2 x2 (11 : Int)) (0 : Int) (cond (tst 0 (v763 q h x1 x5) 0) (0 : Int) (1 : Int)))))) (cond (tst 1 (v761 q h x1 x3) 0) (1 : Int) (cond (tst 0 (v761 q h x1 x4) 0) (0 : Int) (1 : Int)))))) 0) (cond (tst 1 (hv h (q + (8 + 14 * Int.toNat x1)) 5) (32 : Int)) (0 : Int) (3 : Int)) (1 : Int)) (2 : Int)) (1 : Int) = coE h q x1 x2 x3 x4 x5 := by
  rw [kb_is, v763_is, v763_is, v763_is, v761_is, v761_is, ag_gen, v764_is]
  unfold coE
  by_cases z : x1 < 0 ∨ hv h q 3 ≤ x1
  · rw [if_pos z, if_pos z, ct0, if_neg (by decide)]
  · rw [if_neg z, if_neg z, ct0, if_pos rfl]
    by_cases k : x2 < 0 ∨ 23 < x2
    · rw [if_pos k, if_pos k, ct0, if_neg (by decide)]
    · rw [if_neg k, if_neg k, ct0, if_pos rfl, ct0, ct1, if_pos rfl, ct1, if_pos rfl, ct1]
      by_cases a : agB h q x1 x2 x3 x4 x5
      · rw [if_pos a, if_pos a, if_neg (by decide)]
      · rw [if_neg a, if_neg a, if_pos rfl]
theorem co_gd1 {q : Nat} (n6 : hv h q 3 ≤ 6) (n24 : ¬ (x1 < 0 ∨ hv h q 3 ≤ x1) → hv h (q + (8 + 14 * Int.toNat x1)) 3 ≤ 24) : cond (tst 1 (v764 q h x1) 0) True (cond (tst 1 (cond (tst 2 x2 0) (1 : Int) (cond (tst 5 x2 (23 : Int)) (0 : Int) (1 : Int))) 0) True (cond (tst 2 x2 (17 : Int)) ((q763 q h x1 x3) ∧ (cond (tst 1 (v763 q h x1 x3) 0) True (cond (tst 2 x2 (2 : Int)) (cond (tst 2 x2 (11 : Int)) True (q763 q h x1 x5)) ((q763 q h x1 x4) ∧ (cond (tst 1 (v763 q h x1 x4) 0) True (cond (tst 2 x2 (11 : Int)) True (q763 q h x1 x5))))))) ((q761 q h x1 x3) ∧ (cond (tst 1 (v761 q h x1 x3) 0) True (q761 q h x1 x4))))) :=
  cond_tt True.intro (cond_tt True.intro (cond_tt ⟨q763_ok n6, cond_tt True.intro (cond_tt (cond_tt True.intro (q763_ok n6)) ⟨q763_ok n6, cond_tt True.intro (cond_tt True.intro (q763_ok n6))⟩)⟩ ⟨q761_ok n6 n24, cond_tt True.intro (q761_ok n6 n24)⟩))
theorem co_gd2 {q : Nat} {p r : Bool} (n6 : hv h q 3 ≤ 6) : cond (tst 0 (v764 q h x1) 0) (cond p (cond r (0 ≤ x1 ∧ x1 < ((6 : Nat) : Int)) True) True) True := by
  rw [v764_is, ct0]
  by_cases z : x1 < 0 ∨ hv h q 3 ≤ x1
  · rw [if_pos z, if_neg (by decide)]; exact True.intro
  · rw [if_neg z, if_pos rfl]
    exact cond_tt (cond_tt ⟨by omega, by omega⟩ True.intro) True.intro
theorem coE_0 {q : Nat} (z : coE h q x1 x2 x3 x4 x5 = 0) : ¬ (x1 < 0 ∨ hv h q 3 ≤ x1) ∧ hv h (q + (8 + 14 * Int.toNat x1)) 5 ≠ 32 := by
  unfold coE at z
  by_cases y0 : x1 < 0 ∨ hv h q 3 ≤ x1
  · rw [if_pos y0] at z; omega
  · rw [if_neg y0] at z
    refine ⟨y0, fun y => ?_⟩
    by_cases k : x2 < 0 ∨ 23 < x2
    · rw [if_pos k] at z; omega
    · rw [if_neg k] at z
      by_cases a : agB h q x1 x2 x3 x4 x5
      · rw [if_pos a] at z; omega
      · rw [if_neg a, if_pos y] at z; omega
theorem coE_p {q : Nat} : coE h q x1 x2 x3 x4 x5 = 0 ∨ 0 < coE h q x1 x2 x3 x4 x5 := by
  unfold coE
  split; omega; split; omega; split; omega; split <;> omega
/-- a constraint without a number -/
theorem c_constr0 (l : LX B n h) (hd : 30 ≤ d) (M : MRg B h Q al dn tt) (hdn : dn < 99) (hp : SkB h (Q dn)) (hk6 : ¬ (0 ≤ x2 ∧ x2 ≤ 5)) :
    Vt 0 (cll PP (ev PP (gsF gv) B) d 578 [(2, rf (B + 149)), (0, x1), (0, x2), (0, x3), (0, x4), (0, x5)] h) (fun x h' => AnM B h (coE h (Q dn) x1 x2 x3 x4 x5) x h' (x = hv h (Q dn + (8 + 14 * x1.toNat)) 5 ∧ ∃ h1, h1 = hset h (B + 149) 0 0 ∧ EdSk B h1 Q al dn x1.toNat h' (fun h3 w => h' = coH h3 w (hv h (Q dn + (8 + 14 * x1.toNat)) 5).toNat x2 x3 x4 x5 0))) := by
  have m4 := M.2.2.2.2.2.2.2.1 dn (by have := M.2.2.2.2.1; have := M.2.2.2.2.2.1; omega)
  have D := m4.2.1
  have T := m4.2.2.1
  have hq := M.2.2.2.1
  have n6 := T.2.2.2.2
  have lo := D.lo
  refine Vt.inq (D := 29) hd (Nat.le_of_ble_eq_true rfl) rfl (fun d hd R KR => ?_)
  obtain ⟨e, ee⟩ : ∃ e, e = coE h (Q dn) x1 x2 x3 x4 x5 := ⟨_, rfl⟩
  rw [← ee] at KR
  have ce := coE_p (h := h) (q := Q dn) (x1 := x1) (x2 := x2) (x3 := x3) (x4 := x4) (x5 := x5)
  rw [← ee] at ce
  have n24 : ¬ (x1 < 0 ∨ hv h (Q dn) 3 ≤ x1) → hv h (Q dn + (8 + 14 * Int.toNat x1)) 3 ≤ 24 := fun z => (hp x1.toNat (by omega)).2.1.2
  have x60 : cond (tst 2 x2 0) (0 : Int) (cond (tst 4 x2 5) (0 : Int) 1) = 0 := by
    rw [ct2, ct4]
    by_cases y1 : x2 < 0
    · rw [if_pos y1]
    · rw [if_neg y1, if_pos (by omega)]
  refine Ends.eq (b578_0 l (by omega)) ?_
  rw [x60]
  refine Ends.b0 (fun _ => ?_) (fun y => absurd rfl y)
  refine Ends.eq (b578_32 l (by omega)) (Ends.eq (b578_33 l (by omega) hq D) ?_)
  rw [co_code, ← ee]
  refine Ends.g (co_gd1 n6 n24) (Ends.g (co_gd2 n6) ?_)
  refine Ends.ct l (by decide +kernel) (by decide) (c_fails l (by omega) (x := e)) (fun y h2 l2 _ _ _ ⟨ey, e2⟩ => ?_)
  refine Ends.eq (b578_207 l2 (by omega)) ?_
  rcases ce with z | z
  · rw [z, if_neg (by decide)] at ey
    rw [ey]
    obtain ⟨ok, ok2⟩ := coE_0 (ee.symm.trans z)
    obtain ⟨s, es⟩ : ∃ s : Nat, x1 = (s : Int) := ⟨x1.toNat, by omega⟩
    subst es
    rw [tn] at ok2 KR
    have hs : s < 6 := by omega
    obtain ⟨-, -, -, p5⟩ := hp s (by omega)
    have e2' : h2 = hset h (B + 149) 0 0 := by rw [e2, z]
    obtain ⟨M2, g2⟩ := f0_edit l M h2 e2'
    obtain ⟨nk, enk⟩ : ∃ nk : Nat, hv h (Q dn + (8 + 14 * s)) 5 = (nk : Int) := ⟨(hv h (Q dn + (8 + 14 * s)) 5).toNat, by omega⟩
    rw [enk, tn] at KR
    refine Ends.b0 (fun _ => Ends.b0 (fun _ => ?_) (fun y => absurd rfl y)) (fun y => absurd rfl y)
    refine Ends.eq (b578_225 l2 (by omega)) (Ends.b0 (fun _ => ?_) (fun y => absurd rfl y))
    exact e_con244 l2 (by omega) lo M2 (by rw [e2']; exact hv_set_at ..) hdn hs (by rw [g2.at _ _ (by omega)]; omega) (by rw [g2.at _ _ (by omega)]; exact enk) (by omega) (Or.inl rfl) (fun h' _ E => KR _ _ (Or.inr ⟨z, rfl, h2, e2', E⟩))
  · rw [if_pos z] at ey
    rw [ey]
    exact Ends.b0 (fun y => absurd y (by decide)) (fun _ => Ends.sm (KR _ _ (Or.inl ⟨by omega, rfl, e2⟩)))
set_option maxHeartbeats 1000000 in
/-- a constraint with a number -/
theorem c_constrT (l : LX B n h) (hd : 660 ≤ d) (M : MRg B h Q al dn tt) (hdn : dn < 99) (hp : SkB h (Q dn)) (V : DV B h c (Q dn) nv nc) (W : DW c nv nc) (T : MTX gv B h) (h2 : hv h (B + 149) 2 = (m : Int)) (hm : m ≤ 8192) (hu : ∀ i, i < m → hv h (B + 150) i = u i) (hub : ∀ i, u i = b i % 256) (hb : ∀ i, i < m → -128 ≤ b i ∧ b i < 128) (hk6 : 0 ≤ x2 ∧ x2 ≤ 5) :
    Vt 0 (cll PP (ev PP (gsF gv) B) d 578 [(2, rf (B + 149)), (0, x1), (0, x2), (0, x3), (0, x4), (0, x5)] h) (fun x h' => TxRm B h m (txW c nv nc b u m) (coE h (Q dn) x1 x2 x3 x4 x5) x h' (fun h1 y => x = hv h (Q dn + (8 + 14 * x1.toNat)) 5 ∧ EdSk B h1 Q al dn x1.toNat h' (fun h3 w => h' = coH h3 w (hv h (Q dn + (8 + 14 * x1.toNat)) 5).toNat x2 x3 x4 x5 y))) := by
  have hb0 := l.2.2
  have hn := W.2.1
  have hnc := W.2.2.2.2.1
  have m4 := M.2.2.2.2.2.2.2.1 dn (by have := M.2.2.2.2.1; have := M.2.2.2.2.2.1; omega)
  have D := m4.2.1
  have T0 := m4.2.2.1
  have hx0 := m4.2.2.2
  have hq := M.2.2.2.1
  have n6 := T0.2.2.2.2
  have lo := D.lo
  have ur : ∀ i, i < m → 0 ≤ u i ∧ u i < 256 := fun i hi => by rw [hub]; omega
  have bu : ∀ i, i < m → u i < 128 → b i = u i := fun i hi h => by
    have := hb i hi
    rw [hub] at h ⊢; omega
  have st : ∀ (s : AH) (cc ss : Nat), Ext (mdW B) cc ss h s → MRg B s Q al dn tt ∧ DV B s c (Q dn) nv nc ∧ MTX gv B s ∧ ∀ a k, B + 246 ≤ a → a < Q dn + 140 → hv s a k = hv h a k := fun s cc ss e => ⟨M.ext l e (fun c k hc w => by unfold mdW at w; omega), V.md D hx0 e (fun c k hc w => by unfold mdW at w; omega) hn hnc, T.ext (by omega) e (fun a k ha w => by unfold mdW at w; omega), fun a k h1 h2 => e.at _ (by omega) (by unfold mdW; omega)⟩
  refine Vt.inq (D := 659) hd (Nat.le_of_ble_eq_true rfl) rfl (fun d hd R KR => ?_)
  obtain ⟨e, ee⟩ : ∃ e, e = coE h (Q dn) x1 x2 x3 x4 x5 := ⟨_, rfl⟩
  rw [← ee] at KR
  have ce := coE_p (h := h) (q := Q dn) (x1 := x1) (x2 := x2) (x3 := x3) (x4 := x4) (x5 := x5)
  rw [← ee] at ce
  have x61 : cond (tst 2 x2 0) (0 : Int) (cond (tst 4 x2 5) (0 : Int) 1) = 1 := by
    rw [ct2, ct4, if_neg (by omega), if_neg (by omega)]
  refine Ends.eq (b578_0 l (by omega)) ?_
  rw [x61]
  refine Ends.b0 (fun y => absurd y (by decide)) (fun _ => ?_)
  refine Ends.ct l (by decide +kernel) (by decide) (c_begin554 l (by omega) h2 hm hu ur) (fun y0 h1 l1 _ _ _ ⟨X1, S1, R1, z2, z13, res⟩ => ?_)
  obtain ⟨M1, V1, T1, rd1⟩ := st h1 0 0 X1
  have hq1 := M1.2.2.2.1
  have D1 := (M1.2.2.2.2.2.2.2.1 dn (by have := M.2.2.2.2.1; have := M.2.2.2.2.2.1; omega)).2.1
  have e3 : hv h1 (Q dn) 3 = hv h (Q dn) 3 := rd1 _ _ lo (by omega)
  have n61 : hv h1 (Q dn) 3 ≤ 6 := by rw [e3]; exact n6
  have in6 : ∀ j k, j ≤ 13 → ¬ (x1 < 0 ∨ hv h (Q dn) 3 ≤ x1) → hv h1 (Q dn + (8 + 14 * Int.toNat x1) + j) k = hv h (Q dn + (8 + 14 * Int.toNat x1) + j) k := fun j k hj z => rd1 _ _ (by omega) (by omega)
  have n24 : ¬ (x1 < 0 ∨ hv h1 (Q dn) 3 ≤ x1) → hv h1 (Q dn + (8 + 14 * Int.toNat x1)) 3 ≤ 24 := fun z => by
    rw [e3] at z
    rw [show hv h1 (Q dn + (8 + 14 * Int.toNat x1)) 3 = _ from in6 0 3 (by decide) z]
    exact (hp x1.toNat (by omega)).2.1.2
  have same : coE h1 (Q dn) x1 x2 x3 x4 x5 = e := by
    rw [ee]
    unfold coE
    by_cases z : x1 < 0 ∨ hv h (Q dn) 3 ≤ x1
    · rw [if_pos (show x1 < 0 ∨ hv h1 (Q dn) 3 ≤ x1 by omega), if_pos z]
    · rw [if_neg (show ¬ (x1 < 0 ∨ hv h1 (Q dn) 3 ≤ x1) by omega), if_neg z]
      have pe : ∀ p, ptB h1 (Q dn) x1 p = ptB h (Q dn) x1 p := fun p => by
        unfold ptB; rw [e3, show hv h1 (Q dn + (8 + 14 * Int.toNat x1)) 2 = _ from in6 0 2 (by decide) z]
        rfl
      have le : ∀ p, lnB h1 (Q dn) x1 p = lnB h (Q dn) x1 p := fun p => by
        unfold lnB; rw [e3, show hv h1 (Q dn + (8 + 14 * Int.toNat x1)) 3 = _ from in6 0 3 (by decide) z, in6 5 _ (by decide) z]
        rfl
      have ae : agB h1 (Q dn) x1 x2 x3 x4 x5 ↔ agB h (Q dn) x1 x2 x3 x4 x5 := by
        unfold agB
        rw [pe, pe, pe, le, le]
      rw [show hv h1 (Q dn + (8 + 14 * Int.toNat x1)) 5 = hv h (Q dn + (8 + 14 * Int.toNat x1)) 5 from in6 0 5 (by decide) z]
      by_cases a : agB h (Q dn) x1 x2 x3 x4 x5
      · rw [if_pos a, if_pos (ae.mpr a)]
      · rw [if_neg a, if_neg (fun y => a (ae.mp y))]
  have go : ∀ (x7 : Int), ((m ≤ 240 ∧ x7 = 1 ∧ hv h1 (B + 149) 11 = -1) ∨ (240 < m ∧ x7 = 0 ∧ hv h1 (B + 149) 11 = 240)) → ∀ (x8 x9 y : Int) (h2 : AH) (u10 u11 u12 : AV), LX B n h2 → y = (if 0 < e then 1 else 0) → h2 = hset h1 (B + 149) 0 e → Ends (ev PP (gsF gv) B d 578 207 [(2, rf (B + 149)), (0, x1), (0, x2), (0, x3), (0, x4), (0, x5), (0, 1), (0, x7), (0, x8), (0, x9), u10, u11, u12] [(0, y)] h2) R := fun x7 res x8 x9 y h2 u10 u11 u12 l2 ey e2 => by
    have X2 : Ext (mdW B) 0 0 h h2 := by rw [e2]; exact X1.set (fun _ => Or.inl ⟨rfl, by omega⟩)
    have f2 : hv h2 (B + 149) 2 = 0 := by rw [e2, hv_set_ne (by omega)]; exact z2
    have f13 : hv h2 (B + 149) 13 = -1 := by rw [e2, hv_set_ne (by omega)]; exact z13
    have f0 : hv h2 (B + 149) 0 = e := by rw [e2]; exact hv_set_at ..
    have f11 : hv h2 (B + 149) 11 = hv h1 (B + 149) 11 := by rw [e2, hv_set_ne (by omega)]
    have S2 : MgP B h2 m u := by rw [e2]; exact S1.ne (by decide)
    have R2 : MgT B h2 u m 0 := by rw [e2]; exact R1.ne (Or.inl (by decide))
    clear e2
    refine Ends.eq (b578_207 l2 (by omega)) ?_
    rcases ce with z | z
    · rw [z, if_neg (by decide)] at ey
      rw [ey]
      obtain ⟨ok, ok2⟩ := coE_0 (ee.symm.trans z)
      obtain ⟨s, es⟩ : ∃ s : Nat, x1 = (s : Int) := ⟨x1.toNat, by omega⟩
      subst es
      rw [tn] at ok2 KR
      have hs : s < 6 := by omega
      obtain ⟨-, -, -, p5⟩ := hp s (by omega)
      refine Ends.b0 (fun _ => ?_) (fun y => absurd rfl y)
      rcases res with ⟨m240, ey0, e11⟩ | ⟨m240, ey0, e11⟩
      rotate_left
      · rw [ey0]
        refine Ends.b0 (fun _ => ?_) (fun y => absurd rfl y)
        refine Ends.eq (b578_225 l2 (by omega)) (Ends.b0 (fun y => absurd y (by decide)) (fun _ => Ends.b0 (fun _ => Ends.sm (KR _ _ ⟨f2, Or.inr ⟨z, Or.inl ⟨240, ?_, ?_, by rw [f0, z], X2.ml' (by omega) (by omega)⟩⟩⟩)) (fun y => absurd rfl y)))
        · unfold txW; rw [if_neg (by omega)]
        · rw [f11, e11]; rfl
      rw [ey0]
      refine Ends.b0 (fun y => absurd y (by decide)) (fun _ => ?_)
      obtain ⟨M2, V2, T2, rd2⟩ := st h2 0 0 X2
      refine Ends.ct l2 (by decide +kernel) (by decide) (c_rdW l2 (by omega) M2 V2 W T2 S2 R2 (by rw [f11]; exact e11) f13 m240 bu) (fun y h3 l3 _ _ _ ⟨eB, res⟩ => ?_)
      have X3 : Ext (mdW B) (m + 1) (7 * (m + 1)) h h3 := (X2.tr eB (fun c k _ w => by unfold MW at w; unfold mdW; omega)).ml' (by omega) (by omega)
      obtain ⟨M3, V3, T3, rd3⟩ := st h3 _ _ X3
      have hn2 := l2.2.2
      have k2 : hv h3 (B + 149) 2 = 0 := by rw [eB.at _ (by omega) (by unfold MW; omega)]; exact f2
      have k0 : hv h3 (B + 149) 0 = 0 := by rw [eB.at _ (by omega) (by unfold MW; omega), f0, z]
      refine Ends.eq (b578_221 l3 (by omega)) (Ends.eq (b578_225 l3 (by omega)) (Ends.b0 (fun y => absurd y (by decide)) (fun _ => ?_)))
      rcases res with ⟨X, N, p, er, A, ypos, fr⟩ | ⟨f, er, ey3, e113⟩
      rotate_left
      · rw [ey3]
        exact Ends.b0 (fun _ => Ends.sm (KR _ _ ⟨k2, Or.inr ⟨z, Or.inl ⟨f, er, by rw [e113], k0, X3⟩⟩⟩)) (fun y => absurd rfl y)
      refine Ends.b0 (fun y => absurd y (by omega)) (fun _ => ?_)
      obtain ⟨nk, enk⟩ : ∃ nk : Nat, hv h (Q dn + (8 + 14 * s)) 5 = (nk : Int) := ⟨(hv h (Q dn + (8 + 14 * s)) 5).toNat, by omega⟩
      rw [enk, tn] at KR
      exact e_con244 l3 (by omega) lo M3 k0 hdn hs (by rw [rd3 _ _ lo (by omega)]; omega) (by rw [rd3 _ _ (by omega) (by omega)]; exact enk) (by omega) fr (fun h' k' E => KR _ _ ⟨by rw [k']; exact k2, Or.inr ⟨z, Or.inr ⟨X, N, p, h3, y, er, X3, A, ypos, rfl, E⟩⟩⟩)
    · rw [if_pos z] at ey
      rw [ey]
      exact Ends.b0 (fun y => absurd y (by decide)) (fun _ => Ends.sm (KR _ _ ⟨f2, Or.inl ⟨by omega, rfl, f0, X2⟩⟩))
  refine Ends.eq (b578_25 l1 (by omega) hq1 D1) ?_
  rw [co_code, same]
  refine Ends.g (co_gd1 n61 n24) (Ends.g (co_gd2 n61) ?_)
  refine Ends.ct l1 (by decide +kernel) (by decide) (c_fails l1 (by omega) (x := e)) (fun y h2 l2 _ _ _ ⟨ey, e2⟩ => ?_)
  refine go _ ?_ _ _ _ _ _ _ _ l2 ey e2
  rcases res with ⟨a, b, c⟩ | ⟨a, b, c⟩
  · exact Or.inl ⟨a, by rw [b]; rfl, c⟩
  · exact Or.inr ⟨a, by rw [b]; rfl, c⟩
end MED6
