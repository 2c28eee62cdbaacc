/-! L3: the model's edits of sketches: disc -/
noncomputable section MED5
variable {gv : Nat → Int} {B n d s w m nv nc : Nat} {h h2 : AH} {Q : Nat → Nat} {al dn tt : Nat} {x1 x2 x3 x4 : Int} {c b u : Nat → Int}
theorem c_begin554 (l : LX B n h) (hd : 16 ≤ d) (h2 : hv h (B + 149) 2 = (m : Int)) (hm : m ≤ 8192) (hu : ∀ i, i < m → hv h (B + 150) i = u i) (hr : ∀ i, i < m → 0 ≤ u i ∧ u i < 256) :
    Vt 0 (cll PP (ev PP (gsF gv) B) d 554 [(2, rf (B + 149))] h) (fun x h' => Ext (mdW B) 0 0 h h' ∧ MgP B h' m u ∧ MgT B h' u m 0 ∧ hv h' (B + 149) 2 = 0 ∧ hv h' (B + 149) 13 = -1 ∧ ((m ≤ 240 ∧ x = 1 ∧ hv h' (B + 149) 11 = -1) ∨ (240 < m ∧ x = 0 ∧ hv h' (B + 149) 11 = 240))) := by
  refine Vt.inq (D := 15) hd (Nat.le_of_ble_eq_true rfl) rfl (fun d hd R KR => ?_)
  refine Ends.eq (b554_0 l (by omega)) ?_
  rw [h2, ct4]
  generalize eh1 : hset (hset h (B + 149) 11 (-1)) (B + 149) 13 (-1) = h1
  have l1 : LX B n h1 := by rw [← eh1]; exact LX.setF 149 13 (LX.setF 149 11 l (by decide +kernel)) (by decide +kernel)
  have x1 : Ext (mdW B) 0 0 h h1 := by rw [← eh1]; exact ((Ext.rf (W := mdW B)).set (fun _ => Or.inl ⟨rfl, by omega⟩)).set (fun _ => Or.inl ⟨rfl, by omega⟩)
  have hn0 := l.2.2
  have v11 : hv h1 (B + 149) 11 = -1 := by rw [← eh1, hv_set_ne (by omega)]; exact hv_set_at ..
  have v13 : hv h1 (B + 149) 13 = -1 := by rw [← eh1]; exact hv_set_at ..
  have u1 : ∀ i, i < m → hv h1 (B + 150) i = u i := fun i hi => by rw [x1.at _ (by omega) (by unfold mdW; omega)]; exact hu i hi
  have t1 : hv h1 (B + 149) 2 = (m : Int) := by rw [← eh1, hv_set_ne (by omega), hv_set_ne (by omega)]; exact h2
  clear eh1
  refine Ends.cv l1 (by decide +kernel) (c_beginM l1 (by omega) t1 hm u1 hr) (fun h3 l3 _ _ _ ⟨g3, S3, R3, z3⟩ => ?_)
  have x3 : Ext (mdW B) 0 0 h h3 := x1.tr g3.ext (fun c k _ w => Or.inl ⟨w.1, by omega⟩)
  have w11 : hv h3 (B + 149) 11 = -1 := by rw [g3.at _ _ (by omega)]; exact v11
  have w13 : hv h3 (B + 149) 13 = -1 := by rw [g3.at _ _ (by omega)]; exact v13
  refine Ends.eq (b554_30 l3 (by omega)) ?_
  by_cases big : 240 < (m : Int)
  · rw [if_pos big]
    refine Ends.b1 (fun y => absurd rfl y) (fun _ => ?_)
    refine Ends.eq (b554_41 (LX.setF 149 11 l3 (by decide +kernel)) (by omega)) (Ends.g (Or.inl rfl) (Ends.sm (KR _ _ ⟨x3.set (fun _ => Or.inl ⟨rfl, by omega⟩), S3.ne (by decide), R3.ne (Or.inr (by decide)), ?_, ?_, Or.inr ⟨by omega, rfl, hv_set_at ..⟩⟩)))
    · rw [hv_set_ne (by omega)]; exact z3
    · rw [hv_set_ne (by omega)]; exact w13
  · rw [if_neg big]
    refine Ends.b1 (fun _ => ?_) (fun y => absurd y (by decide))
    exact Ends.eq (b554_41 l3 (by omega)) (Ends.g (Or.inr rfl) (Ends.sm (KR _ _ ⟨x3, S3, R3, z3, w13, Or.inl ⟨by omega, rfl, w11⟩⟩)))
/-- what a text of an edit comes to: where it fails, or its formula -/
def txW (c : Nat → Int) (nv nc : Nat) (b u : Nat → Int) (m : Nat) : PR := if m ≤ 240 then whR u m (rdF c nv nc (-1) 0 b u m 0) else .inl 240
theorem c_rdW (l : LX B n h) (hd : 640 ≤ d) (M : MRg B h Q al dn tt) (V : DV B h c (Q dn) nv nc) (W : DW c nv nc) (T : MTX gv B h) (S : MgP B h m u) (R : MgT B h u m 0) (h11 : hv h (B + 149) 11 = -1) (h13 : hv h (B + 149) 13 = -1) (hm : m ≤ 240) (bu : ∀ i, i < m → u i < 128 → b i = u i) :
    Vt 2 (cll PP (ev PP (gsF gv) B) d 796 [(2, rf (B + 149))] h) (fun x h' => Ext (MW B) (m + 1) (7 * (m + 1)) h h' ∧ ((∃ X N p, txW c nv nc b u m = .inr (X, N, p) ∧ AstI (B + 246) 240 h' x X N ∧ 0 < x ∧ FR0 h' x) ∨ (∃ e : Nat, txW c nv nc b u m = .inl e ∧ x = 0 ∧ hv h' (B + 149) 11 = (e : Int)))) := by
  have m4 := M.2.2.2.2.2.2.2.1 dn (by have := M.2.2.2.2.1; have := M.2.2.2.2.2.1; omega)
  have hb := l.2.2
  have ok := mok_of (gv := gv) (B := B) (n := n) (q := Q dn) (tof := 0) (tl := -1) (m := m) (u := u) (b := b) W bu (fun z => absurd z (by decide))
  have MC0 : MC gv B m u (-1) (DXR B c (Q dn) nv nc (-1) 0) h := ⟨S, T, h13, ⟨M.2.2.2.1, m4.2.1, m4.2.2.2, V, fun z => absurd z (by decide)⟩, hm⟩
  have hr : RdR u m (fdC c nv b u m) (bkI c nv nc (-1) 0) 0 0 0 0 accZ (rdF c nv nc (-1) 0 b u m 0) := ⟨_, (rdF_is (Nat.zero_le m)).1⟩
  obtain ⟨x, h', ec, eB, res⟩ := c_readWhole (d := d) ok l MC0 R h11 (Nat.zero_le m) hr (by omega)
  refine ⟨x, h', ec, eB, ?_⟩
  unfold txW
  rw [if_pos hm]
  rcases res with ⟨X, N, p, er, A, _, _⟩ | ⟨e, er, ey, e11⟩
  · exact Or.inl ⟨X, N, p, er, (A.lo (lo' := B + 246) (by omega)).up (g' := 240) (by omega), A.pos, A.fr0⟩
  · exact Or.inr ⟨e, er, ey, e11⟩
/-- the model's answer to an edit with a text -/
def TxRm (B : Nat) (h : AH) (m : Nat) (r : PR) (e x : Int) (h' : AH) (P : AH → Int → Prop) : Prop := hv h' (B + 149) 2 = 0 ∧ ((e ≠ 0 ∧ x = 0 ∧ hv h' (B + 149) 0 = e ∧ Ext (mdW B) 0 0 h h') ∨ (e = 0 ∧ ((∃ f : Nat, r = .inl f ∧ x = bop32 100 (-1) (f : Int) ∧ hv h' (B + 149) 0 = 0 ∧ Ext (mdW B) (m + 1) (7 * (m + 1)) h h') ∨ (∃ X N p h1 y, r = .inr (X, N, p) ∧ Ext (mdW B) (m + 1) (7 * (m + 1)) h h1 ∧ AstI (B + 246) 240 h1 y X N ∧ 0 < y ∧ P h1 y))))
def diE (ns np nd s p : Int) : Int := if (s < 0 ∨ ns ≤ s) ∨ p < 0 ∨ np ≤ p then 1 else if nd = 6 then 2 else 0
set_option maxHeartbeats 1000000 in
theorem c_disc594 (l : LX B n h) (hd : 660 ≤ d) (M : MRg B h Q al dn tt) (hdn : dn < 99) (hp : SkB h (Q dn)) (V : DV B h c (Q dn) nv nc) (W : DW c nv nc) (T : MTX gv B h) (h2 : hv h (B + 149) 2 = (m : Int)) (hm : m ≤ 8192) (hu : ∀ i, i < m → hv h (B + 150) i = u i) (hub : ∀ i, u i = b i % 256) (hb : ∀ i, i < m → -128 ≤ b i ∧ b i < 128) :
    Vt 0 (cll PP (ev PP (gsF gv) B) d 594 [(2, rf (B + 149)), (0, x1), (0, x2)] h) (fun x h' => TxRm B h m (txW c nv nc b u m) (diE (hv h (Q dn) 3) (hv h (Q dn + (8 + 14 * x1.toNat)) 2) (hv h (Q dn + (8 + 14 * x1.toNat)) 4) x1 x2) x h' (fun h1 y => x = hv h (Q dn + (8 + 14 * x1.toNat)) 4 ∧ EdSk B h1 Q al dn x1.toNat h' (fun h3 w => h' = hset (hset (hset h3 (w + 6) (hv h (Q dn + (8 + 14 * x1.toNat)) 4).toNat x2) (w + 7) (hv h (Q dn + (8 + 14 * x1.toNat)) 4).toNat y) w 4 (hv h (Q dn + (8 + 14 * x1.toNat)) 4 + 1)))) := by
  have hb0 := l.2.2
  have hn := W.2.1
  have hnc := W.2.2.2.2.1
  have m4 := M.2.2.2.2.2.2.2.1 dn (by have := M.2.2.2.2.1; have := M.2.2.2.2.2.1; omega)
  have D := m4.2.1
  have T0 := m4.2.2.1
  have hx0 := m4.2.2.2
  have hq := M.2.2.2.1
  have n6 := T0.2.2.2.2
  have lo := D.lo
  have ur : ∀ i, i < m → 0 ≤ u i ∧ u i < 256 := fun i hi => by rw [hub]; omega
  have bu : ∀ i, i < m → u i < 128 → b i = u i := fun i hi h => by
    have := hb i hi
    rw [hub] at h ⊢; omega
  have st : ∀ (s : AH) (cc ss : Nat), Ext (mdW B) cc ss h s → MRg B s Q al dn tt ∧ DV B s c (Q dn) nv nc ∧ MTX gv B s ∧ ∀ a k, B + 246 ≤ a → a < Q dn + 140 → hv s a k = hv h a k := fun s cc ss e => ⟨M.ext l e (fun c k hc w => by unfold mdW at w; omega), V.md D hx0 e (fun c k hc w => by unfold mdW at w; omega) hn hnc, T.ext (by omega) e (fun a k ha w => by unfold mdW at w; omega), fun a k h1 h2 => e.at _ (by omega) (by unfold mdW; omega)⟩
  refine Vt.inq (D := 659) hd (Nat.le_of_ble_eq_true rfl) rfl (fun d hd R KR => ?_)
  obtain ⟨e, ee⟩ : ∃ e, e = diE (hv h (Q dn) 3) (hv h (Q dn + (8 + 14 * x1.toNat)) 2) (hv h (Q dn + (8 + 14 * x1.toNat)) 4) x1 x2 := ⟨_, rfl⟩
  rw [← ee] at KR
  refine Ends.eq (b594_0 l (by omega)) ?_
  refine Ends.ct l (by decide +kernel) (by decide) (c_begin554 l (by omega) h2 hm hu ur) (fun y0 h1 l1 _ _ _ ⟨X1, S1, R1, z2, z13, res⟩ => ?_)
  obtain ⟨M1, V1, T1, rd1⟩ := st h1 0 0 X1
  have hq1 := M1.2.2.2.1
  have D1 := (M1.2.2.2.2.2.2.2.1 dn (by have := M.2.2.2.2.1; have := M.2.2.2.2.2.1; omega)).2.1
  have n61 : hv h1 (Q dn) 3 ≤ 6 := by rw [rd1 _ _ lo (by omega)]; exact n6
  have in6 : ¬ (x1 < 0 ∨ hv h (Q dn) 3 ≤ x1) → Q dn + (8 + 14 * x1.toNat) < Q dn + 140 := fun z => by omega
  have code : cond (tst 0 (v763 (Q dn) h1 x1 x2) 0) (cond (tst 1 (hv h1 (Q dn + (8 + 14 * Int.toNat x1)) 4) 6) (0 : Int) 2) 1 = e := by
    rw [ee, v763_is, ct0, ct1, rd1 (Q dn) 3 lo (by omega)]
    unfold diE
    by_cases z : x1 < 0 ∨ hv h (Q dn) 3 ≤ x1
    · rw [if_pos (Or.inl z), if_neg (by decide), if_pos (Or.inl z)]
    · rw [rd1 (Q dn + (8 + 14 * Int.toNat x1)) 2 (by omega) (in6 z), rd1 (Q dn + (8 + 14 * Int.toNat x1)) 4 (by omega) (in6 z)]
      by_cases z2 : (x1 < 0 ∨ hv h (Q dn) 3 ≤ x1) ∨ x2 < 0 ∨ hv h (Q dn + (8 + 14 * Int.toNat x1)) 2 ≤ x2
      · rw [if_pos z2, if_pos z2, if_neg (by decide)]
      · rw [if_neg z2, if_neg z2, if_pos rfl]
  have ce : e = 0 ∨ 0 < e := by rw [ee]; unfold diE; split; omega; split <;> omega
  have gd : cond (tst 0 (v763 (Q dn) h1 x1 x2) 0) (0 ≤ x1 ∧ x1 < ((6 : Nat) : Int)) True := by
    rw [v763_is, ct0]
    by_cases z2 : (x1 < 0 ∨ hv h1 (Q dn) 3 ≤ x1) ∨ x2 < 0 ∨ hv h1 (Q dn + (8 + 14 * Int.toNat x1)) 2 ≤ x2
    · rw [if_pos z2, if_neg (by decide)]; exact True.intro
    · rw [if_neg z2, if_pos rfl]; exact ⟨by omega, by omega⟩
  refine Ends.eq (b594_4 l1 (by omega) hq1 D1) ?_
  rw [code]
  refine Ends.g (q763_ok n61) (Ends.g gd ?_)
  clear code gd
  refine Ends.ct l1 (by decide +kernel) (by decide) (c_fails l1 (by omega) (x := e)) (fun y h2 l2 _ _ _ ⟨ey, e2⟩ => ?_)
  have X2 : Ext (mdW B) 0 0 h h2 := by rw [e2]; exact X1.set (fun _ => Or.inl ⟨rfl, by omega⟩)
  have f2 : hv h2 (B + 149) 2 = 0 := by rw [e2, hv_set_ne (by omega)]; exact z2
  have f13 : hv h2 (B + 149) 13 = -1 := by rw [e2, hv_set_ne (by omega)]; exact z13
  have f0 : hv h2 (B + 149) 0 = e := by rw [e2]; exact hv_set_at ..
  have f11 : hv h2 (B + 149) 11 = hv h1 (B + 149) 11 := by rw [e2, hv_set_ne (by omega)]
  have S2 : MgP B h2 m u := by rw [e2]; exact S1.ne (by decide)
  have R2 : MgT B h2 u m 0 := by rw [e2]; exact R1.ne (Or.inl (by decide))
  clear e2
  refine Ends.eq (b594_44 l2 (by omega)) ?_
  rcases ce with z | z
  · rw [z, if_neg (by decide)] at ey
    rw [ey]
    have ok : ¬ ((x1 < 0 ∨ hv h (Q dn) 3 ≤ x1) ∨ x2 < 0 ∨ hv h (Q dn + (8 + 14 * x1.toNat)) 2 ≤ x2) ∧ hv h (Q dn + (8 + 14 * x1.toNat)) 4 ≠ 6 := by
      rw [ee] at z
      unfold diE at z
      by_cases y0 : (x1 < 0 ∨ hv h (Q dn) 3 ≤ x1) ∨ x2 < 0 ∨ hv h (Q dn + (8 + 14 * x1.toNat)) 2 ≤ x2
      · rw [if_pos y0] at z; omega
      · rw [if_neg y0] at z
        refine ⟨y0, fun y1 => ?_⟩
        rw [if_pos y1] at z; omega
    obtain ⟨s, es⟩ : ∃ s : Nat, x1 = (s : Int) := ⟨x1.toNat, by omega⟩
    subst es
    rw [tn] at ok KR
    have hs : s < 6 := by omega
    obtain ⟨-, -, p4, -⟩ := hp s (by omega)
    refine Ends.b0 (fun _ => ?_) (fun y => absurd rfl y)
    rcases res with ⟨m240, ey0, e11⟩ | ⟨m240, ey0, e11⟩
    rotate_left
    · rw [ey0]
      refine Ends.b0 (fun _ => ?_) (fun y => absurd rfl y)
      refine Ends.eq (b594_61 l2 (by omega)) (Ends.b0 (fun _ => Ends.sm (KR _ _ ⟨f2, Or.inr ⟨z, Or.inl ⟨240, ?_, ?_, by rw [f0, z], X2.ml' (by omega) (by omega)⟩⟩⟩)) (fun y => absurd rfl y))
      · unfold txW; rw [if_neg (by omega)]
      · rw [f11, e11]; rfl
    rw [ey0]
    refine Ends.b0 (fun y => absurd y (by decide)) (fun _ => ?_)
    obtain ⟨M2, V2, T2, rd2⟩ := st h2 0 0 X2
    refine Ends.ct l2 (by decide +kernel) (by decide) (c_rdW l2 (by omega) M2 V2 W T2 S2 R2 (by rw [f11]; exact e11) f13 m240 bu) (fun y h3 l3 _ _ _ ⟨eB, res⟩ => ?_)
    have X3 : Ext (mdW B) (m + 1) (7 * (m + 1)) h h3 := (X2.tr eB (fun c k _ w => by unfold MW at w; unfold mdW; omega)).ml' (by omega) (by omega)
    obtain ⟨M3, V3, T3, rd3⟩ := st h3 _ _ X3
    have hn2 := l2.2.2
    have k2 : hv h3 (B + 149) 2 = 0 := by rw [eB.at _ (by omega) (by unfold MW; omega)]; exact f2
    have k0 : hv h3 (B + 149) 0 = 0 := by rw [eB.at _ (by omega) (by unfold MW; omega), f0, z]
    refine Ends.eq (b594_57 l3 (by omega)) (Ends.eq (b594_61 l3 (by omega)) ?_)
    rcases res with ⟨X, N, p, er, A, ypos, fr⟩ | ⟨f, er, ey3, e113⟩
    rotate_left
    · rw [ey3]
      refine Ends.b0 (fun _ => Ends.sm (KR _ _ ⟨k2, Or.inr ⟨z, Or.inl ⟨f, er, by rw [e113], k0, X3⟩⟩⟩)) (fun y => absurd rfl y)
    refine Ends.b0 (fun y => absurd y (by omega)) (fun _ => ?_)
    refine Ends.ct l3 (by decide +kernel) (by decide) (c_edB0 (h := h3) l3 (by omega) lo M3 Agr.rf k0 hdn hs (by rw [rd3 _ _ lo (by omega)]; omega)) (fun x h4 l4 _ _ _ ⟨w, ex, Sw, E, ts, eE, fin⟩ => ?_)
    rw [ex]
    have nd_ : hv h4 w 4 = hv h (Q dn + (8 + 14 * s)) 4 := by rw [E.1 4 (by decide)]; exact rd3 _ _ (by omega) (by omega)
    obtain ⟨nd, end_⟩ : ∃ nd : Nat, hv h (Q dn + (8 + 14 * s)) 4 = (nd : Int) := ⟨(hv h (Q dn + (8 + 14 * s)) 4).toNat, by omega⟩
    rw [end_] at nd_ ok KR p4
    have fr4 : FR0 h4 y := fr.ext eE
    refine Ends.eq (b594_80 l4 (by omega) Sw) ?_
    rw [nd_, tn, an0]
    refine Ends.g ⟨by omega, by omega⟩ (Ends.g ⟨⟨by omega, by omega⟩, fr4.ro⟩ ?_)
    have l5 : LX B n (hset (hset h4 (w + 6) nd x2) (w + 7) nd y) := (l4.setA (t := 0) (by rw [Sw.k6])).setA (t := 6) (by show (hk (hset h4 (w + 6) nd x2) (w + 7)).1 = 6 + 2; rw [show hk (hset h4 (w + 6) nd x2) (w + 7) = hk h4 (w + 7) from rfl, Sw.k7])
    have S5 : YS B w (hset (hset h4 (w + 6) nd x2) (w + 7) nd y) := Sw.agr (W := fun c k => c = w + 6 ∨ c = w + 7) ((Agr.rf.set (Or.inl rfl)).set (Or.inr rfl)) (fun k h6 z => by omega)
    have wl := Sw.lo
    refine Ends.eq (b594_107 l5 (by omega) S5) ?_
    rw [hv_set_ne (by omega), hv_set_ne (by omega), nd_, show bop32 96 (nd : Int) 1 = ((nd + 1 : Nat) : Int) from addNN (y := 1) (by omega)]
    have frA : FR0 (hset h4 (w + 6) nd x2) y := fr4.agr (W := fun c k => c = w + 6 ∧ k = nd) (Agr.rf.set ⟨rfl, rfl⟩)
    refine Ends.sm (KR _ _ ⟨?_, Or.inr ⟨z, Or.inr ⟨X, N, p, h3, y, er, X3, A, ypos, ?_, fin _ _ (((Agr.rf.set (Or.inr ⟨by omega, by omega⟩)).set (Or.inr ⟨by omega, by omega⟩)).set (Or.inl ⟨rfl, by decide⟩)) (((ts.st (Or.inl (by omega))).st (Or.inr (Or.inr ⟨Or.inl rfl, frA⟩))).st (Or.inl (by omega))) rfl⟩⟩⟩)
    · rw [hv_set_ne (by omega), hv_set_ne (by omega), hv_set_ne (by omega), eE.at _ (by have := l3.2.2; omega) (fun y => ?_)]
      · exact k2
      · unfold edW at y
        rcases y with ⟨-, a, -⟩ | ⟨a, -⟩ | a | ⟨a, b⟩
        · omega
        · omega
        · omega
        · have := (M3.2.2.2.2.2.2.2.1 (dn + 1) a).2.1.lo
          have := b.1
          omega
    · rw [show bop32 100 ((nd + 1 : Nat) : Int) 1 = ((nd + 1 - 1 : Nat) : Int) from subNN (y := 1) (by omega) (by omega)]
      congr 1
  · rw [if_pos z] at ey
    rw [ey]
    exact Ends.b0 (fun y => absurd y (by decide)) (fun _ => Ends.sm (KR _ _ ⟨f2, Or.inl ⟨by omega, rfl, f0, X2⟩⟩))
end MED5
