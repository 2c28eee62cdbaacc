/-! L3: the model's define -/
section MDEFINE
variable {gv : Nat → Int} {B n d m k : Nat} {h : AH} {c b u : Nat → Int} {nv nc : Nat} {Q : Nat → Nat} {al dn tt : Nat}
theorem MgT.ne {p j : Nat} {v : Int} (R : MgT B h u m p) (hj : j < 4 ∨ 10 < j) : MgT B (hset h (B + 149) j v) u m p := by
  obtain ⟨a1, a2, a3, a4, a5, a6⟩ := R
  refine ⟨by rw [hv_set_ne (by omega)]; exact a1, by rw [hv_set_ne (by omega)]; exact a2, by rw [hv_set_ne (by omega)]; exact a3, by rw [hv_set_ne (by omega)]; exact a4, by rw [hv_set_ne (by omega)]; exact a5, fun k2 => ?_⟩
  rw [hv_set_ne (by omega), hv_set_ne (by omega)]; exact a6 k2
theorem MgP.ne {j : Nat} {v : Int} (S : MgP B h m u) (hj : j ≠ 3) : MgP B (hset h (B + 149) j v) m u :=
  ⟨by rw [hv_set_ne (by omega)]; exact S.1, fun i hi => by rw [hv_set_ne (by omega)]; exact S.2.1 i hi, S.2.2⟩
theorem MgP.mg {t : AH} (S : MgP B h m u) (g : Agr (mgW B) h t) : MgP B t m u :=
  ⟨by rw [g.at _ _ (by unfold mgW; omega)]; exact S.1, fun i hi => by rw [g.at _ _ (by unfold mgW; omega)]; exact S.2.1 i hi, S.2.2⟩
theorem AstI.fr0 {lo g : Nat} {x : Int} {D : Dn} {N : Nat → Bool} (A : AstI lo g h x D N) : FR0 h x := by
  cases g with
  | zero => unfold AstI at A; exact A.elim
  | succ g =>
    unfold AstI at A
    obtain ⟨a, rfl, _, ha, ka, _⟩ := A
    exact Or.inr ⟨rf_pos a, by rw [ad_rf]; exact ka, by rw [ad_rf]; exact ha⟩
theorem TD.told {q j0 : Nat} {x : Int} {t : AH} (T : TD h q) (g : Agr (tdW q) h t) (a3 : ∀ j, hv t (q + 3) j = if j = j0 then x else hv h (q + 3) j) (F : FR0 t x) : TD t q := by
  obtain ⟨T1, T2, T3, T4, T5⟩ := T
  have out : ∀ j k, 8 ≤ j → hv t (q + j) k = hv h (q + j) k := fun j k hj => g.at _ _ (by unfold tdW; omega)
  refine ⟨fun j hj => ?_, fun s hs => (T2 s hs).keep g (fun j k h1 h2 w => by unfold tdW at w; omega), fun f hf => ⟨by rw [out _ _ (by omega)]; exact (T3 f hf).1, by rw [out _ _ (by omega)]; exact (T3 f hf).2.1, fun k hk => by rw [Nat.add_assoc q, out _ _ (by omega), ← Nat.add_assoc q]; exact ((T3 f hf).2.2 k hk).agr g⟩, by rw [g.at _ _ (by unfold tdW; omega)]; exact T4, by rw [g.at _ _ (by unfold tdW; omega)]; exact T5⟩
  rw [a3]
  split
  · exact F
  · exact (T1 j hj).agr g
theorem whR_inr {r : PR} {X : Dn} {N : Nat → Bool} {P : Nat} (h : whR u m r = .inr (X, N, P)) : r = .inr (X, N, P) ∧ tkK u m P = 0 := by
  rcases r with e | ⟨D, N', P'⟩
  · exact absurd h (fun z => by cases z)
  · have h : (if tkK u m P' = 0 then (Sum.inr (D, N', P') : PR) else .inl (tkF u m P')) = .inr (X, N, P) := h
    split at h
    · next k =>
      have e := Sum.inr.inj h
      obtain ⟨e1, e2⟩ := Prod.mk.inj e
      obtain ⟨e3, e4⟩ := Prod.mk.inj e2
      exact ⟨by rw [e1, e3, e4], by rw [← e4]; exact k⟩
    · exact absurd h (fun z => by cases z)
def MdR (B : Nat) (h : AH) (Q : Nat → Nat) (al dn : Nat) (c : Nat → Int) (nv nc k : Nat) (b u : Nat → Int) (m : Nat) (x : Int) (h' : AH) : Prop :=
  hv h' (B + 149) 2 = 0 ∧ ((∃ e : Nat, dfS c nv nc k b u m = .inl e ∧ x = bop32 100 (-1) (e : Int) ∧ hv h' (B + 149) 0 = 0 ∧ Ext (mdW B) (m + 1) (7 * (m + 1)) h h') ∨
  ∃ X N P, dfS c nv nc k b u m = .inr (X, N, P) ∧ ((fdC c nv b u m 0 < 0 ∧ nv = 40 ∧ x = 0 ∧ hv h' (B + 149) 0 = 2 ∧ Ext (mdW B) (m + 1) (7 * (m + 1)) h h') ∨
   (¬ (fdC c nv b u m 0 < 0 ∧ nv = 40) ∧ x = (toV c nv b u m : Nat) ∧ hv h' (B + 149) 0 = 0 ∧ ∃ h1 h2 Q' al', Ext (mdW B) (m + 1) (7 * (m + 1)) h h1 ∧ Ext (edW B Q al dn) 140 2977 h1 h2 ∧ (∀ i, i < al → Q' i = Q i) ∧ al ≤ al' ∧ (dn + 1 < al → al' = al) ∧ (al ≤ dn + 1 → Q' (dn + 1) = hnx h1) ∧ DsEq h1 (Q dn) h2 (Q' (dn + 1)) ∧ Agr (tdW (Q' (dn + 1))) h2 h' ∧ MRg B h' Q' al' (dn + 1) (dn + 1) ∧ (∀ k, k < 40 → hv h2 (B + 154) k = 0) ∧ DV B h' (dfC c nv k b u m) (Q' (dn + 1)) (toN c nv b u m) nc)))
set_option maxHeartbeats 4000000 in
theorem c_define591 (l : LX B n h) (hd : 660 ≤ d) (M : MRg B h Q al dn tt) (V : DV B h c (Q dn) nv nc) (W : DW c nv nc) (T : MTX gv B h) (I : NmI c nv) (h2 : hv h (B + 149) 2 = (m : Int)) (hm : m ≤ 240) (hu : ∀ i, i < m → hv h (B + 150) i = u i) (hub : ∀ i, u i = b i % 256) (hb : ∀ i, i < m → -128 ≤ b i ∧ b i < 128) (hkc : k < nc) (hdn : dn < 99) :
    Vt 0 (cll PP (ev PP (gsF gv) B) d 591 [(2, rf (B + 149)), (0, (k : Int))] h) (MdR B h Q al dn c nv nc k b u m) := by
  have hb0 := l.2.2
  have hn := W.2.1
  have hnc := W.2.2.2.2.1
  have m4 := M.2.2.2.2.2.2.2.1 dn (by have := M.2.2.2.2.1; have := M.2.2.2.2.2.1; omega)
  have D0 := m4.2.1
  have hx0 := m4.2.2.2
  have hq0 := M.2.2.2.1
  have lo := D0.lo
  have ur : ∀ i, i < m → 0 ≤ u i ∧ u i < 256 := fun i hi => by rw [hub]; omega
  have bu : ∀ i, i < m → u i < 128 → b i = u i := fun i hi h => by
    have := hb i hi
    rw [hub] at h ⊢; omega
  have st : ∀ (s : AH) (cc ss : Nat), Ext (mdW B) cc ss h s → hv s (B + 149) 19 = rf (Q dn) ∧ YD B (Q dn) s ∧ Q dn + 140 ≤ hnx s ∧ DV B s c (Q dn) nv nc ∧ MTX gv B s := fun s cc ss e => ⟨by rw [e.at _ (by omega) (by unfold mdW; omega)]; exact hq0, D0.ext hx0 e (fun c k h1 h2 w => by unfold mdW at w; omega), Nat.le_trans hx0 e.2.2.1, V.md D0 hx0 e (fun c k hc w => by unfold mdW at w; omega) hn hnc, T.ext (by omega) e (fun a k ha w => by unfold mdW at w; omega)⟩
  refine Vt.into (D := 659) hd (Nat.le_of_ble_eq_true rfl) rfl (fun d hd => ?_)
  have hq := hq0
  have D := D0
  refine Ends.eq (b591_0 (n := n) (by (repeat' first | assumption | refine LX.setF _ _ ?_ (by decide +kernel) | refine LX.setS ?_ rfl | refine LX.setA ?_ (by first | assumption | omega))) (by first | assumption | omega) (by first | assumption | omega) (by first | assumption | omega)) ?_
  rw [V.1.2.1, h2, tst2, tst2, tst4, decide_eq_false (show ¬ ((k : Int) < 0) by omega), decide_eq_true (show (k : Int) < (nc : Int) by omega), decide_eq_false (show ¬ ((240 : Int) < (m : Int)) by omega)]
  simp only [cond_true, cond_false]
  generalize eh1 : hset (hset h (B + 149) 11 (-1)) (B + 149) 13 (-1) = h1
  have l1 : LX B n h1 := by rw [← eh1]; exact LX.setF 149 13 (LX.setF 149 11 l (by decide +kernel)) (by decide +kernel)
  have x1 : Ext (mdW B) 0 0 h h1 := by rw [← eh1]; exact ((Ext.rf (W := mdW B)).set (fun _ => Or.inl ⟨rfl, by omega⟩)).set (fun _ => Or.inl ⟨rfl, by omega⟩)
  have v11 : hv h1 (B + 149) 11 = -1 := by rw [← eh1, hv_set_ne (by omega)]; exact hv_set_at ..
  have u1 : ∀ i, i < m → hv h1 (B + 150) i = u i := fun i hi => by rw [x1.at _ (by omega) (by unfold mdW; omega)]; exact hu i hi
  have t1 : hv h1 (B + 149) 2 = (m : Int) := by rw [← eh1, hv_set_ne (by omega), hv_set_ne (by omega)]; exact h2
  clear eh1
  refine Ends.cv l1 (by decide +kernel) (c_beginM l1 (by omega) t1 (by omega) u1 ur) (fun h3 l3 _ _ _ ⟨g3, S3, R3, z3⟩ => ?_)
  have x3 : Ext (mdW B) 0 0 h h3 := x1.tr g3.ext (fun c k _ w => Or.inl ⟨w.1, by omega⟩)
  have w11 : hv h3 (B + 149) 11 = -1 := by rw [g3.at _ _ (by omega)]; exact v11
  refine Ends.eq (b591_51 (n := n) (by (repeat' first | assumption | refine LX.setF _ _ ?_ (by decide +kernel) | refine LX.setS ?_ rfl | refine LX.setA ?_ (by first | assumption | omega))) (by first | assumption | omega)) ?_
  rw [tst0, decide_eq_true (show (0 : Int) = 0 from rfl)]
  simp only [cond_true]
  refine Ends.ct l3 (by decide +kernel) (by decide) (c_fails l3 (by omega) (x := 0)) (fun y h4 l4 _ _ _ ⟨ey, eh4⟩ => ?_)
  rw [if_neg (by decide)] at ey
  have S4 : MgP B h4 m u := by rw [eh4]; exact S3.ne (by decide)
  have R4 : MgT B h4 u m 0 := by rw [eh4]; exact R3.ne (Or.inl (by decide))
  have x4 : Ext (mdW B) 0 0 h h4 := by rw [eh4]; exact x3.set (fun _ => Or.inl ⟨rfl, by omega⟩)
  have y11 : hv h4 (B + 149) 11 = -1 := by rw [eh4, hv_set_ne (by omega)]; exact w11
  have y2 : hv h4 (B + 149) 2 = 0 := by rw [eh4, hv_set_ne (by omega)]; exact z3
  have y0 : hv h4 (B + 149) 0 = 0 := by rw [eh4]; exact hv_set_at ..
  clear eh4
  obtain ⟨hq4, D4, hx4, V4, T4⟩ := st h4 0 0 x4
  have hn4 := l4.2.2
  rw [ey]
  obtain ⟨p1, p2, p3⟩ := tk_le (u := u) (m := m) (Nat.zero_le m)
  refine Ends.eq (b591_64 (n := n) (by (repeat' first | assumption | refine LX.setF _ _ ?_ (by decide +kernel) | refine LX.setS ?_ rfl | refine LX.setA ?_ (by first | assumption | omega))) (by first | assumption | omega)) ?_
  refine Ends.b0 (fun _ => Ends.b1 (fun _ => ?_) (fun z => absurd z (by decide))) (fun z => absurd rfl z)
  rw [R4.2.2.1]
  have fin : ∀ (s : AH) (p : Nat), Ext (mdW B) 0 0 h s → hv s (B + 149) 5 = (tkF u m p : Int) → hv s (B + 149) 0 = 0 → hv s (B + 149) 2 = 0 → p ≤ m → dfS c nv nc k b u m = .inl (tkF u m p) → MdR B h Q al dn c nv nc k b u m (bop32 100 (-1) (hv s (B + 149) 5)) s := fun s p e e5 e0 e2 hp hds => by
    refine ⟨e2, Or.inl ⟨tkF u m p, hds, ?_, e0, e.ml' (by omega) (by omega)⟩⟩
    rw [e5]
  have e92 : dfS c nv nc k b u m = .inl (tkF u m 0) → ∀ u4 u5 u6 u7 u8 : AV, Ends (ev PP (gsF gv) B d 591 92 [(2, rf (B + 149)), (0, (k : Int)), (0, 0), (0, 1), u4, u5, u6, u7, u8] [] h4) (fun r => ∃ x h', r = ((0, (0, x)), h') ∧ MdR B h Q al dn c nv nc k b u m x h') := fun hds u4 u5 u6 u7 u8 => by
    refine Ends.eq (b591_92 (n := n) (by (repeat' first | assumption | refine LX.setF _ _ ?_ (by decide +kernel) | refine LX.setS ?_ rfl | refine LX.setA ?_ (by first | assumption | omega))) (by first | assumption | omega)) ?_
    exact Ends.sm ⟨_, _, rfl, fin h4 0 x4 R4.2.1 y0 y2 (Nat.zero_le m) hds⟩
  by_cases k1 : tkK u m 0 = 1
  rotate_left
  · refine Ends.b1 (fun _ => e92 (itP_f (fun z => k1 z.1)) _ _ _ _ _) (fun z => ?_)
    exfalso
    unfold mkd at z
    split at z
    · omega
    · omega
  have mk1 : mkd u m 0 = 1 := by unfold mkd; rw [if_neg (by omega), k1]; rfl
  rw [mk1]
  refine Ends.b1 (fun z => absurd rfl z) (fun _ => ?_)
  refine Ends.ct l4 (by decide +kernel) (by decide) (c_isTaken l4 (by omega) S4 T4.1 R4 (Nat.zero_le m) k1) (fun y5 h5 l5 _ _ _ ⟨e5, w5⟩ => ?_)
  subst e5
  refine Ends.eq (b591_89 (n := n) (by (repeat' first | assumption | refine LX.setF _ _ ?_ (by decide +kernel) | refine LX.setS ?_ rfl | refine LX.setA ?_ (by first | assumption | omega))) (by first | assumption | omega)) ?_
  rcases w5 with ⟨w5, rfl⟩ | ⟨w5, rfl⟩
  · exact Ends.b0 (fun z => absurd z (by decide)) (fun _ => e92 (itP_f (fun z => z.2 w5)) _ _ _ _ _)
  refine Ends.b0 (fun _ => ?_) (fun z => absurd rfl z)
  have ln := (wd_ch k1).2.2.1
  have lp := wd_pos k1
  have hft : tkF u m 0 + (tkT u m 0 - tkF u m 0) ≤ 8192 := by omega
  have h1t : 1 ≤ tkT u m 0 - tkF u m 0 := by omega
  have hk4 : k < 4 := by omega
  have wi : ∀ w i t, w < nv → i < 12 → ¬ (12 * nv ≤ 12 * w + i ∧ 12 * w + i < 12 * nv + t) := fun w i t h1 h2 h3 => by omega
  rw [R4.2.2.2.1, R4.2.2.2.2.1]
  refine Ends.ct l5 (by decide +kernel) (by decide) (c_valueNamed (b := b) l5 (by omega) hq4 D4 V4 hn S4 R4 k1 bu) (fun x h6 l6 _ _ _ ⟨e6, ex⟩ => ?_)
  subst e6
  have fdr : -1 ≤ x ∧ x < (nv : Int) := by
    rw [ex]
    unfold fdC
    rcases fdN_r (nmP c b (tkF u m 0) (tkT u m 0 - tkF u m 0)) nv 0 with e | ⟨e1, e2⟩
    · rw [e]; omega
    · omega
  refine Ends.eq (b591_115 (n := n) (by (repeat' first | assumption | refine LX.setF _ _ ?_ (by decide +kernel) | refine LX.setS ?_ rfl | refine LX.setA ?_ (by first | assumption | omega))) (by first | assumption | omega)) ?_
  by_cases hbad : x < 0 ∧ 0 < k
  · refine Ends.b3 (fun z => by omega) (fun _ => Ends.b5 (fun z => by omega) (fun _ => ?_))
    exact Ends.sm ⟨_, _, rfl, fin h6 0 x4 R4.2.1 y0 y2 (Nat.zero_le m) ((itP_t ⟨k1, w5⟩).trans (itP_t (by rw [← ex]; exact hbad)))⟩
  have go : ∀ u7 u8 : AV, Ends (ev PP (gsF gv) B d 591 133 [(2, rf (B + 149)), (0, (k : Int)), (0, 0), (0, 1), (0, ((tkF u m 0 : Nat) : Int)), (0, ((tkT u m 0 - tkF u m 0 : Nat) : Int)), (0, x), u7, u8] [] h6) (fun r => ∃ x h', r = ((0, (0, x)), h') ∧ MdR B h Q al dn c nv nc k b u m x h') := by
    intro u7 u8
    refine Ends.eq (b591_133 (n := n) (by (repeat' first | assumption | refine LX.setF _ _ ?_ (by decide +kernel) | refine LX.setS ?_ rfl | refine LX.setA ?_ (by first | assumption | omega))) (by first | assumption | omega)) ?_
    refine Ends.cv l6 (by decide +kernel) (c_nextM l6 (by omega) S4 R4.1 p2) (fun h7 l7 _ _ _ ⟨g7, R7⟩ => ?_)
    have x7 : Ext (mdW B) 0 0 h h7 := x4.tr g7.ext (fun c k _ w => by unfold mgW at w; unfold mdW; omega)
    have S7 := S4.mg g7
    obtain ⟨hq7, D7, hx7, V7, T7⟩ := st h7 0 0 x7
    have f7 : ∀ j, (j < 4 ∨ 10 < j) → hv h7 (B + 149) j = hv h6 (B + 149) j := fun j hj => g7.at _ _ (by unfold mgW; omega)
    refine Ends.eq (b591_137 (n := n) (by (repeat' first | assumption | refine LX.setF _ _ ?_ (by decide +kernel) | refine LX.setS ?_ rfl | refine LX.setA ?_ (by first | assumption | omega))) (by first | assumption | omega)) ?_
    refine Ends.ct l7 (by decide +kernel) (by decide) (c_is1 l7 (by omega) S7 T7 R7 p2 1 61 (by decide) (by decide) (by decide)) (fun y8 h8 l8 _ _ _ ⟨e8, w8⟩ => ?_)
    subst e8
    refine Ends.eq (b591_144 (n := n) (by (repeat' first | assumption | refine LX.setF _ _ ?_ (by decide +kernel) | refine LX.setS ?_ rfl | refine LX.setA ?_ (by first | assumption | omega))) (by first | assumption | omega)) ?_
    have hhead : ∀ r, (if isSg u m (tkT u m 0) 61 = true then whR u m (rdF c nv nc (fdC c nv b u m 0) k b u m (tkT u m (tkT u m 0))) else .inl (tkF u m (tkT u m 0))) = r → dfS c nv nc k b u m = r := fun r hr => (itP_t ⟨k1, w5⟩).trans ((itP_f (by rw [← ex]; exact hbad)).trans hr)
    rcases w8 with ⟨w8, rfl⟩ | ⟨w8, rfl⟩
    rotate_left
    · refine Ends.b1 (fun z => absurd rfl z) (fun _ => ?_)
      exact Ends.sm ⟨_, _, rfl, fin h8 (tkT u m 0) x7 R7.2.1 (by rw [f7 0 (by omega)]; exact y0) (by rw [f7 2 (by omega)]; exact y2) p2 (hhead _ (if_neg w8))⟩
    refine Ends.b1 (fun _ => ?_) (fun z => absurd z (by decide))
    obtain ⟨q1, q2, q3⟩ := tk_le (u := u) (m := m) p2
    refine Ends.cv l8 (by decide +kernel) (c_nextM l8 (by omega) S7 R7.1 q2) (fun h9 l9 _ _ _ ⟨g9, R9⟩ => ?_)
    have x9 : Ext (mdW B) 0 0 h h9 := x7.tr g9.ext (fun c k _ w => by unfold mgW at w; unfold mdW; omega)
    have S9 := S7.mg g9
    have f9 : ∀ j, (j < 4 ∨ 10 < j) → hv h9 (B + 149) j = hv h6 (B + 149) j := fun j hj => by rw [g9.at _ _ (by unfold mgW; omega)]; exact f7 j hj
    refine Ends.eq (b591_158 (n := n) (by (repeat' first | assumption | refine LX.setF _ _ ?_ (by decide +kernel) | refine LX.setS ?_ rfl | refine LX.setA ?_ (by first | assumption | omega))) (by first | assumption | omega)) ?_
    generalize eh : hset (hset h9 (B + 149) 13 x) (B + 149) 14 (k : Int) = hA
    have lA : LX B n hA := by rw [← eh]; exact LX.setF 149 14 (LX.setF 149 13 l9 (by decide +kernel)) (by decide +kernel)
    have xA : Ext (mdW B) 0 0 h hA := by rw [← eh]; exact (x9.set (fun _ => Or.inl ⟨rfl, by omega⟩)).set (fun _ => Or.inl ⟨rfl, by omega⟩)
    have SA : MgP B hA m u := by rw [← eh]; exact (S9.ne (by decide)).ne (by decide)
    have RA : MgT B hA u m (tkT u m (tkT u m 0)) := by rw [← eh]; exact (R9.ne (Or.inr (by decide))).ne (Or.inr (by decide))
    have a13 : hv hA (B + 149) 13 = x := by rw [← eh, hv_set_ne (by omega)]; exact hv_set_at ..
    have a14 : hv hA (B + 149) 14 = (k : Int) := by rw [← eh]; exact hv_set_at ..
    have fA : ∀ j, (j < 4 ∨ j = 11) → hv hA (B + 149) j = hv h6 (B + 149) j := fun j hj => by rw [← eh, hv_set_ne (by omega), hv_set_ne (by omega)]; exact f9 j (by omega)
    clear eh
    obtain ⟨hqA, DA, hxA, VA, TA'⟩ := st hA 0 0 xA
    have ok := mok_of (gv := gv) (B := B) (n := n) (q := Q dn) (tof := k) (tl := x) (m := m) (u := u) (b := b) W bu (fun z => ⟨by omega, hkc⟩)
    have MCA : MC gv B m u x (DXR B c (Q dn) nv nc x k) hA := ⟨SA, TA', a13, ⟨hqA, DA, hxA, VA, fun _ => a14⟩, hm⟩
    have hr : RdR u m (fdC c nv b u m) (bkI c nv nc x k) 0 0 0 (tkT u m (tkT u m 0)) accZ (rdF c nv nc x k b u m (tkT u m (tkT u m 0))) := ⟨_, (rdF_is q2).1⟩
    refine Ends.ct lA (by decide +kernel) (by decide) (c_readWhole ok lA MCA RA (by rw [fA 11 (by omega)]; exact y11) q2 hr (by omega)) (fun y hB lB _ _ _ ⟨eB, res⟩ => ?_)
    have xB : Ext (mdW B) (m + 1) (7 * (m + 1)) h hB := (xA.tr eB (fun c k _ w => by unfold MW at w; unfold mdW; omega)).ml' (by omega) (by omega)
    obtain ⟨hqB, DB, hxB, VB, TB⟩ := st hB _ _ xB
    have hnA := lA.2.2
    have fB : ∀ j, j < 4 → hv hB (B + 149) j = hv h6 (B + 149) j := fun j hj => by rw [eB.at _ (by omega) (by unfold MW; omega)]; exact fA j (by omega)
    have hq := hqB
    have D := DB
    refine Ends.eq (b591_173 (n := n) (by (repeat' first | assumption | refine LX.setF _ _ ?_ (by decide +kernel) | refine LX.setS ?_ rfl | refine LX.setA ?_ (by first | assumption | omega))) (by first | assumption | omega) (by first | assumption | omega) (by first | assumption | omega)) ?_
    rcases res with ⟨X, N, P, er, A, hP, _⟩ | ⟨e, er, ey0, e11⟩
    rotate_left
    · rw [ey0, e11]
      refine Ends.b0 (fun _ => Ends.sm ⟨_, _, rfl, ?_, Or.inl ⟨e, hhead _ ((if_pos w8).trans (by rw [← ex]; exact er)), rfl, ?_, xB⟩⟩) (fun z => absurd rfl z)
      · rw [fB 2 (by omega)]; exact y2
      · rw [fB 0 (by omega)]; exact y0
    have hds : dfS c nv nc k b u m = .inr (X, N, P) := hhead _ ((if_pos w8).trans (by rw [← ex]; exact er))
    have ypos := A.pos
    refine Ends.b0 (fun z => by omega) (fun _ => ?_)
    obtain ⟨er1, er2⟩ := whR_inr er
    rw [tst3, tst1, VB.1.1]
    by_cases hfull : x < 0 ∧ nv = 40
    · rw [decide_eq_true hfull.1, decide_eq_true (show (nv : Int) = 40 by omega)]
      simp only [Bool.not_true, cond_false]
      refine Ends.ct lB (by decide +kernel) (by decide) (c_fails lB (by omega) (x := 2)) (fun z hC lC _ _ _ ⟨ez, ehC⟩ => ?_)
      rw [if_pos (by decide)] at ez
      subst ez ehC
      refine Ends.eq (b591_213 (n := n) (by (repeat' first | assumption | refine LX.setF _ _ ?_ (by decide +kernel) | refine LX.setS ?_ rfl | refine LX.setA ?_ (by first | assumption | omega))) (by first | assumption | omega)) ?_
      refine Ends.b0 (fun z => absurd z (by decide)) (fun _ => Ends.sm ⟨_, _, rfl, ?_, Or.inr ⟨X, N, P, hds, Or.inl ⟨by rw [← ex]; exact hfull.1, hfull.2, rfl, hv_set_at .., xB.set (fun _ => Or.inl ⟨rfl, by omega⟩)⟩⟩⟩)
      rw [hv_set_ne (by omega), fB 2 (by omega)]; exact y2
    have code : (cond (!decide (x < 0)) (0 : Int) (cond (!decide ((nv : Int) = 40)) 0 2)) = 0 := by
      by_cases z : x < 0
      · rw [decide_eq_true z, decide_eq_false (show ¬ (nv : Int) = 40 by omega)]; rfl
      · rw [decide_eq_false z]; rfl
    rw [code]
    clear code
    refine Ends.ct lB (by decide +kernel) (by decide) (c_fails lB (by omega) (x := 0)) (fun z hC lC _ _ _ ⟨ez, ehC⟩ => ?_)
    rw [if_neg (by decide)] at ez
    have gC : Agr (fun c k => c = B + 149 ∧ k = 0) hB hC := by rw [ehC]; exact Agr.rf.set ⟨rfl, rfl⟩
    have c0 : hv hC (B + 149) 0 = 0 := by rw [ehC]; exact hv_set_at ..
    have xC : Ext (mdW B) (m + 1) (7 * (m + 1)) h hC := by rw [ehC]; exact xB.set (fun _ => Or.inl ⟨rfl, by omega⟩)
    have c2 : hv hC (B + 149) 2 = 0 := by rw [gC.at _ _ (by omega), fB 2 (by omega)]; exact y2
    clear ehC
    rw [ez]
    obtain ⟨hqC, DC, hxC, VC, TC⟩ := st hC _ _ xC
    have MC' := M.ext l xC (fun c k hc w => by unfold mdW at w; omega)
    have AC : AstI (B + 246) 240 hC y X N := (((A.lo (lo' := B + 246) (by omega)).up (g' := 240) (by omega)).e24 gC.ext (fun a k la _ w => by omega))
    refine Ends.eq (b591_213 (n := n) (by (repeat' first | assumption | refine LX.setF _ _ ?_ (by decide +kernel) | refine LX.setS ?_ rfl | refine LX.setA ?_ (by first | assumption | omega))) (by first | assumption | omega)) ?_
    refine Ends.b0 (fun _ => ?_) (fun z => absurd rfl z)
    refine Ends.cv lC (by decide +kernel) (c_edit lC (by omega) MC' hdn) (fun hE lE _ _ _ ⟨Q', al', e1, ME, e2, e3, e4, e5, e6, eE⟩ => ?_)
    have ME0 := ME
    obtain ⟨m16, m17, m18, m19, n1, n2, n3, n4, n5, n6⟩ := ME
    obtain ⟨i1, i2, i3, i4⟩ := n4 (dn + 1) n2
    have nedW : ∀ a k, B + 246 ≤ a → hk hC a = (1, 24) → ¬ edW B Q al dn a k := fun a k la ka w => by
      rcases w with w | w | w | ⟨w1, w2⟩
      · omega
      · omega
      · omega
      · exact (MC'.2.2.2.2.2.2.2.1 (dn + 1) w1).2.1.n24 w2.1 w2.2.1 ka
    have VE : DV B hE c (Q' (dn + 1)) nv nc := VC.to e5 (fun X N z A => A.e24 eE nedW) hn hnc
    have AE : AstI (B + 246) 240 hE y X N := AC.e24 eE nedW
    have Tl := told_of (u := u) W hkc (by rw [← ex]; exact hbad) (by rw [← ex]; exact hfull) hm hb
    have loE := i2.lo
    have hnC := lC.2.2
    have e02 : ∀ j, j < 4 → hv hE (B + 149) j = hv hC (B + 149) j := fun j hj => eE.at _ (by omega) (fun w => by
      rcases w with w | w | w | ⟨w1, w2⟩
      · omega
      · omega
      · omega
      · have := (MC'.2.2.2.2.2.2.2.1 (dn + 1) w1).2.1.lo
        have := w2.1
        omega)
    have e150 : ∀ j, hv hE (B + 150) j = hv hC (B + 150) j := fun j => eE.at _ (by omega) (fun w => by
      rcases w with w | w | w | ⟨w1, w2⟩
      · omega
      · omega
      · omega
      · have := (MC'.2.2.2.2.2.2.2.1 (dn + 1) w1).2.1.lo
        have := w2.1
        omega)
    have tape : ∀ i, tkF u m 0 ≤ i → i < tkT u m 0 → hv hE (B + 150) i = b i := fun i h1 h2 => by
      obtain ⟨w1, w2, w3⟩ := wd_lt k1 h1 h2
      rw [e150, xC.at _ (by omega) (by unfold mdW; omega), hu i w3]
      exact (bu i w3 w2).symm
    have done : ∀ (h' : AH) (v : Nat), v = toV c nv b u m → Agr (tdW (Q' (dn + 1))) hE h' → (∀ j, hv h' (Q' (dn + 1) + 3) j = if j = 40 * k + v then y else hv hE (Q' (dn + 1) + 3) j) → hv h' (Q' (dn + 1)) 0 = ((toN c nv b u m : Nat) : Int) → (∀ w, w < nv → hv h' (Q' (dn + 1) + 2) w = hv hE (Q' (dn + 1) + 2) w) → (∀ w i, w < nv → i < 12 → hv h' (Q' (dn + 1) + 1) (12 * w + i) = hv hE (Q' (dn + 1) + 1) (12 * w + i)) → (v = nv → ∃ s : Nat, 1 ≤ s ∧ s ≤ 12 ∧ dfC c nv k b u m (40 + 248 * nv) = (s : Int) ∧ hv h' (Q' (dn + 1) + 2) nv = (s : Int) ∧ ∀ i, i < s → hv h' (Q' (dn + 1) + 1) (12 * nv + i) = nbt (dfC c nv k b u m) nv i) → NmI (dfC c nv k b u m) (toN c nv b u m) → MdR B h Q al dn c nv nc k b u m (v : Int) h' := by
      intro h' v hv0 g a3 a0 a2 a1 nm I'
      subst hv0
      have A' := ast_dw i2 g X N y AE
      have F := FmT.new Tl hm hb hub I I' q2 rfl er1 er2 A'
      refine ⟨by rw [g.at _ _ (by unfold tdW; omega), e02 2 (by decide)]; exact c2, Or.inr ⟨X, N, P, hds, Or.inr ⟨by rw [← ex]; exact hfull, rfl, by rw [g.at _ _ (by unfold tdW; omega), e02 0 (by decide)]; exact c0, hC, hE, Q', al', xC, eE, e1, e2, e3, e4, e5, g, ?_, e6, ?_⟩⟩⟩
      · exact ME0.put n2 g (fun c k w => td_dW w) (i3.told g a3 A'.fr0)
      · exact VE.told Tl W hm I I' i2 g a0 a2 a1 a3 nm F
    by_cases hneg : x < 0
    · have hk0 : k = 0 := Nat.eq_zero_of_not_pos (fun z => hbad ⟨hneg, z⟩)
      have hnv : nv < 40 := Nat.lt_of_le_of_ne hn (fun z => hfull ⟨hneg, z⟩)
      have ev : toV c nv b u m = nv := by unfold toV; rw [if_pos (by rw [← ex]; exact hneg)]
      have en : toN c nv b u m = nv + 1 := by unfold toN; rw [if_pos (by rw [← ex]; exact hneg)]
      have tn : dfC c nv k b u m (40 + 248 * nv) = ((tkT u m 0 - tkF u m 0 : Nat) : Int) ∧ ∀ i, i < tkT u m 0 - tkF u m 0 → nbt (dfC c nv k b u m) nv i = b (tkF u m 0 + i) := by
        have t := told_name (c := c) (nv := nv) (b := b) (u := u) (m := m) (by rw [← ex]; exact hneg) p2 ln hm hb
        rw [hk0]; exact t
      have I' := Tl.nmi I bu k1 w5 (fun _ => tn)
      refine e_md222 (v := nv) (b := b) lE (by omega) m19 i2 hnv VE.1.1 AE.fr0 hneg ln hft hk4 (fun i hi => tape _ (Nat.le_add_right _ _) (Nat.lt_of_lt_of_le (Nat.add_lt_add_left hi _) (Nat.le_of_eq (Nat.add_sub_cancel' (Nat.le_of_lt lp))))) (fun h' g a0 a2 a1 a3 => ?_)
      refine ⟨_, _, rfl, done h' nv ev.symm g a3 (by rw [en]; exact a0) (fun w hw => by rw [a2, if_neg (Nat.ne_of_lt hw)]) (fun w i hw hi => by rw [a1, if_neg (wi w i _ hw hi)]) (fun _ => ⟨_, h1t, ln, tn.1, by rw [a2, if_pos rfl], fun i hi => ?_⟩) I'⟩
      rw [a1, if_pos ⟨Nat.le_add_right _ _, Nat.add_lt_add_left hi _⟩, tn.2 i hi, Nat.add_sub_cancel_left]
    · obtain ⟨v, evx⟩ : ∃ v : Nat, x = (v : Int) := ⟨x.toNat, by omega⟩
      have ev : toV c nv b u m = v := by unfold toV; rw [if_neg (by rw [← ex]; exact hneg), ← ex, evx, Int.toNat_natCast]
      have en : toN c nv b u m = nv := by unfold toN; rw [if_neg (by rw [← ex]; exact hneg)]
      have I' := Tl.nmi I bu k1 w5 (fun e => absurd e (by omega))
      rw [evx]
      have hq := m19
      have D := i2
      refine Ends.eq (b591_222 (n := n) (by (repeat' first | assumption | refine LX.setF _ _ ?_ (by decide +kernel) | refine LX.setS ?_ rfl | refine LX.setA ?_ (by first | assumption | omega))) (by first | assumption | omega) (by first | assumption | omega) (by first | assumption | omega)) ?_
      refine Ends.b3 (fun _ => ?_) (fun z => by omega)
      have gF : Agr (tdW (Q' (dn + 1))) hE (hset hE (Q' (dn + 1) + 3) (40 * k + v) y) := Agr.rf.set (Or.inr (Or.inr (Or.inr rfl)))
      refine e_md303 (v := v) lE (by omega) m19 i2 (by omega) (by omega) AE.fr0 ⟨_, _, rfl, done _ v ev.symm gF (fun j => ?_) (by rw [en, hv_set_ne (by omega)]; exact VE.1.1) (fun w hw => by rw [hv_set_ne (by omega)]) (fun w i hw hi => by rw [hv_set_ne (by omega)]) (fun e => absurd e (by omega)) I'⟩
      by_cases e : j = 40 * k + v
      · rw [if_pos e, e]; exact hv_set_at ..
      · rw [if_neg e, hv_set_ne (by omega)]
  exact Ends.b3 (fun _ => go _ _) (fun z => Ends.b5 (fun _ => go _ _) (fun z2 => absurd ⟨z, by omega⟩ hbad))
end MDEFINE
