/-! L3: the model's reader: formulas as a whole, levels -/
theorem StB.ext {gv : Nat → Int} {B : Nat} {h t : AH} {x : Int} {s : List Int} {W : Nat → Nat → Prop} {cc ss : Nat} (S : StB gv B h x s) (hb : B ≤ hnx h) (g : Ext W cc ss h t) (hW : ∀ a k, a < B → ¬ W a k) : StB gv B t x s :=
  ⟨S.1.ext hb S.2.1 S.2.2 g hW, S.2.1, by rw [g.at (a := ad x) 0 (by have := S.2.1; omega) (hW _ _ S.2.1)]; exact S.2.2⟩
theorem FnB.ext {gv : Nat → Int} {B : Nat} {h t : AH} {W : Nat → Nat → Prop} {cc ss : Nat} (F : FnB gv B h) (hb : B ≤ hnx h) (g : Ext W cc ss h t) (hW : ∀ a k, a < B → ¬ W a k) : FnB gv B t :=
  ⟨F.1.ext hb g hW, fun i s hs => (F.2.1 i s hs).ext hb g hW, F.2.2.1.ext hb g hW, F.2.2.2.1.ext hb g hW, F.2.2.2.2.ext hb g hW⟩
theorem MTX.ext {gv : Nat → Int} {B : Nat} {h t : AH} {W : Nat → Nat → Prop} {cc ss : Nat} (T : MTX gv B h) (hb : B ≤ hnx h) (g : Ext W cc ss h t) (hW : ∀ a k, a < B → ¬ W a k) : MTX gv B t :=
  ⟨T.1.ext hb g hW, fun i s hm => (T.2 i s hm).ext hb g hW⟩
theorem mg_mw {B : Nat} {h t : AH} (g : Agr (mgW B) h t) : Ext (MW B) 0 0 h t := g.ext.sub (fun c k _ w => Or.inl ⟨w.1, Or.inl ⟨w.2.1, by have := w.2.2; omega⟩⟩) (Nat.le_refl _) (Nat.le_refl _)
theorem Ext.ms {B c s k : Nat} {v : Int} {h t : AH} (e : Ext (MW B) c s h t) (h1 : 4 ≤ k) (h2 : k ≤ 12) : Ext (MW B) c s h (hset t (B + 149) k v) := e.set (fun _ => Or.inl ⟨rfl, Or.inl ⟨h1, h2⟩⟩)
theorem Ext.mt {B c s c' s' : Nat} {h t v : AH} (e : Ext (MW B) c s h t) (e' : Ext (MW B) c' s' t v) : Ext (MW B) (c + c') (s + s') h v := e.tr e' (fun _ _ _ z => z)
theorem Ext.ml {B c s c' s' : Nat} {h t : AH} (e : Ext (MW B) c s h t) (h1 : c ≤ c') (h2 : s ≤ s') : Ext (MW B) c' s' h t := e.sub (fun _ _ _ z => z) h1 h2
theorem MgT.f {B : Nat} {h : AH} {u : Nat → Int} {m p k : Nat} {v : Int} (R : MgT B h u m p) (hk : 11 ≤ k) : MgT B (hset h (B + 149) k v) u m p := by
  obtain ⟨a1, a2, a3, a4, a5, a6⟩ := R
  refine ⟨by rw [hv_set_ne (by omega)]; exact a1, by rw [hv_set_ne (by omega)]; exact a2, by rw [hv_set_ne (by omega)]; exact a3, by rw [hv_set_ne (by omega)]; exact a4, by rw [hv_set_ne (by omega)]; exact a5, fun k2 => ?_⟩
  rw [hv_set_ne (by omega), hv_set_ne (by omega)]; exact a6 k2
section MREAD
variable (gv : Nat → Int) (B n m : Nat) (u : Nat → Int) (fd : Nat → Int) (bk : Nat → Bool) (nv : Nat) (tl : Int) (DX : AH → Prop)
/-- what stays while the model reads -/
def MC (h : AH) : Prop := MgP B h m u ∧ MTX gv B h ∧ hv h (B + 149) 13 = tl ∧ DX h ∧ m ≤ 240
def LW : Nat → Nat → Prop := fun c k => (c = B + 149 ∧ k = 22) ∨ c = B + 152 ∨ c = B + 153
/-- what is wanted of the design -/
def MOk : Prop := (∀ h t c s, LX B n h → DX h → Ext (MW B) c s h t → DX t) ∧
  (∀ d p h, 40 ≤ d → LX B n h → MC gv B m u tl DX h → MgT B h u m p → tkK u m p = 1 → p ≤ m → Vt 0 (cll PP (ev PP (gsF gv) B) d 862 [(2, rf (B + 149))] h) (fun x h' => h' = h ∧ x = fd p)) ∧
  (∀ d v h, 300 ≤ d → LX B n h → MC gv B m u tl DX h → v < nv → 0 ≤ tl → Vt 0 (cll PP (ev PP (gsF gv) B) d 728 [(2, rf (B + 149)), (0, (v : Int))] h) (fun x h' => x = b2i (bk v) ∧ Agr (LW B) h h')) ∧
  (tl < 0 → ∀ v, bk v = false) ∧ (∀ p, -1 ≤ fd p ∧ fd p < (nv : Int)) ∧ nv ≤ 40
/-- where the model's reader stands -/
def MSt (h : AH) (dp p : Nat) : Prop := MgT B h u m p ∧ hv h (B + 149) 12 = (dp : Int) ∧ hv h (B + 149) 11 = -1 ∧ p ≤ m ∧ dp ≤ 24
/-- what comes -/
def MRes (h : AH) (dp p : Nat) (r : PR) (x : Int) (h' : AH) : Prop := (∃ D N p', r = .inr (D, N, p') ∧ Ext (MW B) (p' - p) (7 * (p' - p)) h h' ∧ MgT B h' u m p' ∧ hv h' (B + 149) 12 = (dp : Int) ∧ hv h' (B + 149) 11 = -1 ∧ AstI (hnx h) (p' - p) h' x D N ∧ p < p' ∧ p' ≤ m) ∨ (∃ e, r = .inl e ∧ x = 0 ∧ Ext (MW B) (m + 1 - p) (7 * (m + 1 - p)) h h' ∧ hv h' (B + 149) 11 = (e : Int))
def FD (dp : Nat) : Nat := 310 + 12 * (24 - dp)
def stA (p : Nat) : Prop := ∀ (d dp : Nat) (h : AH) (r : PR), RdR u m fd bk 0 0 dp p accZ r → LX B n h → MC gv B m u tl DX h → MSt B m u h dp p → FD dp + 10 ≤ d → Vt 2 (cll PP (ev PP (gsF gv) B) d 792 [(2, rf (B + 149))] h) (MRes B m u h dp p r)
def stB (L p : Nat) : Prop := ∀ (d dp : Nat) (h : AH) (r : PR), RdR u m fd bk 1 (L : Int) dp p accZ r → LX B n h → MC gv B m u tl DX h → MSt B m u h dp p → FD dp + 2 + (6 - L) ≤ d → Vt 2 (cll PP (ev PP (gsF gv) B) d 793 [(2, rf (B + 149)), (0, (L : Int))] h) (MRes B m u h dp p r)
def stD (p : Nat) : Prop := ∀ (d dp : Nat) (h : AH) (r : PR), RdR u m fd bk 3 0 dp p accZ r → LX B n h → MC gv B m u tl DX h → MSt B m u h dp p → FD dp + 1 ≤ d → Vt 2 (cll PP (ev PP (gsF gv) B) d 795 [(2, rf (B + 149))] h) (MRes B m u h dp p r)
end MREAD
section MREAD2
variable {gv : Nat → Int} {B n m : Nat} {u : Nat → Int} {fd : Nat → Int} {bk : Nat → Bool} {nv : Nat} {tl : Int} {DX : AH → Prop}
theorem MC.ext {h t : AH} {c s : Nat} (M : MC gv B m u tl DX h) (ok : MOk gv B n m u fd bk nv tl DX) (l : LX B n h) (e : Ext (MW B) c s h t) : MC gv B m u tl DX t := by
  have hb := l.2.2
  obtain ⟨⟨m1, m2, m3, m4⟩, T, h13, dx, hm⟩ := M
  refine ⟨⟨by rw [e.at _ (by omega) (by unfold MW; omega)]; exact m1, fun i hi => by rw [e.at _ (by omega) (by unfold MW; omega)]; exact m2 i hi, m3, m4⟩, T.ext (by omega) e (fun a k ha => by unfold MW; omega), by rw [e.at _ (by omega) (by unfold MW; omega)]; exact h13, ok.1 h t c s l dx e, hm⟩
theorem stepB6 {p : Nat} (hD : stD gv B n m u fd bk tl DX p) : stB gv B n m u fd bk tl DX 6 p := by
  intro d dp h r hr l M S hd
  have hFD : 310 ≤ FD dp := by unfold FD; omega
  refine Vt.into (D := d - 1) (by omega) (Nat.le_of_ble_eq_true rfl) rfl (fun d' hd' => ?_)
  obtain ⟨r3, a3⟩ := RdR.tot3 (u := u) (m := m) (fd := fd) (bk := bk) (dp := dp) (acc := accZ) S.2.2.2.1
  have er := RdR.uni hr (R1_6 a3)
  subst er
  refine Ends.eq (b793_0 (n := n) (by (repeat' first | assumption | refine LX.setF _ _ ?_ (by decide +kernel) | refine LX.setS ?_ rfl | refine LX.setA ?_ (by first | assumption | omega))) (by first | assumption | omega)) ?_
  refine Ends.b1 (fun z => absurd rfl z) (fun _ => ?_)
  refine Ends.ct l (by decide +kernel) (by decide) (hD d' dp h r a3 l M S (by omega)) (fun x h1 l1 _ _ _ R1 => ?_)
  refine Ends.eq (b793_10 (n := n) (by (repeat' first | assumption | refine LX.setF _ _ ?_ (by decide +kernel) | refine LX.setS ?_ rfl | refine LX.setA ?_ (by first | assumption | omega))) (by first | assumption | omega)) ?_
  exact Ends.sm ⟨_, _, rfl, R1⟩
theorem stepBL (ok : MOk gv B n m u fd bk nv tl DX) {p L : Nat} (hL : L < 6) (hB : ∀ q, p ≤ q → q ≤ m → stB gv B n m u fd bk tl DX (L + 1) q) : stB gv B n m u fd bk tl DX L p := by
  intro d dp h r hr l M S hd
  obtain ⟨S1, S2, S3, S4, S5⟩ := S
  unfold FD at hd
  have hm := M.2.2.2.2
  have hmn := S4
  refine Vt.into (D := d - 1) (by omega) (Nat.le_of_ble_eq_true rfl) rfl (fun d' hd' => ?_)
  obtain ⟨r1, a1⟩ := RdR.tot1 (u := u) (m := m) (fd := fd) (bk := bk) (lst := (L : Int) + 1) (dp := dp) (acc := accZ) S4 (by omega)
  refine Ends.eq (b793_0 (n := n) (by (repeat' first | assumption | refine LX.setF _ _ ?_ (by decide +kernel) | refine LX.setS ?_ rfl | refine LX.setA ?_ (by first | assumption | omega))) (by first | assumption | omega)) ?_
  rw [show bop32 96 (L : Int) 1 = ((L + 1 : Nat) : Int) from b96_1 (by omega)]
  refine Ends.b1 (fun _ => ?_) (fun z => by omega)
  refine Ends.ct l (by decide +kernel) (by decide) (hB p (Nat.le_refl _) S4 d' dp h r1 a1 l M ⟨S1, S2, S3, S4, S5⟩ (by unfold FD; omega)) (fun x h1 l1 _ _ _ R1 => ?_)
  refine Ends.eq (b793_18 (n := n) (by (repeat' first | assumption | refine LX.setF _ _ ?_ (by decide +kernel) | refine LX.setS ?_ rfl | refine LX.setA ?_ (by first | assumption | omega))) (by first | assumption | omega)) ?_
  have out0 : ∀ (s : AH) (u3 u4 : AV) (e : Nat), LX B n s → r = .inl e → Ext (MW B) (m + 1 - p) (7 * (m + 1 - p)) h s → hv s (B + 149) 11 = (e : Int) → Ends (ev PP (gsF gv) B d' 793 19 [(2, rf (B + 149)), (0, (L : Int)), (2, 0), u3, u4] [] s) (fun r' => ∃ x h', r' = ((0, (2, x)), h') ∧ MRes B m u h dp p r x h') := by
    intro s u3 u4 e l er e1 w1
    refine Ends.eq (b793_19 (n := n) (by (repeat' first | assumption | refine LX.setF _ _ ?_ (by decide +kernel) | refine LX.setS ?_ rfl | refine LX.setA ?_ (by first | assumption | omega))) (by first | assumption | omega)) ?_
    refine Ends.b0 (fun _ => ?_) (fun z => absurd rfl z)
    refine Ends.eq (b793_73 (n := n) (by (repeat' first | assumption | refine LX.setF _ _ ?_ (by decide +kernel) | refine LX.setS ?_ rfl | refine LX.setA ?_ (by first | assumption | omega))) (by first | assumption | omega)) ?_
    exact Ends.sm ⟨_, _, rfl, Or.inr ⟨e, er, rfl, e1, w1⟩⟩
  -- the loop
  have go : ∀ (k q : Nat) (s : AH) (x : Int) (acc : Dn × (Nat → Bool)) (u3 u4 : AV), m - q < k → LX B n s → Ext (MW B) (q - p) (7 * (q - p)) h s → MgT B s u m q → hv s (B + 149) 12 = (dp : Int) → hv s (B + 149) 11 = -1 → AstI (hnx h) (q - p) s x acc.1 acc.2 → p < q → q ≤ m → ¬ (L : Int) + 1 ≤ levF u m q → (∀ r', RdR u m fd bk 2 (L : Int) dp q acc r' → r = r') → Ends (ev PP (gsF gv) B d' 793 19 [(2, rf (B + 149)), (0, (L : Int)), (2, x), u3, u4] [] s) (fun r' => ∃ x h', r' = ((0, (2, x)), h') ∧ MRes B m u h dp p r x h') := by
    intro k
    induction k with
    | zero => intro q s x acc u3 u4 hkk; omega
    | succ k ih =>
      intro q s x acc u3 u4 hkk l2 e2 t2 s12 s11 A lt le hlev hcont
      have M2 := M.ext ok l e2
      have xp := A.pos
      refine Ends.eq (b793_19 (n := n) (by (repeat' first | assumption | refine LX.setF _ _ ?_ (by decide +kernel) | refine LX.setS ?_ rfl | refine LX.setA ?_ (by first | assumption | omega))) (by first | assumption | omega)) ?_
      refine Ends.b0 (fun z => by omega) (fun _ => ?_)
      refine Ends.ct l2 (by decide +kernel) (by decide) (c_signOf l2 (by omega) M2.1 M2.2.1 t2 le (L := L) (by omega)) (fun v s2 l3 _ _ _ ⟨eh, sg⟩ => ?_)
      subst eh
      refine Ends.eq (b793_28 (n := n) (by (repeat' first | assumption | refine LX.setF _ _ ?_ (by decide +kernel) | refine LX.setS ?_ rfl | refine LX.setA ?_ (by first | assumption | omega))) (by first | assumption | omega)) ?_
      rcases sg with ⟨sl, sn, sv, so⟩ | ⟨sl, sv⟩
      · have hv0 : 0 ≤ v := by omega
        refine Ends.b2 (fun z => by omega) (fun _ => ?_)
        refine Ends.ct l2 (by decide +kernel) (by decide) (c_signOf l2 (by omega) M2.1 M2.2.1 t2 le (L := L) (by omega)) (fun v2 s2 l3 _ _ _ ⟨eh, sg2⟩ => ?_)
        subst eh
        rcases sg2 with ⟨_, sn2, sv2, so2⟩ | ⟨sl2, _⟩
        case inr => exact absurd sl sl2
        subst sv2
        have k3 : tkK u m q = 3 := lev_k3 (lst := (L : Int)) (by omega) (by omega)
        obtain ⟨b1, b2⟩ := k_lt (u := u) le (by rw [k3]; decide)
        refine Ends.eq (b793_36 (n := n) (by (repeat' first | assumption | refine LX.setF _ _ ?_ (by decide +kernel) | refine LX.setS ?_ rfl | refine LX.setA ?_ (by first | assumption | omega))) (by first | assumption | omega)) ?_
        refine Ends.cv l2 (by decide +kernel) (c_nextM l2 (by omega) M2.1 t2.1 b2) (fun s3 l3 _ _ _ ⟨g3, t3⟩ => ?_)
        refine Ends.eq (b793_41 (n := n) (by (repeat' first | assumption | refine LX.setF _ _ ?_ (by decide +kernel) | refine LX.setS ?_ rfl | refine LX.setA ?_ (by first | assumption | omega))) (by first | assumption | omega)) ?_
        rw [show bop32 96 (L : Int) 1 = ((L + 1 : Nat) : Int) from b96_1 (by omega)]
        have e3 := e2.mt (mg_mw g3)
        have M3 := M.ext ok l e3
        obtain ⟨r2, a2⟩ := RdR.tot1 (u := u) (m := m) (fd := fd) (bk := bk) (lst := (L : Int) + 1) (dp := dp) (acc := accZ) b2 (by omega)
        refine Ends.ct l3 (by decide +kernel) (by decide) (hB (tkT u m q) (by omega) b2 d' dp s3 r2 a2 l3 M3 ⟨t3, by rw [g3.at _ _ (by unfold mgW; omega)]; exact s12, by rw [g3.at _ _ (by unfold mgW; omega)]; exact s11, b2, S5⟩ (by unfold FD; omega)) (fun y s4 l4 _ _ _ R2 => ?_)
        refine Ends.eq (b793_48 (n := n) (by (repeat' first | assumption | refine LX.setF _ _ ?_ (by decide +kernel) | refine LX.setS ?_ rfl | refine LX.setA ?_ (by first | assumption | omega))) (by first | assumption | omega)) ?_
        rcases R2 with ⟨D2, N2, q2, er2, e4, t4, s412, s411, A2, lt2, le2⟩ | ⟨e, er2, ey, e4, w4⟩
        · subst er2
          have yp := A2.pos
          refine Ends.b0 (fun z => by omega) (fun _ => ?_)
          have A4 : AstI (hnx h) (q - p) s4 x acc.1 acc.2 := A.mw l2 ((mg_mw g3).mt e4) (Nat.le_refl _)
          refine Ends.ct l4 (by decide +kernel) (by decide) (c_mkF l4 (by omega)) (fun z s5 l5 _ _ _ ⟨ez, e5⟩ => ?_)
          subst ez
          refine Ends.eq (b793_69 (n := n) (by (repeat' first | assumption | refine LX.setF _ _ ?_ (by decide +kernel) | refine LX.setS ?_ rfl | refine LX.setA ?_ (by first | assumption | omega))) (by first | assumption | omega)) ?_
          have kn : hk s5 (hnx s4) = (1, 24) := by rw [e5]; exact mkN_hk
          have xn : Ext (MW B) 1 7 s4 s5 := by rw [e5]; exact mkN_ext
          have hn5 : hnx s5 = hnx s4 + 1 := by rw [e5]; rfl
          have hvn : ∀ k, hv s5 (hnx s4) k = if k = 6 then 0 else if k = 5 then y else if k = 4 then x else if k = 1 then (sn2 : Int) else if k = 0 then 6 else 0 := fun k => by rw [e5]; exact mkN_hv k
          have hb4 := l4.2.2
          refine ih q2 s5 (rf (hnx s4)) (fun e => fTwo (tkS u m q) (acc.1 e) (D2 e), orN acc.2 N2) _ _ (by omega) l5 (((e3.mt e4).mt xn).ml (by omega) (by omega)) ?_ ?_ ?_ ?_ (by omega) le2 ?_ (fun r' hr' => hcont r' (R2c (by omega) ?_ hr'))
          · obtain ⟨c1, c2, c3, c4, c5, c6⟩ := t4
            have at5 : ∀ k, hv s5 (B + 149) k = hv s4 (B + 149) k := fun k => by
              rw [e5]
              show hv (mkN s4 _ _ _ _ _) (B + 149) k = _
              unfold mkN
              rw [hv_na (by omega), hv_na (by omega), hv_na (by omega), hv_na (by omega), hv_na (by omega), hv_new, if_neg (by omega)]
            refine ⟨by rw [at5]; exact c1, by rw [at5]; exact c2, by rw [at5]; exact c3, by rw [at5]; exact c4, by rw [at5]; exact c5, fun k2 => by rw [at5, at5]; exact c6 k2⟩
          · rw [e5]; unfold mkN
            rw [hv_na (by omega), hv_na (by omega), hv_na (by omega), hv_na (by omega), hv_na (by omega), hv_new, if_neg (by omega)]; exact s412
          · rw [e5]; unfold mkN
            rw [hv_na (by omega), hv_na (by omega), hv_na (by omega), hv_na (by omega), hv_na (by omega), hv_new, if_neg (by omega)]; exact s411
          · obtain ⟨g0, eg0⟩ : ∃ g0, q2 - p = g0 + 1 := ⟨q2 - p - 1, by omega⟩
            rw [eg0]
            unfold AstI
            refine ⟨hnx s4, rfl, by have := (e3.mt e4).2.2.1; omega, by omega, kn, Or.inr (Or.inr (Or.inr (Or.inr (Or.inr ⟨hvn 0, hvn 6, sn2, tkS u m q, acc.1, acc.2, D2, N2, hvn 1, so2, ?_, ?_, rfl, rfl⟩))))⟩
            · rw [show hv s5 (hnx s4) 4 = x from hvn 4]
              exact A4.mw l4 xn (by omega)
            · rw [show hv s5 (hnx s4) 5 = y from hvn 5]
              exact (A2.lo e3.2.2.1).mw l4 xn (by omega)
          · exact (R1v a2).1
          · rw [sl]; exact a2.acc1
        · subst er2
          refine Ends.b0 (fun _ => ?_) (fun z => absurd ey z)
          refine Ends.eq (b793_69 (n := n) (by (repeat' first | assumption | refine LX.setF _ _ ?_ (by decide +kernel) | refine LX.setS ?_ rfl | refine LX.setA ?_ (by first | assumption | omega))) (by first | assumption | omega)) ?_
          exact out0 s4 _ _ e l4 (hcont _ (R2e (by omega) (by rw [sl]; exact a2.acc1))) ((e3.mt e4).ml (by omega) (by omega)) w4
      · subst sv
        refine Ends.b2 (fun _ => ?_) (fun z => absurd z (by decide))
        refine Ends.eq (b793_73 (n := n) (by (repeat' first | assumption | refine LX.setF _ _ ?_ (by decide +kernel) | refine LX.setS ?_ rfl | refine LX.setA ?_ (by first | assumption | omega))) (by first | assumption | omega)) ?_
        exact Ends.sm ⟨_, _, rfl, Or.inl ⟨acc.1, acc.2, q, hcont _ (R2n (by omega)), e2, t2, s12, s11, A, lt, le⟩⟩
  rcases R1 with ⟨D, N, p1, er, e1, t1, e12, e11, A1, lt1, le1⟩ | ⟨e, er, ex, e1, w1⟩
  · subst er
    obtain ⟨v1, v2⟩ := R1v a1
    exact go (m + 1) p1 h1 x (D, N) _ _ (by omega) l1 e1 t1 e12 e11 A1 lt1 le1 v1 (fun r' hr' => RdR.uni hr (v2 r' hr'))
  · subst er ex
    exact out0 h1 _ _ e l1 (RdR.uni hr (R1u a1)) e1 w1
end MREAD2
