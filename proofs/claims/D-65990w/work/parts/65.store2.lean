/-! L3: Store.grow, set, end -/
section STORE2
variable {gv : Nat → Int} {B n d : Nat} {h : AH} {H : Nat → Nat → Int} {s : Nat → Nat} {dn tt tu mw : Nat} {c : Nat → Int}
theorem c_stGrow (l : LX B n h) (hd : 11 ≤ d) (a : StJ B h mw) (hw : hv h (B + 1) 4 = (jl B h : Int)) (hm : jl B h ≤ 4000000) :
    Vd (cll PP (ev PP (gsF gv) B) d 448 [(2, rf (B + 1))] h) (fun h' => Ext (fun c k => c = B + 1 ∧ 1 ≤ k ∧ k ≤ 3) 3 (6 * jl B h) h h' ∧ (hv h' (B + 1) 1 = rf (hnx h) ∧ hv h' (B + 1) 2 = rf (hnx h + 1) ∧ hv h' (B + 1) 3 = rf (hnx h + 2)) ∧ (hk h' (hnx h) = (2, 2 * jl B h) ∧ hk h' (hnx h + 1) = (2, 2 * jl B h) ∧ hk h' (hnx h + 2) = (2, 2 * jl B h)) ∧ hnx h' = hnx h + 3 ∧ ∀ e, e < jl B h → hv h' (hnx h) e = hv h (j1 B h) e ∧ hv h' (hnx h + 1) e = hv h (j2 B h) e ∧ hv h' (hnx h + 2) e = hv h (j3 B h) e) := by
  obtain ⟨⟨a1, a2, a3⟩, ⟨k1, k2, k3⟩, ⟨o1, o2, o3⟩, ap, ⟨x1, x2, x3⟩, y1, y2⟩ := a
  have hb := l.2.2
  generalize hN : jl B h = N at *
  have e2 : bop32 104 (2 : Int) (N : Int) = ((2 * N : Nat) : Int) := mulNN (x := 2) (by omega)
  refine Vd.into (D := 10) hd (Nat.le_of_ble_eq_true rfl) rfl (fun d hd => ?_)
  refine Ends.eq (b448_0 (n := n) (by (repeat' first | assumption | refine LX.setF _ _ ?_ (by decide +kernel) | refine LX.setS ?_ rfl | refine LX.setA ?_ (by first | assumption | omega))) (by first | assumption | omega)) ?_
  rw [a1, hw, e2]
  refine Ends.ct l (by decide +kernel) (by decide) (c_copyOf l (by omega) k1 x1 (by omega) (by omega)) (fun v q1 l1 _ _ _ ⟨ev, eh⟩ => ?_)
  subst ev
  have f1 : Ext (fun c k => c = B + 1 ∧ 1 ≤ k ∧ k ≤ 3) 1 (2 * N) h q1 := by rw [eh]; exact Ext.new.cpy (fun z => absurd z (by omega))
  have n1 : hnx q1 = hnx h + 1 := by rw [eh]; rfl
  have t1 : hk q1 (hnx h) = (2, 2 * N) := by rw [eh, hk_cpy, hk_new, if_pos rfl]
  have v1 : ∀ e, e < N → hv q1 (hnx h) e = hv h (j1 B h) e := fun e he => by
    rw [eh, hv_cpy, if_pos ⟨rfl, by omega, by omega⟩, hv_new, if_neg (by omega)]
    rw [show 0 + (e - 0) = e by omega]
  have w1 : ∀ k, hv q1 (B + 1) k = hv h (B + 1) k := fun k => by
    rw [eh, hv_cpy, if_neg (by omega), hv_new, if_neg (by omega)]
  clear eh
  refine Ends.eq (b448_14 (n := n) (by (repeat' first | assumption | refine LX.setF _ _ ?_ (by decide +kernel) | refine LX.setS ?_ rfl | refine LX.setA ?_ (by first | assumption | omega))) (by first | assumption | omega)) ?_
  rw [w1 2, w1 4, a2, hw, e2]
  have l1' : LX B n (hset q1 (B + 1) 1 (rf (hnx h))) := LX.setF 1 1 l1 (by decide +kernel)
  have n1' : hnx (hset q1 (B + 1) 1 (rf (hnx h))) = hnx h + 1 := n1
  refine Ends.ct l1' (by decide +kernel) (by decide) (c_copyOf (x := j2 B h) (m := N) l1' (by omega) (by rw [hk_set, f1.hk x2]; exact k2) (by omega) (by omega) (by omega)) (fun v q2 l2 _ _ _ ⟨ev, eh⟩ => ?_)
  rw [n1'] at ev eh
  subst ev
  have f2 : Ext (fun c k => c = B + 1 ∧ 1 ≤ k ∧ k ≤ 3) 2 (4 * N) h q2 := by
    rw [eh]
    exact (((f1.set (fun _ => ⟨rfl, by omega, by omega⟩)).tr (Ext.new (W := fun _ _ => False)) (fun _ _ _ z => z.elim)).cpy (fun z => absurd z (by omega))).sub (fun _ _ _ z => z) (by omega) (by omega)
  have n2 : hnx q2 = hnx h + 2 := by rw [eh]; show hnx q1 + 1 = _; omega
  have t2 : hk q2 (hnx h) = (2, 2 * N) := by rw [eh, hk_cpy, hk_new, n1', if_neg (by omega), hk_set]; exact t1
  have t2' : hk q2 (hnx h + 1) = (2, 2 * N) := by rw [eh, hk_cpy, hk_new, n1', if_pos rfl]
  have v2 : ∀ e, e < N → hv q2 (hnx h) e = hv h (j1 B h) e := fun e he => by
    rw [eh, hv_cpy, if_neg (by omega), hv_new, n1', if_neg (by omega), hv_set_ne (by omega)]; exact v1 e he
  have v2' : ∀ e, e < N → hv q2 (hnx h + 1) e = hv h (j2 B h) e := fun e he => by
    rw [eh, hv_cpy, if_pos ⟨rfl, by omega, by omega⟩, hv_new, n1', if_neg (by omega), hv_set_ne (by omega), f1.at _ x2 (by omega)]
    rw [show 0 + (e - 0) = e by omega]
  have w2 : ∀ k, hv q2 (B + 1) k = if k = 1 then rf (hnx h) else hv h (B + 1) k := fun k => by
    rw [eh, hv_cpy, if_neg (by omega), hv_new, n1', if_neg (by omega), hv_set, if_pos rfl, w1]
  clear eh
  refine Ends.eq (b448_31 (n := n) (by (repeat' first | assumption | refine LX.setF _ _ ?_ (by decide +kernel) | refine LX.setS ?_ rfl | refine LX.setA ?_ (by first | assumption | omega))) (by first | assumption | omega)) ?_
  rw [w2 3, w2 4, if_neg (by omega), if_neg (by omega), a3, hw, e2]
  have l2' : LX B n (hset q2 (B + 1) 2 (rf (hnx h + 1))) := LX.setF 1 2 l2 (by decide +kernel)
  have n2' : hnx (hset q2 (B + 1) 2 (rf (hnx h + 1))) = hnx h + 2 := n2
  refine Ends.ct l2' (by decide +kernel) (by decide) (c_copyOf (x := j3 B h) (m := N) l2' (by omega) (by rw [hk_set, f2.hk x3]; exact k3) (by omega) (by omega) (by omega)) (fun v q3 l3 _ _ _ ⟨ev, eh⟩ => ?_)
  rw [n2'] at ev eh
  subst ev
  have f3 : Ext (fun c k => c = B + 1 ∧ 1 ≤ k ∧ k ≤ 3) 3 (6 * N) h q3 := by
    rw [eh]
    exact (((f2.set (fun _ => ⟨rfl, by omega, by omega⟩)).tr (Ext.new (W := fun _ _ => False)) (fun _ _ _ z => z.elim)).cpy (fun z => absurd z (by omega))).sub (fun _ _ _ z => z) (by omega) (by omega)
  refine Ends.eq (b448_48 (n := n) (by (repeat' first | assumption | refine LX.setF _ _ ?_ (by decide +kernel) | refine LX.setS ?_ rfl | refine LX.setA ?_ (by first | assumption | omega))) (by first | assumption | omega)) ?_
  refine Ends.sm ⟨_, rfl, f3.set (fun _ => ⟨rfl, by omega, by omega⟩), ⟨?_, ?_, hv_set_at ..⟩, ⟨?_, ?_, ?_⟩, ?_, fun e he => ⟨?_, ?_, ?_⟩⟩
  · rw [hv_set_ne (by omega), eh, hv_cpy, if_neg (by omega), hv_new, n2', if_neg (by omega), hv_set_ne (by omega), w2, if_pos rfl]
  · rw [hv_set_ne (by omega), eh, hv_cpy, if_neg (by omega), hv_new, n2', if_neg (by omega)]; exact hv_set_at ..
  · rw [hk_set, eh, hk_cpy, hk_new, n2', if_neg (by omega), hk_set]; exact t2
  · rw [hk_set, eh, hk_cpy, hk_new, n2', if_neg (by omega), hk_set]; exact t2'
  · rw [hk_set, eh, hk_cpy, hk_new, n2', if_pos rfl]
  · rw [eh]; show hnx q2 + 1 = _; omega
  · rw [hv_set_ne (by omega), eh, hv_cpy, if_neg (by omega), hv_new, n2', if_neg (by omega), hv_set_ne (by omega)]; exact v2 e he
  · rw [hv_set_ne (by omega), eh, hv_cpy, if_neg (by omega), hv_new, n2', if_neg (by omega), hv_set_ne (by omega)]; exact v2' e he
  · rw [hv_set_ne (by omega), eh, hv_cpy, if_pos ⟨rfl, by omega, by omega⟩, hv_new, n2', if_neg (by omega), hv_set_ne (by omega), f2.at _ x3 (by omega)]
    rw [show 0 + (e - 0) = e by omega]
/-- the store rides along where nothing of it is written -/
theorem StJ.ext {W : Nat → Nat → Prop} {cc ss : Nat} {t : AH} (S : StJ B h mw) (hb : B + 246 ≤ hnx h) (g : Ext W cc ss h t) (hW : ∀ a k, (a = B + 1 ∧ 1 ≤ k ∧ k ≤ 3) → ¬ W a k) : StJ B t mw ∧ j1 B t = j1 B h ∧ j2 B t = j2 B h ∧ j3 B t = j3 B h ∧ jl B t = jl B h := by
  obtain ⟨⟨a1, a2, a3⟩, ⟨k1, k2, k3⟩, ⟨o1, o2, o3⟩, ap, ⟨x1, x2, x3⟩, y1, y2⟩ := S
  have hn := g.2.2.1
  have w1 := g.at (a := B + 1) 1 (by omega) (hW _ _ (by omega))
  have w2 := g.at (a := B + 1) 2 (by omega) (hW _ _ (by omega))
  have w3 := g.at (a := B + 1) 3 (by omega) (hW _ _ (by omega))
  have e1 : j1 B t = j1 B h := by unfold j1; rw [w1]
  have e2 : j2 B t = j2 B h := by unfold j2; rw [w2]
  have e3 : j3 B t = j3 B h := by unfold j3; rw [w3]
  have e4 : jl B t = jl B h := by unfold jl; rw [e1, g.hk x1]
  refine ⟨?_, e1, e2, e3, e4⟩
  unfold StJ
  rw [e1, e2, e3, e4, w1, w2, w3, g.hk x1, g.hk x2, g.hk x3]
  exact ⟨⟨a1, a2, a3⟩, ⟨k1, k2, k3⟩, ⟨o1, o2, o3⟩, ap, ⟨by omega, by omega, by omega⟩, y1, y2⟩
theorem StH.ext {W : Nat → Nat → Prop} {cc ss : Nat} {t : AH} (S : StH B h H s tt) (J : StJ B h mw) (hb : B + 246 ≤ hnx h) (g : Ext W cc ss h t) (hW : ∀ a k, (a = B + 1 ∧ 1 ≤ k ∧ k ≤ 3) ∨ a = B + 6 ∨ a = j1 B h ∨ a = j2 B h ∨ a = j3 B h → ¬ W a k) : StH B t H s tt := by
  obtain ⟨_, e1, e2, e3, e4⟩ := J.ext hb g (fun a k z => hW a k (Or.inl z))
  obtain ⟨b1, b2, b3, b4⟩ := S
  obtain ⟨x1, x2, x3⟩ := J.2.2.2.2.1
  refine ⟨fun i hi => ?_, b2, fun i hi => by rw [e4]; exact b3 i hi, fun i hi => ?_⟩
  · rw [g.at i (by omega) (hW _ _ (by omega))]; exact b1 i hi
  · rw [e1, e2, e3]
    exact (b4 i hi).congr (fun z _ _ => ⟨g.at z x1 (hW _ _ (by omega)), g.at z x2 (hW _ _ (by omega)), g.at z x3 (hW _ _ (by omega))⟩)
theorem St.ext {W : Nat → Nat → Prop} {cc ss : Nat} {t : AH} (S : St B h H s dn tt tu mw) (hb : B + 246 ≤ hnx h) (g : Ext W cc ss h t) (hW : ∀ a k, (a = B + 1 ∧ 1 ≤ k ∧ k ≤ 8 ∧ ¬ k = 4 ∧ ¬ k = 5) ∨ a = B + 2 ∨ a = B + 6 ∨ a = j1 B h ∨ a = j2 B h ∨ a = j3 B h → ¬ W a k) : St B t H s dn tt tu mw := by
  obtain ⟨a1, a2, a3, a4, a5, a6, a7, a8⟩ := S
  refine ⟨(a1.ext hb g (fun a k z => hW a k (by omega))).1, a2.ext a1 hb g (fun a k z => hW a k (by omega)), ?_, ?_, ?_, a6, a7, fun k hk => ?_⟩
  · rw [g.at 6 (by omega) (hW _ _ (by omega))]; exact a3
  · rw [g.at 7 (by omega) (hW _ _ (by omega))]; exact a4
  · rw [g.at 8 (by omega) (hW _ _ (by omega))]; exact a5
  · rw [g.at k (by omega) (hW _ _ (by omega))]; exact a8 k hk
theorem Sw.ext {W : Nat → Nat → Prop} {cc ss : Nat} {t : AH} (S : Sw B h H s dn tu mw c) (hb : B + 246 ≤ hnx h) (g : Ext W cc ss h t) (hW : ∀ a k, (a = B + 1 ∧ 1 ≤ k ∧ k ≤ 8 ∧ ¬ k = 5) ∨ a = B + 2 ∨ a = B + 6 ∨ a = j1 B h ∨ a = j2 B h ∨ a = j3 B h → ¬ W a k) : Sw B t H s dn tu mw c := by
  obtain ⟨a1, a2, a3, a4, a5, a7, a8, w, b1, b2, b3, b4, b5⟩ := S
  obtain ⟨n1, e1, e2, e3, e4⟩ := a1.ext hb g (fun a k z => hW a k (by omega))
  obtain ⟨x1, x2, x3⟩ := a1.2.2.2.2.1
  refine ⟨n1, a2.ext a1 hb g (fun a k z => hW a k (by omega)), ?_, ?_, ?_, a7, fun k hk => ?_, w, ?_, b2, by omega, b4, ?_⟩
  · rw [g.at 6 (by omega) (hW _ _ (by omega))]; exact a3
  · rw [g.at 7 (by omega) (hW _ _ (by omega))]; exact a4
  · rw [g.at 8 (by omega) (hW _ _ (by omega))]; exact a5
  · rw [g.at k (by omega) (hW _ _ (by omega))]; exact a8 k hk
  · rw [g.at 4 (by omega) (hW _ _ (by omega))]; exact b1
  · rw [e1, e2, e3]
    exact b5.congr (fun z _ _ => ⟨g.at z x1 (hW _ _ (by omega)), g.at z x2 (hW _ _ (by omega)), g.at z x3 (hW _ _ (by omega))⟩)
theorem e_stSet {Q} (l : LX B n h) (hd : 9 ≤ d) (S : Sw B h H s dn tu mw c) {k : Nat} (hk : k < 37368) {v : Int} {w : Nat} (hw : hv h (B + 1) 4 = (w : Int)) (hlt : w < jl B h) (hm : jl B h < 16777216)
    (K : ∀ h', SX B h h' → Sw B h' H s dn tu (mw + 1) (upc c k v) → Q ((0, (9, 0)), h')) :
    Ends (ev PP (gsF gv) B d 451 27 [(2, rf (B + 1)), (0, (k : Int)), (0, v)] [] h) Q := by
  obtain ⟨⟨⟨a1, a2, a3⟩, ⟨k1, k2, k3⟩, ⟨o1, o2, o3⟩, ⟨p1, p2, p3⟩, ⟨x1, x2, x3⟩, y1, y2⟩, ⟨b1, b2, b3, b4⟩, c1, c2, c3, c5, c6, w', d1, d2, d3, d4, d5⟩ := S
  have hb := l.2.2
  obtain rfl : w = w' := by have := hw.symm.trans d1; omega
  refine Ends.eq (b451_27 (n := n) (by (repeat' first | assumption | refine LX.setF _ _ ?_ (by decide +kernel) | refine LX.setS ?_ rfl | refine LX.setA ?_ (by first | assumption | omega))) (by first | assumption | omega)) ?_
  rw [a1, a2, a3, hw, ad_rf, ad_rf, ad_rf, k1, k2, k3, tn, tn]
  refine Ends.g ⟨rf_pos _, rfl, by omega, by omega, by omega⟩ (Ends.g ⟨by omega, by omega⟩ (Ends.g ⟨rf_pos _, rfl, by omega, by omega, by omega⟩ (Ends.g ⟨rf_pos _, rfl, by omega, by omega, by omega⟩ ?_)))
  rw [an0, an0, an0, hv_set_ne (by omega), c6 k hk, add32 (by omega) (by omega)]
  generalize hq : hset (hset (hset (hset (hset h (j1 B h) w (k : Int)) (j2 B h) w (c k)) (j3 B h) w v) (B + 1) 4 ((w : Int) + 1)) (B + 2) k v = q
  have g : Agr (fun a z => (a = B + 1 ∧ z = 4) ∨ (a = B + 2 ∧ z = k) ∨ ((a = j1 B h ∨ a = j2 B h ∨ a = j3 B h) ∧ z = w)) h q := by
    rw [← hq]
    exact ((((Agr.rf.set (by omega)).set (by omega)).set (by omega)).set (by omega)).set (by omega)
  have e1 : j1 B q = j1 B h := by unfold j1; rw [g.at _ _ (by omega)]
  have e2 : j2 B q = j2 B h := by unfold j2; rw [g.at _ _ (by omega)]
  have e3 : j3 B q = j3 B h := by unfold j3; rw [g.at _ _ (by omega)]
  have e4 : jl B q = jl B h := by unfold jl; rw [e1, g.hk]
  refine Ends.sm (K q ⟨g.ext.sub (fun c z _ y => by unfold StW; omega) (Nat.zero_le _) (Nat.zero_le _), by omega, Or.inl e1, Or.inl e2, Or.inl e3⟩ ⟨?_, ⟨fun i hi => ?_, b2, fun i hi => by rw [e4]; exact b3 i hi, fun i hi => ?_⟩, ?_, ?_, ?_, fun i hi => by have := c5 i hi; omega, fun z hz => ?_, w + 1, ?_, by omega, by omega, by omega, ?_⟩)
  · unfold StJ
    rw [e1, e2, e3, e4, g.nx, g.hk, g.hk, g.hk, g.at _ _ (by omega), g.at _ _ (by omega), g.at _ _ (by omega)]
    exact ⟨⟨a1, a2, a3⟩, ⟨k1, k2, k3⟩, ⟨o1, o2, o3⟩, ⟨p1, p2, p3⟩, ⟨x1, x2, x3⟩, y1, by omega⟩
  · rw [g.at _ _ (by omega)]; exact b1 i hi
  · rw [e1, e2, e3]
    have hs : s (i + 1) ≤ s dn := by
      have : ∀ m, i + 1 + m ≤ dn → s (i + 1) ≤ s (i + 1 + m) := by
        intro m
        induction m with
        | zero => intro _; exact Nat.le_refl _
        | succ m ih => intro hh; exact Nat.le_trans (ih (by omega)) (b2 (i + 1 + m) (by omega))
      have := this (dn - (i + 1)) (by omega)
      rw [show i + 1 + (dn - (i + 1)) = dn by omega] at this; exact this
    exact (b4 i hi).congr (fun z h1 h2 => ⟨g.at _ _ (by omega), g.at _ _ (by omega), g.at _ _ (by omega)⟩)
  · rw [g.at _ _ (by omega)]; exact c1
  · rw [g.at _ _ (by omega)]; exact c2
  · rw [g.at _ _ (by omega)]; exact c3
  · unfold upc
    by_cases e : z = k
    · rw [if_pos e, e, ← hq]; exact hv_set_at ..
    · rw [if_neg e, g.at _ _ (by omega)]; exact c6 z hz
  · rw [← hq, hv_set_ne (by omega)]; exact hv_set_at ..
  · rw [e1, e2, e3, show w + 1 - s dn = (w - s dn) + 1 by omega]
    have ee : s dn + (w - s dn) = w := by omega
    refine Jn.app (d5.congr (fun z h1 h2 => ⟨g.at _ _ (by omega), g.at _ _ (by omega), g.at _ _ (by omega)⟩)) hk ?_ ?_ ?_
    · rw [ee, ← hq, hv_set_ne (by omega), hv_set_ne (by omega), hv_set_ne (by omega), hv_set_ne (by omega)]; exact hv_set_at ..
    · rw [ee, ← hq, hv_set_ne (by omega), hv_set_ne (by omega), hv_set_ne (by omega)]; exact hv_set_at ..
    · rw [ee, ← hq, hv_set_ne (by omega), hv_set_ne (by omega)]; exact hv_set_at ..
theorem c_stSet (l : LX B n h) (hd : 12 ≤ d) (S : Sw B h H s dn tu mw c) {k : Nat} (hk : k < 37368) {v : Int} (hm : mw < 1000000) :
    Vd (cll PP (ev PP (gsF gv) B) d 451 [(2, rf (B + 1)), (0, (k : Int)), (0, v)] h) (fun h' => SX B h h' ∧ Sw B h' H s dn tu (mw + 1) (upc c k v)) := by
  have S0 := S
  obtain ⟨A, ⟨b1, b2, b3, b4⟩, c1, c2, c3, c5, c6, w, d1, d2, d3, d4, d5⟩ := S
  have A0 := A
  obtain ⟨⟨a1, a2, a3⟩, ⟨k1, k2, k3⟩, ⟨o1, o2, o3⟩, ⟨p1, p2, p3⟩, ⟨x1, x2, x3⟩, y1, y2⟩ := A
  have hb := l.2.2
  refine Vd.into (D := 11) hd (Nat.le_of_ble_eq_true rfl) rfl (fun d hd => ?_)
  refine Ends.eq (b451_0 (n := n) (by (repeat' first | assumption | refine LX.setF _ _ ?_ (by decide +kernel) | refine LX.setS ?_ rfl | refine LX.setA ?_ (by first | assumption | omega))) (by first | assumption | omega)) ?_
  rw [tn, c6 k hk, a1, ad_rf, k1, d1]
  refine Ends.g ⟨by omega, by omega⟩ (Ends.b1 (fun ne => Ends.g ⟨rf_pos _, Nat.le_refl _⟩ (Ends.b1 (fun nw => ?_) (fun ew => ?_))) (fun eq => ?_))
  · have nw' : ¬ (w : Int) = (jl B h : Int) := nw
    exact e_stSet l (by omega) S0 hk d1 (by omega) (by omega) (fun h' x y => ⟨_, rfl, x, y⟩)
  · have ew' : (w : Int) = (jl B h : Int) := ew
    have ew2 : w = jl B h := by omega
    refine Ends.cv l (by decide +kernel) (c_stGrow l (by omega) A0 (by rw [d1, ew2]) (by omega)) (fun q lq _ _ _ ⟨g, ⟨t1, t2, t3⟩, ⟨r1, r2, r3⟩, nx, vv⟩ => ?_)
    have e1 : j1 B q = hnx h := by unfold j1; rw [t1, ad_rf]
    have e2 : j2 B q = hnx h + 1 := by unfold j2; rw [t2, ad_rf]
    have e3 : j3 B q = hnx h + 2 := by unfold j3; rw [t3, ad_rf]
    have e4 : jl B q = 2 * jl B h := by unfold jl; rw [e1, r1]; rfl
    have q4 : hv q (B + 1) 4 = (w : Int) := by rw [g.at 4 (by omega) (by omega)]; exact d1
    have Sq : Sw B q H s dn tu mw c := by
      refine ⟨?_, ⟨fun i hi => ?_, b2, fun i hi => by have := b3 i hi; omega, fun i hi => ?_⟩, ?_, ?_, ?_, c5, fun z hz => ?_, w, q4, d2, by omega, d4, ?_⟩
      · unfold StJ
        rw [e1, e2, e3, e4]
        exact ⟨⟨t1, t2, t3⟩, ⟨r1, r2, r3⟩, ⟨by omega, by omega, by omega⟩, ⟨by omega, by omega, by omega⟩, ⟨by omega, by omega, by omega⟩, by omega, by omega⟩
      · rw [g.at i (by omega) (by omega)]; exact b1 i hi
      · rw [e1, e2, e3]
        have hs : s (i + 1) ≤ jl B h := b3 (i + 1) (by omega)
        exact (b4 i hi).congr (fun z h1 h2 => vv z (by omega))
      · rw [g.at 6 (by omega) (by omega)]; exact c1
      · rw [g.at 7 (by omega) (by omega)]; exact c2
      · rw [g.at 8 (by omega) (by omega)]; exact c3
      · rw [g.at z (by omega) (by omega)]; exact c6 z hz
      · rw [e1, e2, e3]
        exact d5.congr (fun z h1 h2 => vv z (by omega))
    refine e_stSet lq (by omega) Sq hk q4 (by omega) (by omega) (fun h' x y => ⟨_, rfl, SX.tr ⟨?_, by omega, by omega, by omega, by omega⟩ x, y⟩)
    exact g.sub (fun c k _ z => Or.inl (by omega)) (by omega) (by omega)
  · refine Ends.sm ⟨_, rfl, SX.rf, ?_⟩
    rw [show upc c k v = c by rw [← eq]; exact upc_self c k]
    exact ⟨⟨A0.1, A0.2.1, A0.2.2.1, A0.2.2.2.1, A0.2.2.2.2.1, A0.2.2.2.2.2.1, by omega⟩, ⟨b1, b2, b3, b4⟩, c1, c2, c3, fun i hi => by have := c5 i hi; omega, c6, w, d1, d2, d3, by omega, d5⟩
/-- an edit ends -/
theorem c_stEnd (l : LX B n h) (hd : 10 ≤ d) (S : Sw B h H s dn tu mw c) (hdn : dn < 100) :
    Vd (cll PP (ev PP (gsF gv) B) d 445 [(2, rf (B + 1))] h) (fun h' => Agr (fun c k => (c = B + 1 ∧ (k = 6 ∨ k = 7)) ∨ (c = B + 6 ∧ k = dn + 1)) h h' ∧ SX B h h' ∧ ∃ s', St B h' (fun i => if i ≤ dn then H i else c) s' (dn + 1) (dn + 1) tu mw) := by
  obtain ⟨A, ⟨b1, b2, b3, b4⟩, c1, c2, c3, c5, c6, w, d1, d2, d3, d4, d5⟩ := S
  have A0 := A
  obtain ⟨⟨a1, a2, a3⟩, ⟨k1, k2, k3⟩, ⟨o1, o2, o3⟩, ⟨p1, p2, p3⟩, ⟨x1, x2, x3⟩, y1, y2⟩ := A
  have hb := l.2.2
  refine Vd.into (D := 9) hd (Nat.le_of_ble_eq_true rfl) rfl (fun d hd => ?_)
  refine Ends.eq (b445_0 (n := n) (by (repeat' first | assumption | refine LX.setF _ _ ?_ (by decide +kernel) | refine LX.setS ?_ rfl | refine LX.setA ?_ (by first | assumption | omega))) (by first | assumption | omega)) ?_
  rw [c1, d1, show bop32 96 (dn : Int) 1 = ((dn + 1 : Nat) : Int) from addNN (y := 1) (by omega), tn, an0]
  refine Ends.g ⟨by omega, by omega⟩ (Ends.b5 (fun _ => ?_) (fun _ => by omega))
  generalize hq : hset (hset (hset h (B + 1) 6 ((dn + 1 : Nat) : Int)) (B + 1) 7 ((dn + 1 : Nat) : Int)) (B + 6) (dn + 1) (w : Int) = q
  have lq : LX B n q := by
    rw [← hq]
    exact LX.setS (LX.setF 1 7 (LX.setF 1 6 l (by decide +kernel)) (by decide +kernel)) rfl
  have g : Agr (fun a z => (a = B + 1 ∧ (z = 6 ∨ z = 7)) ∨ (a = B + 6 ∧ z = dn + 1)) h q := by
    rw [← hq]
    exact ((Agr.rf.set (by omega)).set (by omega)).set (by omega)
  have e1 : j1 B q = j1 B h := by unfold j1; rw [g.at _ _ (by omega)]
  have e2 : j2 B q = j2 B h := by unfold j2; rw [g.at _ _ (by omega)]
  have e3 : j3 B q = j3 B h := by unfold j3; rw [g.at _ _ (by omega)]
  have e4 : jl B q = jl B h := by unfold jl; rw [e1, g.hk]
  refine Ends.eq (b445_44 (n := n) lq (by omega)) (Ends.sm ⟨_, rfl, g, ⟨g.ext.sub (fun c z _ y => by unfold StW; omega) (Nat.zero_le _) (Nat.zero_le _), by omega, Or.inl e1, Or.inl e2, Or.inl e3⟩, fun i => if i ≤ dn then s i else w, ?_, ⟨fun i hi => ?_, fun i hi => ?_, fun i hi => ?_, fun i hi => ?_⟩, ?_, ?_, ?_, Nat.le_refl _, fun i hi => ?_, fun z hz => ?_⟩)
  · unfold StJ
    rw [e1, e2, e3, e4, g.nx, g.hk, g.hk, g.hk, g.at _ _ (by omega), g.at _ _ (by omega), g.at _ _ (by omega)]
    exact A0
  · by_cases e : i ≤ dn
    · simp only [e, if_true]
      rw [g.at _ _ (by omega)]; exact b1 i e
    · simp only [e, if_false]
      obtain rfl : i = dn + 1 := by omega
      rw [← hq]; exact hv_set_at ..
  · by_cases e : i + 1 ≤ dn
    · simp only [e, show i ≤ dn by omega, if_true]; exact b2 i (by omega)
    · simp only [e, show i ≤ dn by omega, if_true, if_false]
      obtain rfl : i = dn := by omega
      exact d2
  · rw [e4]
    by_cases e : i ≤ dn
    · simp only [e, if_true]; exact b3 i e
    · simp only [e, if_false]; exact d3
  · rw [e1, e2, e3]
    by_cases e : i + 1 ≤ dn
    · simp only [e, show i ≤ dn by omega, if_true]
      exact (b4 i (by omega)).congr (fun z h1 h2 => ⟨g.at _ _ (by omega), g.at _ _ (by omega), g.at _ _ (by omega)⟩)
    · simp only [e, show i ≤ dn by omega, if_true, if_false]
      obtain rfl : i = dn := by omega
      exact d5.congr (fun z h1 h2 => ⟨g.at _ _ (by omega), g.at _ _ (by omega), g.at _ _ (by omega)⟩)
  · rw [← hq, hv_set_ne (by omega), hv_set_ne (by omega)]; exact hv_set_at ..
  · rw [← hq, hv_set_ne (by omega)]; exact hv_set_at ..
  · rw [g.at _ _ (by omega)]; exact c3
  · by_cases e : i ≤ dn
    · simp only [e, if_true]; exact c5 i e
    · simp only [e, if_false]; exact d4
  · simp only [show ¬ dn + 1 ≤ dn by omega, if_false]
    rw [g.at _ _ (by omega)]; exact c6 z hz
end STORE2
