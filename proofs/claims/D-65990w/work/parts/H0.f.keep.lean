/-! L3: faces (desk): a face is kept -/
section KPF
variable {gv : Nat → Int} {B n d : Nat} {h : AH} {E : Nat → Bool}
/-- the OFFSET of a facet -/
def ofF (n K : Nat) : Int := nvI (drT (K % 96)) 0 * ((gX n (K / 4) + fcC (K % 96) 0 / 2 : Nat) : Int) + nvI (drT (K % 96)) 1 * ((gY n (K / 4) + fcC (K % 96) 1 / 2 : Nat) : Int) + nvI (drT (K % 96)) 2 * ((gZ n (K / 4) + fcC (K % 96) 2 / 2 : Nat) : Int)
theorem fc_even : alB 96 (fun k => alB 3 (fun a => fcC k a % 2 == 0)) = true := by decide +kernel
theorem off_1 {N : Int} {x c : Nat} (hN : -1 ≤ N ∧ N ≤ 1) (hx : x < 1000) (hc : c ≤ 2) (he : c % 2 = 0) : bop32 108 (bop32 104 N (bop32 96 (bop32 104 2 (x : Int)) (c : Int))) 2 = N * ((x + c / 2 : Nat) : Int) ∧ -2000 ≤ N * ((x + c / 2 : Nat) : Int) ∧ N * ((x + c / 2 : Nat) : Int) ≤ 2000 := by
  obtain ⟨y, ey⟩ : ∃ y, y = x + c / 2 := ⟨_, rfl⟩
  rw [← ey]
  have e1 : bop32 96 (bop32 104 2 (x : Int)) (c : Int) = 2 * (y : Int) := by rw [mul32 (by omega) (by omega), add32 (by omega) (by omega)]; omega
  have b : -2000 ≤ N * (y : Int) ∧ N * (y : Int) ≤ 2000 := by
    rcases (by omega : N = -1 ∨ N = 0 ∨ N = 1) with rfl | rfl | rfl <;> omega
  have e2 : N * (2 * (y : Int)) = 2 * (N * (y : Int)) := by grind
  refine ⟨?_, b⟩
  rw [e1]
  clear e1
  rw [mul32 (by rw [e2]; omega) (by rw [e2]; omega), e2]
  exact dv_ex (by decide) (by omega)
theorem c_offset235 {K : Nat} (l : LX B n h) (hd : 12 ≤ d) (hn : n ≤ 52) (m : TbC B h) (hK : K < 4 * gN n) :
    Vt 0 (cll PP (ev PP (gsF gv) B) d 235 [(2, rf (B + 36)), (0, ((gSo (K / 4) : Nat) : Int)), (0, ((K % 4 : Nat) : Int)), (0, ((gX n (K / 4) : Nat) : Int)), (0, ((gY n (K / 4) : Nat) : Int)), (0, ((gZ n (K / 4) : Nat) : Int))] h) (fun v h' => v = ofF n K ∧ Agr (fun c k => c = B + 49 ∧ k < 9) h h') := by
  obtain ⟨hn0, k1, k2, k3, k4⟩ := g_lt (K4_lt hK)
  have e96 := K96 (K := K)
  have f4 : K % 4 < 4 := Nat.mod_lt _ (by decide)
  refine Vt.inq (D := 11) hd (Nat.le_of_ble_eq_true rfl) rfl (fun d hd Q KK => ?_)
  refine Ends.eq (b235_0 l (by omega)) ?_
  have et : hv h (B + 45) (K % 96) = ((drT (K % 96) : Nat) : Int) := by
    obtain ⟨-, -, -, -, -, -, t7, -⟩ := m.1 (gSo (K / 4)) k4
    rw [e96, (t7 (K % 4) f4).2, dr_is k4 f4]
  rw [show bop32 96 (bop32 104 (4 : Int) ((gSo (K / 4) : Nat) : Int)) ((K % 4 : Nat) : Int) = ((K % 96 : Nat) : Int) from by
    rw [show bop32 104 (4 : Int) ((gSo (K / 4) : Nat) : Int) = ((4 * gSo (K / 4) : Nat) : Int) from mulNN (x := 4) (by omega), addNN (by omega), ← e96], tn, et]
  refine Ends.g ⟨by omega, by omega⟩ ?_
  refine Ends.cv l (by decide +kernel) (c_corners227 (a := B + 49) l (by omega) m (by rw [lk_49 l]) (by omega) k4 f4) (fun h1 l1 _ _ _ ⟨g1, I1⟩ => ?_)
  rw [← e96] at I1
  refine Ends.eq (b235_22 l1 (by omega)) (Ends.sm (KK _ _ ⟨?_, g1⟩))
  have h96 : K % 96 < 96 := K96_lt
  have dk := (fcC_le h96 (show 0 < 9 by decide)).2
  have q0 := (fcC_le h96 (show 0 < 9 by decide)).1
  have q1 := (fcC_le h96 (show 1 < 9 by decide)).1
  have q2 := (fcC_le h96 (show 2 < 9 by decide)).1
  have v0 := alB_t (alB_t fc_even _ h96) 0 (by decide)
  have v1 := alB_t (alB_t fc_even _ h96) 1 (by decide)
  have v2 := alB_t (alB_t fc_even _ h96) 2 (by decide)
  rw [beq_iff_eq] at v0 v1 v2
  obtain ⟨n0, n1, n2⟩ := v234_0 dk
  rw [n0, n1, n2, show Int.toNat 0 = 0 from rfl, show Int.toNat 1 = 1 from rfl, show Int.toNat 2 = 2 from rfl, I1 0 (by decide), I1 1 (by decide), I1 2 (by decide)]
  clear n0 n1 n2
  have a0 := off_1 (x := gX n (K / 4)) (nv_lt (a := 0) dk) (by omega) q0 v0
  have a1 := off_1 (x := gY n (K / 4)) (nv_lt (a := 1) dk) (by omega) q1 v1
  have a2 := off_1 (x := gZ n (K / 4)) (nv_lt (a := 2) dk) (by omega) q2 v2
  rw [a0.1, a1.1, a2.1]
  have a0 := a0.2
  have a1 := a1.2
  have a2 := a2.2
  unfold ofF
  generalize nvI (drT (K % 96)) 0 * ((gX n (K / 4) + fcC (K % 96) 0 / 2 : Nat) : Int) = y0 at *
  generalize nvI (drT (K % 96)) 1 * ((gY n (K / 4) + fcC (K % 96) 1 / 2 : Nat) : Int) = y1 at *
  generalize nvI (drT (K % 96)) 2 * ((gZ n (K / 4) + fcC (K % 96) 2 / 2 : Nat) : Int) = y2 at *
  rw [show bop32 96 y0 y1 = y0 + y1 from add32 (by omega) (by omega), show bop32 96 (y0 + y1) y2 = y0 + y1 + y2 from add32 (by omega) (by omega)]
/-- an array is copied into one of twice its size -/
theorem c_dbl {x mm : Nat} (l : LX B n h) (hd : 10 ≤ d) (hx : hk h x = (2, mm)) (hxb : x < hnx h) (hm : 0 < mm) (hN : mm ≤ 8000000) :
    Vt 2 (cll PP (ev PP (gsF gv) B) d 907 [(2, (rf x)), (0, ((2 * mm : Nat) : Int))] h) (fun v q => v = rf (hnx h) ∧ hk q (hnx h) = (2, 2 * mm) ∧ hnx q = hnx h + 1 ∧ hus q = hus h + 2 * mm ∧ (∀ e, e < mm → hv q (hnx h) e = hv h x e) ∧ ExG (fun _ _ => False) h q) := by
  obtain ⟨v, q, e, ev, eh⟩ := c_copyOf (gv := gv) (N := 2 * mm) l hd hx hxb (by omega) (by omega)
  refine ⟨v, q, e, ev, ?_, ?_, ?_, fun e he => ?_, ?_⟩
  · rw [eh, hk_cpy, hk_new, if_pos rfl]
  · rw [eh]; rfl
  · rw [eh]; rfl
  · rw [eh, hv_cpy, if_pos ⟨rfl, by omega, by omega⟩, hv_new, if_neg (by omega)]
    rw [show 0 + (e - 0) = e by omega]
  · rw [eh]
    have : Ext (fun _ _ => False) 1 (2 * mm) h (hcpy (hnew h (2, 2 * mm) (2 * mm)) x (hnx h) 0 0 mm) := Ext.new.cpy (fun z => absurd z (by omega))
    exact this.exg
/-- i of the six lists have been doubled -/
def KpG (B : Nat) (h : AH) (ka : Nat → Nat) (kc i : Nat) (q : AH) : Prop := hnx q = hnx h + i ∧ hus q = hus h + i * (2 * kc) ∧ ExG (fun c k => c = B + 82 ∧ 7 ≤ k ∧ k ≤ 12) h q ∧ (∀ j, j < i → hv q (B + 82) (7 + j) = rf (hnx h + j) ∧ hk q (hnx h + j) = (2, 2 * kc) ∧ ∀ e, e < kc → hv q (hnx h + j) e = hv h (ka j) e) ∧ ∀ j, i ≤ j → j < 6 → hv q (B + 82) (7 + j) = rf (ka j)
theorem KpG.step {ka : Nat → Nat} {kc i : Nat} {q q' : AH} (hb : B + 246 ≤ hnx h) (hka : ∀ j, j < 6 → ka j < hnx h ∧ B + 85 ≤ ka j) (hi : i < 6) (G : KpG B h ka kc i q) (r1 : hk q' (hnx q) = (2, 2 * kc)) (r2 : hnx q' = hnx q + 1) (r3 : hus q' = hus q + 2 * kc) (r4 : ∀ e, e < kc → hv q' (hnx q) e = hv q (ka i) e) (r5 : ExG (fun _ _ => False) q q') : KpG B h ka kc (i + 1) (hset q' (B + 82) (7 + i) (rf (hnx q))) := by
  obtain ⟨g1, g2, g3, g4, g5⟩ := G
  refine ⟨?_, ?_, ?_, fun j hj => ?_, fun j h1 h2 => ?_⟩
  · show hnx q' = _; omega
  · show hus q' = _; rw [r3, g2]; have := Nat.add_mul i 1 (2 * kc); omega
  · have X := g3.tr r5 (fun _ _ _ z => z.elim)
    exact ⟨X.1, fun a k ha w => by rw [hv_set_ne (fun z => w ⟨z.1, by omega, by omega⟩)]; exact X.at k ha w, X.2.2⟩
  · by_cases z : j = i
    · subst z
      rw [← g1, hv_set_at]
      refine ⟨rfl, r1, fun e he => ?_⟩
      rw [hv_set_ne (by omega), r4 e he]
      exact g3.at e (hka j hi).1 (fun z => by have := (hka j hi).2; omega)
    · obtain ⟨a1, a2, a3⟩ := g4 j (by omega)
      refine ⟨?_, ?_, fun e he => ?_⟩
      · rw [hv_set_ne (by omega), r5.at _ (by omega) (fun z => z)]; exact a1
      · show hk q' _ = _
        rw [r5.hk (by omega)]; exact a2
      · rw [hv_set_ne (by omega), r5.at _ (by omega) (fun z => z)]; exact a3 e he
  · rw [hv_set_ne (by omega), r5.at _ (by omega) (fun z => z)]
    exact g5 j (by omega) h2
def capK (c : Nat) : Prop := c = 64 ∨ c = 128 ∨ c = 256 ∨ c = 512 ∨ c = 1024 ∨ c = 2048 ∨ c = 4096
/-- the six lists of kept faces -/
def KpA (B : Nat) (h : AH) (ka : Nat → Nat) (kc : Nat) : Prop := (∀ j, j < 6 → hv h (B + 82) (7 + j) = rf (ka j) ∧ hk h (ka j) = (2, kc) ∧ (ka j = B + 85 + j ∨ B + 246 ≤ ka j) ∧ ka j < hnx h) ∧ (∀ i j, i < 6 → j < 6 → i ≠ j → ka i ≠ ka j) ∧ capK kc
def kpz (h : AH) (kc : Nat) : Nat := hus h + 6 * (8192 - 2 * kc)
/-- what is kept of a face: DIRECTION, OFFSET, how many facets of sorts, the first facet -/
def kpV (n : Nat) (V : Nat → Bool) (K : Nat) (j : Nat) : Int := if j = 0 then ((drT (K % 96) : Nat) : Int) else if j = 1 then ofF n K else if j = 2 then ((cnQ n V 0 : Nat) : Int) else if j = 3 then ((cnQ n V 1 : Nat) : Int) else if j = 4 then ((cnQ n V 2 + cnQ n V 3 : Nat) : Int) else (cdN n K : Int)
def kfW (B : Nat) (ka : Nat → Nat) : Nat → Nat → Prop := fun c k => (c = B + 82 ∧ 6 ≤ k ∧ k ≤ 12) ∨ (∃ j, j < 6 ∧ c = ka j) ∨ (c = B + 49 ∧ k < 9)
set_option maxHeartbeats 2000000 in
theorem c_keep164 {ka : Nat → Nat} {kc kp K : Nat} {V : Nat → Bool} (l : LX B n h) (hd : 14 ≤ d) (hn : n ≤ 52) (m : TbC B h) (A : KpA B h ka kc) (e6 : hv h (B + 82) 6 = (kp : Int)) (hkp : kp ≤ kc) (h4096 : kp < 4096) (hK : K < 4 * gN n) (C : CtS B n h V) :
    Vd (cll PP (ev PP (gsF gv) B) d 164 [(2, rf (B + 82)), (0, ((gSo (K / 4) : Nat) : Int)), (0, ((K % 4 : Nat) : Int)), (0, ((gX n (K / 4) : Nat) : Int)), (0, ((gY n (K / 4) : Nat) : Int)), (0, ((gZ n (K / 4) : Nat) : Int))] h) (fun h' => ∃ ka' kc', KpA B h' ka' kc' ∧ kp + 1 ≤ kc' ∧ hv h' (B + 82) 6 = ((kp + 1 : Nat) : Int) ∧ (∀ j, j < 6 → (ka' j = ka j ∨ hnx h ≤ ka' j) ∧ (∀ i, i < kp → hv h' (ka' j) i = hv h (ka j) i) ∧ hv h' (ka' j) kp = kpV n V K j) ∧ kpz h' kc' = kpz h kc ∧ cel h h' ∧ ExG (kfW B ka) h h') := by
  have hb := l.2.2
  have e96 := K96 (K := K)
  obtain ⟨hn0, k1, k2, k3, k4⟩ := g_lt (K4_lt hK)
  have f4 : K % 4 < 4 := Nat.mod_lt _ (by decide)
  have kc0 : 64 ≤ kc ∧ kc ≤ 4096 := by have := A.2.2; unfold capK at this; omega
  obtain ⟨A1, A2, A3⟩ := A
  refine Vd.inq (D := 13) hd (Nat.le_of_ble_eq_true rfl) rfl (fun d hd Q KK => ?_)
  -- with room in the lists
  have fin : ∀ (q : AH) (ka' : Nat → Nat) (kc' : Nat), LX B n q → KpA B q ka' kc' → kp < kc' → (∀ j, j < 6 → (ka' j = ka j ∨ hnx h ≤ ka' j) ∧ ∀ i, i < kp → hv q (ka' j) i = hv h (ka j) i) → kpz q kc' = kpz h kc → cel h q → ExG (fun c k => c = B + 82 ∧ 7 ≤ k ∧ k ≤ 12) h q → Ends (ev PP (gsF gv) B d 164 114 [(2, rf (B + 82)), (0, ((gSo (K / 4) : Nat) : Int)), (0, ((K % 4 : Nat) : Int)), (0, ((gX n (K / 4) : Nat) : Int)), (0, ((gY n (K / 4) : Nat) : Int)), (0, ((gZ n (K / 4) : Nat) : Int))] [] q) Q := by
    intro q ka' kc' lq A' hlt O rm ce X
    have A'0 := A'
    obtain ⟨a1, a2, a3⟩ := A'
    have nq := X.2.2.1
    have q6 : hv q (B + 82) 6 = (kp : Int) := by rw [X.at _ (by omega) (by omega)]; exact e6
    have mq : TbC B q := m.ext hb (X.ext (c := hnx q - hnx h) (s := hus q - hus h) (by omega) (by have := X.2.2.2; omega)) (fun c k h1 h2 w => by omega)
    have et : ∀ _ : Unit, hv q (B + 45) (K % 96) = ((drT (K % 96) : Nat) : Int) := fun _ => by
      obtain ⟨-, -, -, -, -, -, t7, -⟩ := mq.1 (gSo (K / 4)) k4
      rw [e96, (t7 (K % 4) f4).2, dr_is k4 f4]
    have g := fun j (hj : j < 6) => (a1 j hj).1
    have kq := fun j (hj : j < 6) => (a1 j hj).2.1
    have lo : ∀ j, j < 6 → B + 85 ≤ ka' j := fun j hj => by have := (a1 j hj).2.2.1; omega
    have g0 := g 0 (by decide)
    have g1 := g 1 (by decide)
    have ok : ∀ j, j < 6 → 0 < rf (ka' j) ∧ (2, kc').1 = 0 + 2 ∧ 0 ≤ (kp : Int) ∧ (kp : Int) < (((2, kc') : Nat × Nat).2 : Int) ∧ B ≤ ka' j := fun j hj => ⟨rf_pos _, rfl, by omega, by show (kp : Int) < ((kc' : Nat) : Int); omega, by have := lo j hj; omega⟩
    refine Ends.eq (b164_114 lq (by omega)) ?_
    rw [show bop32 96 (bop32 104 (4 : Int) ((gSo (K / 4) : Nat) : Int)) ((K % 4 : Nat) : Int) = ((K % 96 : Nat) : Int) from by
      rw [show bop32 104 (4 : Int) ((gSo (K / 4) : Nat) : Int) = ((4 * gSo (K / 4) : Nat) : Int) from mulNN (x := 4) (by omega), addNN (by omega), ← e96], tn, et (), g0, q6, ad_rf, kq 0 (by decide), tn, an0, g1]
    refine Ends.g ⟨by omega, by omega⟩ (Ends.g (ok 0 (by decide)) ?_)
    have l2 : LX B n (hset q (ka' 0) kp ((drT (K % 96) : Nat) : Int)) := LX.setA (t := 0) lq (by rw [kq 0 (by decide)])
    have G2 : Agr (fun c k => c = ka' 0 ∧ k = kp) q (hset q (ka' 0) kp ((drT (K % 96) : Nat) : Int)) := Agr.rf.set ⟨rfl, rfl⟩
    have v2 : ∀ _ : Unit, hv (hset q (ka' 0) kp ((drT (K % 96) : Nat) : Int)) (ka' 0) kp = ((drT (K % 96) : Nat) : Int) := fun _ => hv_set_at ..
    generalize hset q (ka' 0) kp ((drT (K % 96) : Nat) : Int) = q2 at *
    have lo0 := lo 0 (by decide)
    refine Ends.ct l2 (by decide +kernel) (by decide) (c_offset235 l2 (by omega) hn (mq.ext lq.2.2 G2.ext (fun c k h1 h2 w => by omega)) hK) (fun y q3 l3 _ _ _ ⟨ey, G3⟩ => ?_)
    rw [ey]; clear ey
    have G : Agr (fun c k => (c = ka' 0 ∧ k = kp) ∨ (c = B + 49 ∧ k < 9)) q q3 := (G2.sub (fun _ _ z => Or.inl z)).tr G3 (fun _ _ z => Or.inr z)
    have f82 : ∀ k, hv q3 (B + 82) k = hv q (B + 82) k := fun k => G.at _ _ (by omega)
    have v3 : ∀ _ : Unit, hv q3 (ka' 0) kp = ((drT (K % 96) : Nat) : Int) := fun _ => by rw [G3.at _ _ (by omega)]; exact v2 ()
    have c13 : hv q3 (B + 82) 13 = ((cnQ n V 0 : Nat) : Int) := by rw [f82, X.at _ (by omega) (by omega)]; exact C.1
    have c14 : hv q3 (B + 82) 14 = ((cnQ n V 1 : Nat) : Int) := by rw [f82, X.at _ (by omega) (by omega)]; exact C.2.1
    have c15 : hv q3 (B + 82) 15 = ((cnQ n V 2 + cnQ n V 3 : Nat) : Int) := by rw [f82, X.at _ (by omega) (by omega)]; exact C.2.2
    have k3' : ∀ j, j < 6 → hk q3 (ka' j) = (2, kc') := fun j hj => by rw [G.hk]; exact kq j hj
    refine Ends.eq (b164_158 l3 (by omega)) ?_
    rw [ad_rf, k3' 1 (by decide), tn, an0]
    refine Ends.g (ok 1 (by decide)) ?_
    have ne : ∀ i j, i < 6 → j < 6 → i ≠ j → ¬ ka' i = ka' j := fun i j hi hj h => a2 i j hi hj h
    -- the heaps of the walk
    have s82 : ∀ (t : AH) (a k : Nat) (v : Int), B + 85 ≤ a → ∀ k', hv (hset t a k v) (B + 82) k' = hv t (B + 82) k' := fun t a k v ha k' => hv_set_ne (by omega)
    have lo1 := lo 1 (by decide)
    have lo2 := lo 2 (by decide)
    have lo3 := lo 3 (by decide)
    have lo4 := lo 4 (by decide)
    have lo5 := lo 5 (by decide)
    have h9 : hv q3 (B + 82) 9 = rf (ka' 2) := by rw [f82]; exact g 2 (by decide)
    have h10 : hv q3 (B + 82) 10 = rf (ka' 3) := by rw [f82]; exact g 3 (by decide)
    have h11 : hv q3 (B + 82) 11 = rf (ka' 4) := by rw [f82]; exact g 4 (by decide)
    have h12 : hv q3 (B + 82) 12 = rf (ka' 5) := by rw [f82]; exact g 5 (by decide)
    have h6 : hv q3 (B + 82) 6 = (kp : Int) := by rw [f82]; exact q6
    have hks : ∀ (t : AH) (a k : Nat) (v : Int) (x : Nat), hk (hset t a k v) x = hk t x := fun t a k v x => by rw [hk_set]
    have an0' : ∀ v : Int, anar 0 v = v := fun v => an0 v
    have tn' : ∀ x : Nat, Int.toNat (x : Int) = x := tn
    have ad_rf' : ∀ x : Nat, ad (rf x) = x := ad_rf
    simp only [s82 _ _ _ _ lo1, s82 _ _ _ _ lo2, s82 _ _ _ _ lo3, s82 _ _ _ _ lo4, s82 _ _ _ _ lo5, h9, h10, h11, h12, h6, c13, c14, c15, ad_rf', tn', an0', hks]
    rw [k3' 2 (by decide), k3' 3 (by decide), k3' 4 (by decide), k3' 5 (by decide)]
    refine Ends.g (ok 2 (by decide)) (Ends.g (ok 3 (by decide)) (Ends.g (ok 4 (by decide)) (Ends.g (ok 5 (by decide)) ?_)))
    rw [show bop32 96 (kp : Int) 1 = ((kp + 1 : Nat) : Int) from addNN (y := 1) (by omega)]
    have cda : v159 n ((gSo (K / 4) : Nat) : Int) ((K % 4 : Nat) : Int) ((gX n (K / 4) : Nat) : Int) ((gY n (K / 4) : Nat) : Int) ((gZ n (K / 4) : Nat) : Int) = (cdN n K : Int) := by
      rw [cd_at hn k4 f4 k1 k2 k3, gI_g, show 4 * (K / 4) + K % 4 = K by omega]
    rw [cda]
    clear cda
    generalize hq4 : hset (hset (hset (hset (hset (hset q3 (ka' 1) kp (ofF n K)) (ka' 2) kp ((cnQ n V 0 : Nat) : Int)) (ka' 3) kp ((cnQ n V 1 : Nat) : Int)) (ka' 4) kp ((cnQ n V 2 + cnQ n V 3 : Nat) : Int)) (ka' 5) kp (cdN n K : Int)) (B + 82) 6 ((kp + 1 : Nat) : Int) = q4
    have G4 : Agr (fun c k => (c = B + 82 ∧ k = 6) ∨ (∃ j, 0 < j ∧ j < 6 ∧ c = ka' j ∧ k = kp)) q3 q4 := by
      rw [← hq4]
      exact (((((Agr.rf.set (Or.inr ⟨1, by decide, by decide, rfl, rfl⟩)).set (Or.inr ⟨2, by decide, by decide, rfl, rfl⟩)).set (Or.inr ⟨3, by decide, by decide, rfl, rfl⟩)).set (Or.inr ⟨4, by decide, by decide, rfl, rfl⟩)).set (Or.inr ⟨5, by decide, by decide, rfl, rfl⟩)).set (Or.inl ⟨rfl, rfl⟩)
    have Gq : Agr (fun c k => (c = B + 49 ∧ k < 9) ∨ (c = B + 82 ∧ k = 6) ∨ (∃ j, j < 6 ∧ c = ka' j ∧ k = kp)) q q4 := (G.sub (fun c k z => by
      rcases z with z | z
      · exact Or.inr (Or.inr ⟨0, by decide, z⟩)
      · exact Or.inl z)).tr G4 (fun c k z => by
      rcases z with z | ⟨j, _, j1, j2⟩
      · exact Or.inr (Or.inl z)
      · exact Or.inr (Or.inr ⟨j, j1, j2⟩))
    have six : hv q4 (B + 82) 6 = ((kp + 1 : Nat) : Int) := by rw [← hq4]; exact hv_set_at ..
    have newv : ∀ j, j < 6 → hv q4 (ka' j) kp = kpV n V K j := fun j hj => by
      rw [← hq4, hv_set_ne (by have := lo j hj; omega)]
      unfold kpV
      rcases (by omega : j = 0 ∨ j = 1 ∨ j = 2 ∨ j = 3 ∨ j = 4 ∨ j = 5) with rfl | rfl | rfl | rfl | rfl | rfl
      · rw [if_pos rfl]
        rw [hv_set_ne (fun z => ne 0 5 (by decide) (by decide) (by decide) z.1), hv_set_ne (fun z => ne 0 4 (by decide) (by decide) (by decide) z.1), hv_set_ne (fun z => ne 0 3 (by decide) (by decide) (by decide) z.1), hv_set_ne (fun z => ne 0 2 (by decide) (by decide) (by decide) z.1), hv_set_ne (fun z => ne 0 1 (by decide) (by decide) (by decide) z.1)]
        exact v3 ()
      · rw [if_neg (show ¬ (1 : Nat) = 0 by decide), if_pos rfl]
        rw [hv_set_ne (fun z => ne 1 5 (by decide) (by decide) (by decide) z.1), hv_set_ne (fun z => ne 1 4 (by decide) (by decide) (by decide) z.1), hv_set_ne (fun z => ne 1 3 (by decide) (by decide) (by decide) z.1), hv_set_ne (fun z => ne 1 2 (by decide) (by decide) (by decide) z.1), hv_set_at]
      · rw [if_neg (show ¬ (2 : Nat) = 0 by decide), if_neg (show ¬ (2 : Nat) = 1 by decide), if_pos rfl]
        rw [hv_set_ne (fun z => ne 2 5 (by decide) (by decide) (by decide) z.1), hv_set_ne (fun z => ne 2 4 (by decide) (by decide) (by decide) z.1), hv_set_ne (fun z => ne 2 3 (by decide) (by decide) (by decide) z.1), hv_set_at]
      · rw [if_neg (show ¬ (3 : Nat) = 0 by decide), if_neg (show ¬ (3 : Nat) = 1 by decide), if_neg (show ¬ (3 : Nat) = 2 by decide), if_pos rfl]
        rw [hv_set_ne (fun z => ne 3 5 (by decide) (by decide) (by decide) z.1), hv_set_ne (fun z => ne 3 4 (by decide) (by decide) (by decide) z.1), hv_set_at]
      · rw [if_neg (show ¬ (4 : Nat) = 0 by decide), if_neg (show ¬ (4 : Nat) = 1 by decide), if_neg (show ¬ (4 : Nat) = 2 by decide), if_neg (show ¬ (4 : Nat) = 3 by decide), if_pos rfl]
        rw [hv_set_ne (fun z => ne 4 5 (by decide) (by decide) (by decide) z.1), hv_set_at]
      · rw [if_neg (show ¬ (5 : Nat) = 0 by decide), if_neg (show ¬ (5 : Nat) = 1 by decide), if_neg (show ¬ (5 : Nat) = 2 by decide), if_neg (show ¬ (5 : Nat) = 3 by decide), if_neg (show ¬ (5 : Nat) = 4 by decide)]
        rw [hv_set_at]
    clear hq4
    refine Ends.sm (KK _ ⟨ka', kc', ⟨fun j hj => ?_, a2, a3⟩, by omega, six, fun j hj => ⟨(O j hj).1, fun i hi => ?_, newv j hj⟩, ?_, ce.tr (cel.agr Gq), X.sub (W' := kfW B ka) (fun c k _ z => Or.inl ⟨z.1, by omega, z.2.2⟩) |>.tr Gq.ext.exg (fun c k hc z => ?_)⟩)
    · obtain ⟨z1, z2, z3, z4⟩ := a1 j hj
      refine ⟨?_, by rw [Gq.hk]; exact z2, z3, by rw [Gq.nx]; exact z4⟩
      rw [Gq.at _ _ (fun z => by
        rcases z with z | z | ⟨i, i1, i2, -⟩
        · omega
        · omega
        · have := lo i i1; omega)]
      exact z1
    · rw [Gq.at _ _ (fun z => by
        have := lo j hj
        rcases z with z | z | ⟨i2, i3, i4, i5⟩
        · omega
        · omega
        · omega)]
      exact (O j hj).2 i hi
    · rw [← rm]; unfold kpz; rw [Gq.us]
    · rcases z with z | z | ⟨j, j1, j2, -⟩
      · exact Or.inr (Or.inr z)
      · exact Or.inl ⟨z.1, by omega, by omega⟩
      · rcases (O j j1).1 with y | y
        · exact Or.inr (Or.inl ⟨j, j1, by rw [j2, y]⟩)
        · omega
  refine Ends.eq (b164_0 l (by omega)) ?_
  have a10 := (A1 0 (by decide)).1
  rw [show 7 + 0 = 7 from rfl] at a10
  rw [a10, e6, ad_rf, (A1 0 (by decide)).2.1]
  refine Ends.g ⟨rf_pos _, Nat.le_refl 2⟩ (Ends.b1 (fun z => ?_) (fun z => ?_))
  · have z : (kp : Int) ≠ ((kc : Nat) : Int) := z
    exact fin h ka kc l ⟨A1, A2, A3⟩ (by omega) (fun j hj => ⟨Or.inl rfl, fun _ _ => rfl⟩) rfl cel.rf ExG.rf
  · have z : (kp : Int) = ((kc : Nat) : Int) := z
    obtain rfl : kp = kc := by omega
    have hka : ∀ j, j < 6 → ka j < hnx h ∧ B + 85 ≤ ka j := fun j hj => ⟨(A1 j hj).2.2.2, by have := (A1 j hj).2.2.1; omega⟩
    have e2 : ∀ _ : Unit, bop32 104 (2 : Int) (kp : Int) = ((2 * kp : Nat) : Int) := fun _ => mulNN (x := 2) (by omega)
    have G0 : KpG B h ka kp 0 h := ⟨rfl, by omega, ExG.rf, fun j hj => absurd hj (Nat.not_lt_zero j), fun j _ hj => (A1 j hj).1⟩
    have v6 : ∀ {i : Nat} {q : AH}, KpG B h ka kp i q → hv q (B + 82) 6 = (kp : Int) := fun G => by rw [G.2.2.1.at _ (by omega) (by omega)]; exact e6
    have kk : ∀ {i : Nat} {q : AH} (j : Nat), j < 6 → KpG B h ka kp i q → hk q (ka j) = (2, kp) ∧ ka j < hnx q := fun j hj G => by
      have h1 := (hka j hj).1
      have h2 := G.2.2.1.2.2.1
      exact ⟨by rw [G.2.2.1.hk h1]; exact (A1 j hj).2.1, by omega⟩
    rw [e2 ()]
    refine Ends.ct l (by decide +kernel) (by decide) (c_dbl l (by omega) (kk 0 (by decide) G0).1 (kk 0 (by decide) G0).2 (by omega) (by omega)) (fun v q0 l0 _ _ _ ⟨ev, r1, r2, r3, r4, r5⟩ => ?_)
    have G1 := G0.step hb hka (by decide) r1 r2 r3 r4 r5
    subst ev
    refine Ends.eq (b164_26 l0 (by omega)) ?_
    have L1 : LX B n (hset q0 (B + 82) (7 + 0) (rf (hnx h))) := LX.setF 82 7 l0 (by decide +kernel)
    clear r1 r2 r3 r4 r5
    rw [show hset q0 (B + 82) 7 (rf (hnx h)) = hset q0 (B + 82) (7 + 0) (rf (hnx h)) from rfl]
    have s8 : hv q0 (B + 82) 8 = rf (ka 1) ∧ hv q0 (B + 82) 6 = (kp : Int) := by
      have a := G1.2.2.2.2 1 (by decide) (by decide)
      have b := v6 G1
      rw [hv_set_ne (by omega)] at a b
      exact ⟨a, b⟩
    rw [s8.1, s8.2, e2 ()]
    clear s8
    generalize hset q0 (B + 82) (7 + 0) (rf (hnx h)) = p1 at *
    refine Ends.ct L1 (by decide +kernel) (by decide) (c_dbl L1 (by omega) (kk 1 (by decide) G1).1 (kk 1 (by decide) G1).2 (by omega) (by omega)) (fun v q0 l0 _ _ _ ⟨ev, r1, r2, r3, r4, r5⟩ => ?_)
    have G2 := G1.step hb hka (by decide) r1 r2 r3 r4 r5
    subst ev
    refine Ends.eq (b164_43 l0 (by omega)) ?_
    have L2 : LX B n (hset q0 (B + 82) (7 + 1) (rf (hnx p1))) := LX.setF 82 8 l0 (by decide +kernel)
    clear r1 r2 r3 r4 r5 G1 L1
    rw [show hset q0 (B + 82) 8 (rf (hnx p1)) = hset q0 (B + 82) (7 + 1) (rf (hnx p1)) from rfl]
    have s8 : hv q0 (B + 82) 9 = rf (ka 2) ∧ hv q0 (B + 82) 6 = (kp : Int) := by
      have a := G2.2.2.2.2 2 (by decide) (by decide)
      have b := v6 G2
      rw [hv_set_ne (by omega)] at a b
      exact ⟨a, b⟩
    rw [s8.1, s8.2, e2 ()]
    clear s8
    generalize hset q0 (B + 82) (7 + 1) (rf (hnx p1)) = p2 at *
    refine Ends.ct L2 (by decide +kernel) (by decide) (c_dbl L2 (by omega) (kk 2 (by decide) G2).1 (kk 2 (by decide) G2).2 (by omega) (by omega)) (fun v q0 l0 _ _ _ ⟨ev, r1, r2, r3, r4, r5⟩ => ?_)
    have G3 := G2.step hb hka (by decide) r1 r2 r3 r4 r5
    subst ev
    refine Ends.eq (b164_60 l0 (by omega)) ?_
    have L3 : LX B n (hset q0 (B + 82) (7 + 2) (rf (hnx p2))) := LX.setF 82 9 l0 (by decide +kernel)
    clear r1 r2 r3 r4 r5 G2 L2
    rw [show hset q0 (B + 82) 9 (rf (hnx p2)) = hset q0 (B + 82) (7 + 2) (rf (hnx p2)) from rfl]
    have s8 : hv q0 (B + 82) 10 = rf (ka 3) ∧ hv q0 (B + 82) 6 = (kp : Int) := by
      have a := G3.2.2.2.2 3 (by decide) (by decide)
      have b := v6 G3
      rw [hv_set_ne (by omega)] at a b
      exact ⟨a, b⟩
    rw [s8.1, s8.2, e2 ()]
    clear s8
    generalize hset q0 (B + 82) (7 + 2) (rf (hnx p2)) = p3 at *
    refine Ends.ct L3 (by decide +kernel) (by decide) (c_dbl L3 (by omega) (kk 3 (by decide) G3).1 (kk 3 (by decide) G3).2 (by omega) (by omega)) (fun v q0 l0 _ _ _ ⟨ev, r1, r2, r3, r4, r5⟩ => ?_)
    have G4 := G3.step hb hka (by decide) r1 r2 r3 r4 r5
    subst ev
    refine Ends.eq (b164_77 l0 (by omega)) ?_
    have L4 : LX B n (hset q0 (B + 82) (7 + 3) (rf (hnx p3))) := LX.setF 82 10 l0 (by decide +kernel)
    clear r1 r2 r3 r4 r5 G3 L3
    rw [show hset q0 (B + 82) 10 (rf (hnx p3)) = hset q0 (B + 82) (7 + 3) (rf (hnx p3)) from rfl]
    have s8 : hv q0 (B + 82) 11 = rf (ka 4) ∧ hv q0 (B + 82) 6 = (kp : Int) := by
      have a := G4.2.2.2.2 4 (by decide) (by decide)
      have b := v6 G4
      rw [hv_set_ne (by omega)] at a b
      exact ⟨a, b⟩
    rw [s8.1, s8.2, e2 ()]
    clear s8
    generalize hset q0 (B + 82) (7 + 3) (rf (hnx p3)) = p4 at *
    refine Ends.ct L4 (by decide +kernel) (by decide) (c_dbl L4 (by omega) (kk 4 (by decide) G4).1 (kk 4 (by decide) G4).2 (by omega) (by omega)) (fun v q0 l0 _ _ _ ⟨ev, r1, r2, r3, r4, r5⟩ => ?_)
    have G5 := G4.step hb hka (by decide) r1 r2 r3 r4 r5
    subst ev
    refine Ends.eq (b164_94 l0 (by omega)) ?_
    have L5 : LX B n (hset q0 (B + 82) (7 + 4) (rf (hnx p4))) := LX.setF 82 11 l0 (by decide +kernel)
    clear r1 r2 r3 r4 r5 G4 L4
    rw [show hset q0 (B + 82) 11 (rf (hnx p4)) = hset q0 (B + 82) (7 + 4) (rf (hnx p4)) from rfl]
    have s8 : hv q0 (B + 82) 12 = rf (ka 5) ∧ hv q0 (B + 82) 6 = (kp : Int) := by
      have a := G5.2.2.2.2 5 (by decide) (by decide)
      have b := v6 G5
      rw [hv_set_ne (by omega)] at a b
      exact ⟨a, b⟩
    rw [s8.1, s8.2, e2 ()]
    clear s8
    generalize hset q0 (B + 82) (7 + 4) (rf (hnx p4)) = p5 at *
    refine Ends.ct L5 (by decide +kernel) (by decide) (c_dbl L5 (by omega) (kk 5 (by decide) G5).1 (kk 5 (by decide) G5).2 (by omega) (by omega)) (fun v q0 l0 _ _ _ ⟨ev, r1, r2, r3, r4, r5⟩ => ?_)
    have G6 := G5.step hb hka (by decide) r1 r2 r3 r4 r5
    subst ev
    refine Ends.eq (b164_111 l0 (by omega)) ?_
    have L6 : LX B n (hset q0 (B + 82) (7 + 5) (rf (hnx p5))) := LX.setF 82 12 l0 (by decide +kernel)
    clear r1 r2 r3 r4 r5 G5 L5
    rw [show hset q0 (B + 82) 12 (rf (hnx p5)) = hset q0 (B + 82) (7 + 5) (rf (hnx p5)) from rfl]
    generalize hset q0 (B + 82) (7 + 5) (rf (hnx p5)) = p6 at *
    obtain ⟨g1, g2, g3, g4, -⟩ := G6
    refine fin p6 (fun j => hnx h + j) (2 * kp) L6 ⟨fun j hj => ?_, fun i j hi hj hij => by show hnx h + i ≠ hnx h + j; omega, by unfold capK at A3 ⊢; omega⟩ (by omega) (fun j hj => ⟨Or.inr (by show hnx h ≤ hnx h + j; omega), (g4 j hj).2.2⟩) ?_ ?_ g3
    · obtain ⟨z1, z2, -⟩ := g4 j hj
      exact ⟨z1, z2, Or.inr (by show B + 246 ≤ hnx h + j; omega), by show hnx h + j < hnx p6; omega⟩
    · unfold kpz
      rw [g2]
      unfold capK at A3
      omega
    · unfold cel
      rw [g1, g2]
      omega
end KPF
