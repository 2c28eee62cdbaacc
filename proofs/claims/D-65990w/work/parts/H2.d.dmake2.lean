/-! L3: views (desk): View.make -/
noncomputable section DM2
variable {gv : Nat → Int} {B n d a ax dn : Nat} {h : AH} {S : Nat → Bool}
/-- what was found of a line, by its number -/
def ffL (n : Nat) (S : Nat → Bool) (ax dn L : Nat) : Int := ffD n S ax dn (L / (n * n)) (L % n) (L / n % n)
/-- pieces below L are told -/
def VmI (B n : Nat) (h1 : AH) (S : Nat → Bool) (ax dn sh kc L : Nat) (q : AH) : Prop := LX B n q ∧ Agr (fun c k => vaW B c k ∨ c = sh ∨ c = kc) h1 q ∧ (∀ p u v, p < 8 → u < n → v < n → rw3 n p v u < L → hv q sh (ixV n p u v) = ffD n S ax dn p u v) ∧ TbK n (hsD n) (hv q kc) (fun c => 0 ≤ c ∧ ∃ L', L' < L ∧ c = ffL n S ax dn L') ∧ cntN (fun j => decide (hv q kc j ≠ -1)) (rmN n) ≤ cntN (vwB n S ax dn) L
theorem ffL_at {p u v : Nat} (hv' : v < n) (hu : u < n) : ffL n S ax dn (rw3 n p v u) = ffD n S ax dn p u v ∧ vwB n S ax dn (rw3 n p v u) = decide (ffP n S ax dn p u v < 5 * n) := by
  unfold ffL vwB
  rw [dec_t hv' hu, dec_z hv' hu, dec_y hu]
  exact ⟨rfl, rfl⟩
theorem ffD_0 {p u v : Nat} : (0 ≤ ffD n S ax dn p u v ↔ ffP n S ax dn p u v < 5 * n) := by
  unfold ffD
  split
  · exact ⟨fun _ => by assumption, fun _ => Int.natCast_nonneg _⟩
  · exact ⟨fun z => absurd z (by decide), fun z => absurd z (by assumption)⟩
theorem ffD_cn (hax : ax < 3) (hdn : dn < 2) (hn : n ≤ 52) {p u v : Nat} (hp : p < 8) (hu : u < n) (hv' : v < n) : -1 ≤ ffD n S ax dn p u v ∧ ffD n S ax dn p u v < 16700000 := by
  unfold ffD
  split
  · rename_i z
    have := (cdN_lt hn (ff_bdr (S := S) hax hdn hp hu hv' z).1).1
    omega
  · omega
/-- the last walk's place: pieces below j have their faces -/
def VmF (n : Nat) (S : Nat → Bool) (ax dn mm : Nat) (F : Nat → Nat) (q : AH) (sh j : Nat) : Prop := ∀ p u v, p < 8 → u < n → v < n → (ixV n p u v < j → (ffP n S ax dn p u v < 5 * n → ∃ i, i < mm ∧ FRe n (bdr n S) (F i) (ffK n S ax dn p u v) ∧ hv q sh (ixV n p u v) = (i : Int)) ∧ (¬ ffP n S ax dn p u v < 5 * n → hv q sh (ixV n p u v) = -1)) ∧ (j ≤ ixV n p u v → hv q sh (ixV n p u v) = ffD n S ax dn p u v)
theorem ixV_ex {j : Nat} (hn0 : 0 < n) (hj : j < 8 * n * n) : ∃ p u v, p < 8 ∧ u < n ∧ v < n ∧ j = ixV n p u v := by
  have h8 : j / 8 < n * n := by rw [Nat.div_lt_iff_lt_mul (by decide)]; rw [Nat.mul_comm (n * n) 8, ← Nat.mul_assoc]; exact hj
  refine ⟨j % 8, j / 8 % n, j / 8 / n, Nat.mod_lt _ (by decide), Nat.mod_lt _ hn0, (Nat.div_lt_iff_lt_mul hn0).mpr h8, ?_⟩
  unfold ixV
  have := Nat.div_add_mod (j / 8) n
  rw [Nat.mul_comm n] at this
  omega
/-- View made before, or not yet -/
def VwA (B n : Nat) (h : AH) : Prop := hv h (B + 132) 4 = 0 ∨ ∃ sh kc fc, VwC B n h sh kc fc
def vlz (B n : Nat) (h : AH) : Nat := if hv h (B + 132) 4 = 0 then 8 * n * n + 2 * rmN n else 0
/-- the cells of View are none of Faces' -/
def VnF (B : Nat) (h : AH) (c : Nat) : Prop := hv h (B + 82) 3 ≠ rf c ∧ ∀ j, j < 6 → hv h (B + 82) (7 + j) ≠ rf c
/-- what making a view writes of old cells -/
def vmW (B : Nat) (h : AH) : Nat → Nat → Prop := fun c k => vaW B c k ∨ (c = B + 132 ∧ 4 ≤ k ∧ k ≤ 7) ∨ (hv h (B + 132) 4 ≠ 0 ∧ (hv h (B + 132) 4 = rf c ∨ hv h (B + 132) 5 = rf c ∨ hv h (B + 132) 6 = rf c)) ∨ FdW B h c k
/-- a power of two that is still to grow r times -/
def pw2 (s r : Nat) : Prop := s = 64 ∧ r = 10 ∨ s = 128 ∧ r = 9 ∨ s = 256 ∧ r = 8 ∨ s = 512 ∧ r = 7 ∨ s = 1024 ∧ r = 6 ∨ s = 2048 ∧ r = 5 ∨ s = 4096 ∧ r = 4 ∨ s = 8192 ∧ r = 3 ∨ s = 16384 ∧ r = 2 ∨ s = 32768 ∧ r = 1 ∨ s = 65536 ∧ r = 0
theorem pw2.nx {s r : Nat} (h : pw2 s (r + 1)) : pw2 (s * 2) r := by
  unfold pw2 at h ⊢
  rcases h with h | h | h | h | h | h | h | h | h | h | h <;> omega
theorem pw2.le1 {s r : Nat} (h : pw2 s (r + 1)) : s ≤ 32768 := by unfold pw2 at h; omega
theorem pw2.z {s : Nat} (h : pw2 s 0) : s = 65536 := by unfold pw2 at h; omega
theorem pw2.top {s r X : Nat} (h : pw2 s r) (h1 : s < 2 * X) (h2 : X ≤ s) (h3 : 256 ≤ X) : s = if X ≤ 256 then 256 else if X ≤ 512 then 512 else if X ≤ 1024 then 1024 else if X ≤ 2048 then 2048 else if X ≤ 4096 then 4096 else if X ≤ 8192 then 8192 else if X ≤ 16384 then 16384 else if X ≤ 32768 then 32768 else 65536 := by
  unfold pw2 at h
  rcases h with h | h | h | h | h | h | h | h | h | h | h <;> (obtain ⟨rfl, _⟩ := h) <;> (repeat' split) <;> omega
set_option maxHeartbeats 8000000 in
theorem c_vmake467 {pc cap kcp : Nat} {ka : Nat → Nat} (l : LX B n h) (hd : 36 ≤ d) (hn4 : 4 ≤ n) (hn : n ≤ 52) (m : TbC B h) (u : BsU B h) (so : SoC B h) (R : Reg B n h) (sl : SlC gv B h) (s : SG n h a S) (ha : a < hnx h) (hB : B + 83 < a) (ha2 : a < B + 118 ∨ B + 246 ≤ a) (hne : ∀ f, f < 4 → hv h (B + 83) f ≠ rf a) (A : FaI B h pc cap ka kcp) (V : VwA B n h) (vnf : ∀ c, hv h (B + 132) 4 ≠ 0 → (hv h (B + 132) 4 = rf c ∨ hv h (B + 132) 5 = rf c ∨ hv h (B + 132) 6 = rf c) → VnF B h c ∧ c ≠ a) (hax : ax < 3) (hdn : dn < 2) :
    Vt 0 (cll PP (ev PP (gsF gv) B) d 467 [(2, rf (B + 132)), (2, (rf a)), (0, (ax : Int)), (0, (dn : Int))] h) (fun x h' => ∃ sh kc fc mm F pc' cap' ka' kcp', VwC B n h' sh kc fc ∧ FaI B h' pc' cap' ka' kcp' ∧ FcL n (bdr n S) (4 * rw3 (8 * n) (8 * n) 0 0) mm F ∧ hv h' (B + 82) 5 = (mm : Int) ∧ hv h' (B + 82) 6 = ((min mm 4096 : Nat) : Int) ∧ min mm 4096 ≤ kcp' ∧ FaK n h' (bdr n S) ka' mm F ∧ hv h' (B + 36) 17 = 1 ∧ BsC B h' ∧ Reg B n h' ∧ VwS n S ax dn mm F (hv h' sh) ∧ x = ((cntN (vwB n S ax dn) (8 * n * n) : Nat) : Int) ∧ hus h' + lzy B n h' + vlz B n h' + (32768 - 2 * cap') + 6 * (8192 - 2 * kcp') = hus h + lzy B n h + vlz B n h + (32768 - 2 * cap) + 6 * (8192 - 2 * kcp) ∧ 120 * hnx h' + hus h ≤ 120 * hnx h + hus h' ∧ ExG (vmW B h) h h') := by
  have hb := l.2.2
  have hn0 : 0 < n := by omega
  obtain ⟨e88, b88⟩ := n88 hn
  have rl := rm_lt n
  have rg := rm_ge hn
  have n88' : 128 ≤ 8 * n * n := by
    have : 4 * 4 ≤ n * n := Nat.mul_le_mul hn4 hn4
    rw [Nat.mul_assoc]; omega
  have r888 : 8 * n * n < rmN n := by rw [Nat.mul_assoc] at rg n88' ⊢; omega
  obtain ⟨e17, P, Kap, kpn⟩ : True ∧ FaI B h pc cap ka kcp := ⟨trivial, A⟩
  refine Vt.inq (D := 35) hd (Nat.le_of_ble_eq_true rfl) rfl (fun d hd Q KK => ?_)
  -- from the cells on
  have main : ∀ (h0 : AH) (sh kc fc : Nat), LX B n h0 → ExG (vmW B h) h h0 → VwC B n h0 sh kc fc → (∀ c, c = sh ∨ c = kc ∨ c = fc → VnF B h0 c ∧ c ≠ a) → (∀ c k, c < hnx h → ¬ (c = B + 132 ∧ 4 ≤ k ∧ k ≤ 7) → hv h0 c k = hv h c k) → hus h0 + vlz B n h0 = hus h + vlz B n h → 120 * hnx h0 + hus h ≤ 120 * hnx h + hus h0 → (∀ c, c = sh ∨ c = kc ∨ c = fc → hnx h ≤ c ∨ (hv h (B + 132) 4 ≠ 0 ∧ (hv h (B + 132) 4 = rf c ∨ hv h (B + 132) 5 = rf c ∨ hv h (B + 132) 6 = rf c))) → Ends (ev PP (gsF gv) B d 467 83 [(2, rf (B + 132)), (2, rf a), (0, (ax : Int)), (0, (dn : Int)), (9, 0), (9, 0), (9, 0), (9, 0), (9, 0)] [] h0) Q := by
    intro h0 sh kc fc l0 X0 V0 vn0 same u0 ce0 ow
    have hb0 := l0.2.2
    have n0 := X0.2.2.1
    obtain ⟨⟨a1, a2, a3, a4⟩, ⟨b1, b2, b3⟩, ⟨c1, c2, c3, c4, c5, c6⟩, d1, d2, d3⟩ := V0
    have V0' : VwC B n h0 sh kc fc := ⟨⟨a1, a2, a3, a4⟩, ⟨b1, b2, b3⟩, ⟨c1, c2, c3, c4, c5, c6⟩, d1, d2, d3⟩
    -- facts of old cells
    have m0 : TbC B h0 := ⟨fun t ht => by
      obtain ⟨q1, q2, q3, q4, q5, q6, q7, q8⟩ := m.1 t ht
      exact ⟨fun a ha => by rw [same _ _ (by omega) (by omega)]; exact q1 a ha, by rw [same _ _ (by omega) (by omega)]; exact q2, by rw [same _ _ (by omega) (by omega)]; exact q3, by rw [same _ _ (by omega) (by omega)]; exact q4, by rw [same _ _ (by omega) (by omega)]; exact q5, by rw [same _ _ (by omega) (by omega)]; exact q6, fun f hf => by rw [same _ _ (by omega) (by omega), same _ _ (by omega) (by omega)]; exact q7 f hf, fun a ha => by rw [same _ _ (by omega) (by omega)]; exact q8 a ha⟩, fun x y z hx hy hz => by rw [same _ _ (by omega) (by omega)]; exact m.2 x y z hx hy hz⟩
    have XS : ExG (fun c k => c = B + 132 ∧ 4 ≤ k ∧ k ≤ 7) h h0 := ⟨X0.1, same, X0.2.2⟩
    have sl0 : SlC gv B h0 := sl.exg (by omega) XS (fun c k hc z => by omega)
    have u0' : BsU B h0 := by
      rcases u with z | ⟨z1, z2⟩
      · left; rw [same _ _ (by omega) (by omega)]; exact z
      · right; exact ⟨by rw [same _ _ (by omega) (by omega)]; exact z1, z2.exg hb XS (fun c k hc z => by omega)⟩
    have so0 : SoC B h0 := fun a b m z1 z2 z3 => by rw [same _ _ (by omega) (by omega)]; exact so a b m z1 z2 z3
    obtain ⟨R0, L0⟩ := R.exg hb XS (fun i hi z => by have := rgi hi; omega)
    have s0 : SG n h0 a S := s.ext (XS.ext (c := hnx h0 - hnx h) (s := hus h0 - hus h) (by omega) (by have := XS.2.2.2; omega)) ha (fun k z => by omega)
    have A0 : FaI B h0 pc cap ka kcp := by
      obtain ⟨p1, p2, p3, p4, p5, p6, p7⟩ := P
      exact ⟨⟨by rw [same _ _ (by omega) (by omega)]; exact p1, by rw [same _ _ (by omega) (by omega)]; exact p2, by rw [X0.hk p5]; exact p3, p4, by omega, p6, p7⟩, ⟨fun j hj => by
        obtain ⟨q1, q2, q3, q4⟩ := Kap.1 j hj
        exact ⟨by rw [same _ _ (by omega) (by omega)]; exact q1, by rw [X0.hk q4]; exact q2, q3, by omega⟩, Kap.2⟩, kpn⟩
    refine Ends.eq (b467_83 l0 (by omega)) ?_
    -- the table is emptied
    have fill : ∀ (r j : Nat) (q : AH), j + r = rmN n → LX B n q → Agr (fun c _ => c = kc) h0 q → (∀ i, i < j → hv q kc i = -1) → (∀ q, LX B n q → Agr (fun c _ => c = kc) h0 q → (∀ i, i < rmN n → hv q kc i = -1) → Ends (ev PP (gsF gv) B d 467 115 [(2, rf (B + 132)), (2, rf a), (0, (ax : Int)), (0, (dn : Int)), (0, 0), (0, 0), (9, 0), (9, 0), (9, 0)] [] q) Q) → Ends (ev PP (gsF gv) B d 467 86 [(2, rf (B + 132)), (2, rf a), (0, (ax : Int)), (0, (dn : Int)), (0, (j : Int)), (9, 0), (9, 0), (9, 0), (9, 0)] [] q) Q := by
      intro r
      induction r with
      | zero =>
        intro j q e lq g I k
        obtain rfl : rmN n = j := by omega
        refine Ends.eq (b467_86 lq (by omega)) ?_
        rw [g.at _ _ (by omega), a4]
        exact Ends.b3 (fun _ => k q lq g I) (fun z => absurd z (Int.lt_irrefl _))
      | succ r ih =>
        intro j q e lq g I k
        refine Ends.eq (b467_86 lq (by omega)) ?_
        rw [g.at _ _ (by omega), a4, g.at _ _ (by omega), a2, ad_rf, g.hk, b2, tn, an0, w_succ (by omega)]
        refine Ends.b3 (fun z => absurd z (by omega)) (fun _ => Ends.g ⟨rf_pos _, rfl, by omega, by show (j : Int) < ((rmN n : Nat) : Int); omega, by omega⟩ ?_)
        refine ih (j + 1) _ (by omega) (LX.setA (t := 0) lq (by rw [g.hk, b2])) (g.set rfl) (fun i hi => ?_) k
        by_cases z : i = j
        · rw [z, hv_set_at]
        · rw [hv_set_ne (by omega)]; exact I i (by omega)
    refine fill (rmN n) 0 h0 (Nat.zero_add _) l0 Agr.rf (fun i hi => absurd hi (Nat.not_lt_zero i)) (fun h1 l1 g1 I1 => ?_)
    have V1 : VwC B n h1 sh kc fc := V0'.exg hb0 g1.ext.exg (fun k _ _ z => by omega)
    have m1 : TbC B h1 := m0.ext hb0 g1.ext (fun c k _ _ z => by omega)
    have sl1 : SlC gv B h1 := sl0.exg (by omega) g1.ext.exg (fun c k hc z => by omega)
    have s1 : SG n h1 a S := s0.agr g1 (fun k z => (vn0 kc (Or.inr (Or.inl rfl))).2 z.symm)
    have ini : VmI B n h1 S ax dn sh kc 0 h1 := ⟨l1, Agr.rf, fun p u v _ _ _ hL => absurd hL (Nat.not_lt_zero _), ⟨fun k hk => Or.inl (I1 k hk), fun c ⟨_, L', hL, _⟩ => absurd hL (Nat.not_lt_zero _)⟩, by rw [cntN_none _ (fun i hi => by rw [decide_eq_false_iff_not]; exact fun y => y (I1 i hi))]; exact Nat.zero_le _⟩
    -- the pieces
    have nas : ∀ {q : AH} {L : Nat}, VmI B n h1 S ax dn sh kc L q → VwC B n q sh kc fc ∧ TbC B q ∧ SlC gv B q ∧ SG n q a S := fun i => by
      obtain ⟨i1, i2, -⟩ := i
      refine ⟨V1.exg l1.2.2 i2.ext.exg (fun k _ _ z => by unfold vaW at z; omega), m1.ext l1.2.2 i2.ext (fun c k _ _ z => by unfold vaW at z; omega), sl1.exg (by have := l1.2.2; omega) i2.ext.exg (fun c k hc z => by unfold vaW at z; omega), s1.agr i2 (fun k z => ?_)⟩
      have y1 := (vn0 sh (Or.inl rfl)).2
      have y2 := (vn0 kc (Or.inr (Or.inl rfl))).2
      unfold vaW at z
      omega
    have lineAt : ∀ {q q' : AH} {p : Nat}, LnI B q ax dn p → Agr (fun c _ => c = sh ∨ c = kc) q q' → LnI B q' ax dn p := fun ln g k hk => by rw [g.at _ _ (by omega), g.at _ _ (by omega)]; exact ln k hk
    have uu : ∀ (p v : Nat), p < 8 → v < n → (∀ (q : AH) (u8 : AV), VmI B n h1 S ax dn sh kc (rw3 n p v n) q → LnI B q ax dn p → Ends (ev PP (gsF gv) B d 467 133 [(2, rf (B + 132)), (2, rf a), (0, (ax : Int)), (0, (dn : Int)), (0, ((cntN (vwB n S ax dn) (rw3 n p v n) : Nat) : Int)), (0, (p : Int)), (0, ((v + 1 : Nat) : Int)), (0, (n : Int)), u8] [] q) Q) → ∀ (r u : Nat) (q : AH) (u8 : AV), u + r = n → VmI B n h1 S ax dn sh kc (rw3 n p v u) q → LnI B q ax dn p → Ends (ev PP (gsF gv) B d 467 145 [(2, rf (B + 132)), (2, rf a), (0, (ax : Int)), (0, (dn : Int)), (0, ((cntN (vwB n S ax dn) (rw3 n p v u) : Nat) : Int)), (0, (p : Int)), (0, (v : Int)), (0, (u : Int)), u8] [] q) Q := by
      intro p v hp hv' kn r
      induction r with
      | zero =>
        intro u q u8 e i ln
        have e : u = n := by omega
        subst e
        refine Ends.eq (b467_145 i.1 (by omega)) (Ends.b3 (fun _ => ?_) (fun z => absurd z (Int.lt_irrefl _)))
        rw [w_succ (by omega)]
        exact kn q _ i ln
      | succ r ih =>
        intro u q u8 e i ln
        have hu : u < n := by omega
        obtain ⟨Vq, mq, slq, sq⟩ := nas i
        obtain ⟨⟨z1, z2, z3, z4⟩, ⟨y1, y2, y3⟩, ⟨x1, x2, x3, x4, x5, x6⟩, -⟩ := Vq
        have i0 := i
        obtain ⟨lq, gq, I, T, ct⟩ := i
        have cnd := ffD_cn (S := S) hax hdn hn hp hu hv'
        have ixl := ixV_lt hp hu hv'
        obtain ⟨la, lb⟩ := ffL_at (S := S) (ax := ax) (dn := dn) (p := p) hv' hu
        have cs := cntN_s (vwB n S ax dn) (rw3 n p v u)
        rw [lb] at cs
        have cle := cntN_le (vwB n S ax dn) (rw3 n p v u)
        have rl8 : rw3 n p v u < 8 * n * n := by
          have h1 : (p + 1) * n ≤ 8 * n := Nat.mul_le_mul_right n hp
          rw [Nat.succ_mul] at h1
          have h2 : (p * n + v + 1) * n ≤ 8 * n * n := Nat.mul_le_mul_right n (by omega)
          rw [Nat.succ_mul] at h2
          unfold rw3; omega
        have next : ∀ (q' : AH) (x8 : AV), VmI B n h1 S ax dn sh kc (rw3 n p v u + 1) q' → LnI B q' ax dn p → ∀ x8 : Int, Ends (ev PP (gsF gv) B d 467 214 [(2, rf (B + 132)), (2, rf a), (0, (ax : Int)), (0, (dn : Int)), (0, ((cntN (vwB n S ax dn) (rw3 n p v u + 1) : Nat) : Int)), (0, (p : Int)), (0, (v : Int)), (0, (u : Int)), (0, x8)] [] q') Q := fun q' _ i' ln' x8 => by
          refine Ends.eq (b467_214 i'.1 (by omega)) ?_
          rw [w_succ (by omega)]
          exact ih (u + 1) q' _ (by omega) i' ln'
        refine Ends.eq (b467_145 lq (by omega)) (Ends.b3 (fun z => absurd z (by omega)) (fun _ => ?_))
        refine Ends.ct lq (by decide +kernel) (by decide) (c_first465 lq (by omega) hn sq ln hax hdn hp hu hv') (fun x h2 l2 _ _ _ ⟨e2, ex⟩ => ?_)
        subst e2 ex
        refine Ends.eq (b467_165 l2 (by omega)) ?_
        rw [ixV_is hn hp hu hv', z1, ad_rf, y1, tn, an0]
        refine Ends.g ⟨rf_pos _, rfl, by omega, by show _ < ((8 * n * n : Nat) : Int); omega, by omega⟩ ?_
        have l3 : LX B n (hset h2 sh (ixV n p u v) (ffD n S ax dn p u v)) := LX.setA (t := 0) l2 (by rw [y1])
        have g3 : Agr (fun c k => c = sh ∧ k = ixV n p u v) h2 (hset h2 sh (ixV n p u v) (ffD n S ax dn p u v)) := Agr.rf.set ⟨rfl, rfl⟩
        have v3 : hv (hset h2 sh (ixV n p u v) (ffD n S ax dn p u v)) sh (ixV n p u v) = ffD n S ax dn p u v := hv_set_at ..
        generalize hset h2 sh (ixV n p u v) (ffD n S ax dn p u v) = q3 at *
        have G3 : Agr (fun c k => vaW B c k ∨ c = sh ∨ c = kc) h1 q3 := gq.tr g3 (fun c k z => Or.inr (Or.inl z.1))
        have K3 : ∀ k, hv q3 kc k = hv h2 kc k := fun k => g3.at _ _ (fun z => d1 z.1.symm)
        have I3 : ∀ p' u' v', p' < 8 → u' < n → v' < n → rw3 n p' v' u' < rw3 n p v u + 1 → hv q3 sh (ixV n p' u' v') = ffD n S ax dn p' u' v' := fun p' u' v' hp' hu' hv'' hL => by
          by_cases w : p' = p ∧ u' = u ∧ v' = v
          · obtain ⟨rfl, rfl, rfl⟩ := w; exact v3
          · rw [g3.at _ _ (fun z => w (ixV_inj hp' hu' hp hu z.2))]
            refine I p' u' v' hp' hu' hv'' ?_
            rcases (by omega : rw3 n p' v' u' < rw3 n p v u ∨ rw3 n p' v' u' = rw3 n p v u) with y | y
            · exact y
            · obtain ⟨t1, t2, t3⟩ := (rw3_inj hv'' hu' hv' hu).mp y
              exact absurd ⟨t1, t3, t2⟩ w
        by_cases z : ffP n S ax dn p u v < 5 * n
        · have fp : 0 ≤ ffD n S ax dn p u v := ffD_0.mpr z
          rw [decide_eq_true z, if_pos rfl] at cs
          refine Ends.b3 (fun _ => ?_) (fun y => by omega)
          obtain ⟨k0, hk0, e0⟩ := TbK.free (n := n) (K := hv h2 kc) ct (by omega)
          have V2q : VwC B n h2 sh kc fc := ⟨⟨z1, z2, z3, z4⟩, ⟨y1, y2, y3⟩, ⟨x1, x2, x3, x4, x5, x6⟩, d1, d2, d3⟩
          have V3 : VwC B n q3 sh kc fc := V2q.exg l2.2.2 g3.ext.exg (fun k _ _ w => by omega)
          obtain ⟨⟨w1, w2, w3, w4⟩, ⟨w5, w6, w7⟩, -⟩ := V3
          rw [z2, w_succ (by omega), ← cs]
          refine Ends.ct l3 (by decide +kernel) (by decide) (c_slot471 (k0 := k0) (c := ffD n S ax dn p u v) l3 (by omega) w2 w6 w4 hk0 (by rw [K3]; exact e0)) (fun x h4 l4 _ _ _ ⟨e4, k, ek, hk, sk⟩ => ?_)
          subst e4
          have sk : sIs (rmN n) (hv h2 kc) (hsD n (ffD n S ax dn p u v)) (ffD n S ax dn p u v) k := by
            have : hv h4 kc = hv h2 kc := funext K3
            rw [this] at sk; exact sk
          refine Ends.eq (b467_211 l4 (by omega)) ?_
          rw [ek, ad_rf, w6, tn, an0]
          refine Ends.g ⟨rf_pos _, rfl, by omega, by show (k : Int) < ((rmN n : Nat) : Int); omega, by omega⟩ ?_
          have l5 : LX B n (hset h4 kc k (ffD n S ax dn p u v)) := LX.setA (t := 0) l4 (by rw [w6])
          have g5 : Agr (fun c j => c = kc ∧ j = k) h4 (hset h4 kc k (ffD n S ax dn p u v)) := Agr.rf.set ⟨rfl, rfl⟩
          have v5 : hv (hset h4 kc k (ffD n S ax dn p u v)) kc k = ffD n S ax dn p u v := hv_set_at ..
          generalize hset h4 kc k (ffD n S ax dn p u v) = q5 at *
          obtain ⟨T5, c5'⟩ := T.put (K' := hv q5 kc) hk sk (by omega) v5 (fun j hj => by rw [g5.at _ _ (fun w => hj w.2), K3])
          refine next q5 (9, 0) ⟨l5, G3.tr g5 (fun c j w => Or.inr (Or.inr w.1)), fun p' u' v' h1 h2 h3 h4' => by rw [g5.at _ _ (fun w => d1 w.1)]; exact I3 p' u' v' h1 h2 h3 h4', ⟨fun j hj => (T5.1 j hj).imp id (fun w => ⟨?_, w.2⟩), fun c hc => T5.2 c ?_⟩, by rw [cs]; exact Nat.le_trans c5' (Nat.succ_le_succ ct)⟩ (lineAt (lineAt ln (g3.sub (fun c j w => Or.inl w.1))) (g5.sub (fun c j w => Or.inr w.1))) _
          · rcases w.1 with ⟨t1, L', t2, t3⟩ | t1
            · exact ⟨t1, L', by omega, t3⟩
            · rw [t1]; exact ⟨fp, rw3 n p v u, by omega, la.symm⟩
          · obtain ⟨t1, L', t2, t3⟩ := hc
            rcases (by omega : L' < rw3 n p v u ∨ L' = rw3 n p v u) with y | y
            · exact Or.inl ⟨t1, L', y, t3⟩
            · rw [y, la] at t3; exact Or.inr t3
        · rw [decide_eq_false z, if_neg (by decide)] at cs
          have fm : ffD n S ax dn p u v = -1 := by unfold ffD; rw [if_neg z]
          refine Ends.b3 (fun y => by omega) (fun _ => ?_)
          have cs' : cntN (vwB n S ax dn) (rw3 n p v u) = cntN (vwB n S ax dn) (rw3 n p v u + 1) := cs.symm
          rw [cs']
          have K3' : hv q3 kc = hv h2 kc := funext K3
          have T3 : TbK n (hsD n) (hv q3 kc) (fun c => 0 ≤ c ∧ ∃ L', L' < rw3 n p v u + 1 ∧ c = ffL n S ax dn L') := by
            rw [K3']
            refine ⟨fun j hj => (T.1 j hj).imp id (fun w => ⟨⟨w.1.1, by obtain ⟨L', t2, t3⟩ := w.1.2; exact ⟨L', by omega, t3⟩⟩, w.2⟩), fun c ⟨t1, L', t2, t3⟩ => ?_⟩
            rcases (by omega : L' < rw3 n p v u ∨ L' = rw3 n p v u) with y | y
            · exact T.2 c ⟨t1, L', y, t3⟩
            · rw [y, la, fm] at t3; omega
          exact next q3 (9, 0) ⟨l3, G3, I3, T3, by rw [K3', ← cs']; exact ct⟩ (lineAt ln (g3.sub (fun c j w => Or.inl w.1))) _
    have vvl : ∀ (p : Nat), p < 8 → (∀ (q : AH) (u7 u8 : AV), VmI B n h1 S ax dn sh kc (rw3 n p n 0) q → Ends (ev PP (gsF gv) B d 467 115 [(2, rf (B + 132)), (2, rf a), (0, (ax : Int)), (0, (dn : Int)), (0, ((cntN (vwB n S ax dn) (rw3 n p n 0) : Nat) : Int)), (0, ((p + 1 : Nat) : Int)), (0, (n : Int)), u7, u8] [] q) Q) → ∀ (r v : Nat) (q : AH) (u7 u8 : AV), v + r = n → VmI B n h1 S ax dn sh kc (rw3 n p v 0) q → LnI B q ax dn p → Ends (ev PP (gsF gv) B d 467 133 [(2, rf (B + 132)), (2, rf a), (0, (ax : Int)), (0, (dn : Int)), (0, ((cntN (vwB n S ax dn) (rw3 n p v 0) : Nat) : Int)), (0, (p : Int)), (0, (v : Int)), u7, u8] [] q) Q := by
      intro p hp kn r
      induction r with
      | zero =>
        intro v q u7 u8 e i ln
        have e : v = n := by omega
        subst e
        refine Ends.eq (b467_133 i.1 (by omega)) (Ends.b3 (fun _ => ?_) (fun z => absurd z (Int.lt_irrefl _)))
        rw [w_succ (by omega)]
        exact kn q _ _ i
      | succ r ih =>
        intro v q u7 u8 e i ln
        refine Ends.eq (b467_133 i.1 (by omega)) (Ends.b3 (fun z => absurd z (by omega)) (fun _ => ?_))
        exact uu p v hp (by omega) (fun q u8 i ln => by
          rw [← rw3_z] at i ⊢
          exact ih (v + 1) q _ _ (by omega) i ln) n 0 q _ (Nat.zero_add _) i ln
    have pp : ∀ (r p : Nat) (q : AH) (u6 u7 u8 : AV), p + r = 8 → VmI B n h1 S ax dn sh kc (rw3 n p 0 0) q → (∀ (q : AH) (u6 u7 u8 : AV), VmI B n h1 S ax dn sh kc (rw3 n 8 0 0) q → Ends (ev PP (gsF gv) B d 467 115 [(2, rf (B + 132)), (2, rf a), (0, (ax : Int)), (0, (dn : Int)), (0, ((cntN (vwB n S ax dn) (rw3 n 8 0 0) : Nat) : Int)), (0, ((8 : Nat) : Int)), u6, u7, u8] [] q) Q) → Ends (ev PP (gsF gv) B d 467 115 [(2, rf (B + 132)), (2, rf a), (0, (ax : Int)), (0, (dn : Int)), (0, ((cntN (vwB n S ax dn) (rw3 n p 0 0) : Nat) : Int)), (0, (p : Int)), u6, u7, u8] [] q) Q := by
      intro r
      induction r with
      | zero =>
        intro p q u6 u7 u8 e i kn
        obtain rfl : p = 8 := by omega
        exact kn q _ _ _ i
      | succ r ih =>
        intro p q u6 u7 u8 e i kn
        obtain ⟨Vq, mq, slq, sq⟩ := nas i
        refine Ends.eq (b467_115 i.1 (by omega)) (Ends.b3 (fun z => absurd z (by omega)) (fun _ => ?_))
        refine Ends.cv i.1 (by decide +kernel) (c_along461 i.1 (by omega) mq slq hax hdn (by omega)) (fun q2 l2 _ _ _ ⟨g2, ln⟩ => ?_)
        refine Ends.eq (b467_130 l2 (by omega)) ?_
        obtain ⟨lq, gq, I, T, ct⟩ := i
        have kk : hv q2 kc = hv q kc := funext (fun k => g2.at _ _ (by unfold vaW; omega))
        refine vvl p (by omega) (fun q u7 u8 i => by
          rw [← rw3_t] at i ⊢
          exact ih (p + 1) q _ _ _ (by omega) i kn) n 0 q2 _ _ (Nat.zero_add _) ⟨l2, gq.tr g2 (fun c k z => Or.inl z), fun p u v h1 h2 h3 h4 => by rw [g2.at _ _ (by unfold vaW; omega)]; exact I p u v h1 h2 h3 h4, by rw [kk]; exact T, by rw [kk]; exact ct⟩ ln
    have z0 : rw3 n 0 0 0 = 0 := by unfold rw3; simp
    have z8 : rw3 n 8 0 0 = 8 * n * n := by unfold rw3; simp
    have st := pp 8 0 h1 (9, 0) (9, 0) (9, 0) rfl (by rw [z0]; exact ini)
    rw [z0] at st
    refine st (fun q u6 u7 u8 i => ?_)
    clear st uu vvl pp fill
    rw [z8] at i
    rw [z8]
    -- the faces
    obtain ⟨Vq, mq, slq, sq⟩ := nas i
    obtain ⟨lq, gq, I, T, ct⟩ := i
    have cle := cntN_le (vwB n S ax dn) (8 * n * n)
    obtain ⟨k0, hk0, e0⟩ := TbK.free (n := n) (K := hv q kc) ct (by omega)
    obtain ⟨K0, eK0⟩ : ∃ K0 : Nat → Int, K0 = hv q kc := ⟨_, rfl⟩
    rw [← eK0] at T ct e0
    have G0 : Agr (fun c k => vaW B c k ∨ c = sh ∨ c = kc) h0 q := (g1.sub (fun c k z => Or.inr (Or.inr z))).tr gq (fun c k z => z)
    have nq : hnx q = hnx h0 := G0.nx
    have uq : hus q = hus h0 := G0.us
    obtain ⟨Rq, Lq⟩ := R0.ext hb0 G0.ext (fun i hi z => by have := rgi hi; unfold vaW at z; omega)
    have bq : BsU B q := by
      rcases u0' with z | ⟨z1, z2⟩
      · left; rw [G0.at _ _ (by unfold vaW; omega)]; exact z
      · right; exact ⟨by rw [G0.at _ _ (by unfold vaW; omega)]; exact z1, z2.exg hb0 G0.ext.exg (fun c k hc z => by unfold vaW at z; omega)⟩
    have soq : SoC B q := fun a b m z1 z2 z3 => by rw [G0.at _ _ (by unfold vaW; omega)]; exact so0 a b m z1 z2 z3
    have f82 : ∀ k, hv q (B + 82) k = hv h0 (B + 82) k := fun k => G0.at _ _ (by unfold vaW; omega)
    have f83 : ∀ k, hv q (B + 83) k = hv h0 (B + 83) k := fun k => G0.at _ _ (by unfold vaW; omega)
    have Aq : FaI B q pc cap ka kcp := by
      obtain ⟨⟨p1, p2, p3, p4, p5, p6, p7⟩, w2, w3⟩ := A0
      exact ⟨⟨by rw [f82]; exact p1, by rw [f82]; exact p2, by rw [G0.hk]; exact p3, p4, by rw [nq]; exact p5, p6, p7⟩, ⟨fun j hj => by
        obtain ⟨q1, q2, q3, q4⟩ := w2.1 j hj
        exact ⟨by rw [f82]; exact q1, by rw [G0.hk]; exact q2, q3, by rw [nq]; exact q4⟩, w2.2⟩, w3⟩
    -- View's cells are not written by Faces
    have notF : ∀ c k, (c = sh ∨ c = kc ∨ c = fc) → ¬ FdW B q c k := fun c k hc z => by
      have vn := (vn0 c hc).1
      have cg : B + 246 ≤ c := by omega
      have ck : (hk q c).1 = 2 := by
        rw [G0.hk]
        rcases hc with y | y | y
        · rw [y, b1]
        · rw [y, b2]
        · rw [y, b3]
      rcases z with z | z | z | ⟨f, hf, z⟩ | z | ⟨j, hj, z⟩
      · omega
      · unfold nbW at z; omega
      · omega
      · rcases Rq.1 (33 + f) (by omega) with y | ⟨e', y1, y2, y3, y4⟩
        · rw [rgV_e hf, z] at y; have := rf_pos c; omega
        · rw [rgV_e hf, z] at y1
          have : c = e' := by unfold rf at y1; omega
          rw [this, y4] at ck
          exact absurd (show (3 : Nat) = 2 from ck) (by decide)
      · rw [f82] at z; exact vn.1 z
      · rw [f82] at z; exact vn.2 j hj z
    have n132 : ∀ k, ¬ FdW B q (B + 132) k := fun k z => by
      rcases z with z | z | z | ⟨f, hf, z⟩ | z | ⟨j, hj, z⟩
      · omega
      · unfold nbW at z; omega
      · omega
      · rcases Rq.1 (33 + f) (by omega) with y | ⟨e', y1, y2, y3, y4⟩
        · rw [rgV_e hf, z] at y; have := rf_pos (B + 132); omega
        · rw [rgV_e hf, z] at y1; unfold rf at y1; omega
      · rw [Aq.1.1] at z; have := Aq.1.2.2.2.1; unfold rf at z; omega
      · obtain ⟨q1, q2, q3, q4⟩ := Aq.2.1.1 j hj
        rw [q1] at z; unfold rf at z; omega
    obtain ⟨⟨w1, w2, w3, w4⟩, ⟨w5, w6, w7⟩, ⟨x1, x2, x3, x4, x5, x6⟩, w8⟩ := Vq
    have hb2 := lq.2.2
    obtain ⟨WQ, eWQ⟩ : ∃ WQ : AH → Prop, WQ = fun t => VwD B n t kc fc ∧ ∀ k, hv t kc k = K0 k := ⟨_, rfl⟩
    have wq0 : WQ q := by rw [eWQ]; exact ⟨⟨⟨w2, w3, w4⟩, ⟨w6, w7⟩, x5, d3⟩, fun k => by rw [eK0]⟩
    have wq_st : ∀ t t', WQ t → (∀ c k, c < hnx q → ¬ FdW B q c k → hv t' c k = hv t c k) → (∀ c, c < hnx q → hk t' c = hk t c) → WQ t' := fun t t' w h1 h2 => by
      rw [eWQ] at w ⊢
      obtain ⟨⟨⟨y2, y3, y4⟩, ⟨y6, y7⟩, y8⟩, y9⟩ := w
      exact ⟨⟨⟨by rw [h1 _ _ (by omega) (n132 _)]; exact y2, by rw [h1 _ _ (by omega) (n132 _)]; exact y3, by rw [h1 _ _ (by omega) (n132 _)]; exact y4⟩, ⟨by rw [h2 _ (by omega)]; exact y6, by rw [h2 _ (by omega)]; exact y7⟩, y8⟩, fun k => by rw [h1 _ _ (by omega) (notF kc k (Or.inr (Or.inl rfl)))]; exact y9 k⟩
    have wq_fc : ∀ t t', WQ t → Agr (fun c _ => c = fc) t t' → WQ t' := fun t t' w g => by
      rw [eWQ] at w ⊢
      obtain ⟨⟨⟨y2, y3, y4⟩, ⟨y6, y7⟩, y8⟩, y9⟩ := w
      exact ⟨⟨⟨by rw [g.at _ _ (by omega)]; exact y2, by rw [g.at _ _ (by omega)]; exact y3, by rw [g.at _ _ (by omega)]; exact y4⟩, ⟨by rw [g.hk]; exact y6, by rw [g.hk]; exact y7⟩, y8⟩, fun k => by rw [g.at _ _ (by omega)]; exact y9 k⟩
    have CC : ∀ c, (0 ≤ c ∧ ∃ L', L' < 8 * n * n ∧ c = ffL n S ax dn L') → 0 ≤ c := fun c z => z.1
    obtain ⟨WF, eWF⟩ : ∃ WF : Nat → (Nat → Nat) → AH → Prop, WF = fun (mm : Nat) (F : Nat → Nat) t => WQ t ∧ (∀ i : Nat, i < mm → Fst n (bdr n S) (F i)) ∧ ∀ k Y, k < rmN n → Y < 4 * gN n → K0 k = (cdN n Y : Int) → ∀ i : Nat, i < mm → FRe n (bdr n S) (F i) Y → hv t fc k = (i : Int) := ⟨_, rfl⟩
    obtain ⟨WI, eWI⟩ : ∃ WI : Nat → (Nat → Nat) → Nat → (Nat → Bool) → AH → Prop, WI = fun (mm : Nat) (F : Nat → Nat) K1 (V : Nat → Bool) t => WQ t ∧ (∀ i : Nat, i < mm → Fst n (bdr n S) (F i)) ∧ (∀ i : Nat, i < mm → ¬ FRe n (bdr n S) (F i) K1) ∧ ∀ k Y, k < rmN n → Y < 4 * gN n → K0 k = (cdN n Y : Int) → (∀ i : Nat, i < mm → FRe n (bdr n S) (F i) Y → hv t fc k = (i : Int)) ∧ (V Y = true → hv t fc k = (mm : Int)) := ⟨_, rfl⟩
    have ok : WOk0 gv B n q (bdr n S) (rf (B + 132)) (fun c _ => c = fc) WF WI := by
      rw [eWF, eWI]
      refine ⟨fun mm F K1 fst => ?_, fun mm F K1 t fst nw ⟨f1, f2, f3⟩ => ⟨f1, f2, nw, fun k Y hk hY e => ⟨f3 k Y hk hY e, fun z => absurd z Bool.false_ne_true⟩⟩, fun mm F K1 V t fst v1 ⟨f1, f2, f3, f4⟩ => ⟨f1, fun i hi => ?_, fun k Y hk hY e i hi r => ?_⟩, fun mm F K1 V t t' ⟨f1, f2, f3, f4⟩ h1 h2 => ⟨wq_st t t' f1 h1 h2, f2, f3, fun k Y hk hY e => ?_⟩, fun mm F t t' ⟨f1, f2, f3⟩ h1 h2 => ⟨wq_st t t' f1 h1 h2, f2, fun k Y hk hY e i hi r => ?_⟩, fun c k z => ?_⟩
      · refine Or.inr ⟨_, 464, rf_pos _, by decide, by decide, ?_, by decide +kernel, fun t lt => by rw [ad_rf]; exact lk_132 lt, fun d hd V Kf t lt ⟨f1, f2, f3, f4⟩ hKf hV r => ?_⟩
        · rfl
        · have f1' := f1
          rw [eWQ] at f1'
          have hT : hv t kc = K0 := funext f1'.2
          obtain ⟨t', et, gt, vt⟩ := c_facet464 (gv := gv) (d := d) (face := (mm : Int)) (C := fun c => 0 ≤ c ∧ ∃ L', L' < 8 * n * n ∧ c = ffL n S ax dn L') lt (by omega) hn f1'.1 (by rw [hT]; exact T) ⟨k0, hk0, by rw [hT]; exact e0⟩ hKf CC
          refine ⟨t', et, gt, wq_fc t t' f1 gt, f2, f3, fun k Y hk hY e => ?_⟩
          have vk := vt k hk
          rw [hT] at vk
          by_cases z : K0 k = (cdN n Kf : Int)
          · rw [if_pos z] at vk
            have : Y = Kf := cdN_inj hn hY hKf (by omega)
            subst this
            exact ⟨fun i hi r2 => absurd (r2.tr (r.sym fst.1 fst.2.1)) (f3 i hi), fun _ => vk⟩
          · rw [if_neg z] at vk
            have ny : Y ≠ Kf := fun y => z (by rw [e, y])
            rw [vk]
            refine ⟨(f4 k Y hk hY e).1, fun y => (f4 k Y hk hY e).2 ?_⟩
            have y : (V Y || decide (Y = Kf)) = true := y
            rw [decide_eq_false ny, Bool.or_false] at y
            exact y
      · show Fst n (bdr n S) (if i = mm then K1 else F i)
        by_cases z : i = mm
        · rw [if_pos z]; exact fst
        · rw [if_neg z]; exact f2 i (by omega)
      · have r : FRe n (bdr n S) (if i = mm then K1 else F i) Y := r
        by_cases z : i = mm
        · rw [if_pos z] at r
          rw [(f4 k Y hk hY e).2 ((v1 Y hY).mpr r), z]
        · rw [if_neg z] at r
          exact (f4 k Y hk hY e).1 i (by omega) r
      · rw [h1 _ _ x6 (notF fc k (Or.inr (Or.inr rfl)))]
        exact f4 k Y hk hY e
      · rw [h1 _ _ x6 (notF fc k (Or.inr (Or.inr rfl)))]
        exact f3 k Y hk hY e i hi r
      · subst z
        exact ⟨x6, notF _ _ (Or.inr (Or.inr rfl)), by omega, fun i hi y => by have : rgC i < 149 := (rgC_lt ⟨i, hi⟩).1; omega, by omega⟩
    have wf0 : WF 0 (fun _ => 0) q := by rw [eWF]; exact ⟨wq0, fun i hi => absurd hi (Nat.not_lt_zero i), fun k Y _ _ _ i hi => absurd hi (Nat.not_lt_zero i)⟩
    refine Ends.eq (b467_115 lq (by omega)) (Ends.b3 (fun _ => ?_) (fun z => absurd z (by decide)))
    refine Ends.cv lq (by decide +kernel) (c_find162 lq (by omega) hn4 hn mq bq soq Rq sq (by rw [nq]; omega) hB (fun f hf => by rw [f83, same _ _ (by omega) (by omega)]; exact hne f hf) Aq ok wf0) (fun t lt _ _ _ ⟨mm, F, pc', cap', ka', kcp', t1, t2, t3, t4, t5, t6, t7, t8, t9, t10, t11, t12, t13⟩ => ?_)
    refine Ends.eq (b467_241 lt (by omega)) ?_
    have shO : ∀ k, hv t sh k = hv q sh k := fun k => t12.at k x2 (fun z => z.elim (notF sh k (Or.inl rfl)) (fun y => d2 y))
    rw [eWF, eWQ] at t13
    obtain ⟨⟨td, tk⟩, -, tf⟩ := t13
    have nt := t12.2.2.1
    have hT : hv t kc = K0 := funext tk
    have kts : hk t sh = (2, 8 * n * n) := by rw [t12.hk x2]; exact w5
    have t4s : hv t (B + 132) 4 = rf sh := by rw [t12.at _ (by omega) (fun z => z.elim (n132 4) (fun y => by omega))]; exact w1
    -- the last walk
    have lastL : ∀ (r j : Nat) (q2 : AH) (u6 u7 u8 : AV), j + r = 8 * n * n → LX B n q2 → Agr (fun c _ => c = sh) t q2 → VmF n S ax dn mm F q2 sh j → Ends (ev PP (gsF gv) B d 467 244 [(2, rf (B + 132)), (2, rf a), (0, (ax : Int)), (0, (dn : Int)), (0, ((cntN (vwB n S ax dn) (8 * n * n) : Nat) : Int)), (0, (j : Int)), u6, u7, u8] [] q2) Q := by
      intro r
      induction r with
      | zero =>
        intro j q2 u6 u7 u8 e l2 g2 I2
        obtain rfl : j = 8 * n * n := by omega
        refine Ends.eq (b467_244 l2 (by omega)) ?_
        rw [e88]
        refine Ends.b3 (fun _ => Ends.sm (KK _ _ ?_)) (fun z => absurd z (Int.lt_irrefl _))
        have nq2 := g2.nx
        have uq2 := g2.us
        obtain ⟨⟨⟨p1, p2, p3, p4, p5, p6, p7⟩, k1, k2⟩, pO, kO⟩ := t1
        have vsh := (vn0 sh (Or.inl rfl)).1
        have nsh : B + 246 ≤ sh := x1
        obtain ⟨R2, L2⟩ := t9.ext lt.2.2 g2.ext (fun i hi z => by have : rgC i < 149 := (rgC_lt ⟨i, hi⟩).1; omega)
        have shF : ∀ j, j < 6 → sh ≠ ka' j := fun j hj y => by
          rcases kO j hj with z | z
          · omega
          · rw [f82, ← y] at z; exact vsh.2 j hj z
        have shP : sh ≠ pc' := fun y => by
          rcases pO with z | z
          · omega
          · rw [f82, ← y] at z; exact vsh.1 z
        refine ⟨sh, kc, fc, mm, F, pc', cap', ka', kcp', ?_, ⟨⟨by rw [g2.at _ _ (by omega)]; exact p1, by rw [g2.at _ _ (by omega)]; exact p2, by rw [g2.hk]; exact p3, p4, by rw [nq2]; exact p5, p6, p7⟩, ⟨fun j hj => ?_, k1.2⟩, k2⟩, t2, by rw [g2.at _ _ (by omega)]; exact t3, by rw [g2.at _ _ (by omega)]; exact t4, t5, fun i hi j hj => by rw [g2.at _ _ (fun y => shF j hj y.symm)]; exact t6 i hi j hj, by rw [g2.at _ _ (by omega)]; exact t7, fun k s' hk hs => ?_, R2, fun p u v hp hu hv' => (I2 p u v hp hu hv').1 (ixV_lt hp hu hv'), rfl, ?_, ?_, ?_⟩
        · obtain ⟨⟨y2, y3, y4⟩, ⟨y6, y7⟩, y8⟩ := td
          exact ⟨⟨by rw [g2.at _ _ (by omega)]; exact t4s, by rw [g2.at _ _ (by omega)]; exact y2, by rw [g2.at _ _ (by omega)]; exact y3, by rw [g2.at _ _ (by omega)]; exact y4⟩, ⟨by rw [g2.hk]; exact kts, by rw [g2.hk]; exact y6, by rw [g2.hk]; exact y7⟩, ⟨x1, by omega, x3, by omega, x5, by omega⟩, w8⟩
        · obtain ⟨q1, q2, q3, q4⟩ := k1.1 j hj
          exact ⟨by rw [g2.at _ _ (by omega)]; exact q1, by rw [g2.hk]; exact q2, q3, by rw [nq2]; exact q4⟩
        · have := t8 k s' hk hs
          exact ⟨by rw [g2.at _ _ (by omega)]; exact this.1, fun a ha => by rw [g2.at _ _ (by omega)]; exact this.2 a ha⟩
        · have v2 : vlz B n q2 = 0 := by unfold vlz; rw [g2.at _ _ (by omega), t4s, if_neg (by have := rf_pos sh; omega)]
          have v0 : vlz B n h0 = 0 := by unfold vlz; rw [a1, if_neg (by have := rf_pos sh; omega)]
          omega
        · have : 128 * hnx t + hus q ≤ 128 * hnx q + hus t := t11
          omega
        · refine ((X0.tr G0.ext.exg (fun c k hc z => ?_)).tr t12 (fun c k hc z => ?_)).tr g2.ext.exg (fun c k hc z => ?_)
          · rcases z with z | z | z
            · exact Or.inl z
            · rcases ow c (Or.inl z) with y | y
              · omega
              · exact Or.inr (Or.inr (Or.inl y))
            · rcases ow c (Or.inr (Or.inl z)) with y | y
              · omega
              · exact Or.inr (Or.inr (Or.inl y))
          · rcases z with z | z
            · refine Or.inr (Or.inr (Or.inr ?_))
              have e82 : ∀ k, hv q (B + 82) k = hv h (B + 82) k := fun k => by rw [f82, same _ _ (by omega) (by omega)]
              have e83 : ∀ k, hv q (B + 83) k = hv h (B + 83) k := fun k => by rw [f83, same _ _ (by omega) (by omega)]
              rcases z with z | z | z | ⟨f, hf, z⟩ | z | ⟨j, hj, z⟩
              · exact Or.inl z
              · exact Or.inr (Or.inl z)
              · exact Or.inr (Or.inr (Or.inl z))
              · exact Or.inr (Or.inr (Or.inr (Or.inl ⟨f, hf, by rw [← e83]; exact z⟩)))
              · exact Or.inr (Or.inr (Or.inr (Or.inr (Or.inl (by rw [← e82]; exact z)))))
              · exact Or.inr (Or.inr (Or.inr (Or.inr (Or.inr ⟨j, hj, by rw [← e82]; exact z⟩))))
            · rcases ow c (Or.inr (Or.inr z)) with y | y
              · omega
              · exact Or.inr (Or.inr (Or.inl y))
          · rcases ow c (Or.inl z) with y | y
            · omega
            · exact Or.inr (Or.inr (Or.inl y))
      | succ r ih =>
        intro j q2 u6 u7 u8 e l2 g2 I2
        have hj : j < 8 * n * n := by omega
        obtain ⟨p, u, v, hp, hu, hv', ej⟩ := ixV_ex hn0 hj
        have now := (I2 p u v hp hu hv').2 (by omega)
        have cnd := ffD_cn (S := S) hax hdn hn hp hu hv'
        have next : ∀ (q3 : AH) (y : Int), LX B n q3 → Agr (fun c k => c = sh ∧ k = j) q2 q3 → ((ffP n S ax dn p u v < 5 * n → ∃ i, i < mm ∧ FRe n (bdr n S) (F i) (ffK n S ax dn p u v) ∧ hv q3 sh j = (i : Int)) ∧ (¬ ffP n S ax dn p u v < 5 * n → hv q3 sh j = -1)) → Ends (ev PP (gsF gv) B d 467 294 [(2, rf (B + 132)), (2, rf a), (0, (ax : Int)), (0, (dn : Int)), (0, ((cntN (vwB n S ax dn) (8 * n * n) : Nat) : Int)), (0, (j : Int)), u6, u7, u8] [] q3) Q := fun q3 y l3 g3 w => by
          refine Ends.eq (b467_294 l3 (by omega)) ?_
          rw [w_succ (by omega)]
          refine ih (j + 1) q3 _ _ _ (by omega) l3 (g2.tr g3 (fun c k z => z.1)) (fun p' u' v' hp' hu' hv'' => ⟨fun lt' => ?_, fun ge' => ?_⟩)
          · by_cases z : ixV n p' u' v' = j
            · obtain ⟨z1, z2, z3⟩ := ixV_inj hp' hu' hp hu (z.trans ej)
              subst z1 z2 z3
              rw [← ej]; exact w
            · rw [g3.at _ _ (fun y => z y.2)]
              exact (I2 p' u' v' hp' hu' hv'').1 (by omega)
          · rw [g3.at _ _ (fun y => by omega)]
            exact (I2 p' u' v' hp' hu' hv'').2 (by omega)
        have f2 : ∀ k, hv q2 (B + 132) k = hv t (B + 132) k := fun k => g2.at _ _ (by omega)
        obtain ⟨⟨y2, y3, y4⟩, ⟨y6, y7⟩, y8, -⟩ := td
        refine Ends.eq (b467_244 l2 (by omega)) ?_
        rw [e88, f2 4, t4s, ad_rf, g2.hk, kts, tn, ej, now]
        rw [← ej]
        refine Ends.b3 (fun z => absurd z (by omega)) (fun _ => Ends.g ⟨rf_pos _, rfl, by omega, by show (j : Int) < ((8 * n * n : Nat) : Int); omega⟩ (Ends.b2 (fun z => ?_) (fun z => ?_)))
        · have nf : ¬ ffP n S ax dn p u v < 5 * n := fun y => by have := ffD_0.mpr y; omega
          refine next q2 0 l2 Agr.rf ⟨fun y => absurd y nf, fun _ => ?_⟩
          rw [ej, now]; unfold ffD; rw [if_neg nf]
        · have fP := ffD_0.mp z
          obtain ⟨kb1, kb2⟩ := ff_bdr (S := S) hax hdn hp hu hv' fP
          have ecd : ffD n S ax dn p u v = (cdN n (ffK n S ax dn p u v) : Int) := by unfold ffD; rw [if_pos fP]
          have D2 : VwD B n q2 kc fc := ⟨⟨by rw [f2]; exact y2, by rw [f2]; exact y3, by rw [f2]; exact y4⟩, ⟨by rw [g2.hk]; exact y6, by rw [g2.hk]; exact y7⟩, y8, d3⟩
          have hT2 : hv q2 kc = K0 := funext (fun k => by rw [g2.at _ _ (fun y => d1 y.symm)]; exact tk k)
          refine Ends.ct l2 (by decide +kernel) (by decide) (c_slot471 (k0 := k0) (c := ffD n S ax dn p u v) l2 (by omega) D2.1.1 D2.2.1.1 D2.1.2.2 hk0 (by rw [hT2]; exact e0)) (fun x h5 l5 _ _ _ ⟨e5, k, ek, hk, sk⟩ => ?_)
          subst e5
          rw [hT2] at sk
          have present : K0 k = ffD n S ax dn p u v := (T.find hk sk).1 ⟨z, rw3 n p v u, ?_, ?_⟩
          · have fv : hv h5 fc k = hv t fc k := g2.at _ _ (fun y => d2 y.symm)
            obtain ⟨i, i1, i2⟩ := t2.has kb1 kb2
            have fi := tf k (ffK n S ax dn p u v) hk kb1 (by rw [present, ecd]) i i1 i2
            refine Ends.eq (b467_292 l5 (by omega)) ?_
            rw [ek, f2 6, y3, ad_rf, ad_rf, g2.hk, y7, g2.hk, kts, tn, tn, fv, fi, an0]
            have l6 : LX B n (hset h5 sh j (i : Int)) := LX.setA (t := 0) l5 (by rw [g2.hk, kts])
            refine Ends.g ⟨rf_pos _, rfl, by omega, by show (k : Int) < ((rmN n : Nat) : Int); omega⟩ (Ends.g ⟨rf_pos _, rfl, by omega, by show (j : Int) < ((8 * n * n : Nat) : Int); omega, by omega⟩ ?_)
            exact next _ 0 l6 (Agr.rf.set ⟨rfl, rfl⟩) ⟨fun _ => ⟨i, i1, i2, hv_set_at ..⟩, fun y => absurd fP y⟩
          · have h1 : (p + 1) * n ≤ 8 * n := Nat.mul_le_mul_right n hp
            rw [Nat.succ_mul] at h1
            have h2 : (p * n + v + 1) * n ≤ 8 * n * n := Nat.mul_le_mul_right n (by omega)
            rw [Nat.succ_mul] at h2
            unfold rw3; omega
          · exact ((ffL_at hv' hu).1).symm
    exact lastL _ 0 t _ _ _ (Nat.zero_add _) lt Agr.rf (fun p u v hp hu hv' => ⟨fun y => absurd y (Nat.not_lt_zero _), fun _ => by
      rw [shO]
      refine I p u v hp hu hv' ?_
      have h1 : (p + 1) * n ≤ 8 * n := Nat.mul_le_mul_right n hp
      rw [Nat.succ_mul] at h1
      have h2 : (p * n + v + 1) * n ≤ 8 * n * n := Nat.mul_le_mul_right n (by omega)
      rw [Nat.succ_mul] at h2
      unfold rw3; omega⟩)
  -- the cells
  refine Ends.eq (b467_0 l (by omega)) (Ends.b0 (fun z0 => ?_) (fun z0 => ?_))
  · rw [e88, tn]
    refine Ends.g ⟨by omega, by omega⟩ ?_
    have la : LX B n (hnew h (0 + 2, 8 * n * n) (8 * n * n)) := l.new
    refine Ends.eq (b467_22 la (by omega)) ?_
    have lb : LX B n (hset (hset (hnew h (0 + 2, 8 * n * n) (8 * n * n)) (B + 132) 4 (rf (hnx h))) (B + 132) 7 64) := LX.setF 132 7 (LX.setF 132 4 la (by decide +kernel)) (by decide +kernel)
    have Xb : ExG (fun c k => c = B + 132 ∧ 4 ≤ k ∧ k ≤ 7) h (hset (hset (hnew h (0 + 2, 8 * n * n) (8 * n * n)) (B + 132) 4 (rf (hnx h))) (B + 132) 7 64) := (((Ext.new (W := fun c k => c = B + 132 ∧ 4 ≤ k ∧ k ≤ 7) (kd := (0 + 2, 8 * n * n)) (sz := 8 * n * n) (h := h)).set (fun _ => ⟨rfl, by decide, by decide⟩)).set (fun _ => ⟨rfl, by decide, by decide⟩)).exg
    have kb : hk (hset (hset (hnew h (0 + 2, 8 * n * n) (8 * n * n)) (B + 132) 4 (rf (hnx h))) (B + 132) 7 64) (hnx h) = (2, 8 * n * n) := by show hk (hnew h (0 + 2, 8 * n * n) (8 * n * n)) (hnx h) = _; rw [hk_new, if_pos rfl]
    have nb : hnx (hset (hset (hnew h (0 + 2, 8 * n * n) (8 * n * n)) (B + 132) 4 (rf (hnx h))) (B + 132) 7 64) = hnx h + 1 := rfl
    have ub : hus (hset (hset (hnew h (0 + 2, 8 * n * n) (8 * n * n)) (B + 132) 4 (rf (hnx h))) (B + 132) 7 64) = hus h + 8 * n * n := rfl
    have vb4 : hv (hset (hset (hnew h (0 + 2, 8 * n * n) (8 * n * n)) (B + 132) 4 (rf (hnx h))) (B + 132) 7 64) (B + 132) 4 = rf (hnx h) := by rw [hv_set_ne (by omega), hv_set_at]
    have vb7 : hv (hset (hset (hnew h (0 + 2, 8 * n * n) (8 * n * n)) (B + 132) 4 (rf (hnx h))) (B + 132) 7 64) (B + 132) 7 = 64 := hv_set_at ..
    generalize hset (hset (hnew h (0 + 2, 8 * n * n) (8 * n * n)) (B + 132) 4 (rf (hnx h))) (B + 132) 7 64 = hB' at *
    obtain ⟨X16, e16⟩ : ∃ X16, X16 = 16 * n * n := ⟨_, rfl⟩
    have x16 : 256 ≤ X16 ∧ X16 ≤ 43264 := by rw [e16]; rw [Nat.mul_assoc] at n88' b88 ⊢; omega
    have b16 : ∀ _ : Unit, bop32 104 (bop32 104 (16 : Int) (n : Int)) (n : Int) = ((X16 : Nat) : Int) := fun _ => by
      rw [show bop32 104 (16 : Int) (n : Int) = ((16 * n : Nat) : Int) from mulNN (x := 16) (by omega), mulNN (by omega), e16]
    have done : ∀ (q : AH), LX B n q → Agr (fun c k => c = B + 132 ∧ k = 7) hB' q → hv q (B + 132) 7 = ((rmN n : Nat) : Int) → X16 ≤ rmN n → Ends (ev PP (gsF gv) B d 467 31 [(2, rf (B + 132)), (2, rf a), (0, (ax : Int)), (0, (dn : Int)), (9, 0), (9, 0), (9, 0), (9, 0), (9, 0)] [] q) Q := by
        intro q lq g e7 hge
        have nq := g.nx
        have uq := g.us
        refine Ends.eq (b467_31 lq (by omega)) ?_
        rw [e7, b16 (), tn]
        refine Ends.b3 (fun _ => Ends.g ⟨by omega, by omega⟩ ?_) (fun z => by omega)
        have l1 : LX B n (hnew q (0 + 2, rmN n) (rmN n)) := lq.new
        refine Ends.eq (b467_70 l1 (by omega)) ?_
        have X1 : Ext (fun c k => c = B + 132 ∧ k = 5) 1 (rmN n) q (hset (hnew q (0 + 2, rmN n) (rmN n)) (B + 132) 5 (rf (hnx q))) := Ext.new.set (fun _ => ⟨rfl, rfl⟩)
        have l2 : LX B n (hset (hnew q (0 + 2, rmN n) (rmN n)) (B + 132) 5 (rf (hnx q))) := LX.setF 132 5 l1 (by decide +kernel)
        have k2 : hk (hset (hnew q (0 + 2, rmN n) (rmN n)) (B + 132) 5 (rf (hnx q))) (hnx q) = (2, rmN n) := by show hk (hnew q (0 + 2, rmN n) (rmN n)) (hnx q) = _; rw [hk_new, if_pos rfl]
        have n2 : hnx (hset (hnew q (0 + 2, rmN n) (rmN n)) (B + 132) 5 (rf (hnx q))) = hnx q + 1 := rfl
        have u2 : hus (hset (hnew q (0 + 2, rmN n) (rmN n)) (B + 132) 5 (rf (hnx q))) = hus q + rmN n := rfl
        have v25 : hv (hset (hnew q (0 + 2, rmN n) (rmN n)) (B + 132) 5 (rf (hnx q))) (B + 132) 5 = rf (hnx q) := hv_set_at ..
        have e70 : hv (hnew q (0 + 2, rmN n) (rmN n)) (B + 132) 7 = ((rmN n : Nat) : Int) := by rw [hv_new, if_neg (by have := lq.2.2; omega)]; exact e7
        rw [e70, tn]
        clear e70
        generalize hset (hnew q (0 + 2, rmN n) (rmN n)) (B + 132) 5 (rf (hnx q)) = q2 at *
        have l3 : LX B n (hnew q2 (0 + 2, rmN n) (rmN n)) := l2.new
        refine Ends.g ⟨by omega, by omega⟩ (Ends.eq (b467_80 l3 (by omega)) ?_)
        have X3 : Ext (fun c k => c = B + 132 ∧ k = 6) 1 (rmN n) q2 (hset (hnew q2 (0 + 2, rmN n) (rmN n)) (B + 132) 6 (rf (hnx q2))) := Ext.new.set (fun _ => ⟨rfl, rfl⟩)
        have l4 : LX B n (hset (hnew q2 (0 + 2, rmN n) (rmN n)) (B + 132) 6 (rf (hnx q2))) := LX.setF 132 6 l3 (by decide +kernel)
        have k4 : hk (hset (hnew q2 (0 + 2, rmN n) (rmN n)) (B + 132) 6 (rf (hnx q2))) (hnx q2) = (2, rmN n) := by show hk (hnew q2 (0 + 2, rmN n) (rmN n)) (hnx q2) = _; rw [hk_new, if_pos rfl]
        have n4 : hnx (hset (hnew q2 (0 + 2, rmN n) (rmN n)) (B + 132) 6 (rf (hnx q2))) = hnx q2 + 1 := rfl
        have u4 : hus (hset (hnew q2 (0 + 2, rmN n) (rmN n)) (B + 132) 6 (rf (hnx q2))) = hus q2 + rmN n := rfl
        have v46 : hv (hset (hnew q2 (0 + 2, rmN n) (rmN n)) (B + 132) 6 (rf (hnx q2))) (B + 132) 6 = rf (hnx q2) := hv_set_at ..
        generalize hset (hnew q2 (0 + 2, rmN n) (rmN n)) (B + 132) 6 (rf (hnx q2)) = q4 at *
        have hbq := lq.2.2
        have w5 : hv q4 (B + 132) 5 = rf (hnx q) := by rw [X3.at _ (by omega) (by omega)]; exact v25
        have w4 : hv q4 (B + 132) 4 = rf (hnx h) := by rw [X3.at _ (by omega) (by omega), X1.at _ (by omega) (by omega), g.at _ _ (by omega)]; exact vb4
        have w7 : hv q4 (B + 132) 7 = ((rmN n : Nat) : Int) := by rw [X3.at _ (by omega) (by omega), X1.at _ (by omega) (by omega)]; exact e7
        have XA : ExG (fun c k => c = B + 132 ∧ 4 ≤ k ∧ k ≤ 7) h q4 := ((Xb.tr g.ext.exg (fun c k _ z => ⟨z.1, by omega, by omega⟩)).tr X1.exg (fun c k _ z => ⟨z.1, by omega, by omega⟩)).tr X3.exg (fun c k _ z => ⟨z.1, by omega, by omega⟩)
        have f82 : ∀ k, hv q4 (B + 82) k = hv h (B + 82) k := fun k => XA.at k (by omega) (by omega)
        refine main q4 (hnx h) (hnx q) (hnx q2) l4 (XA.sub (fun c k _ z => Or.inr (Or.inl z))) ⟨⟨w4, w5, v46, w7⟩, ⟨by rw [X3.hk (by omega), X1.hk (by omega), g.hk]; exact kb, by rw [X3.hk (by omega)]; exact k2, k4⟩, ⟨by omega, by omega, by omega, by omega, by omega, by omega⟩, by omega, by omega, by omega⟩ (fun c hc => ⟨⟨fun y => ?_, fun j hj y => ?_⟩, by omega⟩) (fun c k hc hne => XA.at k hc hne) ?_ (by omega) (fun c hc => Or.inl (by omega))
        · rw [f82, P.1] at y
          have := P.2.2.2.2.1
          unfold rf at y; omega
        · rw [f82, (Kap.1 j hj).1] at y
          have := (Kap.1 j hj).2.2.2
          unfold rf at y; omega
        · unfold vlz
          rw [w4, z0, if_pos rfl, if_neg (by have := rf_pos (hnx h); omega)]
          omega
    have grow : ∀ (r s' : Nat) (q : AH), pw2 s' r → s' < 2 * X16 → LX B n q → Agr (fun c k => c = B + 132 ∧ k = 7) hB' q → hv q (B + 132) 7 = (s' : Int) → Ends (ev PP (gsF gv) B d 467 31 [(2, rf (B + 132)), (2, rf a), (0, (ax : Int)), (0, (dn : Int)), (9, 0), (9, 0), (9, 0), (9, 0), (9, 0)] [] q) Q := by
      intro r
      have top : ∀ (s' r : Nat), pw2 s' r → s' < 2 * X16 → X16 ≤ s' → s' = rmN n := fun s' r hs h1 h2 => by
        rw [e16] at h1 h2 x16
        exact hs.top h1 h2 x16.1
      induction r with
      | zero =>
        intro s' q hs hlt lq g e7
        have := hs.z
        have es := top s' 0 hs hlt (by omega)
        rw [es] at e7
        exact done q lq g e7 (by omega)
      | succ r ih =>
        intro s' q hs hlt lq g e7
        by_cases hge : X16 ≤ s'
        · have es := top s' _ hs hlt hge
          rw [es] at e7
          exact done q lq g e7 (by omega)
        · have s32 := hs.le1
          refine Ends.eq (b467_31 lq (by omega)) ?_
          rw [e7, b16 ()]
          refine Ends.b3 (fun z => by omega) (fun _ => ?_)
          rw [show bop32 104 ((s' : Nat) : Int) 2 = ((s' * 2 : Nat) : Int) from mulNN (y := 2) (by omega)]
          exact ih (s' * 2) _ hs.nx (by omega) (LX.setF 132 7 lq (by decide +kernel)) (g.set ⟨rfl, rfl⟩) (hv_set_at ..)
    exact grow 10 64 hB' (Or.inl ⟨rfl, rfl⟩) (by omega) lb Agr.rf vb7
  · obtain ⟨sh, kc, fc, V0⟩ : ∃ sh kc fc, VwC B n h sh kc fc := by
      rcases V with z | z
      · exact absurd z z0
      · exact z
    have a123 := V0.1
    have ow : ∀ c, c = sh ∨ c = kc ∨ c = fc → hv h (B + 132) 4 = rf c ∨ hv h (B + 132) 5 = rf c ∨ hv h (B + 132) 6 = rf c := fun c hc => by
      rcases hc with y | y | y
      · left; rw [y]; exact a123.1
      · right; left; rw [y]; exact a123.2.1
      · right; right; rw [y]; exact a123.2.2.1
    exact main h sh kc fc l ExG.rf V0 (fun c hc => vnf c z0 (ow c hc)) (fun _ _ _ _ => rfl) rfl (by omega) (fun c hc => Or.inr ⟨z0, ow c hc⟩)
end DM2
