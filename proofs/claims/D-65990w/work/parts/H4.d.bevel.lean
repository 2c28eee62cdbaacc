/-! L3: bevels (desk) -/
noncomputable section BVD
variable {gv : Nat → Int} {B n d f k pc cap kc mm ax bx al kd i b tl mo xe : Nat} {h t : AH} {S V : Nat → Bool} {ka F mk : Nat → Nat} {c N : Nat → Int} {pa pb wa wb hh : Int} {R : Nat → Nat → Nat → Bool}
/-- how far a quarter's sample is behind two planes -/
def bvU (w : Int) (first : Bool) (p : Int) (q v u : Nat) : Int := w * ((if first = true then 8 * (u : Int) + sU q else 8 * (v : Int) + sV q) - 8 * p)
def bvQ (wa wb : Int) (first : Bool) (pa pb hh : Int) (q v u : Nat) : Bool := decide ((0 ≤ bvU wa first pa q v u ∧ 0 ≤ bvU wb (!first) pb q v u) ∧ bvU wa first pa q v u + bvU wb (!first) pb q v u ≤ 8 * hh)
theorem mulW {w z : Int} (hw : w = 1 ∨ w = -1) (hz : -100000 ≤ z ∧ z ≤ 100000) : bop32 104 w z = w * z ∧ -100000 ≤ w * z ∧ w * z ≤ 100000 := by
  rcases hw with e | e
  · subst e; exact ⟨mul32 (by omega) (by omega), by omega, by omega⟩
  · subst e; exact ⟨mul32 (by omega) (by omega), by omega, by omega⟩
theorem ah_step {p v u q y x : Nat} : (aheadB p v (u + 1) q y x && R q y x) = ((aheadB p v u q y x && R q y x) || (decide (q = p ∧ y = v ∧ x = u) && R p v u)) := by
  unfold aheadB
  rw [Bool.eq_iff_iff]
  simp only [Bool.and_eq_true, Bool.or_eq_true, decide_eq_true_eq]
  constructor
  · rintro ⟨a, r⟩
    by_cases e : q = p ∧ y = v ∧ x = u
    · right; refine ⟨e, ?_⟩; obtain ⟨rfl, rfl, rfl⟩ := e; exact r
    · left; exact ⟨by omega, r⟩
  · rintro (⟨a, r⟩ | ⟨⟨e1, e2, e3⟩, r⟩)
    · exact ⟨by omega, r⟩
    · subst e1; subst e2; subst e3; exact ⟨by omega, r⟩
theorem ah_row {p v q y x : Nat} (hx : x < n) : (aheadB p v n q y x && R q y x) = (aheadB p (v + 1) 0 q y x && R q y x) := by
  unfold aheadB
  rw [decide_eq_decide.mpr (show (q < p ∨ (q = p ∧ (y < v ∨ (y = v ∧ x < n)))) ↔ (q < p ∨ (q = p ∧ (y < v + 1 ∨ (y = v + 1 ∧ x < 0)))) by omega)]
theorem ah_pl {p q y x : Nat} (hy : y < n) : (aheadB p n 0 q y x && R q y x) = (aheadB (p + 1) 0 0 q y x && R q y x) := by
  unfold aheadB
  rw [decide_eq_decide.mpr (show (q < p ∨ (q = p ∧ (y < n ∨ (y = n ∧ x < 0)))) ↔ (q < p + 1 ∨ (q = p + 1 ∧ (y < 0 ∨ (y = 0 ∧ x < 0)))) by omega)]
/-- where an axis-wise change writes -/
def bnW (B tl : Nat) : Nat → Nat → Prop := fun c k => c = B + 117 ∨ c = tl ∨ c = B + 105 ∨ c = B + 109 ∨ c = B + 114 ∨ (c = B + 92 ∧ (k = 27 ∨ k = 28 ∨ 45 ≤ k ∧ k ≤ 48))
theorem bnW_rg (ht : B + 246 ≤ tl) : ∀ i, i < 39 → (i < 33 ∨ 36 < i) → ¬ bnW B tl (B + rgC i) (rgK i) := fun i hi _ z => by
  have := rgi hi
  have := rgC_lt ⟨i, hi⟩
  unfold bnW at z
  have : rgC i < 149 := by omega
  omega
theorem Scr.rg {c : Nat} (s : Scr B h c) : ∃ i, i < 39 ∧ (i < 33 ∨ 36 < i) ∧ rgV B h i = rf c := by
  obtain ⟨k, k1, k2⟩ := s
  exact ⟨10 + k, by omega, by omega, by rw [rgV_s k1]; exact k2⟩
theorem PtD.fax {q : AH} (P : PtD B n h tl mo xe) (x : FaX B n (bnW B tl) h q) (fc : FcN B n h pc cap ka kc) (hb : B + 246 ≤ hnx h) : PtD B n q tl mo xe := by
  obtain ⟨e1, e2, e3, t1, t2, t3, n1, n2, n3⟩ := P
  have ht := t1.1
  have at' : ∀ {c k : Nat}, c = B + 92 ∧ k < 20 ∨ c = B + 53 → hv q c k = hv h c k := fun hc => x.at fc hb (by omega) (fun z => by unfold bnW at z; omega) (by omega) (by omega) (by omega)
  have pa : ∀ {a : Nat}, PtA B n h a → PtA B n q a := fun ⟨a1, a2, ⟨k, k1, k2⟩, a4⟩ => ⟨a1, by have := x.1.2.2.1; omega, ⟨k, k1, by rw [at' (Or.inr rfl)]; exact k2⟩, by rw [x.1.hk a2]; exact a4⟩
  exact ⟨by rw [at' (Or.inl ⟨rfl, by decide⟩)]; exact e1, by rw [at' (Or.inl ⟨rfl, by decide⟩)]; exact e2, by rw [at' (Or.inl ⟨rfl, by decide⟩)]; exact e3, pa t1, pa t2, pa t3, n1, n2, n3⟩
/-- a face's side and sign -/
def sgF (K : Nat) : Int := if 13 < drT (K % 96) then 1 else -1
theorem sgF_pm {K : Nat} : sgF K = 1 ∨ sgF K = -1 := by unfold sgF; by_cases z : 13 < drT (K % 96); rw [if_pos z]; exact Or.inl rfl; rw [if_neg z]; exact Or.inr rfl
theorem ofF_sg {K : Nat} (hn : n ≤ 52) (hK : K < 4 * gN n) : bop32 104 (ofF n K) (cond (tst 5 ((drT (K % 96) : Nat) : Int) 13) (-1 : Int) 1) = plK n K ∧ cond (tst 5 ((drT (K % 96) : Nat) : Int) 13) (-1 : Int) 1 = sgF K := by
  have ob := ofF_b hn hK
  rw [ct5]
  unfold plK sgF
  by_cases z : 13 < drT (K % 96)
  · rw [if_pos (show (13 : Int) < ((drT (K % 96) : Nat) : Int) by omega), if_pos z, if_pos z]
    exact ⟨by rw [mul32 (by omega) (by omega), Int.mul_one], rfl⟩
  · rw [if_neg (show ¬ (13 : Int) < ((drT (K % 96) : Nat) : Int) by omega), if_neg z, if_neg z]
    exact ⟨by rw [mul32 (by omega) (by omega)]; omega, rfl⟩
/-- the tool of a bevel: faces Ka, Kb -/
def bvA (K : Nat) : Nat := (axD (drT (K % 96))).toNat
def bvG (n : Nat) (S : Nat → Bool) (w : Int) (Ka Kb : Nat) (hh : Int) (g : Nat) : Bool := (emB n (3 - bvA Ka - bvA Kb) (plK n Kb) (FRb n (bdr n S) Ka) (gC n g (3 - bvA Ka - bvA Kb)) && emB n (3 - bvA Ka - bvA Kb) (plK n Ka) (FRb n (bdr n S) Kb) (gC n g (3 - bvA Ka - bvA Kb))) && bvQ (w * sgF Ka) (w * sgF Kb) (decide (bvA Ka < bvA Kb)) (plK n Ka) (plK n Kb) hh (quT (3 - bvA Ka - bvA Kb) (gSo g)) (gC n g (sA (3 - bvA Ka - bvA Kb))) (gC n g (fA (3 - bvA Ka - bvA Kb)))
/-- what a tool makes of the part (desk) -/
def TkL (B n : Nat) (op : Int) (S T0 : Nat → Bool) (v : Int) (q : AH) : Prop := ((∀ g, g < gN n → T0 g = false) ∧ v = 0 ∧ hv q (B + 92) 27 = 4 ∧ hv q (B + 92) 28 = 0 ∧ SG n q (B + 117) S) ∨ ((∃ g, g < gN n ∧ T0 g = true) ∧ v = 1 ∧ SG n q (B + 117) (fun g => jn op (S g) (T0 g)))
/-- behind the looking: quarters, prisms, the tool taken -/
theorem e_bevel {Q : Rs → Prop} {M sa sb wy : Int} {mE : Nat → Bool} {u17 u18 u19 u20 u21 u22 : AV} (l : LX B n h) (hd : 20 ≤ d) (hn0 : 0 < n) (hn : n ≤ 52) (m : TbC B h) (P : PtD B n h tl mo xe) (s : SG n h (B + 117) S) (st : SG n h tl (fun _ => false)) (qq : Qua n h (B + 114) (fun _ _ _ => false)) (hal : al < 3) (hwy : wy = 1 ∨ wy = -1) (hsa : sa = 1 ∨ sa = -1) (hsb : sb = 1 ∨ sb = -1) (hpa : -400 ≤ pa ∧ pa ≤ 400) (hpb : -400 ≤ pb ∧ pb ≤ 400) (e2 : hv h (B + 97) 2 = hh) (bh : -200 ≤ hh ∧ hh ≤ 200) (hM : ∀ x, x < 64 → tb M x = (decide (x < n) && mE x)) (hkd : kd = 20 ∨ kd = 21)
    (K : ∀ v h', LX B n h' → Agr (fun c k => c = B + 114 ∨ c = tl ∨ c = B + 117 ∨ (c = B + 92 ∧ (k = 27 ∨ k = 28))) h h' → TkL B n (if kd = 20 then 1 else 0) S (fun g => mE (gC n g al) && bvQ (wy * sa) (wy * sb) (decide (ax < bx)) pa pb hh (quT al (gSo g)) (gC n g (sA al)) (gC n g (fA al))) v h' → Q ((0, (0, v)), h')) :
    Ends (ev PP (gsF gv) B d 251 216 [(2, rf (B + 92)), (0, (f : Int)), (0, (kd : Int)), (0, (i : Int)), (0, (b : Int)), (0, (ax : Int)), (0, (bx : Int)), (0, sa), (0, sb), (0, pa), (0, pb), (0, (al : Int)), (1, M), (9, 0), (0, wy), (0, if ax < bx then 1 else 0), (0, ((0 : Nat) : Int)), u17, u18, u19, u20, u21, u22] [] h) Q := by
  obtain ⟨p12, p13, p14, ⟨t1, t2, t3, t4⟩, pm, px, ne1, ne2, ne3⟩ := id P
  have hbl := l.2.2
  obtain ⟨wa, ewa⟩ : ∃ wa, wa = wy * sa := ⟨_, rfl⟩
  obtain ⟨wb, ewb⟩ : ∃ wb, wb = wy * sb := ⟨_, rfl⟩
  have hwa : wa = 1 ∨ wa = -1 := by rcases hwy with e | e <;> rcases hsa with y | y <;> rw [ewa, e, y] <;> decide
  have hwb : wb = 1 ∨ wb = -1 := by rcases hwy with e | e <;> rcases hsb with y | y <;> rw [ewb, e, y] <;> decide
  have bwa : bop32 104 wy sa = wa := by rw [ewa]; exact (mulW hwy (by omega)).1
  have bwb : bop32 104 wy sb = wb := by rw [ewb]; exact (mulW hwy (by omega)).1
  rw [← ewa, ← ewb] at K
  obtain ⟨fi, efi⟩ : ∃ fi : Bool, fi = decide (ax < bx) := ⟨_, rfl⟩
  rw [← efi] at K
  obtain ⟨R, eR⟩ : ∃ R : Nat → Nat → Nat → Bool, R = bvQ wa wb fi pa pb hh := ⟨_, rfl⟩
  have fib : (if ax < bx then (1 : Int) else 0) = if fi = true then 1 else 0 := by
    rw [efi]
    by_cases z : ax < bx
    · rw [if_pos z, if_pos (decide_eq_true z)]
    · rw [if_neg z, if_neg (by rw [decide_eq_false z]; exact Bool.false_ne_true)]
  clear ewa ewb hwy hsa hsb
  -- the prisms
  have prisms : ∀ (r k : Nat) (q : AH) (u17 u18 u19 u20 u21 u22 : AV), k + r = n → LX B n q → Agr (fun c _ => c = B + 114 ∨ c = tl) h q → Qua n q (B + 114) R → SG n q tl (fun g => decide (gC n g al < k) && (mE (gC n g al) && R (quT al (gSo g)) (gC n g (sA al)) (gC n g (fA al)))) → Ends (ev PP (gsF gv) B d 251 394 [(2, rf (B + 92)), (0, (f : Int)), (0, (kd : Int)), (0, (i : Int)), (0, (b : Int)), (0, (ax : Int)), (0, (bx : Int)), (0, sa), (0, sb), (0, pa), (0, pb), (0, (al : Int)), (1, M), (9, 0), (0, wy), (0, if ax < bx then 1 else 0), (0, (k : Int)), u17, u18, u19, u20, u21, u22] [] q) Q := by
    intro r
    induction r with
    | zero =>
      intro k q u17 u18 u19 u20 u21 u22 e lq g qr sq
      obtain rfl : n = k := by omega
      refine Ends.eq (b251_394 lq (by omega)) ?_
      have Pq : PtD B n q tl mo xe := by
        have sc : ∀ a, Scr B h a → Scr B q a := fun a ⟨k, k1, k2⟩ => ⟨k, k1, by rw [g.at _ _ (by omega)]; exact k2⟩
        refine ⟨by rw [g.at _ _ (by omega)]; exact p12, by rw [g.at _ _ (by omega)]; exact p13, by rw [g.at _ _ (by omega)]; exact p14, ⟨t1, by rw [g.nx]; exact t2, sc _ t3, by rw [g.hk]; exact t4⟩, ⟨pm.1, by rw [g.nx]; exact pm.2.1, sc _ pm.2.2.1, by rw [g.hk]; exact pm.2.2.2⟩, ⟨px.1, by rw [g.nx]; exact px.2.1, sc _ px.2.2.1, by rw [g.hk]; exact px.2.2.2⟩, ne1, ne2, ne3⟩
      have sq' : SG n q tl (fun g => mE (gC n g al) && R (quT al (gSo g)) (gC n g (sA al)) (gC n g (fA al))) := sq.congr hn0 (fun g hg => by
        show (decide (gC n g al < n) && _) = _
        rw [decide_eq_true (gC_lt hg), Bool.true_and])
      rw [show cond (tst 1 (kd : Int) 20) (0 : Int) 1 = (((if kd = 20 then 1 else 0) : Nat) : Int) from by
        rw [ct1]
        rcases hkd with z | z
        · rw [if_pos (by omega), if_pos z]; rfl
        · rw [if_neg (by omega), if_neg (by omega)]; rfl]
      refine Ends.b3 (fun _ => ?_) (fun z => absurd z (Int.lt_irrefl _))
      refine Ends.ct lq (by decide +kernel) (by decide) (c_takeTool314 (op := if kd = 20 then 1 else 0) lq (by omega) hn0 hn Pq (s.agr g (fun _ z => by omega)) sq') (fun v h5 l5 _ _ _ ⟨g5, r5⟩ => ?_)
      refine Ends.eq (b251_459 l5 (by omega)) (Ends.g (by rcases r5 with ⟨_, z, _⟩ | ⟨_, z, _⟩ <;> omega) (Ends.sm (K _ _ l5 ((g.sub (fun c k z => by omega)).tr g5 (fun c k z => by omega)) ?_)))
      rw [eR] at r5
      rw [show (if kd = 20 then (1 : Int) else 0) = (((if kd = 20 then 1 else 0) : Nat) : Int) from by rcases hkd with z | z; rw [if_pos z, if_pos z]; rfl; rw [if_neg (by omega), if_neg (by omega)]; rfl]
      exact r5
    | succ r ih =>
      intro k q u17 u18 u19 u20 u21 u22 e lq g qr sq
      have hk : k < n := by omega
      refine Ends.eq (b251_394 lq (by omega)) ?_
      rw [bit_is M (k := k) (by omega), hM k (by omega), decide_eq_true hk, Bool.true_and, g.at (B + 92) 12 (by omega), p12, show bop32 96 (k : Int) 1 = ((k + 1 : Nat) : Int) from addNN (y := 1) (by omega)]
      have next : ∀ (q2 : AH), LX B n q2 → Agr (fun c _ => c = B + 114 ∨ c = tl) h q2 → Qua n q2 (B + 114) R → SG n q2 tl (fun g => decide (gC n g al < k + 1) && (mE (gC n g al) && R (quT al (gSo g)) (gC n g (sA al)) (gC n g (fA al)))) → Ends (ev PP (gsF gv) B d 251 438 [(2, rf (B + 92)), (0, (f : Int)), (0, (kd : Int)), (0, (i : Int)), (0, (b : Int)), (0, (ax : Int)), (0, (bx : Int)), (0, sa), (0, sb), (0, pa), (0, pb), (0, (al : Int)), (1, M), (9, 0), (0, wy), (0, if ax < bx then 1 else 0), (0, (k : Int)), u17, u18, u19, u20, u21, u22] [] q2) Q := fun q2 l2 g2 qr2 s2 => by
        refine Ends.eq (b251_438 l2 (by omega)) ?_
        rw [w_succ (i := k) (by omega)]
        exact ih (k + 1) q2 _ _ _ _ _ _ (by omega) l2 g2 qr2 s2
      refine Ends.b3 (fun z => by omega) (fun _ => ?_)
      cases em : mE k
      · rw [if_neg Bool.false_ne_true]
        refine Ends.b1 (fun _ => next q lq g qr (sq.congr hn0 (fun g hg => ?_))) (fun z => by rw [cmp64_lt (by decide)] at z; exact absurd z (by decide))
        by_cases y : gC n g al = k
        · rw [y, em, Bool.false_and, Bool.and_false, Bool.and_false]
        · rw [decide_eq_decide.mpr (show gC n g al < k ↔ gC n g al < k + 1 by omega)]
      · rw [if_pos rfl]
        refine Ends.b1 (fun z => absurd cmp64_eq z) (fun _ => ?_)
        refine Ends.cv lq (by decide +kernel) (c_unitePrism (ax := al) (a := tl) (b := B + 114) lq (by omega) hn0 hn (m.ext hbl g.ext (fun c k h1 h2 w => by omega)) sq qr (by omega) (by omega) (Or.inr t1) hal (fr := (k : Int)) (to := ((k + 1 : Nat) : Int)) (by omega) (by omega)) (fun h4 l4 _ _ _ ⟨f4, s4⟩ => ?_)
        refine next h4 l4 (g.tr f4.agr (fun c k z => Or.inr z)) (qr.agr f4.agr (fun _ z => by omega)) (s4.congr hn0 (fun g hg => ?_))
        rw [prG_ax hal]
        by_cases y : gC n g al = k
        · rw [y, em, decide_eq_false (show ¬ k < k by omega), decide_eq_true (show k < k + 1 by omega), decide_eq_true (show (k : Int) ≤ (k : Int) ∧ (k : Int) < ((k + 1 : Nat) : Int) by omega), Bool.false_and, Bool.false_or]
          rfl
        · rw [decide_eq_decide.mpr (show gC n g al < k ↔ gC n g al < k + 1 by omega), decide_eq_false (show ¬ ((k : Int) ≤ ((gC n g al : Nat) : Int) ∧ ((gC n g al : Nat) : Int) < ((k + 1 : Nat) : Int)) by omega), Bool.false_and, Bool.or_false]
  -- the quarters
  have quas : ∀ (r p : Nat) (q : AH) (u17 u18 u19 u20 u21 u22 : AV), p + r = 4 → LX B n q → Agr (fun c _ => c = B + 114) h q → Qua n q (B + 114) (fun q y x => aheadB p 0 0 q y x && R q y x) → Ends (ev PP (gsF gv) B d 251 216 [(2, rf (B + 92)), (0, (f : Int)), (0, (kd : Int)), (0, (i : Int)), (0, (b : Int)), (0, (ax : Int)), (0, (bx : Int)), (0, sa), (0, sb), (0, pa), (0, pb), (0, (al : Int)), (1, M), (9, 0), (0, wy), (0, if ax < bx then 1 else 0), (0, (p : Int)), u17, u18, u19, u20, u21, u22] [] q) Q := by
    intro r
    induction r with
    | zero =>
      intro p q u17 u18 u19 u20 u21 u22 e lq g qq
      obtain rfl : p = 4 := by omega
      refine Ends.eq (b251_216 lq (by omega)) (Ends.b3 (fun _ => ?_) (fun z => absurd z (by decide)))
      refine prisms n 0 q _ _ _ _ _ _ (Nat.zero_add _) lq (g.sub (fun c k z => Or.inl z)) (qq.congr (fun q y x hq hy hx => ?_)) ((st.agr g (fun _ z => by omega)).congr hn0 (fun g hg => ?_))
      · have : aheadB 4 0 0 q y x = true := by unfold aheadB; exact decide_eq_true (by omega)
        rw [this, Bool.true_and]
      · rw [decide_eq_false (Nat.not_lt_zero _), Bool.false_and]
    | succ r ih =>
      intro p q u17 u18 u19 u20 u21 u22 e lq g qq
      have hp : p < 4 := by omega
      refine Ends.eq (b251_216 lq (by omega)) (Ends.b3 (fun z => by omega) (fun _ => ?_))
      have su := sU_b (q := p)
      have sv := sV_b (q := p)
      have rows : ∀ (r v : Nat) (q : AH) (u18 u19 u20 u21 u22 : AV), v + r = n → LX B n q → Agr (fun c _ => c = B + 114) h q → Qua n q (B + 114) (fun q y x => aheadB p v 0 q y x && R q y x) → Ends (ev PP (gsF gv) B d 251 225 [(2, rf (B + 92)), (0, (f : Int)), (0, (kd : Int)), (0, (i : Int)), (0, (b : Int)), (0, (ax : Int)), (0, (bx : Int)), (0, sa), (0, sb), (0, pa), (0, pb), (0, (al : Int)), (1, M), (9, 0), (0, wy), (0, if ax < bx then 1 else 0), (0, (p : Int)), (0, (v : Int)), u18, u19, u20, u21, u22] [] q) Q := by
        intro r
        induction r with
        | zero =>
          intro v q u18 u19 u20 u21 u22 e lq g qq
          obtain rfl : n = v := by omega
          refine Ends.eq (b251_225 lq (by omega)) (Ends.b3 (fun _ => ?_) (fun z => absurd z (Int.lt_irrefl _)))
          rw [w_succ (i := p) (by omega)]
          exact ih (p + 1) q _ _ _ _ _ _ (by omega) lq g (qq.congr (fun q y x _ hy _ => ah_pl hy))
        | succ r ihr =>
          intro v q u18 u19 u20 u21 u22 e lq g qq
          have hv0 : v < n := by omega
          refine Ends.eq (b251_225 lq (by omega)) (Ends.b3 (fun z => by omega) (fun _ => ?_))
          have cols : ∀ (r u : Nat) (q : AH) (u19 u20 u21 u22 : AV), u + r = n → LX B n q → Agr (fun c _ => c = B + 114) h q → Qua n q (B + 114) (fun q y x => aheadB p v u q y x && R q y x) → Ends (ev PP (gsF gv) B d 251 237 [(2, rf (B + 92)), (0, (f : Int)), (0, (kd : Int)), (0, (i : Int)), (0, (b : Int)), (0, (ax : Int)), (0, (bx : Int)), (0, sa), (0, sb), (0, pa), (0, pb), (0, (al : Int)), (1, M), (9, 0), (0, wy), (0, if ax < bx then 1 else 0), (0, (p : Int)), (0, (v : Int)), (0, (u : Int)), u19, u20, u21, u22] [] q) Q := by
            intro r
            induction r with
            | zero =>
              intro u q u19 u20 u21 u22 e lq g qq
              obtain rfl : n = u := by omega
              refine Ends.eq (b251_237 lq (by omega)) (Ends.b3 (fun _ => ?_) (fun z => absurd z (Int.lt_irrefl _)))
              rw [w_succ (i := v) (by omega)]
              exact ihr (v + 1) q _ _ _ _ _ (by omega) lq g (qq.congr (fun q y x _ _ hx => ah_row hx))
            | succ r ihu =>
              intro u q u19 u20 u21 u22 e lq g qq
              have hu : u < n := by omega
              obtain ⟨X, eX⟩ : ∃ X, X = 8 * (u : Int) + sU p := ⟨_, rfl⟩
              obtain ⟨Y, eY⟩ : ∃ Y, Y = 8 * (v : Int) + sV p := ⟨_, rfl⟩
              have bX : 0 ≤ X ∧ X ≤ 500 := by rw [eX]; omega
              have bY : 0 ≤ Y ∧ Y ≤ 500 := by rw [eY]; omega
              have idx : ∀ _ : Unit, bop32 96 (bop32 104 (p : Int) (n : Int)) (v : Int) = ((p * n + v : Nat) : Int) := fun _ => by
                have := Nat.mul_le_mul (show p ≤ 3 by omega) hn
                rw [show bop32 104 (p : Int) (n : Int) = ((p * n : Nat) : Int) from mulNN (by omega)]
                exact addNN (by omega)
              have e1 : bop32 96 (bop32 104 8 (u : Int)) (v434 (p : Int)) = X := by
                rw [v434_is ⟨p, hp⟩, mul32 (x := 8) (y := (u : Int)) (by omega) (by omega), eX]
                exact add32 (by simp only; omega) (by simp only; omega)
              have e2' : bop32 96 (bop32 104 8 (v : Int)) (v435 (p : Int)) = Y := by
                rw [v435_is ⟨p, hp⟩, mul32 (x := 8) (y := (v : Int)) (by omega) (by omega), eY]
                exact add32 (by simp only; omega) (by simp only; omega)
              obtain ⟨pA, epA⟩ : ∃ pA, pA = bvU wa fi pa p v u := ⟨_, rfl⟩
              obtain ⟨pB, epB⟩ : ∃ pB, pB = bvU wb (!fi) pb p v u := ⟨_, rfl⟩
              have rr : R p v u = decide ((0 ≤ pA ∧ 0 ≤ pB) ∧ pA + pB ≤ 8 * hh) := by rw [eR, epA, epB]; rfl
              have vA : bop32 104 wa (bop32 100 (cond (tst 0 (if fi = true then (1 : Int) else 0) 0) Y X) (bop32 104 8 pa)) = pA ∧ -100000 ≤ pA ∧ pA ≤ 100000 := by
                have z1 : cond (tst 0 (if fi = true then (1 : Int) else 0) 0) Y X = (if fi = true then X else Y) := by
                  rw [ct0]
                  cases fi
                  · rw [if_neg Bool.false_ne_true, if_pos rfl, if_neg Bool.false_ne_true]
                  · rw [if_pos rfl, if_neg (by decide), if_pos rfl]
                have zb : 0 ≤ (if fi = true then X else Y) ∧ (if fi = true then X else Y) ≤ 500 := by
                  cases fi
                  · rw [if_neg Bool.false_ne_true]; exact bY
                  · rw [if_pos rfl]; exact bX
                rw [z1, mul32 (x := 8) (y := pa) (by omega) (by omega), sub32 (by omega) (by omega)]
                obtain ⟨y1, y2, y3⟩ := mulW hwa (z := (if fi = true then X else Y) - 8 * pa) (by omega)
                have ee : pA = wa * ((if fi = true then X else Y) - 8 * pa) := by rw [epA, eX, eY]; rfl
                rw [y1, ee]; exact ⟨rfl, y2, y3⟩
              have vB : bop32 104 wb (bop32 100 (cond (tst 0 (if fi = true then (1 : Int) else 0) 0) X Y) (bop32 104 8 pb)) = pB ∧ -100000 ≤ pB ∧ pB ≤ 100000 := by
                have z1 : cond (tst 0 (if fi = true then (1 : Int) else 0) 0) X Y = (if (!fi) = true then X else Y) := by
                  rw [ct0]
                  cases fi
                  · rw [if_neg Bool.false_ne_true, if_pos rfl]; rfl
                  · rw [if_pos rfl, if_neg (by decide)]; rfl
                have zb : 0 ≤ (if (!fi) = true then X else Y) ∧ (if (!fi) = true then X else Y) ≤ 500 := by
                  cases fi
                  · rw [show (!false) = true from rfl, if_pos rfl]; exact bX
                  · rw [show (!true) = false from rfl, if_neg Bool.false_ne_true]; exact bY
                rw [z1, mul32 (x := 8) (y := pb) (by omega) (by omega), sub32 (by omega) (by omega)]
                obtain ⟨y1, y2, y3⟩ := mulW hwb (z := (if (!fi) = true then X else Y) - 8 * pb) (by omega)
                have ee : pB = wb * ((if (!fi) = true then X else Y) - 8 * pb) := by rw [epB, eX, eY]; rfl
                rw [y1, ee]; exact ⟨rfl, y2, y3⟩
              refine Ends.eq (b251_237 lq (by omega)) ?_
              rw [e1, e2', bwa, bwb, fib, vA.1, vB.1, idx (), tn, an1, g.at (B + 97) _ (by omega), show Int.toNat (2 : Int) = 2 from rfl, e2, mul32 (x := 8) (y := hh) (by omega) (by omega), add32 (x := pA) (y := pB) (by omega) (by omega)]
              obtain ⟨-, a1, a2⟩ := vA
              obtain ⟨-, b1, b2⟩ := vB
              clear e1 e2' idx epA epB
              rw [← fib]
              have next : ∀ (q2 : AH) (u19 u20 u21 u22 : AV), LX B n q2 → Agr (fun c _ => c = B + 114) h q2 → Qua n q2 (B + 114) (fun q y x => aheadB p v (u + 1) q y x && R q y x) → Ends (ev PP (gsF gv) B d 251 237 [(2, rf (B + 92)), (0, (f : Int)), (0, (kd : Int)), (0, (i : Int)), (0, (b : Int)), (0, (ax : Int)), (0, (bx : Int)), (0, sa), (0, sb), (0, pa), (0, pb), (0, (al : Int)), (1, M), (9, 0), (0, wy), (0, if ax < bx then 1 else 0), (0, (p : Int)), (0, (v : Int)), (0, ((u + 1 : Nat) : Int)), u19, u20, u21, u22] [] q2) Q := fun q2 u19 u20 u21 u22 l2 g2 q2' => ihu (u + 1) q2 _ _ _ _ (by omega) l2 g2 q2'
              have no : R p v u = false → Ends (ev PP (gsF gv) B d 251 373 [(2, rf (B + 92)), (0, (f : Int)), (0, (kd : Int)), (0, (i : Int)), (0, (b : Int)), (0, (ax : Int)), (0, (bx : Int)), (0, sa), (0, sb), (0, pa), (0, pb), (0, (al : Int)), (1, M), (9, 0), (0, wy), (0, if ax < bx then 1 else 0), (0, (p : Int)), (0, (v : Int)), (0, (u : Int)), (0, X), (0, Y), (0, pA), (0, pB)] [] q) Q := fun z => by
                refine Ends.eq (b251_373 lq (by omega)) ?_
                rw [w_succ (i := u) (by omega)]
                refine next q _ _ _ _ lq g (qq.congr (fun q y x _ _ _ => ?_))
                rw [ah_step, z, Bool.and_false, Bool.or_false]
              refine Ends.b3 (fun z => by omega) (fun _ => Ends.b2 (fun z => no (by rw [rr]; exact decide_eq_false (by omega))) (fun z1 => Ends.b2 (fun z => no (by rw [rr]; exact decide_eq_false (by omega))) (fun z2 => Ends.b4 (fun z => no (by rw [rr]; exact decide_eq_false (by omega))) (fun z3 => ?_))))
              have ry : R p v u = true := by rw [rr]; exact decide_eq_true (by omega)
              have ql := q_lt (n := n) (q := p) (v := v) hp hv0
              refine Ends.g ⟨by omega, by omega⟩ ?_
              have l2 : LX B n (hset q (B + 114) (p * n + v) (bop64 129 (hv q (B + 114) (p * n + v)) (sop64 121 1 (u : Int)))) := LX.setS lq rfl
              refine Ends.eq (b251_373 l2 (by omega)) ?_
              rw [w_succ (i := u) (by omega)]
              refine next _ _ _ _ _ l2 (g.set rfl) ((qq.put hn hp hv0 hu).congr (fun q y x _ _ _ => ?_))
              rw [ah_step, ry, Bool.and_true]
          exact cols n 0 q _ _ _ _ (Nat.zero_add _) lq g qq
      exact rows n 0 q _ _ _ _ _ (Nat.zero_add _) lq g qq
  refine quas 4 0 h _ _ _ _ _ _ rfl l Agr.rf (qq.congr (fun q y x _ _ _ => ?_))
  have : aheadB 0 0 0 q y x = false := by unfold aheadB; exact decide_eq_false (by omega)
  show false = (aheadB 0 0 0 q y x && R q y x)
  rw [this, Bool.false_and]
end BVD
