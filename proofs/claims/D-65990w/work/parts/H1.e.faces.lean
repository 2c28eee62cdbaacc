/-! L3: all faces (model) -/
noncomputable section MFF
variable {gv : Nat → Int} {B n d s : Nat} {h : AH} {S : Nat → Bool}
theorem scN.agr' {N c : Nat} {W : Nat → Nat → Prop} {t : AH} (i : scN B N h c) (g : Agr W h t) (hW : ∀ k, 74 ≤ k → k ≤ 76 → ¬ W (B + 149) k) : scN B N t c := scN_agr i g hW
theorem c_forget644 (l : LX B n h) (hd : 10 ≤ d) (hn : n ≤ 52) : Vd (cll PP (ev PP (gsF gv) B) d 644 [(2, rf (B + 149))] h) (fun h' => Agr (fun c _ => c = B + 238) h h' ∧ BtM n h' (B + 238) (fun _ => false)) := by
  have hG := gN_le hn
  refine Vd.inq (D := 9) hd (Nat.le_of_ble_eq_true rfl) rfl (fun d hd Q K => ?_)
  have key : ∀ (r j : Nat) (q : AH), j + r = 4 * gN n / 64 + 1 → LX B n q → Agr (fun c _ => c = B + 238) h q → (∀ i, i < j → hv q (B + 238) i = 0) → Ends (ev PP (gsF gv) B d 644 2 [(2, rf (B + 149)), (0, (j : Int))] [] q) Q := by
    intro r
    induction r with
    | zero =>
      intro j q e lq g I
      refine Ends.eq (b644_2 lq (by omega)) (Ends.b3 (fun _ => Ends.sm (K _ ⟨g, fun w hw => ?_⟩)) (fun z => absurd z (by omega)))
      rw [I w (by omega)]
      exact ⟨⟨by decide, by decide⟩, fun x hx => by rw [tb_0, Bool.and_false]⟩
    | succ r ih =>
      intro j q e lq g I
      refine Ends.eq (b644_2 lq (by omega)) (Ends.b3 (fun z => absurd z (by omega)) (fun _ => Ends.g ⟨by omega, by omega⟩ ?_))
      rw [tn, an1, w_succ (by omega)]
      refine ih (j + 1) _ (by omega) (LX.setS lq rfl) (g.set rfl) (fun i hi => ?_)
      by_cases z : i = j
      · rw [z, hv_set_at]
      · rw [hv_set_ne (by omega)]; exact I i (by omega)
  refine Ends.eq (b644_0 l (by omega)) ?_
  exact key _ 0 h (Nat.zero_add _) l Agr.rf (fun i hi => absurd hi (Nat.not_lt_zero i))
/-- the grain at a scan's place -/
theorem sc_g {c : Nat} (hn0 : 0 < n) (hc : c < rw3 (8 * n) (8 * n) 0 0) (e : scV (8 * n) c) : ∃ g, g < gN n ∧ scG n c = (g : Int) ∧ rkS n g = c := by
  obtain ⟨N, eN⟩ : ∃ N, N = 8 * n := ⟨_, rfl⟩
  have hN0 : 0 < N := by omega
  rw [← eN] at hc e
  have hX : c % N < N := Nat.mod_lt _ hN0
  have hY : c / N % N < N := Nat.mod_lt _ hN0
  have hZ : c / (N * N) < N := by
    rw [Nat.div_lt_iff_lt_mul (Nat.mul_pos hN0 hN0)]
    unfold rw3 at hc
    rw [← Nat.mul_assoc]
    omega
  have ec : c = rw3 N (c / (N * N)) (c / N % N) (c % N) := by
    unfold rw3
    rw [← Nat.div_div_eq_div_mul]
    have a := Nat.div_add_mod (c / N) N
    have b := Nat.div_add_mod c N
    rw [Nat.mul_comm N (c / N / N)] at a
    rw [Nat.mul_comm N (c / N)] at b
    rw [a]; omega
  unfold scV at e
  obtain ⟨a1, a2, a3⟩ := rT_tyN ⟨c % N % 8, Nat.mod_lt _ (by decide)⟩ ⟨c / N % N % 8, Nat.mod_lt _ (by decide)⟩ ⟨c / (N * N) % 8, Nat.mod_lt _ (by decide)⟩ e
  simp only at a1 a2 a3
  have gA : scG n c = ((gI n (c % N / 8) (c / N % N / 8) (c / (N * N) / 8) (tyN (c % N % 8) (c / N % N % 8) (c / (N * N) % 8)) : Nat) : Int) := by
    unfold scG
    rw [← eN]
    exact gAt_in (by omega) (by omega) (by omega)
  refine ⟨_, gI_lt (by omega) (by omega) (by omega) e, gA, ?_⟩
  obtain ⟨e0, e1, e2⟩ := g8_I (n := n) (z := c / (N * N) / 8) (show c % N / 8 < n by omega) (show c / N % N / 8 < n by omega) e
  unfold rkS
  rw [e0, e1, e2, a1, a2, a3, ← eN]
  rw [show 8 * (c % N / 8) + c % N % 8 = c % N by omega, show 8 * (c / N % N / 8) + c / N % N % 8 = c / N % N by omega, show 8 * (c / (N * N) / 8) + c / (N * N) % 8 = c / (N * N) by omega]
  exact ec.symm
/-- what an onlooker of all faces keeps to -/
def MOk2 (gv : Nat → Int) (B n : Nat) (E : Nat → Bool) (md : Int) (Ww : Nat → Nat → Prop) (WF : Nat → (Nat → Nat) → AH → Prop) (WI : Nat → (Nat → Nat) → Nat → (Nat → Bool) → AH → Prop) (gW : Nat → Nat → Prop) : Prop :=
  (∀ (m : Nat) F K, Fst n E K → MWat gv B n E K md (m : Int) Ww (WI m F K)) ∧ (∀ m F K q, Fst n E K → (∀ i, i < m → ¬ FRe n E (F i) K) → WF m F q → WI m F K (fun _ => false) q) ∧ (∀ m F K V q, Fst n E K → (∀ k, k < 4 * gN n → (V k = true ↔ FRe n E K k)) → WI m F K V q → WF (m + 1) (fun i => if i = m then K else F i) q) ∧
  (∀ m F K V q q', WI m F K V q → Agr gW q q' → WI m F K V q') ∧ (∀ m F q q', WF m F q → Agr gW q q' → WF m F q') ∧ (∀ c k, Ww c k → ¬ flN B c k ∧ ¬ gW c k)
/-- what going over all faces writes -/
def fgoW (B : Nat) : Nat → Nat → Prop := fun c k => fdfW B c k ∨ (c = B + 149 ∧ (k = 74 ∨ k = 75 ∨ k = 76 ∨ k = 85 ∨ k = 86)) ∨ c = B + 190
set_option maxHeartbeats 4000000 in
theorem c_goOverFaces658 {md : Int} {Ww : Nat → Nat → Prop} {WF : Nat → (Nat → Nat) → AH → Prop} {WI : Nat → (Nat → Nat) → Nat → (Nat → Bool) → AH → Prop} (l : LX B n h) (hd : 27 ≤ d) (hn0 : 0 < n) (hn : n ≤ 52) (m : TbM B h) (hs : s < 19) (bS : MB B n h s S) (b9 : BtM n h (B + 239) (fun _ => false)) (ok : MOk2 gv B n (bdr n S) md Ww WF WI (fgoW B)) (wf : WF 0 (fun _ => 0) h) :
    Vd (cll PP (ev PP (gsF gv) B) d 658 [(2, rf (B + 149)), (0, (s : Int)), (0, md)] h) (fun h' => ∃ mm F, FcL n (bdr n S) (4 * rw3 (8 * n) (8 * n) 0 0) mm F ∧ hv h' (B + 149) 85 = (mm : Int) ∧ hv h' (B + 149) 86 = (s : Int) ∧ (∀ i, i < min mm 4096 → hv h' (B + 190) i = ((F i : Nat) : Int)) ∧ BtM n h' (B + 239) (fun _ => false) ∧ Agr (fun c k => fgoW B c k ∨ Ww c k) h h' ∧ WF mm F h') := by
  obtain ⟨ok1, ok2, ok3, ok4, ok5, ok6⟩ := ok
  have hG := gN_le hn
  obtain ⟨WW, eWW⟩ : ∃ WW : Nat → Nat → Prop, WW = fun c k => fgoW B c k ∨ Ww c k := ⟨_, rfl⟩
  have wf' : ∀ c k, fgoW B c k → WW c k := fun c k z => by rw [eWW]; exact Or.inl z
  have wn : ∀ c k, WW c k → c ≠ B + 236 ∧ ¬ (B + 178 ≤ c ∧ c ≤ B + 187 ∧ c ≠ B + 186) := fun c k z => by
    rw [eWW] at z
    rcases z with z | z
    · unfold fgoW fdfW at z; omega
    · have := (ok6 c k z).1
      unfold flN at this
      omega
  have tb : ∀ {q : AH}, Agr WW h q → TbM B q := fun g => m.agr g (fun c k h1 h2 h3 z => (wn c k z).2 ⟨h1, h2, h3⟩)
  have sb : ∀ {q : AH}, Agr WW h q → MB B n q s S := fun g => bS.agr g (fun k _ z => (wn _ _ z).1 rfl)
  refine Vd.inq (D := 26) hd (Nat.le_of_ble_eq_true rfl) rfl (fun d hd Q KK => ?_)
  obtain ⟨E, eE⟩ : ∃ E, E = bdr n S := ⟨_, rfl⟩
  -- the state at facet place p
  obtain ⟨I, eI⟩ : ∃ I : AH → Nat → Nat → Prop, I = fun q p c => scN B (8 * n) q c ∧ LX B n q ∧ Agr WW h q ∧ BtM n q (B + 239) (fun _ => false) ∧ hv q (B + 149) 86 = (s : Int) ∧ ∃ mm F V, FcL n E p mm F ∧ Fsn n E V p ∧ BtM n q (B + 238) V ∧ hv q (B + 149) 85 = (mm : Int) ∧ (∀ i, i < min mm 4096 → hv q (B + 190) i = ((F i : Nat) : Int)) ∧ WF mm F q := ⟨_, rfl⟩
  have skip : ∀ {q : AH} {p p' c : Nat}, I q p c → p ≤ p' → (∀ V, Fsn n E V p → ∀ k, k < 4 * gN n → E k = true → p ≤ fpo n k → fpo n k < p' → ∃ x, x < 4 * gN n ∧ FRe n E k x ∧ fpo n x < p) → I q p' c := fun {q p p' c} i hp no => by
    rw [eI] at i ⊢
    obtain ⟨i0, i1, i2, i3, i4, mm, F, V, i5, i6, i7⟩ := i
    have nn := no V i6
    exact ⟨i0, i1, i2, i3, i4, mm, F, V, i5.skip hp nn, i6.skip hp nn, i7⟩
  have skip0 : ∀ {q : AH} {P P' c0 : Nat}, I q (4 * P) c0 → P ≤ P' → (∀ c, P ≤ c → c < P' → ¬ scV (8 * n) c) → I q (4 * P') c0 := fun i hp no => skip i (by omega) (fun V _ k hk _ h1 h2 => by
    unfold fpo at h1 h2
    exact absurd (scV_rk (K4_lt hk)) (no _ (by omega) (by omega)))
  have ilx : ∀ {q : AH} {p c : Nat}, I q p c → LX B n q := fun i => by rw [eI] at i; exact i.2.1
  -- a grain's facets
  have grain : ∀ (g c0 : Nat), g < gN n → (∀ q, I q (4 * rkS n g + 4) c0 → Ends (ev PP (gsF gv) B d 658 30 [(2, rf (B + 149)), (0, (s : Int)), (0, md), (0, (g : Int)), (0, ((4 : Nat) : Int))] [] q) Q) → ∀ (r f : Nat) (q : AH), f + r = 4 → I q (4 * rkS n g + f) c0 → Ends (ev PP (gsF gv) B d 658 30 [(2, rf (B + 149)), (0, (s : Int)), (0, md), (0, (g : Int)), (0, (f : Int))] [] q) Q := by
    intro g c0 hg kn r
    induction r with
    | zero =>
      intro f q e i
      obtain rfl : f = 4 := by omega
      exact kn q i
    | succ r ih =>
      intro f q e i
      have hf : f < 4 := by omega
      have next : ∀ q, I q (4 * rkS n g + f + 1) c0 → Ends (ev PP (gsF gv) B d 658 120 [(2, rf (B + 149)), (0, (s : Int)), (0, md), (0, (g : Int)), (0, (f : Int))] [] q) Q := fun q i => by
        refine Ends.eq (b658_120 (ilx i) (by omega)) ?_
        rw [w_succ (by omega)]
        exact ih (f + 1) q (by omega) i
      obtain ⟨K, eK⟩ : ∃ K, K = 4 * g + f := ⟨_, rfl⟩
      have K4 : K / 4 = g := by omega
      have Kf : K % 4 = f := by omega
      have hK : K < 4 * gN n := by omega
      have fK : fpo n K = 4 * rkS n g + f := by unfold fpo; rw [K4, Kf]
      have i0 := i
      rw [eI] at i
      obtain ⟨sc0, lq, gq, t9, e86, mm, F, V, L, Sn, s8, e85, ct, wq⟩ := i
      have k8 : hk q (B + 238) = (3, 4 * gN n / 64 + 1) := lk_238 lq
      obtain ⟨q1, v1⟩ := isOn_is hn k8 s8 hK
      obtain ⟨q2, v2⟩ := bdr_is (tb gq) hn hs (sb gq) hK
      refine Ends.eq (b658_30 lq (by omega)) (Ends.b3 (fun z => absurd z (by omega)) (fun _ => ?_))
      rw [show bop32 104 (4 : Int) (g : Int) = ((4 * g : Nat) : Int) from mulNN (x := 4) (by omega), addNN (by omega), ← eK, v1, v2]
      refine Ends.g q1 ?_
      have pass : (E K = true → V K = true) → Ends (ev PP (gsF gv) B d 658 120 [(2, rf (B + 149)), (0, (s : Int)), (0, md), (0, (g : Int)), (0, (f : Int))] [] q) Q := fun no => next q (skip i0 (Nat.le_succ _) (fun V' sn k hk hE h1 h2 => by
        have : k = K := fpo_inj hk hK (by omega)
        rw [this] at hE ⊢
        exact ((Sn K hK).mp (no hE)).2))
      cases hV : V K
      case true =>
        exact Ends.b1 (fun _ => pass (fun _ => hV)) (fun z => absurd z (by decide))
      refine Ends.b1 (fun z => absurd rfl z) (fun _ => Ends.g q2 ?_)
      cases hE : bdr n S K
      · exact Ends.b1 (fun z => absurd rfl z) (fun _ => pass (fun z => by rw [eE, hE] at z; exact absurd z (by decide)))
      refine Ends.b1 (fun _ => ?_) (fun z => absurd z (by decide))
      have hE' : E K = true := by rw [eE]; exact hE
      have fst := Sn.first hK hE' fK hV
      have Fl1 := L.put fst fK
      have mle := Fl1.le
      rw [e85]
      -- told, then gone over
      have go : ∀ (q1 : AH), LX B n q1 → Agr (fun c k => c = B + 190 ∧ k = mm) q q1 → (∀ i, i < min (mm + 1) 4096 → hv q1 (B + 190) i = (((if i = mm then K else F i : Nat)) : Int)) → Ends (ev PP (gsF gv) B d 658 94 [(2, rf (B + 149)), (0, (s : Int)), (0, md), (0, (g : Int)), (0, (f : Int))] [] q1) Q := by
        intro q1 l1 g1 ct1
        have G1 : Agr WW h q1 := gq.tr g1 (fun c k z => wf' c k (Or.inr (Or.inr z.1)))
        have wq1 := ok5 mm F q q1 wq (g1.sub (fun c k z => Or.inr (Or.inr z.1)))
        refine Ends.eq (b658_94 l1 (by omega)) ?_
        rw [show bop32 104 (4 : Int) (g : Int) = ((4 * g : Nat) : Int) from mulNN (x := 4) (by omega), addNN (by omega), ← eK, g1.at _ _ (by omega), e85]
        refine Ends.cv l1 (by decide +kernel) (c_flood639 (WI := WI mm F K) (V0 := V) l1 (by omega) hn (tb G1) hs (sb G1) hK hE (s8.agr g1 (fun k z => by omega)) (t9.agr g1 (fun k z => by omega)) (by rw [← eE]; exact Sn.cl) hV (ok1 mm F K (by rw [← eE]; exact fst)) (ok2 mm F K q1 (by rw [← eE]; exact fst) (fun i hi r => by
          rw [← eE] at r
          have := (Sn K hK).mpr ⟨hE', F i, (L.1 i hi).1.1, r.sym (L.1 i hi).1.1 (L.1 i hi).1.2.1, (L.1 i hi).2⟩
          rw [hV] at this
          exact absurd this (by decide)) wq1) (fun c k z => (ok6 c k z).1) (fun V a b wi ga => ok4 mm F K V a b wi (ga.sub (fun c k z => Or.inl z)))) (fun q2 l2 _ _ _ ⟨P, p1, p2, p3, p4, p5⟩ => ?_)
        refine Ends.eq (b658_110 l2 (by omega)) ?_
        have ww : ∀ c k, Ww c k → ¬ fgoW B c k := fun c k z => (ok6 c k z).2
        have at2 : ∀ c k, (c = B + 149 ∧ (k = 85 ∨ k = 86)) ∨ c = B + 190 → hv q2 c k = hv q1 c k := fun c k hc => p4.at _ _ (fun z => by
          rcases z with z | z
          · unfold fdfW at z; omega
          · exact ww c k z (by unfold fgoW; omega))
        rw [at2 _ _ (by omega), g1.at _ _ (by omega), e85, show bop32 96 (mm : Int) 1 = ((mm + 1 : Nat) : Int) from addNN (y := 1) (by omega)]
        have g3 : Agr (fun c k => c = B + 149 ∧ k = 85) q2 (hset q2 (B + 149) 85 ((mm + 1 : Nat) : Int)) := Agr.rf.set ⟨rfl, rfl⟩
        have v3 : hv (hset q2 (B + 149) 85 ((mm + 1 : Nat) : Int)) (B + 149) 85 = ((mm + 1 : Nat) : Int) := hv_set_at ..
        have l3 : LX B n (hset q2 (B + 149) 85 ((mm + 1 : Nat) : Int)) := LX.setF 149 85 l2 (by decide +kernel)
        generalize hset q2 (B + 149) 85 ((mm + 1 : Nat) : Int) = q3 at *
        refine next q3 ?_
        rw [eI]
        have sc3 : scN B (8 * n) q3 c0 := ((sc0.agr' g1 (fun k h1 h2 z => by omega)).agr' p4 (fun k h1 h2 z => by
          rcases z with z | z
          · unfold fdfW at z; omega
          · exact ww _ k z (by unfold fgoW; omega))).agr' g3 (fun k h1 h2 z => by omega)
        refine ⟨sc3, l3, (G1.tr p4 (fun c k z => by rw [eWW]; exact z.imp (fun y => Or.inl y) id)).tr g3 (fun c k z => wf' c k (by unfold fgoW; omega)), p3.agr g3 (fun k z => by omega), ?_, mm + 1, _, _, Fl1, Sn.put hK hE' fK (V' := fun k => V k || P k) (fun x hx => by rw [Bool.or_eq_true, p1 x hx, eE]), p2.agr g3 (fun k z => by omega), v3, fun i hi => ?_, ok5 _ _ q2 q3 (ok3 mm F K P q2 (by rw [← eE]; exact fst) p1 p5) (g3.sub (fun c k z => by unfold fgoW; omega))⟩
        · rw [g3.at _ _ (by omega), at2 _ _ (by omega), g1.at _ _ (by omega)]; exact e86
        · rw [g3.at _ _ (by omega), at2 _ _ (by omega)]; exact ct1 i hi
      refine Ends.b3 (fun z => ?_) (fun z => ?_)
      · have hm : 4096 ≤ mm := by omega
        refine go q lq Agr.rf (fun i hi => ?_)
        replace hi : i < 4096 := Nat.lt_of_lt_of_le hi (Nat.min_le_right _ _)
        rw [if_neg (by omega)]
        exact ct i (by rw [Nat.min_eq_right hm]; exact hi)
      · rw [tn, an0]
        have hm : mm < 4096 := by omega
        refine Ends.g ⟨by omega, by omega⟩ (go _ (LX.setS lq rfl) (Agr.rf.set ⟨rfl, rfl⟩) (fun i hi => ?_))
        replace hi : i < mm + 1 := Nat.lt_of_lt_of_le hi (Nat.min_le_left _ _)
        by_cases ei : i = mm
        · rw [ei, hv_set_at, if_pos rfl]
        · rw [hv_set_ne (by omega), if_neg ei]
          exact ct i (by rw [Nat.min_eq_left (Nat.le_of_lt hm)]; omega)
  -- the scan
  have scan : ∀ (M : Nat) (q : AH) (c c0 : Nat) (y : Int) (u4 : AV), rw3 (8 * n) (8 * n) 0 0 - c = M → I q (4 * c) c0 → ((∃ c', c ≤ c' ∧ c' < rw3 (8 * n) (8 * n) 0 0 ∧ scV (8 * n) c' ∧ (∀ c2, c ≤ c2 → c2 < c' → ¬ scV (8 * n) c2) ∧ y = scG n c' ∧ c0 = c' + 1) ∨ ((∀ c2, c ≤ c2 → c2 < rw3 (8 * n) (8 * n) 0 0 → ¬ scV (8 * n) c2) ∧ y = -1)) → c ≤ rw3 (8 * n) (8 * n) 0 0 → Ends (ev PP (gsF gv) B d 658 23 [(2, rf (B + 149)), (0, (s : Int)), (0, md), (0, y), u4] [] q) Q := by
    intro M
    refine Nat.strongRecOn M (fun M ihM => ?_)
    intro q c c0 y u4 eM i sc hc
    rcases sc with ⟨c', c1, c2, c3, c4, c5, c6⟩ | ⟨c4, c5⟩
    · obtain ⟨g, hg, eg, rg⟩ := sc_g hn0 c2 c3
      rw [c5, eg]
      refine Ends.eq (b658_23 (ilx i) (by omega)) (Ends.b2 (fun z => absurd z (by omega)) (fun _ => ?_))
      have i2 := skip0 i c1 c4
      rw [c6, ← rg] at i2
      refine grain g (rkS n g + 1) hg (fun q3 i3 => ?_) 4 0 q rfl i2
      rw [show 4 * rkS n g + 4 = 4 * (rkS n g + 1) by omega] at i3
      have i3' := i3
      rw [eI] at i3
      obtain ⟨s3, l3, g3, t3, e3, mm, F, V, L, Sn, s8, e85, ct, wq⟩ := i3
      refine Ends.eq (b658_30 l3 (by omega)) (Ends.b3 (fun _ => ?_) (fun z => absurd z (by decide)))
      refine Ends.ct l3 (by decide +kernel) (by decide) (c_scan812 l3 (by omega) hn0 hn (tb g3) s3) (fun v q4 l4 _ _ _ ⟨g4, sc4⟩ => ?_)
      refine Ends.eq (b658_130 l4 (by omega)) ?_
      have sw : ∀ c k, scW B c k → fgoW B c k := fun c k z => by unfold scW at z; unfold fgoW; omega
      have i4 : ∀ c1, scN B (8 * n) q4 c1 → I q4 (4 * (rkS n g + 1)) c1 := fun c1 z => by
        rw [eI]
        exact ⟨z, l4, g3.tr g4 (fun c k z => wf' c k (sw c k z)), t3.agr g4 (fun k z => by unfold scW at z; omega), by rw [g4.at _ _ (by unfold scW; omega)]; exact e3, mm, F, V, L, Sn, s8.agr g4 (fun k z => by unfold scW at z; omega), by rw [g4.at _ _ (by unfold scW; omega)]; exact e85, fun i hi => by rw [g4.at _ _ (by unfold scW; omega)]; exact ct i hi, ok5 mm F q3 q4 wq (g4.sub sw)⟩
      have m1 : rw3 (8 * n) (8 * n) 0 0 - (rkS n g + 1) < M := by clear i4 sc4; omega
      rcases sc4 with ⟨c5', d1, d2, d3, d4, d5, d6⟩ | ⟨d4, d5, d6⟩
      · exact ihM _ m1 q4 (rkS n g + 1) (c5' + 1) v _ rfl (i4 _ d6) (Or.inl ⟨c5', d1, d2, d3, d4, d5, rfl⟩) (by omega)
      · exact ihM _ m1 q4 (rkS n g + 1) _ v _ rfl (i4 _ d6) (Or.inr ⟨d4, d5⟩) (by omega)
    · rw [c5]
      refine Ends.eq (b658_23 (ilx i) (by omega)) (Ends.b2 (fun _ => ?_) (fun z => absurd z (by decide)))
      have i2 := skip0 i hc c4
      rw [eI] at i2
      obtain ⟨-, lq, gq, t9, e86, mm, F, V, L, Sn, s8, e85, ct, wq⟩ := i2
      exact Ends.sm (KK _ ⟨mm, F, by rw [← eE]; exact L, e85, e86, ct, t9, by rw [← eWW]; exact gq, wq⟩)
  -- the beginning
  refine Ends.eq (b658_0 l (by omega)) ?_
  refine Ends.cv l (by decide +kernel) (c_forget644 l (by omega) hn) (fun h1 l1 _ _ _ ⟨g1, b1⟩ => ?_)
  refine Ends.eq (b658_4 l1 (by omega)) ?_
  have l2 : LX B n (hset (hset h1 (B + 149) 85 0) (B + 149) 86 (s : Int)) := LX.setF 149 86 (LX.setF 149 85 l1 (by decide +kernel)) (by decide +kernel)
  have g2 : Agr (fun c k => c = B + 149 ∧ (k = 85 ∨ k = 86)) h1 (hset (hset h1 (B + 149) 85 0) (B + 149) 86 (s : Int)) := (Agr.rf.set (by omega)).set (by omega)
  have v85 : hv (hset (hset h1 (B + 149) 85 0) (B + 149) 86 (s : Int)) (B + 149) 85 = 0 := by rw [hv_set_ne (by omega), hv_set_at]
  have v86 : hv (hset (hset h1 (B + 149) 85 0) (B + 149) 86 (s : Int)) (B + 149) 86 = (s : Int) := hv_set_at ..
  generalize hset (hset h1 (B + 149) 85 0) (B + 149) 86 (s : Int) = h2 at *
  refine Ends.cv l2 (by decide +kernel) (c_beginScan556 l2 (by omega) hn0) (fun h3 l3 _ _ _ ⟨g3, s3⟩ => ?_)
  refine Ends.eq (b658_18 l3 (by omega)) ?_
  have G3 : Agr (fgoW B) h h3 := ((g1.sub (fun c k z => by unfold fgoW fdfW; omega)).tr g2 (fun c k z => by unfold fgoW; omega)).tr g3 (fun c k z => by unfold scW at z; unfold fgoW; omega)
  refine Ends.ct l3 (by decide +kernel) (by decide) (c_scan812 l3 (by omega) hn0 hn (tb (G3.sub wf')) s3) (fun v h4 l4 _ _ _ ⟨g4, sc4⟩ => ?_)
  refine Ends.eq (b658_22 l4 (by omega)) ?_
  have G4 : Agr (fgoW B) h h4 := G3.tr g4 (fun c k z => by unfold scW at z; unfold fgoW; omega)
  have at4 : ∀ c k, ¬ scW B c k → hv h4 c k = hv h2 c k := fun c k z => by rw [g4.at _ _ z, g3.at _ _ z]
  have ini : ∀ c1, scN B (8 * n) h4 c1 → I h4 (4 * 0) c1 := fun c1 z => by
    rw [eI]
    refine ⟨z, l4, G4.sub wf', ?_, by rw [at4 _ _ (by unfold scW; omega)]; exact v86, 0, fun _ => 0, fun _ => false, FcL.ini, Fsn.ini (fun _ _ => rfl), ?_, by rw [at4 _ _ (by unfold scW; omega)]; exact v85, fun i hi => by omega, ok5 0 _ h h4 wf G4⟩
    · exact (((b9.agr g1 (fun k z => by omega)).agr g2 (fun k z => by omega)).agr g3 (fun k z => by unfold scW at z; omega)).agr g4 (fun k z => by unfold scW at z; omega)
    · exact ((b1.agr g2 (fun k z => by omega)).agr g3 (fun k z => by unfold scW at z; omega)).agr g4 (fun k z => by unfold scW at z; omega)
  rcases sc4 with ⟨c5', d1, d2, d3, d4, d5, d6⟩ | ⟨d4, d5, d6⟩
  · exact scan _ h4 0 (c5' + 1) v _ rfl (ini _ d6) (Or.inl ⟨c5', d1, d2, d3, d4, d5, rfl⟩) (Nat.zero_le _)
  · exact scan _ h4 0 _ v _ rfl (ini _ d6) (Or.inr ⟨d4, d5⟩) (Nat.zero_le _)
/-- one face once more -/
theorem c_goOver657 {i K : Nat} {md : Int} {Ww : Nat → Nat → Prop} {WI : (Nat → Bool) → AH → Prop} (l : LX B n h) (hd : 27 ≤ d) (hn : n ≤ 52) (m : TbM B h) (hs : s < 19) (bS : MB B n h s S) (b9 : BtM n h (B + 239) (fun _ => false)) (hi : i < 4096) (ei : hv h (B + 190) i = (K : Int)) (hK : K < 4 * gN n) (hE : bdr n S K = true) (wt : MWat gv B n (bdr n S) K md (i : Int) Ww WI) (w0 : WI (fun _ => false) h) (hWw : ∀ c k, Ww c k → ¬ flN B c k) (hst : ∀ V q q', WI V q → Agr (fdfW B) q q' → WI V q') :
    Vd (cll PP (ev PP (gsF gv) B) d 657 [(2, rf (B + 149)), (0, (s : Int)), (0, (i : Int)), (0, md)] h) (fun h' => ∃ P, (∀ k, k < 4 * gN n → (P k = true ↔ FRe n (bdr n S) K k)) ∧ BtM n h' (B + 239) (fun _ => false) ∧ Agr (fun c k => fdfW B c k ∨ Ww c k) h h' ∧ WI P h') := by
  refine Vd.inq (D := 26) hd (Nat.le_of_ble_eq_true rfl) rfl (fun d hd Q KK => ?_)
  refine Ends.eq (b657_0 l (by omega)) ?_
  refine Ends.cv l (by decide +kernel) (c_forget644 l (by omega) hn) (fun h1 l1 _ _ _ ⟨g1, b1⟩ => ?_)
  refine Ends.eq (b657_4 l1 (by omega)) ?_
  have G1 : Agr (fdfW B) h h1 := g1.sub (fun c k z => by unfold fdfW; omega)
  rw [tn, g1.at _ _ (by omega), ei]
  refine Ends.g ⟨by omega, by omega⟩ ?_
  refine Ends.cv l1 (by decide +kernel) (c_flood639 (V0 := fun _ => false) l1 (by omega) hn (m.agr g1 (fun c k h1 h2 h3 z => by omega)) hs (bS.agr g1 (fun k _ z => by omega)) hK hE b1 (b9.agr g1 (fun k z => by omega)) (fun x y s' _ _ _ z => absurd z Bool.false_ne_true) rfl wt (hst _ h h1 w0 G1) hWw hst) (fun h2 l2 _ _ _ ⟨P, p1, p2, p3, p4, p5⟩ => ?_)
  exact Ends.eq (b657_17 l2 (by omega)) (Ends.sm (KK _ ⟨P, p1, p3, (G1.sub (fun _ _ z => Or.inl z)).tr p4 (fun _ _ z => z), p5⟩))
/-- the model's faces between calls: of row r, or of none -/
def MFc (B n : Nat) (h : AH) (r : Nat) (S : Nat → Bool) (mm : Nat) (F : Nat → Nat) : Prop := FcL n (bdr n S) (4 * rw3 (8 * n) (8 * n) 0 0) mm F ∧ hv h (B + 149) 85 = (mm : Int) ∧ hv h (B + 149) 86 = (r : Int) ∧ ∀ i, i < min mm 4096 → hv h (B + 190) i = ((F i : Nat) : Int)
theorem c_makeFaces740 (l : LX B n h) (hd : 29 ≤ d) (hn0 : 0 < n) (hn : n ≤ 52) (m : TbM B h) (hs : s < 19) (bS : MB B n h s S) (b9 : BtM n h (B + 239) (fun _ => false)) (u : hv h (B + 149) 86 = (s : Int) → ∃ mm F, MFc B n h s S mm F) :
    Vd (cll PP (ev PP (gsF gv) B) d 740 [(2, rf (B + 149)), (0, (s : Int))] h) (fun h' => (∃ mm F, MFc B n h' s S mm F) ∧ BtM n h' (B + 239) (fun _ => false) ∧ Agr (fgoW B) h h') := by
  refine Vd.inq (D := 28) hd (Nat.le_of_ble_eq_true rfl) rfl (fun d hd Q KK => ?_)
  refine Ends.eq (b740_0 l (by omega)) (Ends.b0 (fun z => ?_) (fun z => ?_))
  · exact Ends.eq (b740_14 l (by omega)) (Ends.sm (KK _ ⟨u z, b9, Agr.rf⟩))
  · have pass : MOk2 gv B n (bdr n S) 0 (fun _ _ => False) (fun _ _ _ => True) (fun _ _ _ _ _ => True) (fgoW B) := by
      refine ⟨fun mm F K _ d hd V K' q l _ hK _ _ => ?_, fun _ _ _ _ _ _ _ => trivial, fun _ _ _ _ _ _ _ _ => trivial, fun _ _ _ _ _ _ _ _ => trivial, fun _ _ _ _ _ _ => trivial, fun _ _ z => z.elim⟩
      refine Vd.inq (D := 19) hd (Nat.le_of_ble_eq_true rfl) rfl (fun d hd Q KK => ?_)
      refine Ends.eq (b864_0 l (by omega)) ?_
      rw [show sw864_1 (0 : Int) = 107 from rfl]
      exact Ends.eq (b864_107 l (by omega)) (Ends.sm (KK _ ⟨Agr.rf, trivial⟩))
    refine Ends.cv l (by decide +kernel) (c_goOverFaces658 l (by omega) hn0 hn m hs bS b9 pass trivial) (fun h1 l1 _ _ _ ⟨mm, F, f1, f2, f3, f4, f5, f6, _⟩ => ?_)
    exact Ends.eq (b740_14 l1 (by omega)) (Ends.sm (KK _ ⟨⟨mm, F, f1, f2, f3, f4⟩, f5, f6.sub (fun c k z => z.elim id False.elim)⟩))
end MFF
