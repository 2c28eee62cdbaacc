/-! L3: Formulas: begin; working out a text -/
section WORK
variable {gv : Nat → Int} {B n d a m : Nat} {u c b : Nat → Int} {nv nc tof : Nat} {h : AH}
theorem c_fmBegin {tl tf : Int} (l : LX B n h) (hd : 20 ≤ d) (T : StB gv B h (gv 47) oneL) (yo : YO B (B + 8) h) {N : Nat} (ka : hk h a = (4, N)) (hm : m ≤ N) (hm8 : m ≤ 8192) (hu : ∀ i, i < m → hv h a i % 256 = u i) :
    Vd (cll PP (ev PP (gsF gv) B) d 185 [(2, rf (B + 7)), (2, (rf a)), (0, (m : Int)), (0, tl), (0, tf)] h) (fun h' => Agr (fun c z => c = B + 8 ∨ (c = B + 7 ∧ (z = 12 ∨ z = 13 ∨ z = 14))) h h' ∧ SgP B h' (B + 8) a m u ∧ SgT h' (B + 8) u m 0 ∧ hv h' (B + 7) 12 = tl ∧ hv h' (B + 7) 13 = tf) := by
  have ne : a ≠ B + 7 := fun e => by rw [e, lk_7 l] at ka; exact absurd (congrArg Prod.fst ka) (by show ¬ (1 : Nat) = 4; decide)
  have hb := l.2.2
  refine Vd.into (D := 19) hd (Nat.le_of_ble_eq_true rfl) rfl (fun d hd => ?_)
  refine Ends.eq (b185_0 (n := n) (by (repeat' first | assumption | refine LX.setF _ _ ?_ (by decide +kernel) | refine LX.setS ?_ rfl | refine LX.setA ?_ (by first | assumption | omega))) (by first | assumption | omega)) ?_
  generalize eh : hset (hset (hset h (B + 7) 12 tl) (B + 7) 13 tf) (B + 7) 14 0 = h1
  have l1 : LX B n h1 := by
    rw [← eh]
    exact LX.setF 7 14 (LX.setF 7 13 (LX.setF 7 12 l (by decide +kernel)) (by decide +kernel)) (by decide +kernel)
  have g1 : Agr (fun c z => c = B + 7 ∧ (z = 12 ∨ z = 13 ∨ z = 14)) h h1 := by
    rw [← eh]
    exact ((Agr.rf.set ⟨rfl, by omega⟩).set ⟨rfl, by omega⟩).set ⟨rfl, by omega⟩
  have e12 : hv h1 (B + 7) 12 = tl := by rw [← eh, hv_set_ne (by omega), hv_set_ne (by omega)]; exact hv_set_at ..
  have e13 : hv h1 (B + 7) 13 = tf := by rw [← eh, hv_set_ne (by omega)]; exact hv_set_at ..
  refine Ends.cv l1 (by decide +kernel) (c_open (u := u) l1 (by omega) ⟨lk_8 l1, yo.2⟩ (T.agr g1 (fun c k hk => by omega)).1 (by rw [g1.hk]; exact ka) hm hm8 (fun i hi => by rw [g1.at _ _ (by omega)]; exact hu i hi)) (fun h2 l2 _ _ _ ⟨g2, S2, R2⟩ => ?_)
  refine Ends.eq (b185_25 (n := n) (by (repeat' first | assumption | refine LX.setF _ _ ?_ (by decide +kernel) | refine LX.setS ?_ rfl | refine LX.setA ?_ (by first | assumption | omega))) (by first | assumption | omega)) ?_
  exact Ends.sm ⟨_, rfl, (g1.sub (fun c z w => Or.inr w)).tr g2 (fun c z w => Or.inl w), S2, R2, by rw [g2.at _ _ (by unfold oW; omega)]; exact e12, by rw [g2.at _ _ (by unfold oW; omega)]; exact e13⟩
/-- what working out writes -/
def wkW (B : Nat) : Nat → Nat → Prop := fun c z => c = B + 8 ∨ c = B + 9 ∨ (c = B + 7 ∧ (z = 8 ∨ z = 9 ∨ z = 10 ∨ z = 11 ∨ z = 12 ∨ z = 14)) ∨ (B + 11 ≤ c ∧ c ≤ B + 14) ∨ c = B + 21 ∨ c = B + 22
theorem c_work (l : LX B n h) (hd : 380 ≤ d) (hc : ∀ z, z < 37368 → hv h (B + 2) z = c z) (D : DW c nv nc) (T : FnB gv B h) (yo : YO B (B + 8) h) (h13 : hv h (B + 7) 13 = (tof : Int)) {f : Nat} (X : TxAt c f b m) (okv : ∀ v p : Nat, TkR (fun i => b i % 256) m p → tkK (fun i => b i % 256) m p = 1 → fdC c nv b (fun i => b i % 256) m p = (v : Int) → FOK (envA B h v)) (hm : m ≤ 240) (hf : f + 61 ≤ 37368) {Xd : Dn} {N : Nat → Bool} {p' : Nat} (ok : rdF c nv nc (-1) tof b (fun i => b i % 256) m 0 = .inr (Xd, N, p')) :
    Vd (cll PP (ev PP (gsF gv) B) d 222 [(2, rf (B + 7)), (0, (f : Int))] h) (fun h' => Agr (wkW B) h h' ∧ frA B h' 0 = Xd (envA B h) ∧ FOK (frA B h' 0)) := by
  have hb := l.2.2
  refine Vd.into (D := 379) hd (Nat.le_of_ble_eq_true rfl) rfl (fun d hd => ?_)
  refine Ends.eq (b222_0 (n := n) (by (repeat' first | assumption | refine LX.setF _ _ ?_ (by decide +kernel) | refine LX.setS ?_ rfl | refine LX.setA ?_ (by first | assumption | omega))) (by first | assumption | omega)) ?_
  refine Ends.ct l (by decide +kernel) (by decide) (c_stText (c := c) (b := b) l (by omega) hc hf (lk_9 l) (by omega) X hm (by omega)) (fun v h1 l1 _ _ _ ⟨ev, g1, hb1⟩ => ?_)
  subst ev
  refine Ends.eq (b222_12 (n := n) (by (repeat' first | assumption | refine LX.setF _ _ ?_ (by decide +kernel) | refine LX.setS ?_ rfl | refine LX.setA ?_ (by first | assumption | omega))) (by first | assumption | omega)) ?_
  have T1 := T.agr g1 (fun c k hk => by omega)
  refine Ends.cv l1 (by decide +kernel) (c_open (u := fun i => b i % 256) l1 (by omega) ⟨lk_8 l1, by omega⟩ T1.1.1 (lk_9 l1) (by omega) (by omega) (fun i hi => by rw [hb1 i hi])) (fun h2 l2 _ _ _ ⟨g2, S2, R2⟩ => ?_)
  have G2 : Agr (wkW B) h h2 := (g1.sub (fun c z w => Or.inr (Or.inl w.1))).tr g2 (fun c z w => Or.inl w)
  have T2 := T.agr G2 (fun c k hk => by unfold wkW; omega)
  refine Ends.eq (b222_25 (n := n) (by (repeat' first | assumption | refine LX.setF _ _ ?_ (by decide +kernel) | refine LX.setS ?_ rfl | refine LX.setA ?_ (by first | assumption | omega))) (by first | assumption | omega)) ?_
  generalize eh : hset (hset (hset (hset (hset h2 (B + 7) 12 (-1)) (B + 7) 11 1) (B + 7) 8 0) (B + 7) 10 0) (B + 7) 9 0 = h3
  have l3 : LX B n h3 := by
    rw [← eh]
    exact LX.setF 7 9 (LX.setF 7 10 (LX.setF 7 8 (LX.setF 7 11 (LX.setF 7 12 l2 (by decide +kernel)) (by decide +kernel)) (by decide +kernel)) (by decide +kernel)) (by decide +kernel)
  have g3 : Agr (fun c z => c = B + 7 ∧ (z = 8 ∨ z = 9 ∨ z = 10 ∨ z = 11 ∨ z = 12)) h2 h3 := by
    rw [← eh]
    exact ((((Agr.rf.set ⟨rfl, by omega⟩).set ⟨rfl, by omega⟩).set ⟨rfl, by omega⟩).set ⟨rfl, by omega⟩).set ⟨rfl, by omega⟩
  have G3 : Agr (wkW B) h h3 := G2.tr g3 (fun c z w => by unfold wkW; omega)
  have e12 : hv h3 (B + 7) 12 = -1 := by rw [← eh, hv_set_ne (by omega), hv_set_ne (by omega), hv_set_ne (by omega), hv_set_ne (by omega)]; exact hv_set_at ..
  have e11 : hv h3 (B + 7) 11 = 1 := by rw [← eh, hv_set_ne (by omega), hv_set_ne (by omega), hv_set_ne (by omega)]; exact hv_set_at ..
  have e8 : hv h3 (B + 7) 8 = ((0 : Nat) : Int) := by rw [← eh, hv_set_ne (by omega), hv_set_ne (by omega)]; exact hv_set_at ..
  have e10 : hv h3 (B + 7) 10 = ((0 : Nat) : Int) := by rw [← eh, hv_set_ne (by omega)]; exact hv_set_at ..
  have e9 : hv h3 (B + 7) 9 = ((0 : Nat) : Int) := by rw [← eh]; exact hv_set_at ..
  have e13 : hv h3 (B + 7) 13 = (tof : Int) := by rw [G3.at _ _ (by unfold wkW; omega)]; exact h13
  have eA : envA B h3 = envA B h := by
    funext w
    unfold envA
    rw [G3.at _ _ (by unfold wkW; omega), G3.at _ _ (by unfold wkW; omega), G3.at _ _ (by unfold wkW; omega), G3.at _ _ (by unfold wkW; omega)]
  have hb3 : ∀ i, i < m → hv h3 (B + 9) i = b i := fun i hi => by rw [g3.at _ _ (by omega), g2.at _ _ (by unfold oW; omega)]; exact hb1 i hi
  have S3 : SgP B h3 (B + 8) (B + 9) m (fun i => b i % 256) := by
    obtain ⟨s1, s2, ⟨N0, s3, s4⟩, s5, s6, s7⟩ := S2
    exact ⟨⟨lk_8 l3, s1.2⟩, by rw [g3.at _ _ (by omega)]; exact s2, ⟨N0, by rw [g3.hk]; exact s3, s4⟩, by rw [g3.at _ _ (by omega)]; exact s5, fun i hi => by rw [g3.at _ _ (by omega)]; exact s6 i hi, s7⟩
  have F3 : FC gv B (B + 9) m (fun i => b i % 256) c (hv h3 (B + 9)) nv (-1) (tof : Int) h3 := ⟨⟨S3, T2.agr g3 (fun c k hk => by omega), by omega, fun i hi => by rw [hb3 i hi]; exact (X.2 i hi).2, fun z hz => by rw [G3.at _ _ (by unfold wkW; omega)]; exact hc z hz, D.1, D.2.1, e12, hm, 260, lk_9 l3, by omega, by omega⟩, fun _ => rfl, fun v p _ hp hk hf => by rw [eA]; exact okv v p hp hk ((fd_cg hb3 p).symm.trans hf), e13⟩
  have R3 : SgT h3 (B + 8) (fun i => b i % 256) m 0 := R2.agr g3 (fun z => by omega)
  have er0 : rdF c nv nc (-1) tof (hv h3 (B + 9)) (fun i => b i % 256) m 0 = .inr (Xd, N, p') := by
    rw [← ok]
    unfold rdF
    rw [show fdC c nv (hv h3 (B + 9)) (fun i => b i % 256) m = fdC c nv b (fun i => b i % 256) m from funext (fd_cg hb3)]
  refine Ends.cx (c := 19) l3 (by decide +kernel) (c_formula (p := 0) (k := 0) (mu := 0) l3 (by omega) F3 ⟨R3, e8, e9, e10, by omega, by omega, by omega, by omega, TkR.z⟩ D (by omega)) (fun x h' ⟨e, _, w⟩ => w.c) rfl (fun h4 l4 _ _ _ ⟨X2, N2, p2, er, FRR⟩ => ?_) (fun x h' _ _ ⟨e, er, w⟩ => by rw [er0] at er; cases er)
  obtain ⟨r1, r2, r3, r4, r5, r6, r7, r8, r9⟩ := FRR
  have eX : Xd = X2 := congrArg (fun z => z.1) (Sum.inr.inj (er0.symm.trans er))
  refine Ends.eq (b222_54 (n := n) (by (repeat' first | assumption | refine LX.setF _ _ ?_ (by decide +kernel) | refine LX.setS ?_ rfl | refine LX.setA ?_ (by first | assumption | omega))) (by first | assumption | omega)) ?_
  refine Ends.sm ⟨_, rfl, (G3.tr r1 (fun c z w => by unfold FW at w; unfold wkW; omega)).set (by unfold wkW; omega), ?_, ?_⟩
  · rw [frA_f, r6, eX]
    unfold envM
    rw [e11, if_neg (by omega), eA]
  · rw [frA_f]; exact r7
end WORK
