/-! L3: the model's reaches, leadsBack -/
section LEADS
variable {gv : Nat → Int} {B n d q nv nc : Nat} {h : AH} {c : Nat → Int}
theorem AstI.lw {g : Nat} {t : AH} {x : Int} {D : Dn} {N : Nat → Bool} (A : AstI (B + 246) g h x D N) (l : LX B n h) (e : Agr (LW B) h t) : AstI (B + 246) g t x D N := A.mw l (lw_mw e) (Nat.le_refl _)
theorem DV.mw {t : AH} {cc ss : Nat} (V : DV B h c q nv nc) (l : LX B n h) (D : YD B q h) (hx : q + 140 ≤ hnx h) (e : Ext (MW B) cc ss h t) (hn : nv ≤ 40) : DV B t c q nv nc := by
  obtain ⟨⟨a1, a2, a3⟩, V2, V3, V4, V5⟩ := V
  have lo := D.lo
  have K : ∀ j k, j < 140 → hv t (q + j) k = hv h (q + j) k := fun j k hj => e.at _ (by omega) (by unfold MW; omega)
  have K0 : ∀ k, hv t q k = hv h q k := fun k => K 0 k (by decide)
  refine ⟨⟨by rw [K0]; exact a1, by rw [K0]; exact a2, by rw [K0]; exact a3⟩, fun v hv => ?_, fun k h1 h2 => by rw [K 4 k (by decide)]; exact V3 k h1 h2, fun v k hv hk => ?_, fun v k h1 h2 h3 => ⟨(V5 v k h1 h2 h3).1, by rw [K 3 _ (by decide)]; exact (V5 v k h1 h2 h3).2⟩⟩
  · obtain ⟨s, s1, s2, s3, s4, s5⟩ := V2 v hv
    exact ⟨s, s1, s2, s3, by rw [K 2 _ (by decide)]; exact s4, fun i hi => by rw [K 1 _ (by decide)]; exact s5 i hi⟩
  · rw [K 3 _ (by decide)]
    exact (V4 v k hv hk).imp id (fun ⟨e1, X, N, p', r1, r2, r3⟩ => ⟨e1, X, N, p', r1, r2.mw l e (Nat.le_refl _), r3⟩)
theorem DV.lw {t : AH} (V : DV B h c q nv nc) (l : LX B n h) (D : YD B q h) (hx : q + 140 ≤ hnx h) (e : Agr (LW B) h t) (hn : nv ≤ 40) : DV B t c q nv nc := V.mw l D hx (lw_mw e) hn
theorem YD.lw {t : AH} (D : YD B q h) (e : Agr (LW B) h t) : YD B q t := D.far e (fun c k h1 h2 w => by have := D.lo; unfold LW at w; omega)
/-- the heap beside a search -/
def RI (gv : Nat → Int) (B n : Nat) (c : Nat → Int) (q nv nc tl tof : Nat) (h : AH) : Prop := LX B n h ∧ hv h (B + 149) 19 = rf q ∧ YD B q h ∧ q + 140 ≤ hnx h ∧ DV B h c q nv nc ∧ hv h (B + 149) 13 = (tl : Int) ∧ hv h (B + 149) 14 = (tof : Int)
theorem RI.lw {tl tof : Nat} {t : AH} (I : RI gv B n c q nv nc tl tof h) (lt : LX B n t) (e : Agr (LW B) h t) (hn : nv ≤ 40) : RI gv B n c q nv nc tl tof t := by
  obtain ⟨i1, i2, i3, i4, i5, i6, i7⟩ := I
  exact ⟨lt, by rw [e.at _ _ (by unfold LW; omega)]; exact i2, i3.lw e, by rw [e.nx]; exact i4, i5.lw i1 i3 i4 e hn, by rw [e.at _ _ (by unfold LW; omega)]; exact i6, by rw [e.at _ _ (by unfold LW; omega)]; exact i7⟩
/-- the formula that counts -/
theorem DV.eff {v k : Nat} (V : DV B h c q nv nc) (W : DW c nv nc) (hv' : v < nv) (hk : k < nc) : ∃ X N p', rdT c nv (fo v (efK c v 4 k)) = .inr (X, N, p') ∧ AstI (B + 246) 240 h (hv h (q + 3) (40 * efK c v 4 k + v)) X N ∧ ∀ w, N w = nmE c nv k v w := by
  have h4 : efK c v 4 k ≤ k := efK_le W 4 k hk
  have hnc := W.2.2.2.2.1
  have hok := efK_ok (v := v) W 4 k (by omega) hk
  rcases V.2.2.2.1 v (efK c v 4 k) hv' (by omega) with ⟨e1, e2⟩ | ⟨e1, X, N, p', r1, r2, r3⟩
  · exfalso
    have tx : TX c (fo v (efK c v 4 k)) := W.2.2.2.2.2.2 v hv' _ (by omega) hok
    obtain ⟨m, b, t, _⟩ := tx
    have := t.1
    omega
  · exact ⟨X, N, p', r1, r2, fun w => r3.1 w⟩
theorem c_reaches {tl tof : Nat} (I : RI gv B n c q nv nc tl tof h) (W : DW c nv nc) (hd : 260 ≤ d) {y k : Nat} (hy : y < nv) (hkc : k < nc) (z0 : ∀ w, w < 40 → hv h (B + 152) w = 0) :
    Vt 0 (cll PP (ev PP (gsF gv) B) d 789 [(2, rf (B + 149)), (0, (y : Int)), (0, (k : Int))] h) (fun x h' => Agr (LW B) h h' ∧ ((x = 1 ∧ Nee c nv k tl y) ∨ (x = 0 ∧ ¬ Nee c nv k tl y))) := by
  have hn : nv ≤ 40 := W.2.1
  have hnc := W.2.2.2.2.1
  have I0 := I
  obtain ⟨l, hq, D, hx, V, h13, h14⟩ := I
  have lo := D.lo
  refine Vt.into (D := 259) hd (Nat.le_of_ble_eq_true rfl) rfl (fun d hd => ?_)
  refine Ends.eq (b789_0 (n := n) (by (repeat' first | assumption | refine LX.setF _ _ ?_ (by decide +kernel) | refine LX.setS ?_ rfl | refine LX.setA ?_ (by first | assumption | omega))) (by first | assumption | omega)) ?_
  rw [show anar 0 (y : Int) = (y : Int) from an0 _, show anar 3 1 = 1 from rfl, tn]
  refine Ends.g ⟨by omega, by omega⟩ (Ends.g ⟨by omega, by omega⟩ ?_)
  have key : ∀ (r : Nat) (S : Nat → Bool) (pm : Nat) (t : AH) (u3 : AV), 40 - cnS S + pm = r → LX B n t → Agr (LW B) h t → MeS B t S pm → S y = true → (∀ w, S w = true → w < nv) → (∀ i, i < pm → ∃ w : Nat, w < nv ∧ hv t (B + 153) i = (w : Int) ∧ S w = true) → (∀ w, S w = true → (∃ i, i < pm ∧ hv t (B + 153) i = (w : Int)) ∨ (w ≠ tl ∧ ∀ z, nmE c nv k w z = true → S z = true)) → (∀ P : Nat → Prop, P y → Cls c nv k tl P → ∀ w, S w = true → P w) → Ends (ev PP (gsF gv) B d 789 19 [(2, rf (B + 149)), (0, (y : Int)), (0, (k : Int)), u3] [] t) (fun r => ∃ x h', r = ((0, (0, x)), h') ∧ Agr (LW B) h h' ∧ ((x = 1 ∧ Nee c nv k tl y) ∨ (x = 0 ∧ ¬ Nee c nv k tl y))) := by
    intro r
    induction r with
    | zero =>
      intro S pm t u3 hr lt gt M hSy hSn hp hcl hso
      obtain ⟨_, hq, D, _, _, _, _⟩ := I0.lw lt gt hn
      obtain ⟨M1, M2, M3⟩ := M
      refine Ends.eq (b789_19 (n := n) (by (repeat' first | assumption | refine LX.setF _ _ ?_ (by decide +kernel) | refine LX.setS ?_ rfl | refine LX.setA ?_ (by first | assumption | omega))) (by first | assumption | omega) (by first | assumption | omega) (by first | assumption | omega)) ?_
      rw [M2]
      refine Ends.b5 (fun _ => Ends.sm ⟨_, _, rfl, gt, Or.inr ⟨rfl, fun ne => ?_⟩⟩) (fun z => by omega)
      have := ne (fun w => S w = true) hSy (fun v w hv hne he => ?_)
      · rcases hcl tl this with ⟨i, hi, _⟩ | ⟨e, _⟩
        · omega
        · exact e rfl
      · rcases hcl v hv with ⟨i, hi, _⟩ | ⟨_, e⟩
        · omega
        · exact e w he
    | succ r ih =>
      intro S pm t u3 hr lt gt M hSy hSn hp hcl hso
      have It := I0.lw lt gt hn
      have It0 := It
      obtain ⟨_, hq, D, hxt, Vt', t13, t14⟩ := It
      have M0 := M
      obtain ⟨M1, M2, M3⟩ := M
      have c40 := cnS_le (S := S)
      refine Ends.eq (b789_19 (n := n) (by (repeat' first | assumption | refine LX.setF _ _ ?_ (by decide +kernel) | refine LX.setS ?_ rfl | refine LX.setA ?_ (by first | assumption | omega))) (by first | assumption | omega) (by first | assumption | omega) (by first | assumption | omega)) ?_
      rw [M2]
      refine Ends.b5 (fun z => ?_) (fun z => ?_)
      · have hp0 : pm = 0 := by omega
        refine Ends.sm ⟨_, _, rfl, gt, Or.inr ⟨rfl, fun ne => ?_⟩⟩
        have := ne (fun w => S w = true) hSy (fun v w hv hne he => ?_)
        · rcases hcl tl this with ⟨i, hi, _⟩ | ⟨e, _⟩
          · omega
          · exact e rfl
        · rcases hcl v hv with ⟨i, hi, _⟩ | ⟨_, e⟩
          · omega
          · exact e w he
      · obtain ⟨m, rfl⟩ : ∃ m, pm = m + 1 := ⟨pm - 1, by omega⟩
        obtain ⟨w, w1, w2, w3⟩ := hp m (by omega)
        rw [show bop32 100 ((m + 1 : Nat) : Int) 1 = (m : Int) from b100_1 (by omega) rfl, tn, w2, t13]
        refine Ends.g ⟨by omega, by omega⟩ ?_
        have g1 : Agr (LW B) t (hset t (B + 149) 22 (m : Int)) := Agr.rf.set (Or.inl ⟨rfl, rfl⟩)
        have l1 : LX B n (hset t (B + 149) 22 (m : Int)) := (by (repeat' first | assumption | refine LX.setF _ _ ?_ (by decide +kernel) | refine LX.setS ?_ rfl | refine LX.setA ?_ (by assumption)))
        refine Ends.b1 (fun ne => ?_) (fun eq => ?_)
        · have ne' : w ≠ tl := fun e => ne (by rw [e])
          obtain ⟨_, hq1, D1, hx1, V1, _, _⟩ := It0.lw l1 g1 hn
          refine Ends.ct l1 (by decide +kernel) (by decide) (c_owner l1 (by omega) hq1 D1 V1 W w1 hkc) (fun x h2 l2 _ _ _ ⟨e2, ex⟩ => ?_)
          subst e2
          subst ex
          have hef : efK c w 4 k ≤ k := efK_le W 4 k hkc
          refine Ends.eq (b789_72 (n := n) (by (repeat' first | assumption | refine LX.setF _ _ ?_ (by decide +kernel) | refine LX.setS ?_ rfl | refine LX.setA ?_ (by first | assumption | omega))) (by first | assumption | omega)) ?_
          have k3 : hk (hset t (B + 149) 22 (m : Int)) (q + 3) = (6 + 2, 160) := D1.2.1.2.2.1
          rw [ad_rf, k3, show bop32 96 (bop32 104 40 ((efK c w 4 k : Nat) : Int)) (w : Int) = ((40 * efK c w 4 k + w : Nat) : Int) from by rw [show bop32 104 40 ((efK c w 4 k : Nat) : Int) = ((40 * efK c w 4 k : Nat) : Int) from mulNN (x := 40) (by omega)]; exact addNN (by omega), tn]
          refine Ends.g ⟨rf_pos _, rfl, by omega, by show _ < ((160 : Nat) : Int); omega⟩ ?_
          obtain ⟨X, N, p', r1, r2, r3⟩ := V1.eff W w1 hkc
          obtain ⟨s1, s2, s3⟩ := M0
          have Ms : MeS B (hset t (B + 149) 22 (m : Int)) S m := ⟨fun z hz => by rw [hv_na (by omega)]; exact s1 z hz, hv_set_at .., by omega⟩
          refine Ends.cv l1 (by decide +kernel) (c_mention 240 d _ _ N S m l1 (Or.inr ⟨X, r2⟩) Ms (by omega)) (fun h3 l3 _ _ _ ⟨pm', P⟩ => ?_)
          obtain ⟨P1, P2, P3, P4, P5, P6, P7⟩ := P
          have c41 := cnS_le (S := orN S N)
          refine Ends.eq (b789_79 (n := n) (by (repeat' first | assumption | refine LX.setF _ _ ?_ (by decide +kernel) | refine LX.setS ?_ rfl | refine LX.setA ?_ (by first | assumption | omega))) (by first | assumption | omega)) ?_
          have G3 : Agr (LW B) t h3 := g1.tr P1 (fun _ _ z => z)
          have keepP : ∀ i, i < m → hv h3 (B + 153) i = hv t (B + 153) i := fun i hi => by rw [P5 i hi, hv_na (by omega)]
          refine ih (orN S N) pm' h3 _ (by omega) l3 (gt.tr G3 (fun _ _ z => z)) P2 (by unfold orN; rw [hSy]; rfl) (fun z hz => ?_) (fun i hi => ?_) (fun z hz => ?_) (fun P hP1 hP2 z hz => ?_)
          · unfold orN at hz
            rcases (Bool.or_eq_true _ _).mp hz with hz | hz
            · exact hSn z hz
            · rw [r3] at hz; exact nmE_lt hz
          · by_cases e : i < m
            · obtain ⟨z, z1, z2, z3⟩ := hp i (by omega)
              exact ⟨z, z1, by rw [keepP i e]; exact z2, by unfold orN; rw [z3]; rfl⟩
            · obtain ⟨z, z1, z2, z3⟩ := P6 i (by omega) hi
              have z4 : nmE c nv k w z = true := by rw [← r3]; exact z3
              exact ⟨z, nmE_lt z4, z2, by unfold orN; rw [z3, Bool.or_true]⟩
          · have grow : ∀ z, S z = true → orN S N z = true := fun z hz => by unfold orN; rw [hz]; rfl
            cases hS : S z with
            | true =>
              rcases hcl z hS with ⟨i, i1, i2⟩ | ⟨e1, e2⟩
              · by_cases e : i < m
                · exact Or.inl ⟨i, by omega, by rw [keepP i e]; exact i2⟩
                · obtain rfl : m = i := by omega
                  have ez : w = z := by rw [w2] at i2; omega
                  subst ez
                  exact Or.inr ⟨ne', fun x hx => by unfold orN; rw [r3, hx, Bool.or_true]⟩
              · exact Or.inr ⟨e1, fun x hx => grow x (e2 x hx)⟩
            | false =>
              have hN : N z = true := by unfold orN at hz; rw [hS] at hz; exact hz
              obtain ⟨i, i1, i2, i3⟩ := P7 z hN hS
              exact Or.inl ⟨i, i2, i3⟩
          · unfold orN at hz
            rcases (Bool.or_eq_true _ _).mp hz with hz | hz
            · exact hso P hP1 hP2 z hz
            · exact hP2 w z (hso P hP1 hP2 w w3) ne' (by rw [← r3]; exact hz)
        · have eq' : w = tl := by omega
          refine Ends.sm ⟨_, _, rfl, gt.tr g1 (fun _ _ z => z), Or.inl ⟨rfl, fun P hP1 hP2 => ?_⟩⟩
          rw [← eq']
          exact hso P hP1 hP2 w w3
  generalize eh : hset (hset (hset h (B + 153) (Int.toNat 0) (y : Int)) (B + 149) 22 1) (B + 152) y 1 = t
  have lt : LX B n t := by rw [← eh]; exact (by (repeat' first | assumption | refine LX.setF _ _ ?_ (by decide +kernel) | refine LX.setS ?_ rfl | refine LX.setA ?_ (by assumption)))
  have gt : Agr (LW B) h t := by
    rw [← eh]
    exact ((Agr.rf.set (Or.inr (Or.inr rfl))).set (Or.inl ⟨rfl, rfl⟩)).set (Or.inr (Or.inl rfl))
  have c1 : cnS (fun w => decide (w = y)) = 1 := by
    have := cnt_upd (S := fun _ => false) (T := fun w => decide (w = y)) (v := y) rfl (fun w => (Bool.false_or _).symm) 40
    rw [if_pos (by omega)] at this
    have e0 : (List.range 40).countP (fun _ => false) = 0 := by rw [List.countP_eq_zero]; intro a _; exact Bool.false_ne_true
    unfold cnS
    omega
  refine key _ (fun w => decide (w = y)) 1 t _ rfl lt gt ⟨fun w hw => ?_, ?_, by omega⟩ (decide_eq_true rfl) (fun w hw => by rw [of_decide_eq_true hw]; exact hy) (fun i hi => ?_) (fun w hw => ?_) (fun P hP1 hP2 w hw => by rw [of_decide_eq_true hw]; exact hP1)
  · rw [← eh]
    show _ = b2i (decide (w = y))
    by_cases e : w = y
    · rw [e, hv_set_at, decide_eq_true rfl]; rfl
    · rw [hv_set_ne (by omega), hv_set_ne (by omega), hv_set_ne (by omega), z0 w hw, decide_eq_false e]; rfl
  · rw [← eh, hv_set_ne (by omega)]; exact hv_set_at ..
  · obtain rfl : i = 0 := by omega
    refine ⟨y, hy, ?_, decide_eq_true rfl⟩
    rw [← eh, hv_set_ne (by omega), hv_set_ne (by omega)]; exact hv_set_at ..
  · refine Or.inl ⟨0, by omega, ?_⟩
    rw [of_decide_eq_true hw, ← eh, hv_set_ne (by omega), hv_set_ne (by omega)]; exact hv_set_at ..
end LEADS
