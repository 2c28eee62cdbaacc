/-! L3: Formulas: a formula as a whole; check -/
/-- which VALUE the word at p names -/
noncomputable def fdC (c : Nat → Int) (nv : Nat) (b u : Nat → Int) (m p : Nat) : Int := fdN (nmP c b (tkF u m p) (tkT u m p - tkF u m p)) nv 0
theorem fd_cg {u c b b' : Nat → Int} {m nv : Nat} (e : ∀ i, i < m → b i = b' i) (p : Nat) : fdC c nv b u m p = fdC c nv b' u m p := by
  unfold fdC
  congr 1
  funext v
  refine nmP_cg (fun i hi => e _ ?_)
  by_cases hp : p ≤ m
  · obtain ⟨t1, t2, t3⟩ := tk_le (u := u) hp
    omega
  · exfalso
    have e1 : tkF u m p = p := by
      unfold tkF en
      rw [show m - p = 0 by omega]
      unfold rn
      rfl
    have e2 : tkT u m p = p := by
      unfold tkT
      rw [if_pos (by rw [e1]; unfold chr; rw [if_neg (by omega)]; decide)]
      exact e1
    omega
noncomputable def accZ : Dn × (Nat → Bool) := (fun _ => flt 1, fun _ => false)
/-- what reading a formula from p on comes to -/
noncomputable def rdF (c : Nat → Int) (nv nc : Nat) (tl : Int) (tof : Nat) (b u : Nat → Int) (m p : Nat) : PR := (pS u m (fdC c nv b u m) (bkI c nv nc tl tof) (4 * m + 4) 0 0 0 p accZ).getD (.inl 0)
theorem rdF_is {c : Nat → Int} {nv nc : Nat} {tl : Int} {tof : Nat} {b u : Nat → Int} {m p : Nat} (hp : p ≤ m) : pS u m (fdC c nv b u m) (bkI c nv nc tl tof) (4 * m + 4) 0 0 0 p accZ = some (rdF c nv nc tl tof b u m p) ∧ ∀ D N p', rdF c nv nc tl tof b u m p = .inr (D, N, p') → p < p' ∧ p' ≤ m := by
  obtain ⟨r, e, k⟩ := (pS_ok (u := u) (m := m) (fd := fdC c nv b u m) (bk := bkI c nv nc tl tof) (4 * m + 4)).1 0 p accZ hp (by omega)
  have e2 : rdF c nv nc tl tof b u m p = r := by unfold rdF; rw [e]; rfl
  rw [e2]
  exact ⟨e, k⟩
section CHECK
variable {gv : Nat → Int} {B n d a m : Nat} {u c bb : Nat → Int} {nv nc tof : Nat} {tl : Int} {h : AH}
theorem c_formula {p k mu : Nat} (l : LX B n h) (hd : 370 ≤ d) (F : FC gv B a m u c bb nv tl (tof : Int) h) (P : FP B m u h p k 0 mu) (D : DW c nv nc) (htl : tl < (nv : Int)) :
    Vx (cll PP (ev PP (gsF gv) B) d 196 [(2, rf (B + 7))] h) (fun h' => ∃ X N p', rdF c nv nc tl tof bb u m p = .inr (X, N, p') ∧ FR B m u h h' k mu 0 X p p') (fun x h' => ∃ e, rdF c nv nc tl tof bb u m p = .inl e ∧ XE B h e x h') :=
  (parse_all (fun _ => rfl) (cbk_of D htl) (4 * m + 4)).1 d 0 p k mu h accZ _ (rdF_is P.2.2.2.2.1).1 l F P (by omega)
/-- a switch of Formulas that reading does not look at, or only to see whether values count -/
theorem FC.sw {z : Nat} {v : Int} (F : FC gv B a m u c bb nv tl (tof : Int) h) (l : LX B n h) (hz : z = 8 ∨ z = 9 ∨ z = 10 ∨ (z = 11 ∧ v = 0) ∨ z = 14) : FC gv B a m u c bb nv tl (tof : Int) (hset h (B + 7) z v) := by
  have g : Agr (fun c k => c = B + 7 ∧ k = z) h (hset h (B + 7) z v) := Agr.rf.set ⟨rfl, rfl⟩
  obtain ⟨n1, n2, n3, n4, n5⟩ := F.1.na l
  obtain ⟨⟨⟨⟨y1, y2⟩, s1, ⟨N0, s2, s3⟩, s4, s5, s6⟩, f2, f3, f4, f5, f6, f7, f8, f9, N, kN, hN⟩, F2, F3, F4⟩ := F
  have ha : ∀ z', hv (hset h (B + 7) z v) a z' = hv h a z' := fun z' => g.at _ _ (by omega)
  refine ⟨⟨⟨⟨by rw [g.hk]; exact y1, y2⟩, by rw [g.at _ _ (by omega)]; exact s1, ⟨N0, by rw [g.hk]; exact s2, s3⟩, by rw [g.at _ _ (by omega)]; exact s4, fun i hi => by rw [ha]; exact s5 i hi, s6⟩, f2.agr g (fun c z hc => by omega), f3, fun i hi => by rw [ha]; exact f4 i hi, fun z' hz' => by rw [g.at _ _ (by omega)]; exact f5 z' hz', f6, f7, by rw [g.at _ _ (by omega)]; exact f8, f9, N, by rw [g.hk]; exact kN, hN⟩, fun z' => by rw [ha]; exact F2 z', fun v' p hw hp hk hf => ?_, by rw [g.at _ _ (by omega)]; exact F4⟩
  have e : envA B (hset h (B + 7) z v) = envA B h := by
    funext w
    unfold envA
    rw [g.at _ _ (by omega), g.at _ _ (by omega), g.at _ _ (by omega), g.at _ _ (by omega)]
  rw [e]
  refine F3 v' p (fun z0 => hw ?_) hp hk hf
  by_cases ez : z = 11
  · rw [ez, hv_set_at]; omega
  · rw [hv_set_ne (by omega)]; exact z0
def ckW (B : Nat) : Nat → Nat → Prop := fun c z => FW B 0 c z ∨ (c = B + 7 ∧ z = 11)
/-- looking through a formula, without working it out -/
theorem c_fmCheck {p : Nat} (l : LX B n h) (hd : 380 ≤ d) (F : FC gv B a m u c bb nv tl (tof : Int) h) (R : SgT h (B + 8) u m p) (ht : TkR u m p) (hp : p ≤ m) (D : DW c nv nc) (htl : tl < (nv : Int)) :
    Vx (cll PP (ev PP (gsF gv) B) d 188 [(2, rf (B + 7))] h) (fun h' => ∃ X N p', rdF c nv nc tl tof bb u m p = .inr (X, N, p') ∧ Agr (ckW B) h h' ∧ SgT h' (B + 8) u m p' ∧ p < p' ∧ p' ≤ m) (fun x h' => ∃ e h1, rdF c nv nc tl tof bb u m p = .inl e ∧ Agr (ckW B) h h1 ∧ WrX h1 (e : Int) x h') := by
  refine Vx.into (D := 379) (by omega) (Nat.le_of_ble_eq_true rfl) rfl (fun d' hd' => ?_)
  refine Ends.eq (b188_0 (n := n) (by (repeat' first | assumption | refine LX.setF _ _ ?_ (by decide +kernel) | refine LX.setS ?_ rfl | refine LX.setA ?_ (by first | assumption | omega))) (by first | assumption | omega)) ?_
  generalize eh : hset (hset (hset (hset h (B + 7) 11 0) (B + 7) 8 0) (B + 7) 10 0) (B + 7) 9 1 = h1
  have l1 : LX B n h1 := by
    rw [← eh]
    exact LX.setF 7 9 (LX.setF 7 10 (LX.setF 7 8 (LX.setF 7 11 l (by decide +kernel)) (by decide +kernel)) (by decide +kernel)) (by decide +kernel)
  have la : LX B n (hset h (B + 7) 11 0) := LX.setF 7 11 l (by decide +kernel)
  have lb : LX B n (hset (hset h (B + 7) 11 0) (B + 7) 8 0) := LX.setF 7 8 la (by decide +kernel)
  have lc : LX B n (hset (hset (hset h (B + 7) 11 0) (B + 7) 8 0) (B + 7) 10 0) := LX.setF 7 10 lb (by decide +kernel)
  have F1 : FC gv B a m u c bb nv tl (tof : Int) h1 := by
    rw [← eh]
    exact (((F.sw l (by omega)).sw la (by omega)).sw lb (by omega)).sw lc (by omega)
  have G1 : Agr (ckW B) h h1 := by
    rw [← eh]
    exact (((Agr.rf.set (Or.inr ⟨rfl, rfl⟩)).set (Or.inl (FW_f (by omega)))).set (Or.inl (FW_f (by omega)))).set (Or.inl (FW_f (by omega)))
  have R1 : SgT h1 (B + 8) u m p := by
    rw [← eh]
    exact R.f.f.f.f
  have P1 : FP B m u h1 p 0 0 1 := ⟨R1, by rw [← eh, hv_set_ne (by omega), hv_set_ne (by omega)]; exact hv_set_at .., by rw [← eh]; exact hv_set_at .., by rw [← eh, hv_set_ne (by omega)]; exact hv_set_at .., hp, by omega, by omega, by omega, ht⟩
  refine Ends.cx (c := 19) l1 (by decide +kernel) (c_formula l1 (by omega) F1 P1 D htl) (fun x h' ⟨e, _, w⟩ => w.c) rfl (fun h2 l2 _ _ _ ⟨X, N, p', er, FRR⟩ => ?_) (fun x h' _ _ ⟨e, er, w⟩ => ?_)
  · obtain ⟨r1, r2, r3, r4, r5, r6, r7, r8, r9⟩ := FRR
    refine Ends.eq (b188_24 (n := n) (by (repeat' first | assumption | refine LX.setF _ _ ?_ (by decide +kernel) | refine LX.setS ?_ rfl | refine LX.setA ?_ (by first | assumption | omega))) (by first | assumption | omega)) ?_
    exact Ends.sm (Or.inl ⟨_, rfl, X, N, p', er, G1.tr r1 (fun _ _ z => Or.inl z), r2, r8, r9⟩)
  · obtain ⟨h2, g2, w2⟩ := w
    exact Or.inr ⟨x, h', rfl, e, h2, er, G1.tr g2 (fun _ _ z => Or.inl z), w2⟩
end CHECK
