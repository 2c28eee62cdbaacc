/-! L3: the desk's askings of sketches: solve, freedom, conflict, profile -/
noncomputable section DASK
variable {gv : Nat → Int} {B n d s nk np nl nd : Nat} {h : AH} {c : Nat → Int} {cs : Nat → Cst} {w xa xb xc dr dw : Nat → Int} {isC gk lv dlv dgk : Nat → Bool} {fr to_ dc : Nat → Nat} {Inv : AH → Prop} {W : Nat → Nat → Prop} {x k kq wh : Int}
theorem v49_c (hc : ∀ z, z < 37368 → hv h (B + 2) z = c z) (n0 : 0 ≤ c 3 ∧ c 3 ≤ 6) : q49 B h x ∧ v49 B h x = if decide (0 ≤ x ∧ x < c 3) = true then 1 else 0 := by
  obtain ⟨a1, a2⟩ := cell_is (i := 3) hc (by decide)
  refine ⟨a1, ?_⟩
  unfold v49
  rw [show v447 B h 3 = c 3 from a2, in_is, sub32 (by omega) (by omega)]
  by_cases z : 0 ≤ x ∧ x < c 3
  · rw [if_pos (decide_eq_true (by omega)), if_pos (decide_eq_true z)]
  · rw [if_neg (fun w => z (by have := of_decide_eq_true w; omega)), if_neg (fun w => z (of_decide_eq_true w))]
theorem c_solve91 (l : LX B n h) (hd : 420 ≤ d) (H : DkH gv B n s nk np W c cs w xa xb xc dr isC gk Inv) (i0 : Inv h) (Kc : KpD B h s nk np isC gk cs w dr) (n0 : 0 ≤ c 3 ∧ c 3 ≤ 6) (hs3 : (s : Int) < c 3) :
    Vt 0 (cll PP (ev PP (gsF gv) B) d 91 [(2, rf (B + 0)), (0, (s : Int))] h) (fun x h' => Agr (wsD W B s) h h' ∧ Inv h' ∧ hv h' (B + 63) s = hv h' (B + 1) 8 ∧ hv h' (B + 64) s = x ∧ SolD B h' s nk np isC gk cs w dr x) := by
  refine Vt.inq (D := 419) hd (Nat.le_of_ble_eq_true rfl) rfl (fun d hd Q K => ?_)
  obtain ⟨a1, a2⟩ := v49_c (x := (s : Int)) (H.2.2.2.2 h i0) n0
  refine Ends.eq (b91_0 l (by omega)) (Ends.g a1 ?_)
  rw [a2]
  refine Ends.there l (by omega) rfl (fun _ => ?_) (fun z => absurd (show 0 ≤ (s : Int) ∧ (s : Int) < c 3 by omega) (of_decide_eq_false z))
  refine Ends.eq (b91_8 l (by omega)) ?_
  refine Ends.ct l (by decide +kernel) (by decide) (c_solved438 l (by omega) H i0 Kc) (fun x h1 l1 _ _ _ r => Ends.eq (b91_16 l1 (by omega)) (Ends.sm (K _ _ r)))
theorem c_solve91n (l : LX B n h) (hd : 20 ≤ d) (hc : ∀ z, z < 37368 → hv h (B + 2) z = c z) (n0 : 0 ≤ c 3 ∧ c 3 ≤ 6) (hx : ¬ (0 ≤ x ∧ x < c 3)) :
    Opx 0 (cll PP (ev PP (gsF gv) B) d 91 [(2, rf (B + 0)), (0, x)] h) (fun _ _ => False) (fun e q => q = h ∧ e = 31) := by
  refine Opx.inq (D := 19) hd (Nat.le_of_ble_eq_true rfl) rfl (fun d hd R K KE => ?_)
  obtain ⟨a1, a2⟩ := v49_c (x := x) hc n0
  refine Ends.eq (b91_0 l (by omega)) (Ends.g a1 ?_)
  rw [a2]
  exact Ends.there l (by omega) rfl (fun z => absurd (of_decide_eq_true z) hx) (fun _ => Ends.thn rfl (KE 31 h ⟨rfl, rfl⟩))
theorem c_freedom37 (l : LX B n h) (hd : 424 ≤ d) (H : DkH gv B n s nk np W c cs w xa xb xc dr isC gk Inv) (i0 : Inv h) (Kc : KpD B h s nk np isC gk cs w dr) (n0 : 0 ≤ c 3 ∧ c 3 ≤ 6) (hs3 : (s : Int) < c 3) :
    Vt 0 (cll PP (ev PP (gsF gv) B) d 37 [(2, rf (B + 0)), (0, (s : Int))] h) (fun x h' => Agr (wsD W B s) h h' ∧ Inv h' ∧ KpD B h' s nk np isC gk cs w dr ∧ x = fdS nk np isC gk cs w) := by
  refine Vt.inq (D := 423) hd (Nat.le_of_ble_eq_true rfl) rfl (fun d hd Q K => ?_)
  obtain ⟨a1, a2⟩ := v49_c (x := (s : Int)) (H.2.2.2.2 h i0) n0
  refine Ends.eq (b37_0 l (by omega)) (Ends.g a1 ?_)
  rw [a2]
  refine Ends.there l (by omega) rfl (fun _ => ?_) (fun z => absurd (show 0 ≤ (s : Int) ∧ (s : Int) < c 3 by omega) (of_decide_eq_false z))
  refine Ends.eq (b37_8 l (by omega)) ?_
  refine Ends.ct l (by decide +kernel) (by decide) (c_freedom404 l (by omega) H i0 Kc) (fun x h1 l1 _ _ _ r => Ends.eq (b37_16 l1 (by omega)) (Ends.sm (K _ _ r)))
theorem c_freedom37n (l : LX B n h) (hd : 20 ≤ d) (hc : ∀ z, z < 37368 → hv h (B + 2) z = c z) (n0 : 0 ≤ c 3 ∧ c 3 ≤ 6) (hx : ¬ (0 ≤ x ∧ x < c 3)) :
    Opx 0 (cll PP (ev PP (gsF gv) B) d 37 [(2, rf (B + 0)), (0, x)] h) (fun _ _ => False) (fun e q => q = h ∧ e = 31) := by
  refine Opx.inq (D := 19) hd (Nat.le_of_ble_eq_true rfl) rfl (fun d hd R K KE => ?_)
  obtain ⟨a1, a2⟩ := v49_c (x := x) hc n0
  refine Ends.eq (b37_0 l (by omega)) (Ends.g a1 ?_)
  rw [a2]
  exact Ends.there l (by omega) rfl (fun z => absurd (of_decide_eq_true z) hx) (fun _ => Ends.thn rfl (KE 31 h ⟨rfl, rfl⟩))
theorem c_conflict11 (l : LX B n h) (hd : 424 ≤ d) (H : DkH gv B n s nk np W c cs w xa xb xc dr isC gk Inv) (i0 : Inv h) (Kc : KpD B h s nk np isC gk cs w dr) (n0 : 0 ≤ c 3 ∧ c 3 ≤ 6) (hs3 : (s : Int) < c 3) (hk : k < 2147483648) :
    Vt 0 (cll PP (ev PP (gsF gv) B) d 11 [(2, rf (B + 0)), (0, (s : Int)), (0, k)] h) (fun x h' => Agr (fun c j => wsD W B s c j ∨ c = B + 68) h h' ∧ Inv h' ∧ KpD B h' s nk np isC gk cs w dr ∧ x = cfS nk np isC gk cs w k) := by
  refine Vt.inq (D := 423) hd (Nat.le_of_ble_eq_true rfl) rfl (fun d hd Q K => ?_)
  obtain ⟨a1, a2⟩ := v49_c (x := (s : Int)) (H.2.2.2.2 h i0) n0
  refine Ends.eq (b11_0 l (by omega)) (Ends.g a1 ?_)
  rw [a2]
  refine Ends.there l (by omega) rfl (fun _ => ?_) (fun z => absurd (show 0 ≤ (s : Int) ∧ (s : Int) < c 3 by omega) (of_decide_eq_false z))
  refine Ends.eq (b11_8 l (by omega)) ?_
  refine Ends.ct l (by decide +kernel) (by decide) (c_conflict392 l (by omega) H i0 Kc hk) (fun x h1 l1 _ _ _ r => Ends.eq (b11_17 l1 (by omega)) (Ends.sm (K _ _ r)))
theorem c_conflict11n (l : LX B n h) (hd : 20 ≤ d) (hc : ∀ z, z < 37368 → hv h (B + 2) z = c z) (n0 : 0 ≤ c 3 ∧ c 3 ≤ 6) (hx : ¬ (0 ≤ x ∧ x < c 3)) :
    Opx 0 (cll PP (ev PP (gsF gv) B) d 11 [(2, rf (B + 0)), (0, x), (0, k)] h) (fun _ _ => False) (fun e q => q = h ∧ e = 31) := by
  refine Opx.inq (D := 19) hd (Nat.le_of_ble_eq_true rfl) rfl (fun d hd R K KE => ?_)
  obtain ⟨a1, a2⟩ := v49_c (x := x) hc n0
  refine Ends.eq (b11_0 l (by omega)) (Ends.g a1 ?_)
  rw [a2]
  exact Ends.there l (by omega) rfl (fun z => absurd (of_decide_eq_true z) hx) (fun _ => Ends.thn rfl (KE 31 h ⟨rfl, rfl⟩))
theorem c_profile75 (l : LX B n h) (hd : 424 ≤ d) (H : DkH gv B n s nk np W c cs w xa xb xc dr isC gk Inv) (i0 : Inv h) (Kc : KpD B h s nk np isC gk cs w dr) (n0 : 0 ≤ c 3 ∧ c 3 ≤ 6) (hs3 : (s : Int) < c 3) (n64 : n ≤ 64) (hP : ∀ q q', Inv q → Agr (pfW B) q q' → Inv q') (hWp : ∀ c k, W c k → ¬ pfW B c k) (L : LnD c s np nl lv fr to_) (D : DcD c s np nd dlv dc) (HR : GvR gv B n s nd W dlv dgk dw Inv) :
    Vt 0 (cll PP (ev PP (gsF gv) B) d 75 [(2, rf (B + 0)), (0, (s : Int))] h) (fun x h' => Agr (fun c k => wsD W B s c k ∨ pfW B c k) h h' ∧ Inv h' ∧ KpD B h' s nk np isC gk cs w dr ∧ PrO n nk np cs w dr isC gk lv fr to_ nd dlv dc dgk dw x) := by
  refine Vt.inq (D := 423) hd (Nat.le_of_ble_eq_true rfl) rfl (fun d hd Q K => ?_)
  obtain ⟨a1, a2⟩ := v49_c (x := (s : Int)) (H.2.2.2.2 h i0) n0
  refine Ends.eq (b75_0 l (by omega)) (Ends.g a1 ?_)
  rw [a2]
  refine Ends.there l (by omega) rfl (fun _ => ?_) (fun z => absurd (show 0 ≤ (s : Int) ∧ (s : Int) < c 3 by omega) (of_decide_eq_false z))
  refine Ends.eq (b75_8 l (by omega)) ?_
  refine Ends.ct l (by decide +kernel) (by decide) (c_profile430 l n64 (by omega) H i0 Kc hP hWp L D HR) (fun x h1 l1 _ _ _ ⟨g, i1, k1, P⟩ => Ends.eq (b75_18 l1 (by omega)) (Ends.sm (K _ _ ⟨g, i1, k1, ?_⟩)))
  rcases P with a | ⟨a, X, t, sln, pr, -⟩
  · exact Or.inl a
  · exact Or.inr ⟨a, X, t, sln, pr⟩
theorem c_profile75n (l : LX B n h) (hd : 20 ≤ d) (hc : ∀ z, z < 37368 → hv h (B + 2) z = c z) (n0 : 0 ≤ c 3 ∧ c 3 ≤ 6) (hx : ¬ (0 ≤ x ∧ x < c 3)) :
    Opx 0 (cll PP (ev PP (gsF gv) B) d 75 [(2, rf (B + 0)), (0, x)] h) (fun _ _ => False) (fun e q => q = h ∧ e = 31) := by
  refine Opx.inq (D := 19) hd (Nat.le_of_ble_eq_true rfl) rfl (fun d hd R K KE => ?_)
  obtain ⟨a1, a2⟩ := v49_c (x := x) hc n0
  refine Ends.eq (b75_0 l (by omega)) (Ends.g a1 ?_)
  rw [a2]
  exact Ends.there l (by omega) rfl (fun z => absurd (of_decide_eq_true z) hx) (fun _ => Ends.thn rfl (KE 31 h ⟨rfl, rfl⟩))
theorem eq_is {a b : Int} : cond (tst 1 a b) (0 : Int) 1 = if decide (a = b) = true then 1 else 0 := by
  rw [ct1]
  by_cases z : a = b
  · rw [if_pos z, if_pos (decide_eq_true z)]
  · rw [if_neg z, if_neg (fun w => z (of_decide_eq_true w))]
/-- what the desk's asking for loops writes -/
def lpD (W : Nat → Nat → Prop) (B s : Nat) : Nat → Nat → Prop := fun c k => (wsD W B s c k ∨ pfW B c k) ∨ flW B c k
theorem fl_sk {c k : Nat} (z : flW B c k) : ¬ skD B c k ∧ c ≠ B + 1 := by unfold flW at z; unfold skD; omega
theorem SgD.fl {q t : AH} {U0 V0 U1 V1 : Nat → Int} (S : SgD B q lv U0 V0 U1 V1) (g : Agr (flW B) q t) : SgD B t lv U0 V0 U1 V1 := S.agr g (fun c k z => by unfold flW at z; omega)
/-- the lines' numbers -/
abbrev lnN4 (lv : Nat → Bool) (fr to_ : Nat → Nat) (ab : Nat → Int) : Nat := cntN (lsB lv (lU0 ab fr) (lV0 ab fr) (lU0 ab to_) (lV0 ab to_)) 24
set_option maxHeartbeats 1000000 in
theorem c_loops58 (l : LX B n h) (hd : 424 ≤ d) (n64 : n ≤ 64) (H : DkH gv B n s nk np W c cs w xa xb xc dr isC gk Inv) (i0 : Inv h) (Kc : KpD B h s nk np isC gk cs w dr) (n0 : 0 ≤ c 3 ∧ c 3 ≤ 6) (hs3 : (s : Int) < c 3) (hP : ∀ q q', Inv q → Agr (pfW B) q q' → Inv q') (hF : ∀ q q', Inv q → Agr (flW B) q q' → Inv q') (hWp : ∀ c k, W c k → ¬ pfW B c k) (L : LnD c s np nl lv fr to_) (D : DcD c s np nd dlv dc) (HR : GvR gv B n s nd W dlv dgk dw Inv) :
    Opx 0 (cll PP (ev PP (gsF gv) B) d 58 [(2, rf (B + 0)), (0, (s : Int))] h) (fun x h' => Agr (lpD W B s) h h' ∧ Inv h' ∧ KpD B h' s nk np isC gk cs w dr ∧ slS nk np isC gk cs w ≤ 1 ∧ ∃ X t, Sln (EqE nk isC cs w) (2 * np) dr X t ∧ PrR n false (fun j => mN (X j) t) (fun j => mD (X j) t) lv fr to_ nd dlv dc dgk dw 0 ∧ x = ((lnN4 lv fr to_ (fun j => mN (X j) t) : Nat) : Int)) (fun e q => e = 28 ∧ Agr (lpD W B s) h q ∧ Inv q ∧ KpD B q s nk np isC gk cs w dr ∧ ∃ p, p ≠ 0 ∧ PrO n nk np cs w dr isC gk lv fr to_ nd dlv dc dgk dw p) := by
  have hl24 : ∀ k, 24 ≤ k → lv k = false := fun k hk => L.1.2.2 k (Nat.le_trans L.1.2.1 hk)
  refine Opx.inq (D := 423) hd (Nat.le_of_ble_eq_true rfl) rfl (fun d hd Q K KE => ?_)
  obtain ⟨a1, a2⟩ := v49_c (x := (s : Int)) (H.2.2.2.2 h i0) n0
  refine Ends.eq (b58_0 l (by omega)) (Ends.g a1 ?_)
  rw [a2]
  refine Ends.there l (by omega) rfl (fun _ => ?_) (fun z => absurd (show 0 ≤ (s : Int) ∧ (s : Int) < c 3 by omega) (of_decide_eq_false z))
  refine Ends.eq (b58_8 l (by omega)) ?_
  refine Ends.ct l (by decide +kernel) (by decide) (c_profile430 l n64 (by omega) H i0 Kc hP hWp L D HR) (fun p h1 l1 _ _ _ ⟨g, i1, k1, P⟩ => ?_)
  have G1 : Agr (lpD W B s) h h1 := g.sub (fun _ _ z => Or.inl z)
  refine Ends.eq (b58_18 l1 (by omega)) ?_
  rw [eq_is]
  refine Ends.state l1 (by omega) rfl (fun p0 => ?_) (fun p0 => Ends.thn rfl (KE 28 h1 ⟨rfl, G1, i1, k1, p, of_decide_eq_false p0, ?_⟩))
  rotate_left
  · rcases P with a | ⟨a, X, t, sln, pr, -⟩
    · exact Or.inl a
    · exact Or.inr ⟨a, X, t, sln, pr⟩
  have p0' := of_decide_eq_true p0
  rcases P with ⟨-, a⟩ | ⟨a, X, t, sln, pr, pf⟩
  · omega
  rw [p0'] at pr
  have PF := pf p0'
  have gd := pr_gd n64 hl24 pr
  refine Ends.eq (b58_29 l1 (by omega)) ?_
  refine Ends.ct l1 (by decide +kernel) (by decide) (c_loops422 l1 (by omega) PF.1.1 gd.2.1) (fun x h2 l2 _ _ _ ⟨g2, lb, ex⟩ => ?_)
  refine Ends.eq (b58_36 l2 (by omega)) (Ends.sm (K _ _ ⟨G1.tr g2 (fun _ _ z => Or.inr z), hF _ _ i1 g2, k1.far H.1.2.2.1.2.1 g2 (fun _ _ z => fl_sk z), a, X, t, sln, pr, ex⟩))
set_option maxHeartbeats 1000000 in
theorem c_loop57 (l : LX B n h) (hd : 424 ≤ d) (n64 : n ≤ 64) (H : DkH gv B n s nk np W c cs w xa xb xc dr isC gk Inv) (i0 : Inv h) (Kc : KpD B h s nk np isC gk cs w dr) (n0 : 0 ≤ c 3 ∧ c 3 ≤ 6) (hs3 : (s : Int) < c 3) (hw : 0 ≤ wh ∧ wh ≤ 2) (hP : ∀ q q', Inv q → Agr (pfW B) q q' → Inv q') (hF : ∀ q q', Inv q → Agr (flW B) q q' → Inv q') (hWp : ∀ c k, W c k → ¬ pfW B c k) (L : LnD c s np nl lv fr to_) (D : DcD c s np nd dlv dc) (HR : GvR gv B n s nd W dlv dgk dw Inv) :
    Opx 0 (cll PP (ev PP (gsF gv) B) d 57 [(2, rf (B + 0)), (0, (s : Int)), (0, kq), (0, wh)] h) (fun x h' => Agr (lpD W B s) h h' ∧ Inv h' ∧ KpD B h' s nk np isC gk cs w dr ∧ slS nk np isC gk cs w ≤ 1 ∧ ∃ X t, Sln (EqE nk isC cs w) (2 * np) dr X t ∧ PrR n false (fun j => mN (X j) t) (fun j => mD (X j) t) lv fr to_ nd dlv dc dgk dw 0 ∧ LpR (fun j => mN (X j) t) lv fr to_ kq wh 0 x)
      (fun e q => Agr (lpD W B s) h q ∧ Inv q ∧ KpD B q s nk np isC gk cs w dr ∧ ((e = 28 ∧ ∃ p, p ≠ 0 ∧ PrO n nk np cs w dr isC gk lv fr to_ nd dlv dc dgk dw p) ∨ (e = 31 ∧ slS nk np isC gk cs w ≤ 1 ∧ ∃ X t, Sln (EqE nk isC cs w) (2 * np) dr X t ∧ PrR n false (fun j => mN (X j) t) (fun j => mD (X j) t) lv fr to_ nd dlv dc dgk dw 0 ∧ ¬ (0 ≤ kq ∧ kq < ((lnN4 lv fr to_ (fun j => mN (X j) t) : Nat) : Int))))) := by
  have hl24 : ∀ k, 24 ≤ k → lv k = false := fun k hk => L.1.2.2 k (Nat.le_trans L.1.2.1 hk)
  refine Opx.inq (D := 423) hd (Nat.le_of_ble_eq_true rfl) rfl (fun d hd Q K KE => ?_)
  obtain ⟨a1, a2⟩ := v49_c (x := (s : Int)) (H.2.2.2.2 h i0) n0
  refine Ends.eq (b57_0 l (by omega)) (Ends.g a1 ?_)
  rw [a2]
  refine Ends.there l (by omega) rfl (fun _ => ?_) (fun z => absurd (show 0 ≤ (s : Int) ∧ (s : Int) < c 3 by omega) (of_decide_eq_false z))
  refine Ends.eq (b57_8 l (by omega)) ?_
  rw [in_is]
  refine Ends.need l (by omega) rfl (fun _ => ?_) (fun z => absurd hw (of_decide_eq_false z))
  refine Ends.eq (b57_17 l (by omega)) ?_
  refine Ends.ct l (by decide +kernel) (by decide) (c_profile430 l n64 (by omega) H i0 Kc hP hWp L D HR) (fun p h1 l1 _ _ _ ⟨g, i1, k1, P⟩ => ?_)
  have G1 : Agr (lpD W B s) h h1 := g.sub (fun _ _ z => Or.inl z)
  refine Ends.eq (b57_27 l1 (by omega)) ?_
  rw [eq_is]
  refine Ends.state l1 (by omega) rfl (fun p0 => ?_) (fun p0 => Ends.thn rfl (KE 28 h1 ⟨G1, i1, k1, Or.inl ⟨rfl, p, of_decide_eq_false p0, ?_⟩⟩))
  rotate_left
  · rcases P with a | ⟨a, X, t, sln, pr, -⟩
    · exact Or.inl a
    · exact Or.inr ⟨a, X, t, sln, pr⟩
  have p0' := of_decide_eq_true p0
  rcases P with ⟨-, a⟩ | ⟨a, X, t, sln, pr, pf⟩
  · omega
  rw [p0'] at pr
  have PF := pf p0'
  have gd := pr_gd n64 hl24 pr
  refine Ends.eq (b57_38 l1 (by omega)) ?_
  refine Ends.ct l1 (by decide +kernel) (by decide) (c_loops422 l1 (by omega) PF.1.1 gd.2.1) (fun x h2 l2 _ _ _ ⟨g2, lb, ex⟩ => ?_)
  have G2 : Agr (lpD W B s) h h2 := G1.tr g2 (fun _ _ z => Or.inr z)
  have i2 := hF _ _ i1 g2
  have k2 := k1.far H.1.2.2.1.2.1 g2 (fun _ _ z => fl_sk z)
  refine Ends.eq (b57_47 l2 (by omega)) ?_
  rw [ex, in_is, show bop32 100 ((cntN (lsB lv (lU0 (fun j => mN (X j) t) fr) (lV0 (fun j => mN (X j) t) fr) (lU0 (fun j => mN (X j) t) to_) (lV0 (fun j => mN (X j) t) to_)) 24 : Nat) : Int) 1 = ((lnN4 lv fr to_ (fun j => mN (X j) t) : Nat) : Int) - 1 from sub32 (by have := cntN_le (lsB lv (lU0 (fun j => mN (X j) t) fr) (lV0 (fun j => mN (X j) t) fr) (lU0 (fun j => mN (X j) t) to_) (lV0 (fun j => mN (X j) t) to_)) 24; omega) (by have := cntN_le (lsB lv (lU0 (fun j => mN (X j) t) fr) (lV0 (fun j => mN (X j) t) fr) (lU0 (fun j => mN (X j) t) to_) (lV0 (fun j => mN (X j) t) to_)) 24; omega)]
  refine Ends.there l2 (by omega) rfl (fun r1 => ?_) (fun r1 => Ends.thn rfl (KE 31 h2 ⟨G2, i2, k2, Or.inr ⟨rfl, a, X, t, sln, pr, fun z => of_decide_eq_false r1 (by omega)⟩⟩))
  have r1' : 0 ≤ kq ∧ kq ≤ ((cntN (lsB lv (lU0 (fun j => mN (X j) t) fr) (lV0 (fun j => mN (X j) t) fr) (lU0 (fun j => mN (X j) t) to_) (lV0 (fun j => mN (X j) t) to_)) 24 : Nat) : Int) - 1 := of_decide_eq_true r1
  obtain ⟨l0, h0, q0, c0⟩ := cnt_at (S := lsB lv (lU0 (fun j => mN (X j) t) fr) (lV0 (fun j => mN (X j) t) fr) (lU0 (fun j => mN (X j) t) to_) (lV0 (fun j => mN (X j) t) to_)) 24 kq.toNat (by omega)
  have ek : kq = ((cntN (lsB lv (lU0 (fun j => mN (X j) t) fr) (lV0 (fun j => mN (X j) t) fr) (lU0 (fun j => mN (X j) t) to_) (lV0 (fun j => mN (X j) t) to_)) l0 : Nat) : Int) := by rw [c0]; omega
  refine Ends.eq (b57_55 l2 (by omega)) ?_
  rw [ek]
  refine Ends.ct l2 (by decide +kernel) (by decide) (c_loopOf421 l2 (by omega) (PF.1.1.fl g2) gd.2.1 gd.2.2.1 (fun k lk => ⟨⟨by rw [g2.at _ _ (by unfold flW; omega)]; exact (PF.1.2 k (gd.1 k lk).1 lk).2.1, by rw [g2.at _ _ (by unfold flW; omega)]; exact (PF.1.2 k (gd.1 k lk).1 lk).2.2.1⟩, (gd.1 k lk).2.1.1⟩) lb (lsB_t.mp q0)) (fun x h3 l3 _ _ _ ⟨e3, R⟩ => ?_)
  subst e3
  refine Ends.eq (b57_64 l3 (by omega)) (Ends.sm (K _ _ ⟨G2, i2, k2, a, X, t, sln, pr, Or.inr ⟨rfl, l0, lsB_t.mp q0, ek, R⟩⟩))
end DASK
