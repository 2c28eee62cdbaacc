/-! L3: loops asked of the model -/
noncomputable section LPM
variable {gv : Nat → Int} {B n d w1 q s np nl nd nk : Nat} {h : AH} {ab be dw : Nat → Int} {lv dlv dgk : Nat → Bool} {fr to_ dc : Nat → Nat} {cs : Nat → Cst} {w xa xb xc dr : Nat → Int} {isC gk : Nat → Bool} {Inv : AH → Prop} {wh kq : Int}
theorem pr_0 (P : PrR n false ab be lv fr to_ nd dlv dc dgk dw 0) : ¬ pA2 n ab be lv fr to_ nd dlv dc ∧ ¬ pA3 ab lv fr to_ ∧ ¬ pA4 n nd dlv dgk dw ∧ ¬ pA5 ab lv fr to_ ∧ ¬ pA6 ab lv fr to_ := by
  rcases P with ⟨-, a⟩ | ⟨n2, ⟨-, a⟩ | ⟨n3, ⟨a, -⟩ | ⟨-, ⟨-, a⟩ | ⟨n4, ⟨-, a⟩ | ⟨n5, ⟨-, a⟩ | ⟨n6, -⟩⟩⟩⟩⟩⟩
  · exact absurd a (by decide)
  · exact absurd a (by decide)
  · cases a
  · exact absurd a (by decide)
  · exact absurd a (by decide)
  · exact absurd a (by decide)
  · exact ⟨n2, n3, n4, n5, n6⟩
/-- good lines -/
def GdL (n : Nat) (lv : Nat → Bool) (U0 V0 U1 V1 DU DV SZ : Nat → Int) : Prop := (∀ k, lv k = true → k < 24 ∧ SgK n U0 V0 U1 V1 DU DV SZ k) ∧ GrP lv U0 V0 U1 V1 ∧ BdL lv U0 V0 U1 V1 ∧ ∀ f k, lv f = true → lv k = true → f ≠ k → ¬ MtSk U0 V0 DU DV SZ f k
theorem pr_gd (n64 : n ≤ 64) (hl : ∀ k, 24 ≤ k → lv k = false) (P : PrR n false ab be lv fr to_ nd dlv dc dgk dw 0) : GdL n lv (lU0 ab fr) (lV0 ab fr) (lU0 ab to_) (lV0 ab to_) (lDU ab fr to_) (lDV ab fr to_) (lSZ ab fr to_) := by
  obtain ⟨n2, n3, n4, n5, n6⟩ := pr_0 P
  have k24 : ∀ k, lv k = true → k < 24 := fun k lk => by
    rcases (by omega : k < 24 ∨ 24 ≤ k) with z | z
    · exact z
    · rw [hl k z] at lk; cases lk
  have sg : ∀ k, lv k = true → SgK n (lU0 ab fr) (lV0 ab fr) (lU0 ab to_) (lV0 ab to_) (lDU ab fr to_) (lDV ab fr to_) (lSZ ab fr to_) k := fun k lk => by
    have w : (whB n ab be (fr k) && whB n ab be (to_ k)) = true := by
      cases z : (whB n ab be (fr k) && whB n ab be (to_ k))
      · exact absurd (Or.inl ⟨k, k24 k lk, lk, z⟩) n2
      · rfl
    rw [Bool.and_eq_true] at w
    exact seg_k w.1 w.2 (fun z => n3 ⟨k, k24 k lk, lk, z⟩)
  refine ⟨fun k lk => ⟨k24 k lk, sg k lk⟩, fun k lk => ⟨⟨k24 k lk, fun z => ?_⟩, ?_⟩, fun k lk => ?_, fun f k lf lk ne m => ?_⟩
  · obtain ⟨⟨⟨h1, h2, h3⟩, hs⟩, ⟨e1, e2⟩, -⟩ := sg k lk
    rcases h1 with h1 | h1 | h1 <;> rcases h2 with h2 | h2 | h2 <;> rw [h1] at e1 <;> rw [h2] at e2 <;> first | omega | exact h3 ⟨h1, h2⟩
  · refine Classical.byContradiction (fun z => n5 ⟨k, k24 k lk, lk, z⟩)
  · obtain ⟨-, -, a, b, c, e, -⟩ := sg k lk
    unfold in64
    omega
  · rcases (by omega : f < k ∨ k < f) with z | z
    · exact n6 ⟨f, k, z, k24 k lk, lf, lk, m⟩
    · exact n6 ⟨k, f, z, k24 f lf, lk, lf, m.sym⟩
/-- the profile's number alone -/
def PrO (n nk np : Nat) (cs : Nat → Cst) (w dr : Nat → Int) (isC gk lv : Nat → Bool) (fr to_ : Nat → Nat) (nd : Nat) (dlv : Nat → Bool) (dc : Nat → Nat) (dgk : Nat → Bool) (dw : Nat → Int) (x : Int) : Prop := (1 < slS nk np isC gk cs w ∧ x = 1) ∨ (slS nk np isC gk cs w ≤ 1 ∧ ∃ X t, Sln (EqE nk isC cs w) (2 * np) dr X t ∧ PrR n false (fun j => mN (X j) t) (fun j => mD (X j) t) lv fr to_ nd dlv dc dgk dw x)
def lpF (B : Nat) : Nat → Nat → Prop := fun c k => ppF B c k ∨ c = B + 176
theorem pp_pq {c k : Nat} (z : c = B + 149 ∧ k = 0) : ¬ pqW B c k := by unfold pqW; omega
/-- behind the profile: the loops of a good one -/
theorem c_mlGood {X : Nat → Int} {t : Int} (l : LX B n h) (hd : 10 ≤ d) (P : PfM B n h (fun j => mN (X j) t) lv fr to_ nd dlv dc dw) (hl : ∀ k, lv k = true → k < 24) :
    Vt 0 (cll PP (ev PP (gsF gv) B) d 742 [(2, rf (B + 149))] h) (fun x h' => Agr (fun c _ => c = B + 176) h h' ∧ LbM B h' lv (lU0 (fun j => mN (X j) t) fr) (lV0 (fun j => mN (X j) t) fr) (lU0 (fun j => mN (X j) t) to_) (lV0 (fun j => mN (X j) t) to_) ∧ x = ((cntN (lsB lv (lU0 (fun j => mN (X j) t) fr) (lV0 (fun j => mN (X j) t) fr) (lU0 (fun j => mN (X j) t) to_) (lV0 (fun j => mN (X j) t) to_)) 24 : Nat) : Int)) := c_makeLoops742 l hd P.1.1 hl
theorem c_loops734 (l : LX B n h) (n64 : n ≤ 64) (hd : 998 ≤ d) (M : MdC B q s w1 h) (H : MdH gv B n w1 nk np h cs w xa xb xc dr isC gk Inv) (i0 : Inv h) (hP : ∀ q q', Inv q → Agr (pqW B) q q' → Inv q') (hL : ∀ q q', Inv q → Agr (fun c _ => c = B + 176) q q' → Inv q') (L : LinM h w1 np nl lv fr to_) (D : DcM h w1 np nd dlv dc) (HR : GvN gv B n w1 nd h dlv dgk dw Inv) :
    Vt 0 (cll PP (ev PP (gsF gv) B) d 734 [(2, rf (B + 149)), (0, (s : Int))] h) (fun x h' => Agr (lpF B) h h' ∧ Inv h' ∧ ((∃ p, p ≠ 0 ∧ PrO n nk np cs w dr isC gk lv fr to_ nd dlv dc dgk dw p ∧ hv h' (B + 149) 0 = 2 ∧ x = 0) ∨ (slS nk np isC gk cs w ≤ 1 ∧ ∃ X t, Sln (EqE nk isC cs w) (2 * np) dr X t ∧ PrR n false (fun j => mN (X j) t) (fun j => mD (X j) t) lv fr to_ nd dlv dc dgk dw 0 ∧ hv h' (B + 149) 0 = 0 ∧ x = ((cntN (lsB lv (lU0 (fun j => mN (X j) t) fr) (lV0 (fun j => mN (X j) t) fr) (lU0 (fun j => mN (X j) t) to_) (lV0 (fun j => mN (X j) t) to_)) 24 : Nat) : Int)))) := by
  obtain ⟨hq, Dq, e1, hs, e7⟩ := id M
  have hl : ∀ k, lv k = true → k < 24 := fun k lk => by
    have := L.1.2.1
    rcases (by omega : k < nl ∨ nl ≤ k) with z | z
    · omega
    · rw [L.1.2.2 k z] at lk; cases lk
  refine Vt.inq (D := 997) hd (Nat.le_of_ble_eq_true rfl) rfl (fun d hd Q K => ?_)
  refine Ends.eq (b734_0 l (by omega) hq Dq) ?_
  rw [e7]
  refine Ends.b0 (fun _ => Ends.g ⟨by omega, by omega⟩ ?_) (fun z => absurd rfl z)
  rw [tn, ← e1]
  refine Ends.ct l (by decide +kernel) (by decide) (c_profileOf785 l n64 (by omega) H i0 hP L D HR) (fun y q1 l1 _ _ _ ⟨g1, i1, P⟩ => ?_)
  have nx : ∀ (x : Int) (q2 : AH), q2 = hset q1 (B + 149) 0 x → Agr (lpF B) h q2 ∧ Inv q2 ∧ hv q2 (B + 149) 0 = x := fun x q2 e => by
    have g2 : Agr (fun c k => c = B + 149 ∧ k = 0) q1 q2 := by rw [e]; exact Agr.rf.set ⟨rfl, rfl⟩
    exact ⟨(g1.sub (fun _ _ z => Or.inl (Or.inl z))).tr g2 (fun _ _ z => Or.inl (Or.inr z)), H.2.1.2 _ _ i1 g2, by rw [e]; exact hv_set_at _ _ _ _⟩
  refine Ends.eq (b734_26 l1 (by omega)) (Ends.eq (b734_34 l1 (by omega)) ?_)
  rw [ct0]
  by_cases y0 : y = 0
  · rw [if_pos y0]
    refine Ends.ct l1 (by decide +kernel) (by decide) (c_fails l1 (by omega)) (fun x q2 l2 _ _ _ ⟨ex, eq2_⟩ => ?_)
    obtain ⟨g2, i2, z2⟩ := nx 0 q2 eq2_
    rw [ex, if_neg (Int.lt_irrefl 0)]
    refine Ends.eq (b734_37 l2 (by omega)) (Ends.b0 (fun _ => ?_) (fun z => absurd rfl z))
    rcases P with ⟨-, a⟩ | ⟨a, X, t, sln, pr, -, pm⟩
    · omega
    rw [y0] at pr
    have pm2 : PfM B n q2 (fun j => mN (X j) t) lv fr to_ nd dlv dc dw := (pm y0).agr (W := fun c k => c = B + 149 ∧ k = 0) (by rw [eq2_]; exact Agr.rf.set ⟨rfl, rfl⟩) (fun c k z => pp_pq z)
    refine Ends.ct l2 (by decide +kernel) (by decide) (c_mlGood l2 (by omega) pm2 hl) (fun x q3 l3 _ _ _ ⟨g3, _, ex3⟩ => ?_)
    refine Ends.eq (b734_46 l3 (by omega)) (Ends.sm (K _ _ ⟨g2.tr g3 (fun _ _ z => Or.inr z), hL _ _ i2 g3, Or.inr ⟨a, X, t, sln, pr, ?_, ex3⟩⟩))
    rw [g3.at _ _ (by omega)]; exact z2
  · rw [if_neg y0]
    refine Ends.ct l1 (by decide +kernel) (by decide) (c_fails l1 (by omega)) (fun x q2 l2 _ _ _ ⟨ex, eq2_⟩ => ?_)
    obtain ⟨g2, i2, z2⟩ := nx 2 q2 eq2_
    rw [ex, if_pos (by decide)]
    refine Ends.eq (b734_37 l2 (by omega)) (Ends.b0 (fun z => absurd z (by decide)) (fun _ => Ends.sm (K _ _ ⟨g2, i2, Or.inl ⟨y, y0, ?_, z2, rfl⟩⟩)))
    rcases P with a | ⟨a, X, t, sln, pr, -, -⟩
    · exact Or.inl a
    · exact Or.inr ⟨a, X, t, sln, pr⟩
/-- what a loop of a good profile comes to -/
def LpR (ab : Nat → Int) (lv : Nat → Bool) (fr to_ : Nat → Nat) (kq wh : Int) (e x : Int) : Prop := (¬ (0 ≤ kq ∧ kq < ((cntN (lsB lv (lU0 ab fr) (lV0 ab fr) (lU0 ab to_) (lV0 ab to_)) 24 : Nat) : Int)) ∧ e = 1 ∧ x = 0) ∨ (e = 0 ∧ ∃ l0, lstP lv (lU0 ab fr) (lV0 ab fr) (lU0 ab to_) (lV0 ab to_) l0 ∧ kq = ((cntN (lsB lv (lU0 ab fr) (lV0 ab fr) (lU0 ab to_) (lV0 ab to_)) l0 : Nat) : Int) ∧ LoR lv (lU0 ab fr) (lV0 ab fr) (lU0 ab to_) (lV0 ab to_) (lDU ab fr to_) (lDV ab fr to_) l0 wh x)
theorem c_loop733 (l : LX B n h) (n64 : n ≤ 64) (hd : 998 ≤ d) (M : MdC B q s w1 h) (H : MdH gv B n w1 nk np h cs w xa xb xc dr isC gk Inv) (i0 : Inv h) (hP : ∀ q q', Inv q → Agr (pqW B) q q' → Inv q') (hL : ∀ q q', Inv q → Agr (fun c _ => c = B + 176) q q' → Inv q') (L : LinM h w1 np nl lv fr to_) (D : DcM h w1 np nd dlv dc) (HR : GvN gv B n w1 nd h dlv dgk dw Inv) (hw : 0 ≤ wh ∧ wh ≤ 2) :
    Vt 0 (cll PP (ev PP (gsF gv) B) d 733 [(2, rf (B + 149)), (0, (s : Int)), (0, kq), (0, wh)] h) (fun x h' => Agr (lpF B) h h' ∧ Inv h' ∧ ((∃ p, p ≠ 0 ∧ PrO n nk np cs w dr isC gk lv fr to_ nd dlv dc dgk dw p ∧ hv h' (B + 149) 0 = 3 ∧ x = 0) ∨ (slS nk np isC gk cs w ≤ 1 ∧ ∃ X t, Sln (EqE nk isC cs w) (2 * np) dr X t ∧ PrR n false (fun j => mN (X j) t) (fun j => mD (X j) t) lv fr to_ nd dlv dc dgk dw 0 ∧ LpR (fun j => mN (X j) t) lv fr to_ kq wh (hv h' (B + 149) 0) x))) := by
  obtain ⟨hq, Dq, e1, hs, e7⟩ := id M
  have hl24 : ∀ k, 24 ≤ k → lv k = false := fun k hk => L.1.2.2 k (Nat.le_trans L.1.2.1 hk)
  refine Vt.inq (D := 997) hd (Nat.le_of_ble_eq_true rfl) rfl (fun d hd Q K => ?_)
  refine Ends.eq (b733_0 l (by omega) hq Dq) ?_
  rw [e7]
  refine Ends.b0 (fun _ => Ends.b2 (fun z => absurd z (by omega)) (fun _ => Ends.b5 (fun _ => Ends.g ⟨by omega, by omega⟩ ?_) (fun z => absurd z (by omega)))) (fun z => absurd rfl z)
  rw [tn, ← e1]
  refine Ends.ct l (by decide +kernel) (by decide) (c_profileOf785 l n64 (by omega) H i0 hP L D HR) (fun y q1 l1 _ _ _ ⟨g1, i1, P⟩ => ?_)
  have nx : ∀ (q0 : AH) (x : Int) (q2 : AH), Agr (lpF B) h q0 → Inv q0 → q2 = hset q0 (B + 149) 0 x → Agr (lpF B) h q2 ∧ Inv q2 ∧ hv q2 (B + 149) 0 = x := fun q0 x q2 g0 i0 e => by
    have g2 : Agr (fun c k => c = B + 149 ∧ k = 0) q0 q2 := by rw [e]; exact Agr.rf.set ⟨rfl, rfl⟩
    exact ⟨g0.tr g2 (fun _ _ z => Or.inl (Or.inr z)), H.2.1.2 _ _ i0 g2, by rw [e]; exact hv_set_at _ _ _ _⟩
  have G1 : Agr (lpF B) h q1 := g1.sub (fun _ _ z => Or.inl (Or.inl z))
  refine Ends.eq (b733_39 l1 (by omega)) (Ends.eq (b733_47 l1 (by omega)) ?_)
  rw [ct0]
  by_cases y0 : y = 0
  · rw [if_pos y0]
    refine Ends.ct l1 (by decide +kernel) (by decide) (c_fails l1 (by omega)) (fun x q2 l2 _ _ _ ⟨ex, eq2_⟩ => ?_)
    obtain ⟨g2, i2, z2⟩ := nx q1 0 q2 G1 i1 eq2_
    rw [ex, if_neg (Int.lt_irrefl 0)]
    refine Ends.eq (b733_50 l2 (by omega)) (Ends.b0 (fun _ => ?_) (fun z => absurd rfl z))
    rcases P with ⟨-, a⟩ | ⟨a, X, t, sln, pr, -, pm⟩
    · omega
    rw [y0] at pr
    have gd := pr_gd n64 hl24 pr
    have pm2 : PfM B n q2 (fun j => mN (X j) t) lv fr to_ nd dlv dc dw := (pm y0).agr (W := fun c k => c = B + 149 ∧ k = 0) (by rw [eq2_]; exact Agr.rf.set ⟨rfl, rfl⟩) (fun c k z => pp_pq z)
    refine Ends.ct l2 (by decide +kernel) (by decide) (c_mlGood l2 (by omega) pm2 (fun k lk => (gd.1 k lk).1)) (fun x q3 l3 _ _ _ ⟨g3, lb3, ex3⟩ => ?_)
    have G3 := g2.tr g3 (fun _ _ z => Or.inr z)
    have i3 := hL _ _ i2 g3
    refine Ends.eq (b733_59 l3 (by omega)) ?_
    rw [ct2, ct2, ex3]
    obtain ⟨N, eN⟩ : ∃ N, N = cntN (lsB lv (lU0 (fun j => mN (X j) t) fr) (lV0 (fun j => mN (X j) t) fr) (lU0 (fun j => mN (X j) t) to_) (lV0 (fun j => mN (X j) t) to_)) 24 := ⟨_, rfl⟩
    rw [← eN]
    have bad : ¬ (0 ≤ kq ∧ kq < (N : Int)) → ∀ u5 u6 u7 u8 : AV, Ends (aft PP 733 77 80 [(2, rf (B + 149)), (0, (s : Int)), (0, kq), (0, wh), (0, (N : Int)), u5, u6, u7, u8] [] (ev PP (gsF gv) B d 733) (cll PP (ev PP (gsF gv) B) d 622 [(2, rf (B + 149)), (0, 1)] q3)) Q := fun z u5 u6 u7 u8 => by
      refine Ends.ct l3 (by decide +kernel) (by decide) (c_fails l3 (by omega)) (fun x q4 l4 _ _ _ ⟨ex, eq4_⟩ => ?_)
      obtain ⟨g4, i4, z4⟩ := nx q3 1 q4 G3 i3 eq4_
      rw [ex, if_pos (by decide)]
      refine Ends.eq (b733_80 l4 (by omega)) (Ends.b0 (fun z => absurd z (by decide)) (fun _ => Ends.sm (K _ _ ⟨g4, i4, Or.inr ⟨a, X, t, sln, pr, Or.inl ⟨by rw [← eN]; exact z, z4, rfl⟩⟩⟩)))
    by_cases k0 : kq < 0
    · rw [if_pos k0]; exact bad (by omega) _ _ _ _
    rw [if_neg k0]
    by_cases k1 : kq < (N : Int)
    · rw [if_pos k1]
      obtain ⟨l0, h0, p0, c0⟩ := cnt_at (S := lsB lv (lU0 (fun j => mN (X j) t) fr) (lV0 (fun j => mN (X j) t) fr) (lU0 (fun j => mN (X j) t) to_) (lV0 (fun j => mN (X j) t) to_)) 24 kq.toNat (by rw [← eN]; omega)
      have ek : kq = ((cntN (lsB lv (lU0 (fun j => mN (X j) t) fr) (lV0 (fun j => mN (X j) t) fr) (lU0 (fun j => mN (X j) t) to_) (lV0 (fun j => mN (X j) t) to_)) l0 : Nat) : Int) := by rw [c0]; omega
      refine Ends.ct l3 (by decide +kernel) (by decide) (c_fails l3 (by omega)) (fun x q4 l4 _ _ _ ⟨ex, eq4_⟩ => ?_)
      obtain ⟨g4, i4, z4⟩ := nx q3 0 q4 G3 i3 eq4_
      rw [ex, if_neg (Int.lt_irrefl 0)]
      refine Ends.eq (b733_80 l4 (by omega)) (Ends.b0 (fun _ => ?_) (fun z => absurd rfl z))
      have pm3 : PfM B n q3 (fun j => mN (X j) t) lv fr to_ nd dlv dc dw := pm2.agr g3 (fun c k z => by unfold pqW; omega)
      have pm4 : PfM B n q4 (fun j => mN (X j) t) lv fr to_ nd dlv dc dw := pm3.agr (W := fun c k => c = B + 149 ∧ k = 0) (by rw [eq4_]; exact Agr.rf.set ⟨rfl, rfl⟩) (fun c k z => pp_pq z)
      have lb4 : LbM B q4 lv (lU0 (fun j => mN (X j) t) fr) (lV0 (fun j => mN (X j) t) fr) (lU0 (fun j => mN (X j) t) to_) (lV0 (fun j => mN (X j) t) to_) := fun m lm l' pl' cl' => by
        rw [eq4_, hv_set_ne (by omega)]; exact lb3 m lm l' pl' cl'
      have T := fun u8 => c_loopTail (gv := gv) (d := d) (s := (s : Int)) (w := wh) (x4 := (N : Int)) (l0 := l0) (Q := Q) l4 n64 (by omega) pm4.1.1 (fun k lk => (gd.1 k lk).2) gd.2.1 gd.2.2.1 gd.2.2.2 lb4 (lsB_t.mp p0) hw (fun x hx => K _ _ ⟨g4, i4, Or.inr ⟨a, X, t, sln, pr, Or.inr ⟨z4, l0, lsB_t.mp p0, ek, hx⟩⟩⟩) u8
      rw [← ek] at T
      exact T _
    · rw [if_neg k1]; exact bad (by omega) _ _ _ _
  · rw [if_neg y0]
    refine Ends.ct l1 (by decide +kernel) (by decide) (c_fails l1 (by omega)) (fun x q2 l2 _ _ _ ⟨ex, eq2_⟩ => ?_)
    obtain ⟨g2, i2, z2⟩ := nx q1 3 q2 G1 i1 eq2_
    rw [ex, if_pos (by decide)]
    refine Ends.eq (b733_50 l2 (by omega)) (Ends.b0 (fun z => absurd z (by decide)) (fun _ => Ends.sm (K _ _ ⟨g2, i2, Or.inl ⟨y, y0, ?_, z2, rfl⟩⟩)))
    rcases P with a | ⟨a, X, t, sln, pr, -, -⟩
    · exact Or.inl a
    · exact Or.inr ⟨a, X, t, sln, pr⟩
end LPM
