/-! L3: the model's leadsBack; reading a whole text -/
section LEADS2
variable {gv : Nat → Int} {B n d q nv nc : Nat} {h : AH} {c : Nat → Int}
theorem efW_tof {tl tof : Nat} : efW c tl tof 4 tof = tof := by unfold efW; rw [if_pos (Or.inr (Or.inl rfl))]
theorem c_leadsBack {tl tof : Nat} (I : RI gv B n c q nv nc tl tof h) (W : DW c nv nc) (hd : 262 ≤ d) {y : Nat} (hy : y < nv) (htl : tl < nv) (htof : tof < nc) :
    Vt 0 (cll PP (ev PP (gsF gv) B) d 728 [(2, rf (B + 149)), (0, (y : Int))] h) (fun x h' => x = b2i (bkF c nv nc tl tof y) ∧ Agr (LW B) h h') := by
  have hn : nv ≤ 40 := W.2.1
  have hnc := W.2.2.2.2.1
  have I0 := I
  obtain ⟨l, hq, D, hx, V, h13, h14⟩ := I
  have lo := D.lo
  refine Vt.into (D := 261) hd (Nat.le_of_ble_eq_true rfl) rfl (fun d hd => ?_)
  refine Ends.eq (b728_0 (n := n) (by (repeat' first | assumption | refine LX.setF _ _ ?_ (by decide +kernel) | refine LX.setS ?_ rfl | refine LX.setA ?_ (by first | assumption | omega))) (by first | assumption | omega)) ?_
  have yes : ∀ k, k < nc → efW c tl tof 4 k = tof → Nee c nv k tl y → (1 : Int) = b2i (bkF c nv nc tl tof y) := fun k h1 h2 h3 => by
    have : bkF c nv nc tl tof y = true := by unfold bkF; exact @decide_eq_true _ (Classical.propDecidable _) (Or.inr ⟨k, h1, h2, h3⟩)
    rw [this]; rfl
  have key : ∀ (r k : Nat) (t : AH) (u3 u4 : AV), k + r = nc → LX B n t → Agr (LW B) h t → (∀ k', k' < k → ¬ (efW c tl tof 4 k' = tof ∧ Nee c nv k' tl y)) → Ends (ev PP (gsF gv) B d 728 2 [(2, rf (B + 149)), (0, (y : Int)), (0, (k : Int)), u3, u4] [] t) (fun r => ∃ x h', r = ((0, (0, x)), h') ∧ x = b2i (bkF c nv nc tl tof y) ∧ Agr (LW B) h h') := by
    intro r
    induction r with
    | zero =>
      intro k t u3 u4 hk lt gt hno
      obtain ⟨_, hq, D, _, V', _, _⟩ := I0.lw lt gt hn
      refine Ends.eq (b728_2 (n := n) (by (repeat' first | assumption | refine LX.setF _ _ ?_ (by decide +kernel) | refine LX.setS ?_ rfl | refine LX.setA ?_ (by first | assumption | omega))) (by first | assumption | omega) (by first | assumption | omega) (by first | assumption | omega)) ?_
      rw [V'.1.2.1]
      refine Ends.b3 (fun _ => Ends.sm ⟨_, _, rfl, ?_, gt⟩) (fun z => by omega)
      have : bkF c nv nc tl tof y = false := by
        unfold bkF
        refine @decide_eq_false _ (Classical.propDecidable _) ?_
        rintro (e | ⟨k', k1, k2, k3⟩)
        · exact hno tof (by omega) ⟨efW_tof, fun S hS _ => by rw [← e]; exact hS⟩
        · exact hno k' (by omega) ⟨k2, k3⟩
      rw [this]; rfl
    | succ r ih =>
      intro k t u3 u4 hk lt gt hno
      have It := I0.lw lt gt hn
      obtain ⟨_, hq, D, hxt, V', t13, t14⟩ := It
      refine Ends.eq (b728_2 (n := n) (by (repeat' first | assumption | refine LX.setF _ _ ?_ (by decide +kernel) | refine LX.setS ?_ rfl | refine LX.setA ?_ (by first | assumption | omega))) (by first | assumption | omega) (by first | assumption | omega) (by first | assumption | omega)) ?_
      rw [V'.1.2.1]
      refine Ends.b3 (fun z => by omega) (fun _ => ?_)
      have k15 : ∀ (g o : Nat) (Z : Rs → Prop), o ≤ g → o < nc → Ends (ev PP (gsF gv) B d 728 60 [(2, rf (B + 149)), (0, (y : Int)), (0, (k : Int)), (0, ((efW c tl tof g o : Nat) : Int)), u4] [] t) Z → Ends (ev PP (gsF gv) B d 728 15 [(2, rf (B + 149)), (0, (y : Int)), (0, (k : Int)), (0, (o : Int)), u4] [] t) Z := by
        intro g
        induction g with
        | zero =>
          intro o Z h1 h2 K
          obtain rfl : o = 0 := by omega
          refine Ends.eq (b728_15 (n := n) (by (repeat' first | assumption | refine LX.setF _ _ ?_ (by decide +kernel) | refine LX.setS ?_ rfl | refine LX.setA ?_ (by first | assumption | omega))) (by first | assumption | omega) (by first | assumption | omega) (by first | assumption | omega)) ?_
          exact Ends.b5 (fun _ => K) (fun z => by omega)
        | succ g ihg =>
          intro o Z h1 h2 K
          unfold efW at K
          refine Ends.eq (b728_15 (n := n) (by (repeat' first | assumption | refine LX.setF _ _ ?_ (by decide +kernel) | refine LX.setS ?_ rfl | refine LX.setA ?_ (by first | assumption | omega))) (by first | assumption | omega) (by first | assumption | omega) (by first | assumption | omega)) ?_
          rw [t14, t13]
          by_cases o0 : o = 0
          · rw [if_pos (Or.inl o0)] at K
            exact Ends.b5 (fun _ => K) (fun z => by omega)
          refine Ends.b5 (fun z => by omega) (fun _ => ?_)
          by_cases ot : o = tof
          · rw [if_pos (Or.inr (Or.inl ot))] at K
            exact Ends.b0 (fun _ => K) (fun z => by omega)
          refine Ends.b0 (fun z => by omega) (fun _ => ?_)
          rw [show bop32 96 (bop32 104 40 (o : Int)) (tl : Int) = ((40 * o + tl : Nat) : Int) from by rw [show bop32 104 40 (o : Int) = ((40 * o : Nat) : Int) from mulNN (x := 40) (by omega)]; exact addNN (by omega), tn, tn]
          refine Ends.g ⟨by omega, by omega⟩ ?_
          rcases V'.2.2.2.1 tl o htl (by omega) with ⟨e1, e2⟩ | ⟨e1, X, N, p', r1, r2, r3⟩
          · rw [e2]
            obtain ⟨j, j1, j2⟩ := W.2.2.2.2.2.1 o (by omega) h2
            rw [if_neg (fun z => z.elim o0 (fun y => y.elim ot (fun w => w e1))), j1, tn] at K
            refine Ends.b0 (fun _ => Ends.g ⟨by omega, by omega⟩ ?_) (fun z => absurd rfl z)
            rw [V'.2.2.1 o (by omega) h2, j1]
            exact ihg j Z (by omega) (by omega) K
          · have := r2.pos
            rw [if_pos (Or.inr (Or.inr e1))] at K
            exact Ends.b0 (fun z => by omega) (fun _ => K)
      refine k15 4 k _ (by omega) (by omega) ?_
      refine Ends.eq (b728_60 (n := n) (by (repeat' first | assumption | refine LX.setF _ _ ?_ (by decide +kernel) | refine LX.setS ?_ rfl | refine LX.setA ?_ (by first | assumption | omega))) (by first | assumption | omega)) ?_
      have k103 : ∀ (t' : AH) (u3 u4 : AV), LX B n t' → Agr (LW B) h t' → ¬ (efW c tl tof 4 k = tof ∧ Nee c nv k tl y) → Ends (ev PP (gsF gv) B d 728 103 [(2, rf (B + 149)), (0, (y : Int)), (0, (k : Int)), (0, ((efW c tl tof 4 k : Nat) : Int)), (0, (40 : Int))] [] t') (fun r => ∃ x h', r = ((0, (0, x)), h') ∧ x = b2i (bkF c nv nc tl tof y) ∧ Agr (LW B) h h') := fun t' u3 u4 lt' gt' hne => by
        refine Ends.eq (b728_103 (n := n) (by (repeat' first | assumption | refine LX.setF _ _ ?_ (by decide +kernel) | refine LX.setS ?_ rfl | refine LX.setA ?_ (by first | assumption | omega))) (by first | assumption | omega)) ?_
        rw [w_succ (by omega)]
        refine ih (k + 1) t' _ _ (by omega) lt' gt' (fun k' hk' => ?_)
        by_cases e : k' = k
        · rw [e]; exact hne
        · exact hno k' (by omega)
      have k63 : ∀ (j i : Nat) (t' : AH), i + j = 40 → LX B n t' → Agr (LW B) h t' → (∀ w, w < i → hv t' (B + 152) w = 0) → Ends (ev PP (gsF gv) B d 728 63 [(2, rf (B + 149)), (0, (y : Int)), (0, (k : Int)), (0, ((efW c tl tof 4 k : Nat) : Int)), (0, (i : Int))] [] t') (fun r => ∃ x h', r = ((0, (0, x)), h') ∧ x = b2i (bkF c nv nc tl tof y) ∧ Agr (LW B) h h') := by
        intro j
        induction j with
        | zero =>
          intro i t' hi lt' gt' hz
          obtain rfl : i = 40 := by omega
          have It := I0.lw lt' gt' hn
          have It0 := It
          obtain ⟨_, hq', D', _, V2, s13, s14⟩ := It
          refine Ends.eq (b728_63 (n := n) (by (repeat' first | assumption | refine LX.setF _ _ ?_ (by decide +kernel) | refine LX.setS ?_ rfl | refine LX.setA ?_ (by first | assumption | omega))) (by first | assumption | omega)) ?_
          rw [s14]
          refine Ends.b3 (fun _ => Ends.b1 (fun ne => k103 t' u3 u4 lt' gt' (fun w => ne (by rw [w.1]))) (fun eq => ?_)) (fun z => absurd z (by decide))
          refine Ends.ct lt' (by decide +kernel) (by decide) (c_reaches It0 W (by omega) hy (by omega : k < nc) hz) (fun x t2 l2 _ _ _ ⟨g2, R⟩ => ?_)
          have e2 : efW c tl tof 4 k = tof := by omega
          have G2 := gt'.tr g2 (fun _ _ z => z)
          refine Ends.eq (b728_98 (n := n) (by (repeat' first | assumption | refine LX.setF _ _ ?_ (by decide +kernel) | refine LX.setS ?_ rfl | refine LX.setA ?_ (by first | assumption | omega))) (by first | assumption | omega)) ?_
          rcases R with ⟨rfl, ne⟩ | ⟨rfl, ne⟩
          · exact Ends.b0 (fun z => absurd z (by decide)) (fun _ => Ends.sm ⟨_, _, rfl, yes k (by omega) e2 ne, G2⟩)
          · exact Ends.b0 (fun _ => k103 t2 u3 u4 l2 G2 (fun w => ne w.2)) (fun z => absurd rfl z)
        | succ j ihj =>
          intro i t' hi lt' gt' hz
          refine Ends.eq (b728_63 (n := n) (by (repeat' first | assumption | refine LX.setF _ _ ?_ (by decide +kernel) | refine LX.setS ?_ rfl | refine LX.setA ?_ (by first | assumption | omega))) (by first | assumption | omega)) ?_
          rw [tn, w_succ (by omega), show anar 3 0 = 0 from rfl]
          refine Ends.b3 (fun z => by omega) (fun _ => Ends.g ⟨by omega, by omega⟩ ?_)
          refine ihj (i + 1) _ (by omega) ((by (repeat' first | assumption | refine LX.setF _ _ ?_ (by decide +kernel) | refine LX.setS ?_ rfl | refine LX.setA ?_ (by assumption)))) (gt'.set (Or.inr (Or.inl rfl))) (fun w hw => ?_)
          by_cases e : w = i
          · rw [e]; exact hv_set_at ..
          · rw [hv_set_ne (by omega)]; exact hz w (by omega)
      exact k63 40 0 t rfl lt gt (fun w hw => absurd hw (by omega))
  exact key nc 0 h _ _ (by omega) l Agr.rf (fun k' hk' => absurd hk' (by omega))
/-- the design beside the model's reader -/
def DXR (B : Nat) (c : Nat → Int) (q nv nc : Nat) (tl : Int) (tof : Nat) (h : AH) : Prop := hv h (B + 149) 19 = rf q ∧ YD B q h ∧ q + 140 ≤ hnx h ∧ DV B h c q nv nc ∧ (0 ≤ tl → hv h (B + 149) 14 = (tof : Int))
theorem mok_of {m tof : Nat} {u b : Nat → Int} {tl : Int} (W : DW c nv nc) (hb : ∀ i, i < m → u i < 128 → b i = u i) (ht : 0 ≤ tl → tl.toNat < nv ∧ tof < nc) : MOk gv B n m u (fdC c nv b u m) (bkI c nv nc tl tof) nv tl (DXR B c q nv nc tl tof) := by
  have hn : nv ≤ 40 := W.2.1
  refine ⟨fun h t cc s l D e => ?_, fun d p h hd l M R k1 hp => ?_, fun d v h hd l M hv' h0 => ?_, fun h0 v => ?_, fun p => ?_, hn⟩
  · obtain ⟨d1, d2, d3, d4, d5⟩ := D
    have lo := d2.lo
    have hb := l.2.2
    exact ⟨by rw [e.at _ (by omega) (by unfold MW; omega)]; exact d1, d2.ext d3 e (fun c k h1 h2 w => by unfold MW at w; omega), Nat.le_trans d3 e.2.2.1, d4.mw l d2 d3 e hn, fun z => by rw [e.at _ (by omega) (by unfold MW; omega)]; exact d5 z⟩
  · obtain ⟨S, T, h13, ⟨d1, d2, d3, d4, d5⟩, hm⟩ := M
    exact c_valueNamed l (by omega) d1 d2 d4 hn S R k1 hb
  · obtain ⟨S, T, h13, ⟨d1, d2, d3, d4, d5⟩, hm⟩ := M
    obtain ⟨t1, t2⟩ := ht h0
    have I : RI gv B n c q nv nc tl.toNat tof h := ⟨l, d1, d2, d3, d4, by rw [h13]; omega, d5 h0⟩
    have := c_leadsBack (d := d) I W (by omega) hv' t1 t2
    unfold bkI
    rw [if_neg (by omega)]
    exact this
  · unfold bkI
    rw [if_pos h0]
  · unfold fdC
    have := fdN_r (nmP c b (tkF u m p) (tkT u m p - tkF u m p)) nv 0
    rcases this with e | ⟨e1, e2⟩
    · rw [e]; omega
    · omega
end LEADS2
section WHOLE
variable {gv : Nat → Int} {B n m d : Nat} {u : Nat → Int} {fd : Nat → Int} {bk : Nat → Bool} {nv : Nat} {tl : Int} {DX : AH → Prop} {h : AH}
/-- a whole text: what stands behind the formula must be the end -/
def whR (u : Nat → Int) (m : Nat) (r : PR) : PR := match r with
  | .inl e => .inl e
  | .inr (D, N, p') => if tkK u m p' = 0 then .inr (D, N, p') else .inl (tkF u m p')
theorem c_readWhole (ok : MOk gv B n m u fd bk nv tl DX) (l : LX B n h) (M : MC gv B m u tl DX h) {p : Nat} (R : MgT B h u m p) (h11 : hv h (B + 149) 11 = -1) (hp : p ≤ m) {r : PR} (hr : RdR u m fd bk 0 0 0 p accZ r) (hd : 620 ≤ d) :
    Vt 2 (cll PP (ev PP (gsF gv) B) d 796 [(2, rf (B + 149))] h) (fun x h' => Ext (MW B) (m + 1) (7 * (m + 1)) h h' ∧ ((∃ D N p', whR u m r = .inr (D, N, p') ∧ AstI (hnx h) m h' x D N ∧ p' ≤ m ∧ hv h' (B + 149) 11 = -1) ∨ (∃ e, whR u m r = .inl e ∧ x = 0 ∧ hv h' (B + 149) 11 = (e : Int)))) := by
  have hb := l.2.2
  refine Vt.into (D := 619) hd (Nat.le_of_ble_eq_true rfl) rfl (fun d hd => ?_)
  refine Ends.eq (b796_0 (n := n) (by (repeat' first | assumption | refine LX.setF _ _ ?_ (by decide +kernel) | refine LX.setS ?_ rfl | refine LX.setA ?_ (by first | assumption | omega))) (by first | assumption | omega)) ?_
  have l1 : LX B n (hset h (B + 149) 12 0) := (by (repeat' first | assumption | refine LX.setF _ _ ?_ (by decide +kernel) | refine LX.setS ?_ rfl | refine LX.setA ?_ (by assumption)))
  have x1 : Ext (MW B) 0 0 h (hset h (B + 149) 12 0) := (Ext.rf (W := MW B)).ms (by decide) (by decide)
  have M1 := M.ext ok l x1
  have S1 : MSt B m u (hset h (B + 149) 12 0) 0 p := ⟨R.f (by decide), hv_set_at .., by rw [hv_set_ne (by omega)]; exact h11, hp, by decide⟩
  have hF : FD 0 = 598 := rfl
  refine Ends.ct l1 (by decide +kernel) (by decide) (c_readFormulaM ok hp d 0 _ r hr l1 M1 S1 (by omega)) (fun x h2 l2 _ _ _ Z => ?_)
  refine Ends.eq (b796_9 (n := n) (by (repeat' first | assumption | refine LX.setF _ _ ?_ (by decide +kernel) | refine LX.setS ?_ rfl | refine LX.setA ?_ (by first | assumption | omega))) (by first | assumption | omega)) ?_
  rcases Z with ⟨D, N, p', er, e2, R2, k12, k11, A, h1, h2'⟩ | ⟨e, er, ex, e2, k11⟩
  · have E2 : Ext (MW B) (m + 1) (7 * (m + 1)) h h2 := (x1.mt e2).ml (by omega) (by omega)
    have hpos := A.pos
    refine Ends.b0 (fun z => by omega) (fun _ => ?_)
    rw [R2.2.2.1]
    by_cases k0 : tkK u m p' = 0
    · have ek : mkd u m p' = 0 := by unfold mkd; rw [if_neg (by omega), k0]; rfl
      rw [ek]
      refine Ends.b0 (fun _ => ?_) (fun z => absurd rfl z)
      refine Ends.eq (b796_26 (n := n) (by (repeat' first | assumption | refine LX.setF _ _ ?_ (by decide +kernel) | refine LX.setS ?_ rfl | refine LX.setA ?_ (by first | assumption | omega))) (by first | assumption | omega)) ?_
      exact Ends.sm ⟨_, _, rfl, E2, Or.inl ⟨D, N, p', by rw [er]; show (if tkK u m p' = 0 then _ else _) = _; rw [if_pos k0], A.up (by omega), h2', k11⟩⟩
    · have ek : mkd u m p' ≠ 0 := by
        unfold mkd
        split
        · decide
        · omega
      refine Ends.b0 (fun z => absurd z ek) (fun _ => ?_)
      have M2 := M1.ext ok l1 e2
      refine Ends.ct l2 (by decide +kernel) (by decide) (c_failM l2 (by omega) k11 R2.2.1) (fun x3 h3 l3 _ _ _ ⟨ex3, Z3⟩ => ?_)
      rcases Z3 with ⟨_, eh3⟩ | ⟨z, _⟩
      · refine Ends.eq (b796_25 (n := n) (by (repeat' first | assumption | refine LX.setF _ _ ?_ (by decide +kernel) | refine LX.setS ?_ rfl | refine LX.setA ?_ (by first | assumption | omega))) (by first | assumption | omega)) ?_
        subst eh3
        exact Ends.sm ⟨_, _, rfl, E2.ms (by decide) (by decide), Or.inr ⟨tkF u m p', by rw [er]; show (if tkK u m p' = 0 then _ else _) = _; rw [if_neg k0], ex3, hv_set_at ..⟩⟩
      · omega
  · have E2 : Ext (MW B) (m + 1) (7 * (m + 1)) h h2 := (x1.mt e2).ml (by omega) (by omega)
    rw [ex]
    refine Ends.b0 (fun _ => ?_) (fun z => absurd rfl z)
    refine Ends.eq (b796_26 (n := n) (by (repeat' first | assumption | refine LX.setF _ _ ?_ (by decide +kernel) | refine LX.setS ?_ rfl | refine LX.setA ?_ (by first | assumption | omega))) (by first | assumption | omega)) ?_
    exact Ends.sm ⟨_, _, rfl, E2, Or.inr ⟨e, by rw [er]; rfl, rfl, k11⟩⟩
end WHOLE
