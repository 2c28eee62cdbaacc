/-! L3: the model's reader: operands; all of it -/
section MALL
variable {gv : Nat → Int} {B n m : Nat} {u : Nat → Int} {fd : Nat → Int} {bk : Nat → Bool} {nv : Nat} {tl : Int} {DX : AH → Prop}
theorem stepMD (ok : MOk gv B n m u fd bk nv tl DX) {p : Nat} (hA : ∀ q, p < q → q ≤ m → stA gv B n m u fd bk tl DX q) (hD : ∀ q, p < q → q ≤ m → stD gv B n m u fd bk tl DX q) : stD gv B n m u fd bk tl DX p := by
  intro d dp h r hr l M S hd
  have S0 := S
  obtain ⟨S1, S2, S3, S4, S5⟩ := S
  have hm := M.2.2.2.2
  have hb := l.2.2
  have hFD : 310 ≤ FD dp := by unfold FD; omega
  refine Vt.into (D := d - 1) (by omega) (Nat.le_of_ble_eq_true rfl) rfl (fun d' hd' => ?_)
  refine Ends.eq (b795_0 (n := n) (by (repeat' first | assumption | refine LX.setF _ _ ?_ (by decide +kernel) | refine LX.setS ?_ rfl | refine LX.setA ?_ (by first | assumption | omega))) (by first | assumption | omega)) ?_
  refine Ends.ct l (by decide +kernel) (by decide) (c_is1 l (by omega) M.1 M.2.1 S1 S4 54 45 (by decide) (by decide) (by decide)) (fun v q l1 _ _ _ ⟨eh, w⟩ => ?_)
  subst eh
  refine Ends.eq (b795_6 (n := n) (by (repeat' first | assumption | refine LX.setF _ _ ?_ (by decide +kernel) | refine LX.setS ?_ rfl | refine LX.setA ?_ (by first | assumption | omega))) (by first | assumption | omega)) ?_
  rcases w with ⟨w, rfl⟩ | ⟨w45, rfl⟩
  · refine Ends.b1 (fun _ => ?_) (fun z => absurd z (by decide))
    exact e_unary ok hD hr l M S0 (by omega) (by rw [w]; rfl)
  refine Ends.b1 (fun z => absurd rfl z) (fun _ => ?_)
  refine Ends.ct l (by decide +kernel) (by decide) (c_is1 l (by omega) M.1 M.2.1 S1 S4 55 33 (by decide) (by decide) (by decide)) (fun v q2 l2 _ _ _ ⟨eh, w⟩ => ?_)
  subst eh
  refine Ends.eq (b795_15 (n := n) (by (repeat' first | assumption | refine LX.setF _ _ ?_ (by decide +kernel) | refine LX.setS ?_ rfl | refine LX.setA ?_ (by first | assumption | omega))) (by first | assumption | omega)) ?_
  rcases w with ⟨w, rfl⟩ | ⟨w33, rfl⟩
  · refine Ends.b0 (fun z => absurd z (by decide)) (fun _ => ?_)
    exact e_unary ok hD hr l M S0 (by omega) (by rw [w, Bool.or_true])
  refine Ends.b0 (fun _ => ?_) (fun z => absurd rfl z)
  have hs : ¬ (isSg u m p 45 || isSg u m p 33) = true := fun z => by
    rw [Bool.or_eq_true] at z
    exact z.elim w45 w33
  refine Ends.ct l (by decide +kernel) (by decide) (c_is1 l (by omega) M.1 M.2.1 S1 S4 51 40 (by decide) (by decide) (by decide)) (fun v q3 l3 _ _ _ ⟨eh, w⟩ => ?_)
  subst eh
  rcases w with ⟨w, rfl⟩ | ⟨h40, rfl⟩
  · exact e_paren ok hA hr l M S0 (by omega) hs w
  refine Ends.eq (b795_80 (n := n) (by (repeat' first | assumption | refine LX.setF _ _ ?_ (by decide +kernel) | refine LX.setS ?_ rfl | refine LX.setA ?_ (by first | assumption | omega))) (by first | assumption | omega)) ?_
  refine Ends.b0 (fun _ => ?_) (fun z => absurd rfl z)
  rw [S1.2.2.1]
  refine Ends.b1 (fun n2 => ?_) (fun e2 => ?_)
  case refine_2 =>
    refine Ends.ct l (by decide +kernel) (by decide) (c_mkF l (by omega)) (fun x s0 l0 _ _ _ ⟨ex, es⟩ => ?_)
    subst ex es
    exact e_numM ok hr l M S0 (by omega) hs h40 (mkd_2.mp e2)
  have k2 : ¬ tkK u m p = 2 := fun z => n2 (mkd_2.mpr z)
  refine Ends.b0 (fun e1 => ?_) (fun n1 => ?_)
  case refine_2 =>
    refine Ends.ct l (by decide +kernel) (by decide) (c_failM l (by omega) S3 S1.2.1) (fun v h4 l4 _ _ _ ⟨ev, w5⟩ => ?_)
    subst ev
    refine Ends.eq (b795_289 (n := n) (by (repeat' first | assumption | refine LX.setF _ _ ?_ (by decide +kernel) | refine LX.setS ?_ rfl | refine LX.setA ?_ (by first | assumption | omega))) (by first | assumption | omega)) ?_
    rcases w5 with ⟨_, eh4⟩ | ⟨z, _⟩
    · subst eh4
      exact Ends.sm ⟨_, _, rfl, Or.inr ⟨_, RdR.uni hr (R3_24 hs h40 k2 (fun z => n1 (mkd_1.mpr z))), rfl, ((Ext.rf (W := MW B) (c := 0) (s := 0)).ms (by decide) (by decide)).ml (by omega) (by omega), hv_set_at ..⟩⟩
    · omega
  have k1 : tkK u m p = 1 := mkd_1.mp e1
  obtain ⟨b1, b2⟩ := k_lt (u := u) S4 (by rw [k1]; decide)
  refine Ends.ct l (by decide +kernel) (by decide) (c_functionM l (by omega) M.1 M.2.1.1 S1 S4 k1) (fun v q4 l4 _ _ _ ⟨ev, eh⟩ => ?_)
  subst ev eh
  refine Ends.eq (b795_294 (n := n) (by (repeat' first | assumption | refine LX.setF _ _ ?_ (by decide +kernel) | refine LX.setS ?_ rfl | refine LX.setA ?_ (by first | assumption | omega))) (by first | assumption | omega)) ?_
  refine Ends.b2 (fun neg => ?_) (fun pos => ?_)
  case refine_2 =>
    obtain ⟨fw, efw⟩ : ∃ fw : Nat, fnW u m p = (fw : Int) := ⟨(fnW u m p).toNat, by omega⟩
    rw [efw]
    refine Ends.ct l (by decide +kernel) (by decide) (c_readCallM ok hA hr l M S0 (by omega) hs h40 k1 efw) (fun x h5 l5 _ _ _ R => ?_)
    refine Ends.eq (b795_304 (n := n) (by (repeat' first | assumption | refine LX.setF _ _ ?_ (by decide +kernel) | refine LX.setS ?_ rfl | refine LX.setA ?_ (by first | assumption | omega))) (by first | assumption | omega)) ?_
    exact Ends.sm ⟨_, _, rfl, R⟩
  have hnf : ¬ 0 ≤ fnW u m p := by omega
  refine Ends.ct l (by decide +kernel) (by decide) (ok.2.1 d' p q4 (by omega) l M S1 k1 S4) (fun x q5 l5 _ _ _ ⟨eh, ex⟩ => ?_)
  subst eh ex
  obtain ⟨f1, f2⟩ := ok.2.2.2.2.1 p
  have n40 := ok.2.2.2.2.2
  refine Ends.eq (b795_309 (n := n) (by (repeat' first | assumption | refine LX.setF _ _ ?_ (by decide +kernel) | refine LX.setS ?_ rfl | refine LX.setA ?_ (by first | assumption | omega))) (by first | assumption | omega)) ?_
  have bad : ∀ (s : AH) (x1 : Int) (u3 : AV), LX B n s → Ext (MW B) 0 0 q5 s → hv s (B + 149) 11 = -1 → hv s (B + 149) 5 = (tkF u m p : Int) → r = .inl (tkF u m p) → Ends (ev PP (gsF gv) B d' 795 329 [(2, rf (B + 149)), (0, x1), (0, fd p), u3] [] s) (fun r' => ∃ x h', r' = ((0, (2, x)), h') ∧ MRes B m u q5 dp p r x h') := by
    intro s x1 u3 ls xs e11 e5 er
    refine Ends.eq (b795_329 (n := n) (by (repeat' first | assumption | refine LX.setF _ _ ?_ (by decide +kernel) | refine LX.setS ?_ rfl | refine LX.setA ?_ (by first | assumption | omega))) (by first | assumption | omega)) ?_
    refine Ends.ct ls (by decide +kernel) (by decide) (c_failM ls (by omega) e11 e5) (fun v h4 l4 _ _ _ ⟨ev, w5⟩ => ?_)
    subst ev
    refine Ends.eq (b795_333 (n := n) (by (repeat' first | assumption | refine LX.setF _ _ ?_ (by decide +kernel) | refine LX.setS ?_ rfl | refine LX.setA ?_ (by first | assumption | omega))) (by first | assumption | omega)) ?_
    rcases w5 with ⟨_, eh4⟩ | ⟨z, _⟩
    · subst eh4
      exact Ends.sm ⟨_, _, rfl, Or.inr ⟨_, er, rfl, (xs.ms (by decide) (by decide)).ml (by omega) (by omega), hv_set_at ..⟩⟩
    · omega
  refine Ends.b2 (fun vneg => bad q5 _ _ l (Ext.rf) S3 S1.2.1 (RdR.uni hr (R3_21 hs h40 k2 k1 hnf vneg))) (fun vpos => ?_)
  obtain ⟨w, ew⟩ : ∃ w : Nat, fd p = (w : Int) := ⟨(fd p).toNat, by omega⟩
  have etn : (fd p).toNat = w := by rw [ew]; rfl
  have good : ∀ (s : AH) (x1 : Int) (u3 : AV), LX B n s → Agr (LW B) q5 s → bk w = false → Ends (ev PP (gsF gv) B d' 795 334 [(2, rf (B + 149)), (0, x1), (0, fd p), u3] [] s) (fun r' => ∃ x h', r' = ((0, (2, x)), h') ∧ MRes B m u q5 dp p r x h') := by
    intro s x1 u3 ls gs hbk
    have xs : Ext (MW B) 0 0 q5 s := gs.ext.sub (fun c k _ z => by unfold LW at z; unfold MW; omega) (Nat.le_refl _) (Nat.le_refl _)
    have hbs := bh0 l xs
    have at9 : ∀ k, k ≠ 22 → hv s (B + 149) k = hv q5 (B + 149) k := fun k hk => gs.at _ _ (by unfold LW; omega)
    refine Ends.eq (b795_334 (n := n) (by (repeat' first | assumption | refine LX.setF _ _ ?_ (by decide +kernel) | refine LX.setS ?_ rfl | refine LX.setA ?_ (by first | assumption | omega))) (by first | assumption | omega)) ?_
    refine Ends.ct ls (by decide +kernel) (by decide) (c_mkF ls (by omega)) (fun z s5 l6 _ _ _ ⟨ez, e5⟩ => ?_)
    subst ez
    have xn : Ext (MW B) 1 7 s s5 := by rw [e5]; exact mkN_ext
    have hvn : ∀ k, hv s5 (hnx s) k = if k = 6 then 0 else if k = 5 then 0 else if k = 4 then 0 else if k = 1 then fd p else if k = 0 then 1 else 0 := fun k => by rw [e5]; exact mkN_hv k
    have kn : hk s5 (hnx s) = (1, 24) := by rw [e5]; exact mkN_hk
    have nx5 : hnx s5 = hnx s + 1 := by rw [e5]; rfl
    have at5 : ∀ k, k ≠ 22 → hv s5 (B + 149) k = hv q5 (B + 149) k := fun k hk => by rw [e5, mkN_at hbs]; exact at9 k hk
    clear e5
    have x5 := xs.mt xn
    have M5 := M.ext ok l x5
    refine Ends.eq (b795_342 (n := n) (by (repeat' first | assumption | refine LX.setF _ _ ?_ (by decide +kernel) | refine LX.setS ?_ rfl | refine LX.setA ?_ (by first | assumption | omega))) (by first | assumption | omega)) ?_
    refine Ends.cv l6 (by decide +kernel) (c_nextM l6 (by omega) M5.1 (by rw [at5 4 (by decide)]; exact S1.1) b2) (fun s7 l7 _ _ _ ⟨g7, t7⟩ => ?_)
    refine Ends.eq (b795_347 (n := n) (by (repeat' first | assumption | refine LX.setF _ _ ?_ (by decide +kernel) | refine LX.setS ?_ rfl | refine LX.setA ?_ (by first | assumption | omega))) (by first | assumption | omega)) ?_
    have x7 := mg_mw g7
    refine Ends.sm ⟨_, _, rfl, Or.inl ⟨_, _, tkT u m p, RdR.uni hr (R3_23 hs h40 k2 k1 hnf (by omega) (by rw [etn, hbk]; decide)), (x5.mt x7).ml (by omega) (by omega), t7, by rw [g7.at _ _ (by unfold mgW; omega), at5 12 (by decide)]; exact S2, by rw [g7.at _ _ (by unfold mgW; omega), at5 11 (by decide)]; exact S3, ?_, b1, b2⟩⟩
    obtain ⟨g0, eg0⟩ : ∃ g0, tkT u m p - p = g0 + 1 := ⟨tkT u m p - p - 1, by omega⟩
    rw [eg0]
    have hv7 : ∀ k, hv s7 (hnx s) k = hv s5 (hnx s) k := fun k => g7.at _ _ (by unfold mgW; omega)
    unfold AstI
    refine ⟨hnx s, rfl, xs.2.2.1, by rw [g7.nx, nx5]; exact Nat.lt_succ_self _, by rw [g7.hk]; exact kn, Or.inr (Or.inl ⟨by rw [hv7]; exact hvn 0, by rw [hv7]; exact hvn 4, by rw [hv7]; exact hvn 5, by rw [hv7]; exact hvn 6, w, by omega, by rw [hv7, ← ew]; exact hvn 1, ?_, ?_⟩)⟩
    · rw [etn]
    · rw [etn]
  rw [M.2.2.1]
  refine Ends.b2 (fun tneg => good q5 _ _ l Agr.rf (ok.2.2.2.1 tneg w)) (fun tpos => ?_)
  rw [ew]
  refine Ends.ct l (by decide +kernel) (by decide) (ok.2.2.1 d' w q5 (by omega) l M (by omega) tpos) (fun x s1 l6 _ _ _ ⟨ex, gs⟩ => ?_)
  subst ex
  refine Ends.eq (b795_326 (n := n) (by (repeat' first | assumption | refine LX.setF _ _ ?_ (by decide +kernel) | refine LX.setS ?_ rfl | refine LX.setA ?_ (by first | assumption | omega))) (by first | assumption | omega)) ?_
  cases hb1 : bk w with
  | false =>
    refine Ends.b0 (fun _ => ?_) (fun z => absurd rfl z)
    rw [← ew]
    exact good s1 _ _ l6 gs hb1
  | true =>
    refine Ends.b0 (fun z => absurd z (by decide)) (fun _ => ?_)
    rw [← ew]
    refine bad s1 _ _ l6 (gs.ext.sub (fun c k _ z => by unfold LW at z; unfold MW; omega) (Nat.le_refl _) (Nat.le_refl _)) ?_ ?_ (RdR.uni hr (R3_22 hs h40 k2 k1 hnf (by omega) (by rw [etn]; exact hb1)))
    · rw [gs.at _ _ (by unfold LW; omega)]; exact S3
    · rw [gs.at _ _ (by unfold LW; omega)]; exact S1.2.1
theorem mread_all (ok : MOk gv B n m u fd bk nv tl DX) : ∀ (k p : Nat), m - p < k → p ≤ m → stA gv B n m u fd bk tl DX p ∧ stD gv B n m u fd bk tl DX p ∧ ∀ L, L ≤ 6 → stB gv B n m u fd bk tl DX L p := by
  intro k
  induction k with
  | zero => intro p h; omega
  | succ k ih =>
    intro p hk hp
    have iA : ∀ q, p < q → q ≤ m → stA gv B n m u fd bk tl DX q := fun q h1 h2 => (ih q (by omega) h2).1
    have iD : ∀ q, p < q → q ≤ m → stD gv B n m u fd bk tl DX q := fun q h1 h2 => (ih q (by omega) h2).2.1
    have hD := stepMD ok iA iD
    have hB : ∀ j L, L + j = 6 → stB gv B n m u fd bk tl DX L p := by
      intro j
      induction j with
      | zero =>
        intro L hL
        obtain rfl : L = 6 := by omega
        exact stepB6 hD
      | succ j ihj =>
        intro L hL
        refine stepBL ok (by omega) (fun q h1 h2 => ?_)
        by_cases e : q = p
        · subst e; exact ihj (L + 1) (by omega)
        · exact (ih q (by omega) h2).2.2 (L + 1) (by omega)
    exact ⟨stepMA ok (hB 6 0 (by omega)) iA, hD, fun L hL => hB (6 - L) L (by omega)⟩
/-- reading a formula from the sign at p on -/
theorem c_readFormulaM (ok : MOk gv B n m u fd bk nv tl DX) {p : Nat} (hp : p ≤ m) : stA gv B n m u fd bk tl DX p := (mread_all ok (m - p + 1) p (by omega) hp).1
end MALL
