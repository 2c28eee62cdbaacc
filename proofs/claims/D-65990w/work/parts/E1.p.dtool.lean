/-! L3: tools (desk): those without a sketch -/
section DTOOL
variable {gv : Nat → Int} {B n d a f kd ax : Nat} {h : AH} {S : Nat → Bool} {nb : Nat → Int}
theorem max_J {x y : Int} : v891 x y = if x < y then y else x := by unfold v891; rw [ct2]
def mtoW (B a : Nat) : Nat → Nat → Prop := fun c _ => c = a ∨ c = B + 114 ∨ c = B + 102 ∨ c = B + 103
/-- a hole comes to a solid -/
theorem hl_prism {cu cv fr to : Int} {r : Nat} {g : Nat} : prG n (dsQ r cu cv) ax (v892 fr to) (v891 fr to) g = hlG n ax cu cv fr to (r : Int) g := by
  unfold hlG
  rw [minI, max_J, tn]
theorem mk_pts {o : Int} (l : LX B n h) (hd : 20 ≤ d) (hn0 : 0 < n) (hn : n ≤ 52) (m : TbC B h) (qk : q278 B h (f : Int)) (ek : v278 B h (f : Int) = (kd : Int)) (qo : q289 B h (f : Int)) (eo : v289 B h (f : Int) = o) (eox : kd = 4 ∨ kd = 5 ∨ kd = 6 → o = (ax : Int)) (pv : PvC B h (tlN kd) nb) (ok : tlOK kd ax nb) (sa : SG n h a (fun _ => false)) (ha : B + 246 ≤ a) :
    Vt 0 (cll PP (ev PP (gsF gv) B) d 283 [(2, rf (B + 92)), (0, (f : Int)), (2, rf a)] h) (fun v h' => v = 1 ∧ Agr (mtoW B a) h h' ∧ SG n h' a (tlG n kd ax nb)) := by
  obtain ⟨k1, k2, k3, nbb⟩ := ok
  have n0 := nbb 0 (by decide)
  have n1 := nbb 1 (by decide)
  have n2 := nbb 2 (by decide)
  have n3 := nbb 3 (by decide)
  have n5 := nbb 5 (by decide)
  refine Vt.inq (D := 19) hd (Nat.le_of_ble_eq_true rfl) rfl (fun d hd Q K => ?_)
  refine Ends.eq (b283_0 l (by omega)) (Ends.g qk (Ends.g qo ?_))
  rw [ek, eo]
  have k4 : kd = 0 ∨ kd = 7 ∨ kd = 4 ∨ kd = 5 ∨ kd = 6 := by omega
  rcases k4 with rfl | rfl | k4
  · show Ends (ev PP (gsF gv) B d 283 84 _ [] h) Q
    refine Ends.eq (b283_84 l (by omega)) ?_
    refine Ends.cv l (by decide +kernel) (c_box252 (nb := nb) l (by omega) hn0 hn m (fun k hk => pv k (by unfold tlN; rw [if_pos rfl]; exact hk)) (fun k hk => nbb k (by omega)) sa ha) (fun q lq _ _ _ ⟨gq, sq⟩ => ?_)
    refine Ends.eq (b283_89 lq (by omega)) ?_
    exact Ends.sm (K _ _ ⟨rfl, gq.sub (fun c k z => by unfold tlW at z; unfold mtoW; omega), sq.congr hn0 (fun g hg => Bool.false_or _)⟩)
  · have h6 := k3 rfl
    obtain ⟨w, ew⟩ : ∃ w : Nat, nb 6 = (w : Int) := ⟨(nb 6).toNat, by omega⟩
    show Ends (ev PP (gsF gv) B d 283 267 _ [] h) Q
    refine Ends.eq (b283_267 l (by omega)) ?_
    refine Ends.cv l (by decide +kernel) (c_wedge320 (nb := nb) (w := w) l (by omega) hn0 hn m (fun k hk => pv k (by unfold tlN; rw [if_neg (by decide), if_neg (by decide)]; exact hk)) (fun k hk => nbb k (by omega)) ew (by omega) sa ha) (fun q lq _ _ _ ⟨gq, sq⟩ => ?_)
    refine Ends.eq (b283_272 lq (by omega)) ?_
    exact Ends.sm (K _ _ ⟨rfl, gq.sub (fun c k z => by unfold mtoW; omega), sq.congr hn0 (fun g hg => by
      show (false || wdG n w nb g) = wdG n (nb 6).toNat nb g
      rw [ew, tn, Bool.false_or])⟩)
  · have hax : ax < 3 := by omega
    obtain rfl := eox k4
    by_cases k6 : kd = 6
    · subst k6
      show Ends (ev PP (gsF gv) B d 283 258 _ [] h) Q
      refine Ends.eq (b283_258 l (by omega)) ?_
      refine Ends.cv l (by decide +kernel) (c_sink309 (nb := nb) (ax := ax) l (by omega) hn0 hn m (fun k hk => pv k (by unfold tlN; rw [if_neg (by decide), if_pos (by decide)]; exact hk)) (fun k hk => nbb k (by omega)) hax sa ha) (fun q lq _ _ _ ⟨gq, sq⟩ => ?_)
      refine Ends.eq (b283_265 lq (by omega)) ?_
      exact Ends.sm (K _ _ ⟨rfl, gq.sub (fun c k z => by unfold mtoW; omega), sq.congr hn0 (fun g hg => by
        show (false || skG n ax nb g) = skG n ax nb g
        exact Bool.false_or _)⟩)
    have n4 : 1 ≤ nb 4 ∧ nb 4 ≤ 64 := by omega
    obtain ⟨r, er⟩ : ∃ r : Nat, nb 4 = (r : Int) := ⟨(nb 4).toNat, by omega⟩
    have pv5 : PvC B h 5 nb := fun k hk => pv k (by unfold tlN; split <;> (try split) <;> omega)
    have start : Ends (ev PP (gsF gv) B d 283 116 [(2, rf (B + 92)), (0, (f : Int)), (2, rf a), (0, (kd : Int)), (0, (ax : Int))] [] h) Q := by
      refine Ends.eq (b283_116 l (by omega)) ?_
      rw [show Int.toNat 0 = 0 from rfl, show Int.toNat 1 = 1 from rfl, show Int.toNat 4 = 4 from rfl, pv5 0 (by decide), pv5 1 (by decide), pv5 4 (by decide), er]
      refine Ends.cv l (by decide +kernel) (c_disc260 (r := r) l (by omega) hn (by omega) n0 n1) (fun h2 l2 _ _ _ ⟨g2, q2⟩ => ?_)
      have p2 : PvC B h2 (tlN kd) nb := pv.agr g2 (fun k w => by omega)
      have p25 : PvC B h2 5 nb := pv5.agr g2 (fun k w => by omega)
      have m2 : TbC B h2 := m.ext l.2.2 g2.ext (fun c k h1 h2 w => by omega)
      refine Ends.eq (b283_138 l2 (by omega)) ?_
      rw [show Int.toNat 2 = 2 from rfl, show Int.toNat 3 = 3 from rfl, p25 2 (by decide), p25 3 (by decide)]
      refine Ends.cv l2 (by decide +kernel) (c_unitePrism (ax := ax) (a := a) (b := B + 114) l2 (by omega) hn0 hn m2 (sa.agr g2 (fun _ z => by omega)) q2 (by omega) (by omega) (Or.inr ha) hax (fr := v892 (nb 2) (nb 3)) (to := v891 (nb 2) (nb 3)) (by rw [minI]; split <;> omega) (by rw [max_J]; split <;> omega)) (fun h3 l3 _ _ _ ⟨f3, s3⟩ => ?_)
      have G3 : Agr (mtoW B a) h h3 := (g2.sub (fun c k z => Or.inr (Or.inl z))).tr f3.agr (fun c k z => Or.inl z)
      have s3' : SG n h3 a (hlG n ax (nb 0) (nb 1) (nb 2) (nb 3) (nb 4)) := s3.congr hn0 (fun g hg => by
        show (false || prG n _ _ _ _ g) = _
        rw [Bool.false_or, hl_prism, er])
      refine Ends.eq (b283_182 l3 (by omega)) ?_
      rcases (by omega : kd = 4 ∨ kd = 5) with rfl | rfl
      · exact Ends.b1 (fun z => absurd rfl z) (fun _ => Ends.sm (K _ _ ⟨rfl, G3, s3'⟩))
      · have h6 := k2 rfl
        obtain ⟨r6, er6⟩ : ∃ r : Nat, nb 6 = (r : Int) := ⟨(nb 6).toNat, by omega⟩
        have p7 : PvC B h3 7 nb := fun k hk => by rw [f3.1 _ (by omega)]; exact p2 k hk
        refine Ends.b1 (fun _ => ?_) (fun z => absurd z (by decide))
        rw [show Int.toNat 0 = 0 from rfl, show Int.toNat 1 = 1 from rfl, show Int.toNat 6 = 6 from rfl, p7 0 (by decide), p7 1 (by decide), p7 6 (by decide), er6]
        refine Ends.cv l3 (by decide +kernel) (c_disc260 (r := r6) l3 (by omega) hn (by omega) n0 n1) (fun h4 l4 _ _ _ ⟨g4, q4⟩ => ?_)
        have p4 : PvC B h4 7 nb := p7.agr g4 (fun k w => by omega)
        have m4 : TbC B h4 := (m.ext l.2.2 G3.ext (fun c k h1 h2 w => by unfold mtoW at w; omega)).ext l3.2.2 g4.ext (fun c k h1 h2 w => by omega)
        refine Ends.eq (b283_212 l4 (by omega)) ?_
        rw [show Int.toNat 2 = 2 from rfl, show Int.toNat 5 = 5 from rfl, p4 2 (by decide), p4 5 (by decide)]
        refine Ends.cv l4 (by decide +kernel) (c_unitePrism (ax := ax) (a := a) (b := B + 114) l4 (by omega) hn0 hn m4 (s3'.agr g4 (fun _ z => by omega)) q4 (by omega) (by omega) (Or.inr ha) hax (fr := v892 (nb 2) (nb 5)) (to := v891 (nb 2) (nb 5)) (by rw [minI]; split <;> omega) (by rw [max_J]; split <;> omega)) (fun h5 l5 _ _ _ ⟨f5, s5⟩ => ?_)
        refine Ends.eq (b283_256 l5 (by omega)) ?_
        refine Ends.sm (K _ _ ⟨rfl, (G3.tr g4 (fun c k z => Or.inr (Or.inl z))).tr f5.agr (fun c k z => Or.inl z), s5.congr hn0 (fun g hg => ?_)⟩)
        show (hlG n ax (nb 0) (nb 1) (nb 2) (nb 3) (nb 4) g || prG n _ _ _ _ g) = (hlG n ax (nb 0) (nb 1) (nb 2) (nb 3) (nb 4) g || hlG n ax (nb 0) (nb 1) (nb 2) (nb 5) (nb 6) g)
        rw [hl_prism, er6]
    rcases (by omega : kd = 4 ∨ kd = 5) with rfl | rfl
    · exact start
    · exact start
end DTOOL
