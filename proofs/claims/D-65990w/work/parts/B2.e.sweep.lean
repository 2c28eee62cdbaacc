/-! L3: sweep: how far some places go until they meet another one (desk) -/
section SWA
/-- the least t at which a pair hits; -1 -/
def SwA (tm pl : Nat) (Hit : Nat → Nat → Nat → Prop) (x : Int) : Prop := (∃ t : Nat, t ≤ tm ∧ x = (t : Int) ∧ (∃ a b, a < pl ∧ b < pl ∧ Hit a b t) ∧ ∀ u a b, u < t → a < pl → b < pl → ¬ Hit a b u) ∨ (x = -1 ∧ ∀ u a b, u ≤ tm → a < pl → b < pl → ¬ Hit a b u)
theorem SwA.uniq {tm pl : Nat} {Hit : Nat → Nat → Nat → Prop} {x y : Int} (a : SwA tm pl Hit x) (b : SwA tm pl Hit y) : x = y := by
  rcases a with ⟨t, a1, a2, ⟨p, q, a3, a4, a5⟩, a6⟩ | ⟨a1, a2⟩ <;> rcases b with ⟨u, b1, b2, ⟨r, s, b3, b4, b5⟩, b6⟩ | ⟨b1, b2⟩
  · rcases Nat.lt_trichotomy t u with z | z | z
    · exact absurd a5 (b6 _ _ _ z a3 a4)
    · omega
    · exact absurd b5 (a6 _ _ _ z b3 b4)
  · exact absurd a5 (b2 _ _ _ a1 a3 a4)
  · exact absurd b5 (a2 _ _ _ b1 b3 b4)
  · rw [a1, b1]
theorem SwA.congr {tm pl : Nat} {Hit Hit' : Nat → Nat → Nat → Prop} {x : Int} (a : SwA tm pl Hit x) (e : ∀ a b t, a < pl → b < pl → t ≤ tm → (Hit a b t ↔ Hit' a b t)) : SwA tm pl Hit' x := by
  rcases a with ⟨t, a1, a2, ⟨p, q, a3, a4, a5⟩, a6⟩ | ⟨a1, a2⟩
  · exact Or.inl ⟨t, a1, a2, ⟨p, q, a3, a4, (e p q t a3 a4 a1).mp a5⟩, fun u a b h1 h2 h3 z => a6 u a b h1 h2 h3 ((e a b u h2 h3 (by omega)).mpr z)⟩
  · exact Or.inr ⟨a1, fun u a b h1 h2 h3 z => a2 u a b h1 h2 h3 ((e a b u h2 h3 h1).mpr z)⟩
/-- the desk's search: pairs ahead of (a, b) have been tried -/
def SwI (tm pl : Nat) (Hit : Nat → Nat → Nat → Prop) (a b best : Nat) : Prop := best ≤ tm + 1 ∧ (best ≤ tm → ∃ a' b', a' < pl ∧ b' < pl ∧ Hit a' b' best) ∧ ∀ a' b' u, (a' < a ∨ (a' = a ∧ b' < b)) → b' < pl → u < best → ¬ Hit a' b' u
theorem SwI.next {tm pl a b best : Nat} {Hit : Nat → Nat → Nat → Prop} (s : SwI tm pl Hit a b best) (no : ∀ u, u < best → ¬ Hit a b u) : SwI tm pl Hit a (b + 1) best := by
  obtain ⟨s1, s2, s3⟩ := s
  refine ⟨s1, s2, fun a' b' u h hb hu => ?_⟩
  by_cases z : a' = a ∧ b' = b
  · rw [z.1, z.2]; exact no u hu
  · exact s3 a' b' u (by omega) hb hu
theorem SwI.row {tm pl a best : Nat} {Hit : Nat → Nat → Nat → Prop} (s : SwI tm pl Hit a pl best) : SwI tm pl Hit (a + 1) 0 best := ⟨s.1, s.2.1, fun a' b' u h hb hu => s.2.2 a' b' u (by omega) hb hu⟩
theorem SwI.skip {tm pl a best : Nat} {Hit : Nat → Nat → Nat → Prop} (s : SwI tm pl Hit a 0 best) (no : ∀ b u, ¬ Hit a b u) : SwI tm pl Hit (a + 1) 0 best := ⟨s.1, s.2.1, fun a' b' u h hb hu => by
  by_cases z : a' = a
  · rw [z]; exact no b' u
  · exact s.2.2 a' b' u (by omega) hb hu⟩
theorem SwI.less {tm pl a b best k : Nat} {Hit : Nat → Nat → Nat → Prop} (s : SwI tm pl Hit a b best) (ha : a < pl) (hb : b < pl) (hk : k < best) (no : ∀ u, u < k → ¬ Hit a b u) (yes : Hit a b k) : SwI tm pl Hit a (b + 1) k := by
  obtain ⟨s1, s2, s3⟩ := s
  refine ⟨by omega, fun _ => ⟨a, b, ha, hb, yes⟩, fun a' b' u h hb' hu => ?_⟩
  by_cases z : a' = a ∧ b' = b
  · rw [z.1, z.2]; exact no u hu
  · exact s3 a' b' u (by omega) hb' (by omega)
theorem SwI.fin {tm pl best : Nat} {Hit : Nat → Nat → Nat → Prop} (s : SwI tm pl Hit pl 0 best) : SwA tm pl Hit (if best ≤ tm then (best : Int) else -1) := by
  obtain ⟨s1, s2, s3⟩ := s
  by_cases z : best ≤ tm
  · rw [if_pos z]
    exact Or.inl ⟨best, z, rfl, s2 z, fun u a b h1 h2 h3 => s3 a b u (Or.inl h2) h3 h1⟩
  · rw [if_neg z]
    exact Or.inr ⟨rfl, fun u a b h1 h2 h3 => s3 a b u (Or.inl h2) h3 (by omega)⟩
end SWA
section SWEEP122
variable {gv : Nat → Int} {B n d : Nat} {h : AH} {is : Nat → Bool} {cl : Nat → Nat} {S : Nat → Nat → Bool} {pl jn : Nat} {bd wy : Nat → Nat} {sh : Nat → Nat → Int} {lw hg : Nat → Nat → Nat} {ja jb jx : Nat → Nat} {js : Nat → Int}
/-- a stays, b goes with place i, and they meet at t -/
def HiS (n : Nat) (S : Nat → Nat → Bool) (bd wy : Nat → Nat) (sh : Nat → Nat → Int) (Go : Nat → Prop) (ax : Nat) (y : Int) (a b t : Nat) : Prop := ¬ Go a ∧ Go b ∧ MtS n (wy a) (wy b) (S (bd a)) (S (bd b)) (fun k => sh k b - sh k a + if k = ax then (t : Int) * y else 0)
def SweA (n : Nat) (S : Nat → Nat → Bool) (pl jn : Nat) (bd wy : Nat → Nat) (sh : Nat → Nat → Int) (ja jb jx : Nat → Nat) (i ax : Nat) (y : Int) (tm : Nat) (x : Int) : Prop := (TCon jn ja jb (aC' jx none0 ax) i 12 ∧ x = -2) ∨ (¬ TCon jn ja jb (aC' jx none0 ax) i 12 ∧ SwA tm pl (HiS n S bd wy sh (fun z => TCon jn ja jb (aC' jx none0 ax) i z) ax y) x)
theorem SweA.uniq {i ax tm : Nat} {y x x' : Int} (a : SweA n S pl jn bd wy sh ja jb jx i ax y tm x) (b : SweA n S pl jn bd wy sh ja jb jx i ax y tm x') : x = x' := by
  rcases a with ⟨a1, a2⟩ | ⟨a1, a2⟩ <;> rcases b with ⟨b1, b2⟩ | ⟨b1, b2⟩
  · rw [a2, b2]
  · exact absurd a1 b1
  · exact absurd b1 a1
  · exact a2.uniq b2
theorem c_sweep122 {i ax tm : Nat} {y M : Int} (l : LX B n h) (hd : 22 ≤ d) (hn0 : 0 < n) (hn : n ≤ 52) (m : TbC B h) (b : BdC B n h is cl S) (R : Reg B n h) (P : AsP B h pl bd wy sh lw hg) (V : AsV n is M pl bd wy sh lw hg) (hM : M ≤ 1000000) (J : AsJ B h pl jn ja jb jx js) (hi : i < pl) (hax : ax < 3) (hy : -8 ≤ y ∧ y ≤ 8) (ht : tm ≤ 64) :
    Vt 0 (cll PP (ev PP (gsF gv) B) d 122 [(2, rf (B + 118)), (0, (i : Int)), (0, (ax : Int)), (0, y), (0, (tm : Int))] h) (fun x h' => SweA n S pl jn bd wy sh ja jb jx i ax y tm x ∧ ScE B n (clW B h) 2 (24 * n * n + 24 * n * n) h h') := by
  have hp := V.1
  refine Vt.inq (D := 21) hd (Nat.le_of_ble_eq_true rfl) rfl (fun d hd Q K => ?_)
  refine Ends.eq (b122_0 (n := n) (by (repeat' first | assumption | refine LX.setF _ _ ?_ (by decide +kernel) | refine LX.setS ?_ rfl | refine LX.setA ?_ (by first | assumption | omega))) (by first | assumption | omega)) ?_
  refine Ends.cv l (by decide +kernel) (c_need117 l (by omega) hn R) (fun h1 l1 _ _ _ ⟨s0, s1, a⟩ => ?_)
  have X1 := a.x l m b R P J.1
  have XE : Ext (fun c j => (c = B + 53 ∧ j < 2) ∨ (c = B + 118 ∧ (j = 19 ∨ j = 20))) 2 (24 * n * n + 24 * n * n) h h1 := a.2.2.2.2.2.2.2.2.2.2
  have hb0 := l.2.2
  have J1 : AsJ B h1 pl jn ja jb jx js := by
    obtain ⟨j1, j2, j3, j4, j5⟩ := J
    refine ⟨by rw [XE.at _ (by omega) (by omega)]; exact j1, by rw [XE.at _ (by omega) (by omega)]; exact j2, j3, j4, fun k hk => ?_⟩
    rw [XE.at _ (by omega) (by omega), XE.at _ (by omega) (by omega), XE.at _ (by omega) (by omega), XE.at _ (by omega) (by omega)]
    exact j5 k hk
  have sne := X1.2.2.2.2.2.2.2.2.1
  have sge := X1.2.2.2.2.2.2.1.1
  have tge := X1.2.2.2.2.2.2.2.1.1
  have fin : ∀ x q, Agr (asW B s0 s1) h1 q → SweA n S pl jn bd wy sh ja jb jx i ax y tm x → Q ((0, (0, x)), q) := fun x q g c => K _ _ ⟨c, a.sc l l1 g⟩
  have aX : ∀ c k, asW B s0 s1 c k → c = s0 ∨ c = s1 ∨ c = B + 54 ∨ c = B + 55 ∨ (B + 106 ≤ c ∧ c ≤ B + 108) ∨ (B + 128 ≤ c ∧ c ≤ B + 131) ∨ (c = B + 118 ∧ k = 18) := fun c k z => by unfold asW at z; omega
  refine Ends.eq (b122_4 (n := n) (by (repeat' first | assumption | refine LX.setF _ _ ?_ (by decide +kernel) | refine LX.setS ?_ rfl | refine LX.setA ?_ (by first | assumption | omega))) (by first | assumption | omega)) ?_
  refine Ends.ct l1 (by decide +kernel) (by decide) (c_going110 (i := i) (a := ax) l1 (by omega) J1 hi hax) (fun v h2 l2 _ _ _ ⟨g2, ρ, α, w, t, go, evv⟩ => ?_)
  have gq2 : Agr (asW B s0 s1) h1 h2 := g2.sub (fun c k z => by unfold goW spW at z; unfold asW; omega)
  refine Ends.eq (b122_10 (n := n) (by (repeat' first | assumption | refine LX.setF _ _ ?_ (by decide +kernel) | refine LX.setS ?_ rfl | refine LX.setA ?_ (by first | assumption | omega))) (by first | assumption | omega)) ?_
  by_cases r12 : ρ i = 12
  · rw [if_pos r12] at evv
    subst evv
    exact Ends.b1 (fun z => absurd rfl z) (fun _ => Ends.sm (fin _ _ gq2 (Or.inl ⟨(t.gr hi).mp r12, rfl⟩)))
  rw [if_neg r12] at evv
  have vpos : 0 < cntN (fun k => decide (ρ k = ρ i)) pl := by
    rcases Nat.eq_zero_or_pos (cntN (fun k => decide (ρ k = ρ i)) pl) with z | z
    · have := cntN_zero pl z i hi
      simp at this
    · exact z
  have nT : ¬ TCon jn ja jb (aC' jx none0 ax) i 12 := fun z => r12 ((t.gr hi).mpr z)
  have gT : ∀ x, x < pl → (ρ x = ρ i ↔ TCon jn ja jb (aC' jx none0 ax) i x) := fun x hx => ⟨fun e => (t.same hp hi hx).mp e.symm, fun c => ((t.same hp hi hx).mpr c).symm⟩
  refine Ends.b1 (fun _ => ?_) (fun z => absurd z (by omega))
  rw [show bop32 96 (tm : Int) 1 = ((tm + 1 : Nat) : Int) from addNN (y := 1) (by omega)]
  -- the places that stay
  have rows : ∀ (r x : Nat) (q : AH) (best : Nat) (u7 u8 : AV), x + r = pl → LX B n q → Agr (asW B s0 s1) h2 q → (∀ k, k < pl → hv q (B + 131) k = if ρ k = ρ i then 1 else 0) → SwI tm pl (HiS n S bd wy sh (fun z => TCon jn ja jb (aC' jx none0 ax) i z) ax y) x 0 best → Ends (ev PP (gsF gv) B d 122 25 [(2, rf (B + 118)), (0, (i : Int)), (0, (ax : Int)), (0, y), (0, (tm : Int)), (0, (best : Int)), (0, (x : Int)), u7, u8] [] q) Q := by
    intro r
    induction r with
    | zero =>
      intro x q best u7 u8 hx lq gq oq sw
      obtain rfl : x = pl := by omega
      have Xq := X1.agr (gq2.tr gq (fun c k z => z)) aX
      refine Ends.eq (b122_25 (n := n) (by (repeat' first | assumption | refine LX.setF _ _ ?_ (by decide +kernel) | refine LX.setS ?_ rfl | refine LX.setA ?_ (by first | assumption | omega))) (by first | assumption | omega)) ?_
      rw [Xq.2.2.2.1]
      refine Ends.b3 (fun _ => Ends.sm (fin _ _ (gq2.tr gq (fun c k z => z)) (Or.inr ⟨nT, ?_⟩))) (fun z => by omega)
      rw [show cond (tst 5 (best : Int) (tm : Int)) (best : Int) (-1) = if best ≤ tm then (best : Int) else -1 from by
        rw [tst5]
        by_cases z : best ≤ tm
        · rw [if_pos z, decide_eq_false (show ¬ (tm : Int) < (best : Int) by omega)]; rfl
        · rw [if_neg z, decide_eq_true (show (tm : Int) < (best : Int) by omega)]; rfl]
      exact sw.fin
    | succ r ih =>
      intro x q best u7 u8 hx lq gq oq sw
      have hxp : x < pl := by omega
      have G := gq2.tr gq (fun c k z => z)
      have Xq := X1.agr G aX
      have nxt : ∀ (q : AH) (best : Nat) (u7 u8 : AV), LX B n q → Agr (asW B s0 s1) h2 q → (∀ k, k < pl → hv q (B + 131) k = if ρ k = ρ i then 1 else 0) → SwI tm pl (HiS n S bd wy sh (fun z => TCon jn ja jb (aC' jx none0 ax) i z) ax y) (x + 1) 0 best → Ends (ev PP (gsF gv) B d 122 139 [(2, rf (B + 118)), (0, (i : Int)), (0, (ax : Int)), (0, y), (0, (tm : Int)), (0, (best : Int)), (0, (x : Int)), u7, u8] [] q) Q := fun q best u7 u8 lq gq oq sw => by
        refine Ends.eq (b122_139 (n := n) (by (repeat' first | assumption | refine LX.setF _ _ ?_ (by decide +kernel) | refine LX.setS ?_ rfl | refine LX.setA ?_ (by first | assumption | omega))) (by first | assumption | omega)) ?_
        rw [w_succ (by omega)]
        exact ih (x + 1) q best _ _ (by omega) lq gq oq sw
      refine Ends.eq (b122_25 (n := n) (by (repeat' first | assumption | refine LX.setF _ _ ?_ (by decide +kernel) | refine LX.setS ?_ rfl | refine LX.setA ?_ (by first | assumption | omega))) (by first | assumption | omega)) ?_
      rw [Xq.2.2.2.1, Xq.2.2.2.2.1, tn, oq x hxp]
      refine Ends.b3 (fun z => by omega) (fun _ => Ends.g ⟨by omega, by omega⟩ ?_)
      by_cases gx : ρ x = ρ i
      · rw [if_pos gx]
        refine Ends.b0 (fun z => absurd z (by decide)) (fun _ => nxt q best _ _ lq gq oq (sw.skip (fun b u z => z.1 ((gT x hxp).mp gx))))
      rw [if_neg gx]
      refine Ends.b0 (fun _ => ?_) (fun z => absurd rfl z)
      have tu := Xq.turn (gv := gv) (d := d) (b := false) lq (by omega) hn0 hn V hxp
      simp only [Bool.false_eq_true, if_false] at tu
      refine Ends.cv lq (by decide +kernel) tu (fun q2 l2' _ _ _ ⟨g2', R0, z0, t0⟩ => ?_)
      have gq2' : Agr (asW B s0 s1) h2 q2 := gq.tr g2' (fun c k z => by unfold tuW at z; unfold asW; omega)
      have oq2 : ∀ k, k < pl → hv q2 (B + 131) k = if ρ k = ρ i then 1 else 0 := fun k hk => by
        have s0g := X1.2.2.2.2.2.2.1.1
        rw [g2'.at _ _ (by unfold tuW; omega)]; exact oq k hk
      refine Ends.eq (b122_57 (n := n) (by (repeat' first | assumption | refine LX.setF _ _ ?_ (by decide +kernel) | refine LX.setS ?_ rfl | refine LX.setA ?_ (by first | assumption | omega))) (by first | assumption | omega)) ?_
      have cols : ∀ (r2 z : Nat) (q3 : AH) (best : Nat) (u8 : AV), z + r2 = pl → LX B n q3 → Agr (asW B s0 s1) h2 q3 → (∀ k, k < pl → hv q3 (B + 131) k = if ρ k = ρ i then 1 else 0) → SG n q3 s0 R0 → SwI tm pl (HiS n S bd wy sh (fun z => TCon jn ja jb (aC' jx none0 ax) i z) ax y) x z best → Ends (ev PP (gsF gv) B d 122 60 [(2, rf (B + 118)), (0, (i : Int)), (0, (ax : Int)), (0, y), (0, (tm : Int)), (0, (best : Int)), (0, (x : Int)), (0, (z : Int)), u8] [] q3) Q := by
        intro r2
        induction r2 with
        | zero =>
          intro z q3 best u8 hz l3 g3 o3 z3 sw3
          obtain rfl : z = pl := by omega
          have X3 := X1.agr (gq2.tr g3 (fun c k z => z)) aX
          refine Ends.eq (b122_60 (n := n) (by (repeat' first | assumption | refine LX.setF _ _ ?_ (by decide +kernel) | refine LX.setS ?_ rfl | refine LX.setA ?_ (by first | assumption | omega))) (by first | assumption | omega)) ?_
          rw [X3.2.2.2.1]
          exact Ends.b3 (fun _ => nxt q3 best _ _ l3 g3 o3 sw3.row) (fun z => by omega)
        | succ r2 ihc =>
          intro z q3 best u8 hz l3 g3 o3 z3 sw3
          have hzp : z < pl := by omega
          have X3 := X1.agr (gq2.tr g3 (fun c k z => z)) aX
          have nx2 : ∀ (q4 : AH) (best : Nat) (u8 : AV), LX B n q4 → Agr (asW B s0 s1) h2 q4 → (∀ k, k < pl → hv q4 (B + 131) k = if ρ k = ρ i then 1 else 0) → SG n q4 s0 R0 → SwI tm pl (HiS n S bd wy sh (fun z => TCon jn ja jb (aC' jx none0 ax) i z) ax y) x (z + 1) best → Ends (ev PP (gsF gv) B d 122 133 [(2, rf (B + 118)), (0, (i : Int)), (0, (ax : Int)), (0, y), (0, (tm : Int)), (0, (best : Int)), (0, (x : Int)), (0, (z : Int)), u8] [] q4) Q := fun q4 best u8 l4 g4 o4 z4 sw4 => by
            refine Ends.eq (b122_133 (n := n) (by (repeat' first | assumption | refine LX.setF _ _ ?_ (by decide +kernel) | refine LX.setS ?_ rfl | refine LX.setA ?_ (by first | assumption | omega))) (by first | assumption | omega)) ?_
            rw [w_succ (by omega)]
            exact ihc (z + 1) q4 best _ (by omega) l4 g4 o4 z4 sw4
          refine Ends.eq (b122_60 (n := n) (by (repeat' first | assumption | refine LX.setF _ _ ?_ (by decide +kernel) | refine LX.setS ?_ rfl | refine LX.setA ?_ (by first | assumption | omega))) (by first | assumption | omega)) ?_
          rw [X3.2.2.2.1, X3.2.2.2.2.2.1, tn, o3 z hzp]
          refine Ends.b3 (fun z => by omega) (fun _ => Ends.g ⟨by omega, by omega⟩ ?_)
          by_cases gz : ρ z = ρ i
          rotate_left
          · rw [if_neg gz]
            exact Ends.b1 (fun z => absurd rfl z) (fun _ => nx2 q3 best _ l3 g3 o3 z3 (sw3.next (fun u _ w => gz ((gT z hzp).mpr w.2.1))))
          rw [if_pos gz]
          refine Ends.b1 (fun _ => ?_) (fun z => absurd z (by decide))
          have tu3 := X3.turn (gv := gv) (d := d) (b := true) l3 (by omega) hn0 hn V hzp
          simp only [if_true] at tu3
          refine Ends.cv l3 (by decide +kernel) tu3 (fun q4 l4 _ _ _ ⟨g4, R1, z1, t1⟩ => ?_)
          have gq4 : Agr (asW B s0 s1) h2 q4 := g3.tr g4 (fun c k z => by unfold tuW at z; unfold asW; omega)
          have X4 := X1.agr (gq2.tr gq4 (fun c k z => z)) aX
          have z04 : SG n q4 s0 R0 := z3.agr g4 (fun k z => by unfold tuW at z; omega)
          have s1g := X1.2.2.2.2.2.2.2.1.1
          have oq4 : ∀ k, k < pl → hv q4 (B + 131) k = if ρ k = ρ i then 1 else 0 := fun k hk => by rw [g4.at _ _ (by unfold tuW; omega)]; exact o3 k hk
          refine Ends.eq (b122_92 (n := n) (by (repeat' first | assumption | refine LX.setF _ _ ?_ (by decide +kernel) | refine LX.setS ?_ rfl | refine LX.setA ?_ (by first | assumption | omega))) (by first | assumption | omega)) ?_
          have go2 : ¬ TCon jn ja jb (aC' jx none0 ax) i x ∧ TCon jn ja jb (aC' jx none0 ax) i z := ⟨fun w => gx ((gT x hxp).mpr w), (gT z hzp).mp gz⟩
          have bt := sw3.1
          have endk : ∀ k, k ≤ best → SwI tm pl (HiS n S bd wy sh (fun z => TCon jn ja jb (aC' jx none0 ax) i z) ax y) x (z + 1) k → Ends (ev PP (gsF gv) B d 122 124 [(2, rf (B + 118)), (0, (i : Int)), (0, (ax : Int)), (0, y), (0, (tm : Int)), (0, (best : Int)), (0, (x : Int)), (0, (z : Int)), (0, (k : Int))] [] q4) Q := fun k hk sw4 => by
            refine Ends.eq (b122_124 (n := n) (by (repeat' first | assumption | refine LX.setF _ _ ?_ (by decide +kernel) | refine LX.setS ?_ rfl | refine LX.setA ?_ (by first | assumption | omega))) (by first | assumption | omega)) ?_
            rw [minN, Nat.min_eq_right hk]
            exact nx2 q4 k _ l4 gq4 oq4 z04 sw4
          have steps : ∀ (c k : Nat), k + c = best → (∀ u, u < k → ¬ HiS n S bd wy sh (fun z => TCon jn ja jb (aC' jx none0 ax) i z) ax y x z u) → Ends (ev PP (gsF gv) B d 122 95 [(2, rf (B + 118)), (0, (i : Int)), (0, (ax : Int)), (0, y), (0, (tm : Int)), (0, (best : Int)), (0, (x : Int)), (0, (z : Int)), (0, (k : Int))] [] q4) Q := by
            intro c
            induction c with
            | zero =>
              intro k hk no
              obtain rfl : k = best := by omega
              refine Ends.eq (b122_95 (n := n) (by (repeat' first | assumption | refine LX.setF _ _ ?_ (by decide +kernel) | refine LX.setS ?_ rfl | refine LX.setA ?_ (by first | assumption | omega))) (by first | assumption | omega)) ?_
              exact Ends.b3 (fun _ => endk k (Nat.le_refl _) (sw3.next no)) (fun z => by omega)
            | succ c ihk =>
              intro k hk no
              have yb : -1000 ≤ (k : Int) * y ∧ (k : Int) * y ≤ 1000 := by
                have h1 : (k : Int) * y ≤ (k : Int) * 8 := Int.mul_le_mul_of_nonneg_left hy.2 (by omega)
                have h2 : (k : Int) * (-8) ≤ (k : Int) * y := Int.mul_le_mul_of_nonneg_left hy.1 (by omega)
                omega
              refine Ends.eq (b122_95 (n := n) (by (repeat' first | assumption | refine LX.setF _ _ ?_ (by decide +kernel) | refine LX.setS ?_ rfl | refine LX.setA ?_ (by first | assumption | omega))) (by first | assumption | omega)) ?_
              rw [mul32 (by omega) (by omega)]
              refine Ends.b3 (fun z => by omega) (fun _ => ?_)
              have me := X4.meet (gv := gv) (d := d) (ax := ax) (y := (k : Int) * y) l4 (by omega) hn0 hn V hM hxp hzp z04 z1 t0 t1 yb
              refine Ends.ct l4 (by decide +kernel) (by decide) me (fun v q5 l5 _ _ _ ⟨e5, evv⟩ => ?_)
              subst e5
              refine Ends.eq (b122_115 (n := n) (by (repeat' first | assumption | refine LX.setF _ _ ?_ (by decide +kernel) | refine LX.setS ?_ rfl | refine LX.setA ?_ (by first | assumption | omega))) (by first | assumption | omega)) ?_
              rcases evv with ⟨rfl, yes⟩ | ⟨rfl, nom⟩
              · exact Ends.b1 (fun _ => endk k (by omega) (sw3.less hxp hzp (by omega) no ⟨go2.1, go2.2, yes⟩)) (fun z => absurd z (by decide))
              · refine Ends.b1 (fun z => absurd rfl z) (fun _ => ?_)
                rw [w_succ (by omega)]
                refine ihk (k + 1) (by omega) (fun u hu => ?_)
                by_cases e : u = k
                · rw [e]; exact fun w => nom w.2.2
                · exact no u (by omega)
          exact steps best 0 (by omega) (fun u hu => absurd hu (by omega))
      exact cols pl 0 q2 best _ (by omega) l2' gq2' oq2 z0 sw
  exact rows pl 0 h2 (tm + 1) _ _ (by omega) l2 Agr.rf go ⟨Nat.le_refl _, fun z => absurd z (by omega), fun a' b' u h1 _ _ => absurd h1 (by omega)⟩
end SWEEP122
