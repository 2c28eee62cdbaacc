/-! L3: walls as changes (both) -/
section WALLS
variable {gv : Nat → Int} {B n d f f1 tl mo xe op r : Nat} {h : AH} {S : Nat → Bool} {nb : Nat → Int}
theorem al_18 (l : LX B n h) (hd : 20 ≤ d) (hn : n ≤ 52) (m : TbM B h) (b : MB B n h 11 S) (F1 : YF B f1 h) (hk : hv h f1 1 = 18) (pv : PvM B h 2 nb) (e0 : nb 0 = (r : Int)) (e1 : nb 1 = (op : Int)) (hr : r ≤ 8) (ho : op < 64) :
    Vt 0 (cll PP (ev PP (gsF gv) B) d 546 [(2, rf (B + 149)), (2, rf f1)] h) (fun v h' => v = 1 ∧ Agr (alW B n) h h' ∧ ∃ lo mo, BoI n (fun g k a => g < gN n ∧ k < 4 ∧ S g = true) lo mo ∧ MB B n h' 18 (fun g => S g && !dpK n op r lo mo S g)) := by
  refine Vt.inq (D := 19) hd (Nat.le_of_ble_eq_true rfl) rfl (fun d hd Q K => ?_)
  refine Ends.eq (b546_0 l (by omega) F1) ?_
  rw [hk]
  show Ends (ev PP (gsF gv) B d 546 224 _ [] h) Q
  refine Ends.eq (b546_224 l (by omega)) ?_
  refine Ends.cv l (by decide +kernel) (c_shell822 (op := op) (r := r) l (by omega) hn m b ho hr (by rw [pv 0 (by decide), e0]) (by rw [pv 1 (by decide), e1])) (fun q2 l2 _ _ _ ⟨g2, lo, mo, bo, m2⟩ => ?_)
  refine Ends.eq (b546_228 l2 (by omega)) ?_
  refine Ends.sm (K _ _ ⟨rfl, g2.sub (fun c k z => ?_), lo, mo, bo, m2⟩)
  rcases z with z | z
  · exact wto_al (by decide) z
  · exact Or.inr (Or.inr (Or.inr z))
theorem ch_18 (l : LX B n h) (hd : 20 ≤ d) (hn0 : 0 < n) (hn : n ≤ 52) (m : TbC B h) (P : PtD B n h tl mo xe) (R : Reg B n h) (F : FlI B n h) (sp : SG n h (B + 117) S) (pv : PvC B h 2 nb) (e0 : nb 0 = (r : Int)) (e1 : nb 1 = (op : Int)) (hr : r ≤ 8) (ho : op < 64) :
    Vt 0 (cll PP (ev PP (gsF gv) B) d 255 [(2, rf (B + 92)), (0, (f : Int)), (0, (18 : Int))] h) (fun v h' => v = 1 ∧ FlE B n (chW B h tl) 8 (8 * (24 * n * n)) h h' ∧ ∃ T, SG n h' (B + 117) T ∧ ∀ lo mo, BoI n (fun g k a => g < gN n ∧ k < 4 ∧ S g = true) lo mo → ∀ g, g < gN n → T g = (S g && !dpK n op r lo mo S g)) := by
  obtain ⟨e12, e13, e14, ⟨pt1, pt2, pt3, pt4⟩, pm, px, -⟩ := P
  have nfl : ¬ FlO B h tl := scr_fl R F pt3
  refine Vt.inq (D := 19) hd (Nat.le_of_ble_eq_true rfl) rfl (fun d hd Q K => ?_)
  refine Ends.eq (b255_0 l (by omega)) ?_
  show Ends (ev PP (gsF gv) B d 255 256 _ [] h) Q
  refine Ends.eq (b255_256 l (by omega)) ?_
  refine Ends.cv l (by decide +kernel) (c_shell306 (op := op) (r := r) l (by omega) hn0 hn m sp e12 pt1 pt4 (by rw [pv 0 (by decide), e0]) (by rw [pv 1 (by decide), e1]) ho hr) (fun h2 l2 _ _ _ ⟨g2, en, ee, s2⟩ => ?_)
  refine Ends.eq (b255_260 l2 (by omega)) ?_
  refine Ends.sm (K _ _ ⟨rfl, g2.fle l.2.2 R F (fun c k z w => by unfold shW at w; omega) (fun a k z w => ?_) (fun c k z => by unfold shW at z; unfold chW; omega), _, s2, fun lo mo bo g hg => ?_⟩)
  · have := F.own z
    unfold shW at w
    rcases w with w | w | w | w
    · omega
    · exact nfl (w ▸ z)
    · omega
    · omega
  · show (S g && !shI2 n op r en S g) = (S g && !dpK n op r lo mo S g)
    cases hS : S g
    · rfl
    · rw [sh_law bo ee hg hS]
end WALLS
