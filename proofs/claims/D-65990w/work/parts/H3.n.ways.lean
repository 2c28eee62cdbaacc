/-! L3: how many dimensions are needed from an end to the goal: plain law, the desk's rounds -/
noncomputable section WAYS
variable {D : Nat} {V : Nat → Nat → Int} {T : Nat → Bool} {G : Nat → Int} {gv : Nat → Int} {B n d : Nat} {h : AH}
/-- the name at an end; ends of the same name; the other end -/
def wyN (V : Nat → Nat → Int) (e k : Nat) : Int := V (e / 2) (3 * (e % 2) + k)
abbrev sE (V : Nat → Nat → Int) (e f : Nat) : Prop := ∀ k, k < 3 → wyN V e k = wyN V f k
abbrev isE (V : Nat → Nat → Int) (e : Nat) (G : Nat → Int) : Prop := ∀ k, k < 3 → wyN V e k = G k
def twE (e : Nat) : Nat := if e % 2 = 0 then e + 1 else e - 1
theorem twE_2 (e : Nat) : twE e / 2 = e / 2 ∧ twE (twE e) = e ∧ twE e % 2 = 1 - e % 2 := by
  unfold twE
  by_cases z : e % 2 = 0
  · rw [if_pos z, if_neg (show ¬ (e + 1) % 2 = 0 by omega)]; omega
  · rw [if_neg z, if_pos (show (e - 1) % 2 = 0 by omega)]; omega
theorem twE_lt {e : Nat} (h : e < 2 * D) : twE e < 2 * D := by have := (twE_2 e).1; omega
theorem sE.sy {e f : Nat} (x : sE V e f) : sE V f e := fun k hk => (x k hk).symm
theorem sE.tr {e f g : Nat} (x : sE V e f) (y : sE V f g) : sE V e g := fun k hk => (x k hk).trans (y k hk)
theorem sE_self (e : Nat) : sE V e e := fun k _ => rfl
/-- the goal is reached from there by so many dimensions at most -/
def rc (D : Nat) (V : Nat → Nat → Int) (T : Nat → Bool) (G : Nat → Int) : Nat → Nat → Prop
  | 0, e => isE V e G
  | v + 1, e => rc D V T G v e ∨ ∃ f, f < 2 * D ∧ sE V e f ∧ T (f / 2) = true ∧ rc D V T G v (twE f)
theorem rc.up {v e : Nat} (x : rc D V T G v e) : ∀ w, rc D V T G (v + w) e
  | 0 => x
  | w + 1 => Or.inl (rc.up x w)
theorem rc.le {v w e : Nat} (x : rc D V T G v e) (h : v ≤ w) : rc D V T G w e := by
  obtain ⟨k, rfl⟩ := Nat.exists_eq_add_of_le h
  exact x.up k
theorem rc.sm : ∀ {v e f : Nat}, rc D V T G v e → sE V e f → rc D V T G v f
  | 0, e, f, x, s => fun k hk => (s k hk).symm.trans (x k hk)
  | v + 1, e, f, x, s => by
    rcases x with x | ⟨g, x1, x2, x3, x4⟩
    · exact Or.inl (rc.sm x s)
    · exact Or.inr ⟨g, x1, s.sy.tr x2, x3, x4⟩
/-- exactly so many -/
def rcX (D : Nat) (V : Nat → Nat → Int) (T : Nat → Bool) (G : Nat → Int) (v e : Nat) : Prop := rc D V T G v e ∧ ∀ w, w < v → ¬ rc D V T G w e
theorem rc.ex : ∀ {v e : Nat}, rc D V T G v e → ∃ w, w ≤ v ∧ rcX D V T G w e
  | 0, e, x => ⟨0, Nat.le_refl _, x, fun w hw => absurd hw (Nat.not_lt_zero _)⟩
  | v + 1, e, x => by
    by_cases z : rc D V T G v e
    · obtain ⟨w, h1, h2⟩ := rc.ex z
      exact ⟨w, by omega, h2⟩
    · exact ⟨v + 1, Nat.le_refl _, x, fun w hw y => z (y.le (by omega))⟩
theorem rcX.uniq {v w e : Nat} (x : rcX D V T G v e) (y : rcX D V T G w e) : v = w := by
  rcases Nat.lt_trichotomy v w with z | z | z
  · exact absurd x.1 (y.2 v z)
  · exact z
  · exact absurd y.1 (x.2 w z)
theorem rcX.step {v e : Nat} (x : rcX D V T G (v + 1) e) : ∃ f, f < 2 * D ∧ sE V e f ∧ T (f / 2) = true ∧ rcX D V T G v (twE f) := by
  rcases x.1 with y | ⟨f, y1, y2, y3, y4⟩
  · exact absurd y (x.2 v (by omega))
  · refine ⟨f, y1, y2, y3, y4, fun w hw z => x.2 (w + 1) (by omega) (Or.inr ⟨f, y1, y2, y3, z⟩)⟩
theorem rcX.all : ∀ {v e : Nat}, e < 2 * D → rcX D V T G v e → ∃ p : Nat → Nat, ∀ u, u ≤ v → p u < 2 * D ∧ rcX D V T G u (p u)
  | 0, e, he, x => ⟨fun _ => e, fun u hu => by have : u = 0 := by omega
                                               subst this; exact ⟨he, x⟩⟩
  | v + 1, e, he, x => by
    obtain ⟨f, f1, f2, f3, f4⟩ := x.step
    obtain ⟨p, hp⟩ := rcX.all (twE_lt f1) f4
    refine ⟨fun u => if u = v + 1 then e else p u, fun u hu => ?_⟩
    by_cases z : u = v + 1
    · show (if u = v + 1 then e else p u) < 2 * D ∧ rcX D V T G u (if u = v + 1 then e else p u)
      rw [if_pos z, z]; exact ⟨he, x⟩
    · show (if u = v + 1 then e else p u) < 2 * D ∧ rcX D V T G u (if u = v + 1 then e else p u)
      rw [if_neg z]; exact hp u (by omega)
theorem rcX.lt {v e : Nat} (he : e < 2 * D) (x : rcX D V T G v e) : v < 2 * D := by
  obtain ⟨p, hp⟩ := rcX.all he x
  have := inj_le (v + 1) (2 * D) p (fun i hi => (hp i (by omega)).1) (fun i j hi hj e => by
    have a := (hp i (by omega)).2
    have b := (hp j (by omega)).2
    rw [e] at a
    exact a.uniq b)
  omega
/-- the level told: 1000 without a way -/
def LvT (D : Nat) (V : Nat → Nat → Int) (T : Nat → Bool) (G : Nat → Int) (e : Nat) (x : Int) : Prop := (∃ v : Nat, x = (v : Int) ∧ v < 2 * D ∧ rcX D V T G v e) ∨ (x = 1000 ∧ ∀ v, ¬ rc D V T G v e)
theorem LvT.uniq {e : Nat} {x y : Int} (a : LvT D V T G e x) (b : LvT D V T G e y) : x = y := by
  rcases a with ⟨v, a1, _, a3⟩ | ⟨a1, a2⟩
  · rcases b with ⟨w, b1, _, b3⟩ | ⟨b1, b2⟩
    · rw [a1, b1, a3.uniq b3]
    · exact absurd a3.1 (b2 v)
  · rcases b with ⟨w, b1, _, b3⟩ | ⟨b1, b2⟩
    · exact absurd b3.1 (a2 w)
    · rw [a1, b1]
/-- told numbers are sound; and reach so far -/
def FwS (D : Nat) (V : Nat → Nat → Int) (T : Nat → Bool) (G : Nat → Int) (f : Nat → Int) : Prop := ∀ e, e < 2 * D → (0 ≤ f e ∧ f e ≤ 1000) ∧ (f e < 1000 → rc D V T G (f e).toNat e)
def FwC (D : Nat) (V : Nat → Nat → Int) (T : Nat → Bool) (G : Nat → Int) (v : Nat) (f : Nat → Int) : Prop := ∀ e w, e < 2 * D → w ≤ v → rc D V T G w e → f e ≤ (w : Int)
theorem FwS.lv {f : Nat → Int} (hD : D ≤ 16) (s : FwS D V T G f) (c : FwC D V T G (2 * D) f) {e : Nat} (he : e < 2 * D) : LvT D V T G e (f e) := by
  obtain ⟨⟨s1, s2⟩, s3⟩ := s e he
  by_cases z : ∃ v, rc D V T G v e
  · obtain ⟨v, hv'⟩ := z
    obtain ⟨w, _, hw⟩ := hv'.ex
    have wl := hw.lt he
    have le := c e w he (by omega) hw.1
    have r := s3 (by omega)
    have : w ≤ (f e).toNat := Nat.le_of_not_lt (fun y => hw.2 _ y r)
    exact Or.inl ⟨w, by omega, wl, hw⟩
  · refine Or.inr ⟨?_, fun v y => z ⟨v, y⟩⟩
    by_cases y : f e < 1000
    · exact absurd ⟨_, s3 y⟩ z
    · omega
/-- a number made smaller soundly -/
theorem FwS.up {f f' : Nat → Int} {e : Nat} {x : Int} (s : FwS D V T G f) (h0 : 0 ≤ x) (h : x < 1000 → rc D V T G x.toNat e) (ef : ∀ i, f' i = if i = e then (if x < f i then x else f i) else f i) : FwS D V T G f' ∧ ∀ i, f' i ≤ f i := by
  refine ⟨fun i hi => ?_, fun i => ?_⟩
  · obtain ⟨⟨s1, s2⟩, s3⟩ := s i hi
    rw [ef i]
    by_cases z : i = e
    · rw [if_pos z]
      by_cases y : x < f i
      · rw [if_pos y]; exact ⟨⟨h0, by omega⟩, fun w => z ▸ h w⟩
      · rw [if_neg y]; exact ⟨⟨s1, s2⟩, s3⟩
    · rw [if_neg z]; exact ⟨⟨s1, s2⟩, s3⟩
  · rw [ef i]
    by_cases z : i = e
    · rw [if_pos z]
      by_cases y : x < f i
      · rw [if_pos y]; omega
      · rw [if_neg y]; exact Int.le_refl _
    · rw [if_neg z]; exact Int.le_refl _
theorem FwC.lo {f f' : Nat → Int} {v : Nat} (c : FwC D V T G v f) (le : ∀ i, f' i ≤ f i) : FwC D V T G v f' := fun e w he hw r => Int.le_trans (le e) (c e w he hw r)
/-- within a round: what the ends below k have given -/
def FwP (D : Nat) (V : Nat → Nat → Int) (T : Nat → Bool) (G : Nat → Int) (v k : Nat) (f : Nat → Int) : Prop := ∀ k', k' < k → T (k' / 2) = true → ∀ e w, e < 2 * D → sE V e k' → w ≤ v → rc D V T G w (twE k') → f e ≤ (w : Int) + 1
theorem FwP.lo {f f' : Nat → Int} {v k : Nat} (p : FwP D V T G v k f) (le : ∀ i, f' i ≤ f i) : FwP D V T G v k f' := fun k' hk t e w he s hw r => Int.le_trans (le e) (p k' hk t e w he s hw r)
theorem FwP.fin {f : Nat → Int} {v : Nat} (c : FwC D V T G v f) (p : FwP D V T G v (2 * D) f) : FwC D V T G (v + 1) f := fun e w he hw r => by
  rcases (by omega : w ≤ v ∨ w = v + 1) with z | z
  · exact c e w he z r
  · subst z
    rcases r with r | ⟨g, g1, g2, g3, g4⟩
    · have := c e v he (Nat.le_refl _) r; omega
    · have := p g g1 g3 e v he g2 (Nat.le_refl _) g4; omega
/-- whether a dimension's end has the name told at a place (desk) -/
theorem c_isName46 {e at' a N : Nat} (l : LX B n h) (hd : 10 ≤ d) (dm : DmD B h D V) (he : e < 2 * D) (ka : hk h a = (2, N)) (hat : at' + 3 ≤ N) (hN : N ≤ 1000) (I : ∀ k, k < 3 → hv h a (at' + k) = G k) :
    Vt 0 (cll PP (ev PP (gsF gv) B) d 46 [(2, rf (B + 0)), (0, ((e / 2 : Nat) : Int)), (0, ((e % 2 : Nat) : Int)), (2, (rf a)), (0, (at' : Int))] h) (fun v h' => h' = h ∧ v = if isE V e G then 1 else 0) := by
  have hb := l.2.2
  obtain ⟨d1, d2, d3⟩ := dm
  refine Vt.inq (D := 9) hd (Nat.le_of_ble_eq_true rfl) rfl (fun d hd Q K => ?_)
  have key : ∀ (r j : Nat), j + r = 3 → (∀ k, k < j → wyN V e k = G k) → Ends (ev PP (gsF gv) B d 46 3 [(2, rf (B + 0)), (0, ((e / 2 : Nat) : Int)), (0, ((e % 2 : Nat) : Int)), (2, rf a), (0, (at' : Int)), (0, (j : Int))] [] h) Q := by
    intro r
    induction r with
    | zero =>
      intro j ej I0
      obtain rfl : j = 3 := by omega
      exact Ends.eq (b46_3 l (by omega)) (Ends.b3 (fun _ => Ends.sm (K _ _ ⟨rfl, by rw [if_pos I0]⟩)) (fun z => absurd z (by decide)))
    | succ r ih =>
      intro j ej I0
      have hj : j < 3 := by omega
      refine Ends.eq (b46_3 l (by omega)) (Ends.b3 (fun z => by omega) (fun _ => ?_))
      rw [show bop32 96 (bop32 96 (bop32 104 (8 : Int) ((e / 2 : Nat) : Int)) (bop32 104 (3 : Int) ((e % 2 : Nat) : Int))) (j : Int) = ((8 * (e / 2) + (3 * (e % 2) + j) : Nat) : Int) from by rw [show bop32 104 (8 : Int) ((e / 2 : Nat) : Int) = ((8 * (e / 2) : Nat) : Int) from mulNN (x := 8) (by omega), show bop32 104 (3 : Int) ((e % 2 : Nat) : Int) = ((3 * (e % 2) : Nat) : Int) from mulNN (x := 3) (by omega), addNN (by omega), addNN (by omega), Nat.add_assoc], show bop32 96 (at' : Int) (j : Int) = ((at' + j : Nat) : Int) from addNN (by omega), tn, tn, ad_rf, ka, d3 (e / 2) (3 * (e % 2) + j) (by omega) (by omega), I j hj, w_succ (by omega)]
      refine Ends.g ⟨by omega, by omega⟩ (Ends.g ⟨rf_pos _, rfl, by omega, by show ((at' + j : Nat) : Int) < ((N : Nat) : Int); omega⟩ (Ends.b0 (fun z => ih (j + 1) (by omega) (fun k hk => ?_)) (fun z => Ends.sm (K _ _ ⟨rfl, by rw [if_neg (fun y => z (y j hj))]⟩))))
      by_cases ek : k = j
      · rw [ek]; exact z
      · exact I0 k (by omega)
  exact Ends.eq (b46_0 l (by omega)) (key 3 0 rfl (fun k hk => absurd hk (Nat.not_lt_zero k)))
end WAYS
