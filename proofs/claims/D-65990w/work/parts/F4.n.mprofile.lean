/-! L3: profiles (model): the whole -/
section PMW
variable {gv : Nat → Int} {B n d w1 q s np nl nd nk : Nat} {h : AH} {ab be dw : Nat → Int} {lv dlv dgk : Nat → Bool} {fr to_ dc : Nat → Nat} {cs : Nat → Cst} {w xa xb xc dr : Nat → Int} {isC gk : Nat → Bool} {Inv : AH → Prop}
theorem LinM.far {t : AH} {W : Nat → Nat → Prop} (L : LinM h w1 np nl lv fr to_) (lo : B + 246 ≤ w1) (g : Agr W h t) (hW : ∀ c k, W c k → c < B + 246) : LinM t w1 np nl lv fr to_ := by
  have at_ : ∀ j k, hv t (w1 + j) k = hv h (w1 + j) k := fun j k => g.at _ _ (fun z => by have := hW _ _ z; omega)
  obtain ⟨⟨a1, a2, a3⟩, a4⟩ := L
  exact ⟨⟨(at_ 0 3).trans a1, a2, a3⟩, fun k hk => by rw [at_, at_, at_]; exact a4 k hk⟩
theorem DcM.far {t : AH} {W : Nat → Nat → Prop} (D : DcM h w1 np nd dlv dc) (lo : B + 246 ≤ w1) (g : Agr W h t) (hW : ∀ c k, W c k → c < B + 246) : DcM t w1 np nd dlv dc := by
  have at_ : ∀ j k, hv t (w1 + j) k = hv h (w1 + j) k := fun j k => g.at _ _ (fun z => by have := hW _ _ z; omega)
  obtain ⟨⟨a1, a2⟩, a4⟩ := D
  exact ⟨⟨(at_ 0 4).trans a1, a2⟩, fun k hk => by rw [at_, at_]; exact a4 k hk⟩
theorem GvN.far {t : AH} {W : Nat → Nat → Prop} (H : GvN gv B n w1 nd h dlv dgk dw Inv) (lo : B + 246 ≤ w1) (g : Agr W h t) (hW : ∀ c k, W c k → c < B + 246) : GvN gv B n w1 nd t dlv dgk dw Inv := fun k d' q a1 a2 a3 a4 a5 => by
  rw [g.at (w1 + 7) k (fun z => by have := hW _ _ z; omega)]
  exact H k d' q a1 a2 a3 a4 a5
def ppW (B : Nat) : Nat → Nat → Prop := fun c k => hlW B c k ∨ pqW B c k
theorem pp_lo {c k : Nat} (z : ppW B c k) : c < B + 246 := by
  rcases z with z | z
  · exact ho_lo z
  · unfold pqW at z; omega
/-- what the profile's number is, and what it leaves -/
def PfQ (B n nk np : Nat) (cs : Nat → Cst) (w dr : Nat → Int) (isC gk lv : Nat → Bool) (fr to_ : Nat → Nat) (nd : Nat) (dlv : Nat → Bool) (dc : Nat → Nat) (dgk : Nat → Bool) (dw : Nat → Int) (x : Int) (h' : AH) : Prop := (1 < slS nk np isC gk cs w ∧ x = 1) ∨ (slS nk np isC gk cs w ≤ 1 ∧ ∃ X t, Sln (EqE nk isC cs w) (2 * np) dr X t ∧ PrR n false (fun j => mN (X j) t) (fun j => mD (X j) t) lv fr to_ nd dlv dc dgk dw x ∧ (x = 0 ∨ 4 ≤ x → HfM B n h' (fun j => mN (X j) t) lv fr to_) ∧ (x = 0 → PfM B n h' (fun j => mN (X j) t) lv fr to_ nd dlv dc dw))
theorem c_profileOf785 (l : LX B n h) (n64 : n ≤ 64) (hd : 997 ≤ d) (H : MdH gv B n w1 nk np h cs w xa xb xc dr isC gk Inv) (i0 : Inv h) (hP : ∀ q q', Inv q → Agr (pqW B) q q' → Inv q') (L : LinM h w1 np nl lv fr to_) (D : DcM h w1 np nd dlv dc) (HR : GvN gv B n w1 nd h dlv dgk dw Inv) :
    Vt 0 (cll PP (ev PP (gsF gv) B) d 785 [(2, rf (B + 149)), (2, rf w1)] h) (fun x h' => Agr (ppW B) h h' ∧ Inv h' ∧ PfQ B n nk np cs w dr isC gk lv fr to_ nd dlv dc dgk dw x h') := by
  have lo := H.1.1.lo
  refine Vt.inq (D := 996) hd (Nat.le_of_ble_eq_true rfl) rfl (fun d hd Q K => ?_)
  refine Ends.eq (b785_0 (n := n) (by (repeat' first | assumption | refine LX.setF _ _ ?_ (by decide +kernel) | refine LX.setS ?_ rfl | refine LX.setA ?_ (by first | assumption | omega))) (by first | assumption | omega)) ?_
  obtain ⟨q1, eq1⟩ : ∃ q1, q1 = hset (hset h (B + 149) 56 0) (B + 149) 57 0 := ⟨_, rfl⟩
  have g1 : Agr (pqW B) h q1 := by rw [eq1]; exact (Agr.rf.set (Or.inr ⟨rfl, Or.inl rfl⟩)).set (Or.inr ⟨rfl, Or.inr rfl⟩)
  have l1 : LX B n q1 := by rw [eq1]; exact (by (repeat' first | assumption | refine LX.setF _ _ ?_ (by decide +kernel) | refine LX.setS ?_ rfl | refine LX.setA ?_ (by assumption)))
  have i1 := hP _ _ i0 g1
  have pmlo : ∀ c k, pqW B c k → c < B + 246 := fun c k z => by unfold pqW at z; omega
  have hllo : ∀ c k, hlW B c k → c < B + 246 := fun c k z => ho_lo z
  have z56 : hv q1 (B + 149) 56 = 0 := by rw [eq1, hv_set_ne (by omega)]; exact hv_set_at _ _ _ _
  have z57 : hv q1 (B + 149) 57 = 0 := by rw [eq1]; exact hv_set_at _ _ _ _
  have H1 := H.far g1 pmlo
  rw [← eq1]
  obtain ⟨⟨S1, C1, D1, e1⟩, hI1, HG1⟩ := id H1
  refine Ends.ct l1 (by decide +kernel) (by decide) (c_solved837 l1 (by omega) S1 C1 e1 D1 hI1.1 i1 HG1) (fun y q2 l2 _ _ _ ⟨g2, i2, S2⟩ => ?_)
  have ex := S2.x
  have at2 : ∀ k, 56 ≤ k → hv q2 (B + 149) k = hv q1 (B + 149) k := fun k hk => g2.at _ _ (fun z => by
    rcases z with z | z
    · unfold skW at z; omega
    · have := wvq_lo z; omega)
  have G2 : Agr (ppW B) h q2 := (g1.sub (fun _ _ z => Or.inr z)).tr g2 (fun _ _ z => Or.inl z)
  have S2' : YS B w1 q2 := S1.agr g2 (fun k _ z => by have := ho_lo z; omega)
  refine Ends.eq (b785_15 (n := n) (by (repeat' first | assumption | refine LX.setF _ _ ?_ (by decide +kernel) | refine LX.setS ?_ rfl | refine LX.setA ?_ (by first | assumption | omega))) (by first | assumption | omega)) ?_
  refine Ends.b2 (fun z => ?_) (fun z => Ends.sm (K _ _ ⟨G2, i2, Or.inl ⟨by omega, rfl⟩⟩))
  obtain ⟨X, t, sln, fr_⟩ : ∃ X t, Sln (EqE nk isC cs w) (2 * np) dr X t ∧ ∀ k, k < 2 * np → hv q2 (B + 166) k = mN (X k) t ∧ hv q2 (B + 167) k = mD (X k) t := by
    rcases S2 with ⟨a, -⟩ | ⟨a, -⟩ | ⟨-, -, -, -, X, t, a, b⟩
    · omega
    · omega
    · exact ⟨X, t, a, b⟩
  have np12 := D1.2.1
  refine c_profMA (ab := fun j => mN (X j) t) (be := fun j => mD (X j) t) l2 n64 (by omega) S2' i2 hP ((L.far lo g1 pmlo).far lo g2 hllo) ((D.far lo g1 pmlo).far lo g2 hllo) np12 ((HR.far lo g1 pmlo).far lo g2 hllo) fr_ ((at2 56 (by omega)).trans z56) ((at2 57 (by omega)).trans z57) (fun x q3 g3 i3 p z1 z0 => ?_) _ _
  refine K _ _ ⟨G2.tr g3 (fun c k z => ?_), i3, Or.inr ⟨by omega, X, t, sln, p, z1, z0⟩⟩
  rcases z with z | z
  · exact Or.inl (Or.inr z)
  · exact Or.inr z
/-- what asking for it writes -/
def ppF (B : Nat) : Nat → Nat → Prop := fun c k => ppW B c k ∨ (c = B + 149 ∧ k = 0)
theorem PfM.agr {t : AH} {W : Nat → Nat → Prop} (P : PfM B n h ab lv fr to_ nd dlv dc dw) (g : Agr W h t) (hW : ∀ c k, W c k → ¬ pqW B c k) : PfM B n t ab lv fr to_ nd dlv dc dw := by
  have at_ : ∀ c k, B + 168 ≤ c → c ≤ B + 175 → hv t c k = hv h c k := fun c k h1 h2 => g.at _ _ (fun z => hW _ _ z (Or.inl ⟨h1, h2⟩))
  have at1 : ∀ k, k = 56 ∨ k = 57 → hv t (B + 149) k = hv h (B + 149) k := fun k h1 => g.at _ _ (fun z => hW _ _ z (Or.inr ⟨rfl, h1⟩))
  obtain ⟨⟨⟨a1, a2⟩, a3⟩, a4, a5⟩ := P
  refine ⟨⟨⟨by rw [at1 _ (Or.inl rfl)]; exact a1, fun k hk z => ?_⟩, fun k hk z => ?_⟩, by rw [at1 _ (Or.inr rfl)]; exact a4, fun k hk z => ?_⟩
  · rw [at_ _ _ (by omega) (by omega), at_ _ _ (by omega) (by omega), at_ _ _ (by omega) (by omega), at_ _ _ (by omega) (by omega)]
    exact a2 k hk z
  · rw [at_ _ _ (by omega) (by omega)]
    exact a3 k hk z
  · rw [at_ _ _ (by omega) (by omega), at_ _ _ (by omega) (by omega), at_ _ _ (by omega) (by omega)]
    exact a5 k hk z
theorem c_profile783 (l : LX B n h) (n64 : n ≤ 64) (hd : 998 ≤ d) (M : MdC B q s w1 h) (H : MdH gv B n w1 nk np h cs w xa xb xc dr isC gk Inv) (i0 : Inv h) (hP : ∀ q q', Inv q → Agr (pqW B) q q' → Inv q') (L : LinM h w1 np nl lv fr to_) (D : DcM h w1 np nd dlv dc) (HR : GvN gv B n w1 nd h dlv dgk dw Inv) :
    Vt 0 (cll PP (ev PP (gsF gv) B) d 783 [(2, rf (B + 149)), (0, (s : Int))] h) (fun x h' => Agr (ppF B) h h' ∧ Inv h' ∧ hv h' (B + 149) 0 = 0 ∧ PfQ B n nk np cs w dr isC gk lv fr to_ nd dlv dc dgk dw x h') := by
  obtain ⟨hq, Dq, e1, hs, e7⟩ := id M
  have lo := H.1.1.lo
  refine Vt.inq (D := 997) hd (Nat.le_of_ble_eq_true rfl) rfl (fun d hd Q K => ?_)
  refine Ends.eq (b783_0 l (by omega) hq Dq) ?_
  rw [e7, ct0, if_pos rfl]
  refine Ends.ct l (by decide +kernel) (by decide) (c_fails l (by omega)) (fun x q1 l1 _ _ _ ⟨ex, eq1⟩ => ?_)
  have f0 : Agr (fun c k => c = B + 149 ∧ k = 0) h q1 := by rw [eq1]; exact Agr.rf.set ⟨rfl, rfl⟩
  have f0lo : ∀ c k, (fun c k => c = B + 149 ∧ k = 0) c k → c < B + 246 := fun c k z => by
    have : c = B + 149 := z.1
    omega
  have M1 : MdC B q s w1 q1 := by rw [eq1]; exact M.far f0_ok
  have H1 : MdH gv B n w1 nk np q1 cs w xa xb xc dr isC gk Inv := H.far f0 f0lo
  have i1 : Inv q1 := H.2.1.2 _ _ i0 f0
  have z1 : hv q1 (B + 149) 0 = 0 := by rw [eq1, hv_set_at]
  rw [ex, if_neg (Int.lt_irrefl 0)]
  refine Ends.eq (b783_17 l1 (by omega) M1.1 M1.2.1) (Ends.b0 (fun _ => Ends.g ⟨by omega, by omega⟩ ?_) (fun z => absurd rfl z))
  rw [tn, ← e1]
  refine Ends.ct l1 (by decide +kernel) (by decide) (c_profileOf785 l1 n64 (by omega) H1 i1 hP (L.far lo f0 f0lo) (D.far lo f0 f0lo) (HR.far lo f0 f0lo)) (fun y q2 l2 _ _ _ ⟨g2, i2, P⟩ => ?_)
  refine Ends.eq (b783_35 l2 (by omega)) (Ends.sm (K _ _ ⟨(f0.sub (fun _ _ z => Or.inr z)).tr g2 (fun _ _ z => Or.inl z), i2, ?_, P⟩))
  rw [g2.at _ _ (fun z => by
    rcases z with (z | z) | z
    · unfold skW at z; omega
    · have := wvq_lo z; omega
    · unfold pqW at z; omega)]
  exact z1
end PMW
