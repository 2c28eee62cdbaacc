/-! L3: fills, kept tools, bodies' copies (desk) -/
noncomputable section FLS
variable {gv : Nat → Int} {B n d s np nl nd nk ax a f tl mo xe : Nat} {h : AH} {c : Nat → Int} {ab be dw nb : Nat → Int} {lv dlv dgk : Nat → Bool} {fr to_ dc : Nat → Nat} {cs : Nat → Cst} {w xa xb xc dr : Nat → Int} {isC gk : Nat → Bool} {Inv : AH → Prop} {W : Nat → Nat → Prop} {kd : Nat} {o : Int} {S Pt T : Nat → Bool}
/-- what the tool of a feature on a sketch comes to -/
def SkP (n nk np : Nat) (cs : Nat → Cst) (w dr : Nat → Int) (isC gk lv : Nat → Bool) (fr to_ : Nat → Nat) (nd : Nat) (dlv : Nat → Bool) (dc : Nat → Nat) (dgk : Nat → Bool) (dw : Nat → Int) (kd : Nat) (Tf : (Nat → Int) → Nat → Bool) (x r1 r2 : Int) (T : Nat → Bool) : Prop :=
  (x = 0 ∧ r1 = 2 ∧ ((1 < slS nk np isC gk cs w ∧ r2 = 1) ∨ (slS nk np isC gk cs w ≤ 1 ∧ r2 ≠ 0 ∧ ∃ X t, Sln (EqE nk isC cs w) (2 * np) dr X t ∧ PrS (decide (kd = 2 ∨ kd = 3)) n (decide (kd = 8)) (fun j => mN (X j) t) (fun j => mD (X j) t) lv fr to_ nd dlv dc dgk dw r2))) ∨ (x = 1 ∧ slS nk np isC gk cs w ≤ 1 ∧ ∃ X t, Sln (EqE nk isC cs w) (2 * np) dr X t ∧ PrS (decide (kd = 2 ∨ kd = 3)) n (decide (kd = 8)) (fun j => mN (X j) t) (fun j => mD (X j) t) lv fr to_ nd dlv dc dgk dw 0 ∧ ∀ g, g < gN n → T g = Tf (fun j => mN (X j) t) g)
/-- a fill's grains by the sketch's numbers -/
def flT (n ax : Nat) (o : Int) (dn : Bool) (Pt : Nat → Bool) (dw : Nat → Int) (lv : Nat → Bool) (fr to_ : Nat → Nat) (nd : Nat) (dlv : Nat → Bool) (dc : Nat → Nat) (ab : Nat → Int) (g : Nat) : Bool := flG n ax o dn Pt (rgnF ab dw lv fr to_ nd dlv dc) g
set_option maxHeartbeats 1000000 in
theorem c_fill270 (l : LX B n h) (hd : 440 ≤ d) (hn0 : 0 < n) (hn : n ≤ 52) (m : TbC B h) (H : DkH gv B n s nk np W c cs w xa xb xc dr isC gk Inv) (i0 : Inv h) (Kc : KpD B h s nk np isC gk cs w dr) (hP : ∀ q q', Inv q → Agr (pfW B) q q' → Inv q') (hF : ∀ q q', Inv q → Agr (flR B) q q' → Inv q') (hA : ∀ q q', Inv q → Agr (fun c _ => c = B + 114 ∨ c = a) q q' → Inv q') (hWp : ∀ c k, W c k → ¬ pfW B c k) (hW2 : ∀ c k, W c k → c < B + 23) (L : LnD c s np nl lv fr to_) (D : DcD c s np nd dlv dc) (HR : GvR gv B n s nd W dlv dgk dw Inv)
    (eax : c (skA s) = (ax : Int)) (eo : c (skA s + 1) = o) (hax : ax < 3) (ob : 0 ≤ o ∧ o ≤ n) (e97 : hv h (B + 97) 0 = nb 0) (sp : SG n h (B + 117) Pt) (sa : SG n h a (fun _ => false)) (ha : B + 246 ≤ a) :
    Vt 0 (cll PP (ev PP (gsF gv) B) d 270 [(2, rf (B + 92)), (0, (s : Int)), (2, rf a)] h) (fun x h' => Agr (pmQ W B s a) h h' ∧ Inv h' ∧ KpD B h' s nk np isC gk cs w dr ∧ ∃ T, (x = 1 → SG n h' a T) ∧ SkP n nk np cs w dr isC gk lv fr to_ nd dlv dc dgk dw 9 (flT n ax o (decide (nb 0 ≠ 0)) Pt dw lv fr to_ nd dlv dc) x (hv h' (B + 92) 27) (hv h' (B + 92) 28) T) := by
  obtain ⟨⟨hs, Sk⟩, HG, hI, hW, hC⟩ := id H
  have hnp := Sk.2.1.2.1
  have k24 : ∀ k, lv k = true → k < 24 := fun k lk => by
    have := L.1.2.1
    rcases (by omega : k < nl ∨ nl ≤ k) with z | z
    · omega
    · rw [L.1.2.2 k z] at lk; cases lk
  refine Vt.inq (D := 439) hd (Nat.le_of_ble_eq_true rfl) rfl (fun d hd Q K => ?_)
  refine Ends.eq (b270_0 l (by omega)) ?_
  refine Ends.ct l (by decide +kernel) (by decide) (c_profile296 (most := 6) (st := 0) l (by omega) (by omega) H i0 Kc hP hF hWp L D HR (fun z => absurd z (by decide)) (Or.inl rfl)) (fun x q1 l1 _ _ _ ⟨g1, i1, k1, P⟩ => ?_)
  refine Ends.eq (b270_8 l1 (by omega)) ?_
  have d1 : decide ((0 : Int) = 1) = decide ((9 : Nat) = 2 ∨ (9 : Nat) = 3) := by decide
  have d2 : decide ((6 : Int) = 3) = decide ((9 : Nat) = 8) := by decide
  rw [d1, d2] at P
  rcases P with ⟨ex, e27, P⟩ | ⟨ex, sl, X, t, sln, pr, pf⟩
  · rw [ex]
    exact Ends.b1 (fun z => absurd rfl z) (fun _ => Ends.sm (K _ _ ⟨g1.sub (fun _ _ z => Or.inl z), i1, k1, fun _ => false, fun z => absurd z (by decide), Or.inl ⟨rfl, e27, P⟩⟩))
  rw [ex]
  refine Ends.b1 (fun _ => ?_) (fun z => absurd z (by decide))
  have m1 : TbC B q1 := m.ext l.2.2 g1.ext (fun c k h1 h2 z => by have := ps_lo hW2 z; omega)
  have sa1 : SG n q1 a (fun _ => false) := sa.agr g1 (fun _ z => by have := ps_lo hW2 z; omega)
  have sp1 : SG n q1 (B + 117) Pt := sp.agr g1 (fun _ z => by have := ps_lo hW2 z; omega)
  have e97' : hv q1 (B + 97) 0 = nb 0 := by rw [g1.at _ _ (fun z => by have := ps_lo hW2 z; omega)]; exact e97
  have pf' := pf
  rw [show decide ((9 : Nat) = 8) = false from rfl] at pf' pr
  obtain ⟨⟨sg, sk⟩, ds⟩ := pf'
  have hG : ∀ k, lv k = true → SgK n (lU0 (fun j => mN (X j) t) fr) (lV0 (fun j => mN (X j) t) fr) (lU0 (fun j => mN (X j) t) to_) (lV0 (fun j => mN (X j) t) to_) (lDU (fun j => mN (X j) t) fr to_) (lDV (fun j => mN (X j) t) fr to_) (lSZ (fun j => mN (X j) t) fr to_) k ∧ hv q1 (B + 73) k = lDU (fun j => mN (X j) t) fr to_ k ∧ hv q1 (B + 74) k = lDV (fun j => mN (X j) t) fr to_ k ∧ hv q1 (B + 75) k = lSZ (fun j => mN (X j) t) fr to_ k := fun k lk => sk k (k24 k lk) lk
  have bd := seg_bd (n := n) (ab := fun j => mN (X j) t) (fr := fr) (to_ := to_) (lv := lv) (by omega) (fun k lk => (hG k lk).1)
  have k114 : hk q1 (B + 114) = (3, 4 * n) := lk_114 l1
  have pr0 : PrR n false (fun j => mN (X j) t) (fun j => mD (X j) t) lv fr to_ nd dlv dc dgk dw 0 := by
    rcases pr with ⟨y, -⟩ | ⟨y, -⟩
    · exact absurd rfl y
    · exact y
  refine Ends.cv l1 (by decide +kernel) (c_region432 (b := B + 114) l1 (by omega) hn sg bd (fun k lk => ⟨⟨(hG k lk).2.1, (hG k lk).2.2.1⟩, (hG k lk).1.1.1⟩) (dsc_D D.1.2 ⟨⟨sg, sk⟩, ds⟩ pr0) k114 (by omega)) (fun q2 l2 _ _ _ ⟨g2, qq⟩ => ?_)
  have g2' : Agr (fun c _ => c = B + 114 ∨ c = a) q1 q2 := g2.sub (fun _ _ z => Or.inl z)
  have i2 := hA _ _ i1 g2'
  have edn : cond (tst 1 (hv q2 (B + 97) 0) 0) (0 : Int) 1 = if decide (nb 0 ≠ 0) = true then 0 else 1 := by
    rw [g2.at _ _ (by omega), e97', ct1]
    by_cases z : nb 0 = 0
    · rw [if_pos z, decide_eq_false (fun y => y z), if_neg (by decide)]
    · rw [if_neg z, decide_eq_true z, if_pos rfl]
  refine c_fillGood (dn := decide (nb 0 ≠ 0)) l2 (by omega) hn0 hn (m1.ext l1.2.2 g2.ext (fun c k h1 h2 z => by omega)) hs (hC q2 i2) eax eo hax ob edn (sp1.agr g2 (fun _ z => by omega)) (sa1.agr g2 (fun _ z => by omega)) ha qq (fun q3 g3 s3 => ?_) _ _ _ _ _
  have g3' : Agr (fun c _ => c = B + 114 ∨ c = a) q2 q3 := g3.sub (fun _ _ z => Or.inr z)
  refine K _ _ ⟨((g1.sub (fun _ _ z => Or.inl z)).tr g2' (fun _ _ z => Or.inr z)).tr g3' (fun _ _ z => Or.inr z), hA _ _ i2 g3', (k1.far hnp g2' (fun c k z => ⟨fun y => by unfold skD at y; omega, by omega⟩)).far hnp g3' (fun c k z => ⟨fun y => by unfold skD at y; omega, by omega⟩), _, fun _ => s3, Or.inr ⟨rfl, sl, X, t, sln, ?_, fun g hg => rfl⟩⟩
  rw [show decide ((9 : Nat) = 8) = false from rfl]
  exact pr
/-- a body's copy is the tool -/
theorem mk_body {b cl : Nat} (l : LX B n h) (hd : 14 ≤ d) (hn : n ≤ 52) (hc : ∀ z, z < 37368 → hv h (B + 2) z = c z) (hf : f < 24) (ek : c (feA f + 1) = 13) (eo : c (feA f + 3) = (b : Int)) (hb : b < 10) (ec : hv h (B + 27) b = rf cl) (hcl : B + 246 ≤ cl) (sb : SG n h cl S) (sa : SG n h a (fun _ => false)) (ha : B + 246 ≤ a) (ne : a ≠ cl) :
    Vt 0 (cll PP (ev PP (gsF gv) B) d 283 [(2, rf (B + 92)), (0, (f : Int)), (2, rf a)] h) (fun x h' => x = 1 ∧ Agr (fun c _ => c = a) h h' ∧ SG n h' a S) := by
  obtain ⟨y1, y2, y3, y4⟩ := fec hc hf
  refine Vt.inq (D := 13) hd (Nat.le_of_ble_eq_true rfl) rfl (fun d hd Q K => ?_)
  refine Ends.eq (b283_0 l (by omega)) (Ends.g y1 (Ends.g y3 ?_))
  rw [y2, y4, ek, eo]
  show Ends (ev PP (gsF gv) B d 283 282 _ [] h) Q
  refine Ends.eq (b283_282 l (by omega)) (Ends.g ⟨by omega, by omega⟩ ?_)
  rw [tn, ec]
  refine Ends.cv l (by decide +kernel) (c_copy l (by omega) sb sa.1 (by omega)) (fun h1 l1 _ _ _ ⟨f1, s1⟩ => ?_)
  exact Ends.eq (b283_297 l1 (by omega)) (Ends.sm (K _ _ ⟨rfl, f1.agr, s1⟩))
/-- whether a fill is repeated by others -/
theorem c_isOf277 {k : Nat} {ord : Nat → Nat} (l : LX B n h) (hd : 12 ≤ d) (hc : ∀ z, z < 37368 → hv h (B + 2) z = c z) (hf : f < 24) (O : OrD c k ord) : Vt 0 (cll PP (ev PP (gsF gv) B) d 277 [(2, rf (B + 92)), (0, (f : Int))] h) (fun x h' => h' = h ∧ ((x = 1 ∧ c (feA f + 1) = 9 ∧ ndD c k ord (f : Int)) ∨ (x = 0 ∧ ¬ (c (feA f + 1) = 9 ∧ ndD c k ord (f : Int))))) := by
  obtain ⟨y1, y2, -, -⟩ := fec hc hf
  refine Vt.inq (D := 11) hd (Nat.le_of_ble_eq_true rfl) rfl (fun d hd Q K => ?_)
  refine Ends.eq (b277_0 l (by omega)) (Ends.g y1 ?_)
  rw [y2]
  refine Ends.b1 (fun z => ?_) (fun z => ?_)
  · exact Ends.eq (b277_22 l (by omega)) (Ends.eq (b277_23 l (by omega)) (Ends.g (Or.inl rfl) (Ends.sm (K _ _ ⟨rfl, Or.inr ⟨rfl, fun y => z y.1⟩⟩))))
  · refine Ends.ct l (by decide +kernel) (by decide) (c_needed276 l (by omega) hc O) (fun v q1 l1 _ _ _ ⟨e1, r⟩ => ?_)
    subst e1
    refine Ends.eq (b277_15 l1 (by omega)) (Ends.sm (K _ _ ⟨rfl, ?_⟩))
    rw [ct0]
    rcases r with ⟨rfl, r⟩ | ⟨rfl, r⟩
    · rw [if_neg (by decide)]; exact Or.inl ⟨rfl, z, r⟩
    · rw [if_pos rfl]; exact Or.inr ⟨rfl, fun y => r y.2⟩
end FLS
