/-! L3: how near the solid came, made when first asked (model); copies at points as a repetition -/
noncomputable section MNE
variable {gv : Nat → Int} {B n d ax f1 q0 w1 k F s nk np : Nat} {h t : AH} {S : Nat → Bool} {o : Int} {dn : Bool} {cs : Nat → Cst} {w xa xb xc dr : Nat → Int} {isC gk : Nat → Bool} {Inv : AH → Prop}
/-- the array of what came nearest: the first one is too short -/
def FiS (B n : Nat) (h : AH) (F : Nat) : Prop := hv h (B + 149) 104 = rf F ∧ F < hnx h ∧ (hk h F = (2, 1) ∨ (hk h F = (2, 4 * n * n * 24) ∧ B + 246 ≤ F))
def lzM (n : Nat) (h : AH) (F : Nat) : Nat := if hk h F = (2, 1) then 4 * n * n * 24 else 0
theorem nn24 (hn0 : 0 < n) (x : Nat) (hx : x = 1 ∨ x = 480 ∨ x = 40 ∨ x = 4 ∨ x = 24 ∨ x = 12 ∨ x = 6 ∨ x = 32) : 4 * n * n * 24 ≠ x := by
  have e : 4 * n * n * 24 = 96 * (n * n) := by rw [Nat.mul_assoc 4, Nat.mul_comm (4 * (n * n)) 24, ← Nat.mul_assoc]
  rw [e]
  rcases (by omega : n = 1 ∨ n = 2 ∨ 3 ≤ n) with rfl | rfl | z
  · omega
  · omega
  · have := Nat.mul_le_mul z z
    omega
theorem fi_out (hn0 : 0 < n) (S3 : YS B w1 h) (kF : hk h F = (2, 4 * n * n * 24)) : F < w1 ∨ w1 + 14 ≤ F := by
  rcases Nat.lt_or_ge F w1 with z | z
  · exact Or.inl z
  rcases Nat.lt_or_ge F (w1 + 14) with y | y
  · exfalso
    have no : ∀ a b x : Nat, hk h (w1 + a) = (b, x) → F = w1 + a → (b ≠ 2 ∨ (x = 1 ∨ x = 480 ∨ x = 40 ∨ x = 4 ∨ x = 24 ∨ x = 12 ∨ x = 6 ∨ x = 32)) → False := fun a b x e1 e2 e3 => by
      rw [e2, e1] at kF
      rcases e3 with e3 | e3
      · exact e3 (congrArg Prod.fst kF)
      · exact nn24 hn0 x e3 (congrArg Prod.snd kF).symm
    have c := (by omega : F = w1 + 0 ∨ F = w1 + 1 ∨ F = w1 + 2 ∨ F = w1 + 3 ∨ F = w1 + 4 ∨ F = w1 + 5 ∨ F = w1 + 6 ∨ F = w1 + 7 ∨ F = w1 + 8 ∨ F = w1 + 9 ∨ F = w1 + 10 ∨ F = w1 + 11 ∨ F = w1 + 12 ∨ F = w1 + 13)
    rcases c with c | c | c | c | c | c | c | c | c | c | c | c | c | c
    · exact no 0 _ _ S3.kd c (by decide)
    · exact no 1 _ _ S3.k1 c (by decide)
    · exact no 2 _ _ S3.k2 c (by decide)
    · exact no 3 _ _ S3.k3 c (by decide)
    · exact no 4 _ _ S3.k4 c (by decide)
    · exact no 5 _ _ S3.k5 c (by decide)
    · exact no 6 _ _ S3.k6 c (by decide)
    · exact no 7 _ _ S3.k7 c (by decide)
    · exact no 8 _ _ S3.k8 c (by decide)
    · exact no 9 _ _ S3.k9 c (by decide)
    · exact no 10 _ _ S3.k10 c (by decide)
    · exact no 11 _ _ S3.k11 c (by decide)
    · exact no 12 _ _ S3.k12 c (by decide)
    · exact no 13 _ _ S3.k13 c (by decide)
  · exact Or.inr y
/-- where finding the nearest writes -/
def neW (B n F k : Nat) (h : AH) : Nat → Nat → Prop := fun c j => (c = B + 149 ∧ j = 104 ∧ hk h F = (2, 1)) ∨ (c = F ∧ hk h F ≠ (2, 1) ∧ 4 * n * n * k ≤ j ∧ j < 4 * n * n * k + 4 * n * n)
theorem c_findNearest632 (l : LX B n h) (hd : 10 ≤ d) (hn0 : 0 < n) (hn : n ≤ 52) (m : TbM B h) (b : MB B n h 11 S) (hq : hv h (B + 149) 19 = rf q0) (Dq : YD B q0 h) (qh : q0 + 140 ≤ hnx h) (F1 : YF B f1 h) (hs : s < 6) (ho : hv h f1 3 = (s : Int)) (ew : w1 = q0 + (8 + 14 * s)) (e0 : hv h w1 0 = (ax : Int)) (e1 : hv h w1 1 = o) (hax : ax < 3) (ob : 0 ≤ o ∧ o ≤ n) (ed : (hv h (B + 198) 0 = 1 ∧ dn = true) ∨ (hv h (B + 198) 0 ≠ 1 ∧ dn = false)) (fi : FiS B n h F) (k24 : k < 24) :
    Vd (cll PP (ev PP (gsF gv) B) d 632 [(2, rf (B + 149)), (0, (k : Int)), (2, rf f1)] h) (fun h' => Ext (neW B n F k h) 1 (4 * n * n * 24) h h' ∧ ∃ F', FiS B n h' F' ∧ FiM B n h' F' ∧ (hk h F ≠ (2, 1) → F' = F) ∧ hus h' + lzM n h' F' = hus h + lzM n h F ∧ ∀ C, C < 4 * n * n → NrV n ax o dn S (gN n) C (hv h' F' (4 * n * n * k + C))) := by
  have nn := n4_b hn
  have hb := l.2.2
  obtain ⟨f1', f2, f3⟩ := fi
  obtain ⟨S3, -⟩ := Dq.sk (i := (s : Int)) ⟨by omega, by omega⟩
  rw [tn, ← ew] at S3
  refine Vd.inq (D := 9) hd (Nat.le_of_ble_eq_true rfl) rfl (fun d hd Q K => ?_)
  refine Ends.eq (b632_0 l (by omega) hq Dq F1) (Ends.g (by rw [ho]; exact ⟨by omega, by omega⟩) (Ends.g ?_ ?_))
  · rw [f1', ad_rf]
    refine ⟨rf_pos F, ?_⟩
    rcases f3 with z | ⟨z, -⟩ <;> rw [z] <;> decide
  rw [f1', ad_rf, ho, tn, ← ew]
  have m4 : bop32 104 (bop32 104 (4 : Int) (n : Int)) (n : Int) = ((4 * n * n : Nat) : Int) := by
    rw [show bop32 104 (4 : Int) (n : Int) = ((4 * n : Nat) : Int) from mulNN (x := 4) (by omega)]
    exact mulNN (by omega)
  have m24 : bop32 104 ((4 * n * n : Nat) : Int) (24 : Int) = ((4 * n * n * 24 : Nat) : Int) := mulNN (y := 24) (by omega)
  rw [m4, m24, tn]
  rcases f3 with z | ⟨z, z2⟩
  · rw [z]
    refine Ends.b1 (fun y => absurd rfl y) (fun _ => Ends.g ⟨by omega, by omega⟩ ?_)
    have l1 : LX B n (hnew h (0 + 2, 4 * n * n * 24) (4 * n * n * 24)) := l.new
    refine Ends.eq (b632_43 l1 (by omega)) ?_
    obtain ⟨q, eq⟩ : ∃ q, q = hset (hnew h (0 + 2, 4 * n * n * 24) (4 * n * n * 24)) (B + 149) 104 (rf (hnx h)) := ⟨_, rfl⟩
    have lq : LX B n q := by rw [eq]; exact LX.setF 149 104 l1 (by decide +kernel)
    rw [← eq]
    have X : Ext (fun c j => c = B + 149 ∧ j = 104) 1 (4 * n * n * 24) h q := by rw [eq]; exact Ext.set Ext.new (fun _ => ⟨rfl, rfl⟩)
    have n1 : hnx q = hnx h + 1 := by rw [eq]; rfl
    have u1 : hus q = hus h + 4 * n * n * 24 := by rw [eq]; rfl
    have eF : hv q (B + 149) 104 = rf (hnx h) := by rw [eq]; exact hv_set_at ..
    have kF : hk q (hnx h) = (2, 4 * n * n * 24) := by rw [eq]; show hk (hnew h (0 + 2, 4 * n * n * 24) (4 * n * n * 24)) (hnx h) = _; rw [hk_new, if_pos rfl]
    have kn : hk q (hnx h) ≠ (2, 1) := fun y => by
      rw [kF] at y
      exact nn24 hn0 1 (Or.inl rfl) (congrArg Prod.snd y)
    have w1h : w1 + 14 ≤ hnx h := by omega
    have S3q : YS B w1 q := S3.ext w1h X (fun j _ y => by have := S3.lo; omega)
    refine e_nearest (ax := ax) (o := o) (dn := dn) (S := S) (F := hnx h) lq (by omega) hn (m.ext hb X (fun c j a b e y => by omega)) (b.ext X hb (fun j hj y => by omega)) S3q (by rw [X.at _ (by omega) (by have := S3.lo; omega)]; exact e0) (by rw [X.at _ (by omega) (by have := S3.lo; omega)]; exact e1) hax ob (by rw [X.at _ (by omega) (by omega)]; exact ed) ⟨eF, kF, hb⟩ (Or.inr w1h) k24 (fun h' l' g' N => K h' ⟨?_, hnx h, ⟨?_, ?_, Or.inr ⟨?_, hb⟩⟩, ⟨?_, ?_, hb⟩, fun y => absurd z y, ?_, N⟩) _ _ _
    · exact X.tr g'.ext (fun c j hc y => by omega) |>.sub (fun c j hc y => Or.inl ⟨y.1, y.2, z⟩) (Nat.le_refl _) (Nat.le_refl _)
    · rw [g'.at _ _ (by omega)]; exact eF
    · rw [g'.nx]; omega
    · rw [g'.hk]; exact kF
    · rw [g'.at _ _ (by omega)]; exact eF
    · rw [g'.hk]; exact kF
    · unfold lzM
      rw [g'.hk, if_neg kn, if_pos z, g'.us]
      omega
  · have kn : hk h F ≠ (2, 1) := fun y => by
      rw [z] at y
      exact nn24 hn0 1 (Or.inl rfl) (congrArg Prod.snd y)
    rw [z]
    refine Ends.b1 (fun _ => ?_) (fun y => absurd (show 4 * n * n * 24 = 1 by have y : (((4 * n * n * 24 : Nat)) : Int) = 1 := y; omega) (nn24 hn0 1 (Or.inl rfl)))
    refine e_nearest (ax := ax) (o := o) (dn := dn) (S := S) (F := F) l (by omega) hn m b S3 e0 e1 hax ob ed ⟨f1', z, z2⟩ (fi_out hn0 S3 z) k24 (fun h' l' g' N => K h' ⟨?_, F, ⟨?_, ?_, Or.inr ⟨?_, z2⟩⟩, ⟨?_, ?_, z2⟩, fun _ => rfl, ?_, N⟩) _ _ _
    · exact g'.ext.sub (fun c j hc y => Or.inr ⟨y.1, kn, y.2⟩) (Nat.zero_le _) (Nat.zero_le _)
    · rw [g'.at _ _ (by omega)]; exact f1'
    · rw [g'.nx]; exact f2
    · rw [g'.hk]; exact z
    · rw [g'.at _ _ (by omega)]; exact f1'
    · rw [g'.hk]; exact z
    · unfold lzM
      rw [g'.hk, if_neg kn, g'.us]
/-- copies at a sketch's points -/
theorem c_repeated803p {T0 : Nat → Bool} (l : LX B n h) (hd : 999 ≤ d) (hn : n ≤ 52) (hax : ax < 3) (mt : TbM B h) (F1 : YF B f1 h) (ek : hv h f1 1 = 30) (M : MdC B q0 s w1 h) (H : MdH gv B n w1 nk np h cs w xa xb xc dr isC gk Inv) (i0 : Inv h) (hR : ∀ q q', Inv q → Agr (fun c k => rpW B n c k ∨ (c = B + 149 ∧ (k = 100 ∨ k = 101))) q q' → Inv q') (e0 : hv h w1 0 = (ax : Int)) (ef : hv h (B + 198) 0 = (s : Int)) (bd : MnB nk np cs w dr isC) (b17 : MB B n h 17 S) (b12 : MB B n h 12 T0) :
    Vt 0 (cll PP (ev PP (gsF gv) B) d 803 [(2, rf (B + 149)), (2, rf f1), (0, (17 : Int)), (0, (12 : Int))] h) (fun x h' => Agr (pcsW B n) h h' ∧ Inv h' ∧ ∃ T, MB B n h' 12 T ∧ PlP n nk np cs w dr isC gk ax S T x (hv h' (B + 149) 100) (hv h' (B + 149) 101)) := by
  have lo := H.1.1.lo
  have f1lo := F1.1.2
  refine Vt.inq (D := 998) hd (Nat.le_of_ble_eq_true rfl) rfl (fun d hd Q K => ?_)
  refine Ends.eq (b803_0 l (by omega)) ?_
  refine Ends.cv l (by decide +kernel) (c_empty (s := 12) l (by omega) hn (by decide)) (fun h2 l2 _ _ _ ⟨g2, m2⟩ => ?_)
  have g2r : Agr (rpW B n) h h2 := g2.sub (fun c k z => Or.inl z)
  have far : ∀ c k, wto B n 12 (wN n) c k → c < B + 246 := fun c k z => by unfold wto at z; omega
  have F2 : YF B f1 h2 := F1.agr g2 (fun z => by have := far _ _ z; omega)
  refine Ends.eq (b803_5 l2 (by omega) F2) ?_
  rw [show hv h2 f1 1 = 30 from by rw [g2.at _ _ (fun z => by have := far _ _ z; omega)]; exact ek]
  show Ends (ev PP (gsF gv) B d 803 181 _ [] h2) Q
  refine Ends.eq (b803_181 l2 (by omega)) ?_
  obtain ⟨hq, D, e1, hs, e7⟩ := M
  have D2 : YD B q0 h2 := D.far g2 (fun c k h1 h2 z => by have := far _ _ z; have := D.lo; omega)
  have M2 : MdC B q0 s w1 h2 := by
    refine ⟨by rw [g2.at _ _ (fun z => by unfold wto at z; omega)]; exact hq, D2, e1, hs, ?_⟩
    unfold v764 at e7 ⊢
    rw [g2.at _ _ (fun z => by have := far _ _ z; have := D.lo; omega)]
    exact e7
  refine Ends.ct l2 (by decide +kernel) (by decide) (c_places779 l2 (by omega) hn hax (mt.agr g2 (fun c k a b e z => by unfold wto at z; omega)) F2 M2 (H.far g2 far) (hR _ _ i0 (g2r.sub (fun c k z => Or.inl z))) hR (by rw [g2.at _ _ (fun z => by have := far _ _ z; omega)]; exact e0) (by rw [g2.at _ _ (fun z => by unfold wto at z; omega)]; exact ef) bd (b17.row g2 (by decide)) m2) (fun x h3 l3 _ _ _ ⟨g3, i3, T, m3, P⟩ => ?_)
  refine Ends.eq (b803_188 l3 (by omega)) (Ends.g ?_ (Ends.sm (K _ _ ⟨(g2r.sub (fun c k z => Or.inr (Or.inl z))).tr g3 (fun c k z => z), i3, T, m3, P⟩)))
  rcases P with ⟨-, z, -⟩ | ⟨-, X, t, -, ⟨-, z, -⟩ | ⟨-, z, -⟩⟩
  · exact Or.inl z
  · exact Or.inl z
  · exact Or.inr z
end MNE
