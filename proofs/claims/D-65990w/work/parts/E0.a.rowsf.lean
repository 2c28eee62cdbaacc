/-! L3: features' changes (desk): row by row; clean, split -/
section TZY
variable {n : Nat}
/-- over sorts, z, y -/
theorem tzy (hn0 : 0 < n) (I : Nat → AH → Prop) (ET : Nat → AH → Prop) (EZ : Nat → Nat → AH → Prop) (EY : Nat → Nat → Nat → AH → Prop)
    (ht : ∀ t s, t < 24 → I (rw3 n t 0 0) s → EZ t 0 s → ET t s) (hz : ∀ t z s, t < 24 → z < n → I (rw3 n t z 0) s → EY t z 0 s → EZ t z s)
    (hzn : ∀ t s, t < 24 → I (rw3 n t n 0) s → ET (t + 1) s → EZ t n s) (hyn : ∀ t z s, t < 24 → z < n → I (rw3 n t z n) s → EZ t (z + 1) s → EY t z n s)
    (hy : ∀ t z y s, t < 24 → z < n → y < n → I (rw3 n t z y) s → (∀ s', I (rw3 n t z y + 1) s' → EY t z (y + 1) s') → EY t z y s)
    (fin : ∀ s, I (24 * n * n) s → ET 24 s) : ∀ s, I 0 s → ET 0 s := by
  have ly : ∀ (t z : Nat), t < 24 → z < n → ∀ (c y : Nat) (s : AH), y + c = n → I (rw3 n t z y) s → (∀ s', I (rw3 n t z n) s' → EZ t (z + 1) s') → EY t z y s := by
    intro t z h1 h2 c
    induction c with
    | zero =>
      intro y s e i k
      obtain rfl : n = y := by omega
      exact hyn t z s h1 h2 i (k s i)
    | succ c ih =>
      intro y s e i k
      exact hy t z y s h1 h2 (by omega) i (fun s' i' => ih (y + 1) s' (by omega) (by rw [rw3_y]; exact i') k)
  have lz : ∀ (t : Nat), t < 24 → ∀ (c z : Nat) (s : AH), z + c = n → I (rw3 n t z 0) s → (∀ s', I (rw3 n t n 0) s' → ET (t + 1) s') → EZ t z s := by
    intro t h1 c
    induction c with
    | zero =>
      intro z s e i k
      obtain rfl : n = z := by omega
      exact hzn t s h1 i (k s i)
    | succ c ih =>
      intro z s e i k
      exact hz t z s h1 (by omega) i (ly t z h1 (by omega) n 0 s (by omega) i (fun s' i' => ih (z + 1) s' (by omega) (by rw [rw3_z]; exact i') k))
  have lt : ∀ (c t : Nat) (s : AH), t + c = 24 → I (rw3 n t 0 0) s → ET t s := by
    intro c
    induction c with
    | zero =>
      intro t s e i
      obtain rfl : t = 24 := by omega
      exact fin s (by rw [show 24 * n * n = rw3 n 24 0 0 from by unfold rw3; simp]; exact i)
    | succ c ih =>
      intro t s e i
      exact ht t s (by omega) i (lz t (by omega) n 0 s (by omega) i (fun s' i' => ih (t + 1) s' (by omega) (by rw [rw3_t]; exact i')))
  intro s i
  exact lt 24 0 s rfl (by rw [show rw3 n 0 0 0 = 0 from by unfold rw3; simp]; exact i)
/-- rows below p of cell a are as K has them, the others as they were -/
def Rw (n : Nat) (h : AH) (a : Nat) (K : Nat → Nat → Bool) (s : AH) (p : Nat) : Prop := Agr (fun c _ => c = a) h s ∧ (∀ k, k < p → k < 24 * n * n → cn 1 (hv s a k) ∧ ∀ x, x < 64 → tb (hv s a k) x = (decide (x < n) && K k x)) ∧ ∀ k, p ≤ k → hv s a k = hv h a k
variable {h s : AH} {a p : Nat} {K : Nat → Nat → Bool} {w : Int}
theorem Rw.ini : Rw n h a K h 0 := ⟨Agr.rf, fun k hk => absurd hk (Nat.not_lt_zero k), fun _ _ => rfl⟩
theorem Rw.put (u : Rw n h a K s p) (w1 : cn 1 w) (hw : ∀ x, x < 64 → tb w x = (decide (x < n) && K p x)) : Rw n h a K (hset s a p w) (p + 1) := by
  refine ⟨u.1.set rfl, fun k hk h2 => ?_, fun k hk => ?_⟩
  · by_cases e : k = p
    · rw [e, hv_set_at]
      exact ⟨w1, hw⟩
    · rw [hv_set_ne (fun z => e z.2)]
      exact u.2.1 k (by omega) h2
  · rw [hv_set_ne (fun z => by omega)]
    exact u.2.2 k (by omega)
theorem Rw.keep (u : Rw n h a K s p) (hw : p < 24 * n * n → cn 1 (hv h a p) ∧ ∀ x, x < 64 → tb (hv h a p) x = (decide (x < n) && K p x)) : Rw n h a K s (p + 1) := by
  refine ⟨u.1, fun k hk h2 => ?_, fun k hk => u.2.2 k (by omega)⟩
  by_cases e : k = p
  · subst e
    rw [u.2.2 k (Nat.le_refl k)]
    exact hw h2
  · exact u.2.1 k (by omega) h2
theorem Rw.fin (ka : hk h a = (3, 24 * n * n)) (u : Rw n h a K s (24 * n * n)) : Sol n s a K := ⟨by rw [u.1.hk]; exact ka, fun k hk => u.2.1 k hk hk⟩
end TZY
section CLEAN
variable {gv : Nat → Int} {B n d xe : Nat} {h : AH} {S : Nat → Bool} {v : Int}
/-- how many neighbours a grain has -/
def frn (n : Nat) (S : Nat → Bool) (g : Nat) : Int := (if nbS n S 0 g = true then 1 else 0) + (if nbS n S 1 g = true then 1 else 0) + (if nbS n S 2 g = true then 1 else 0) + if nbS n S 3 g = true then 1 else 0
theorem cl_bits {o a b c e : Int} {i : Nat} {D s A1 B1 C1 E1 : Bool} (h0 : tb o i = (D && s)) (h1 : tb a i = (D && A1)) (h2 : tb b i = (D && B1)) (h3 : tb c i = (D && C1)) (h4 : tb e i = (D && E1)) (hv1 : 1 ≤ v) (hv4 : v ≤ 4) :
    tb (bop64 127 o (cond (tst 1 v 1) (cond (tst 1 v 2) (cond (tst 1 v 3) (bop64 127 (bop64 127 (bop64 127 a b) c) e) (bop64 129 (bop64 127 (bop64 127 a b) (bop64 129 c e)) (bop64 127 (bop64 127 c e) (bop64 129 a b)))) (bop64 129 (bop64 129 (bop64 127 a b) (bop64 127 c e)) (bop64 127 (bop64 129 a b) (bop64 129 c e)))) (bop64 129 (bop64 129 (bop64 129 a b) c) e))) i = (D && (s && decide (v ≤ (if A1 = true then 1 else 0) + (if B1 = true then 1 else 0) + (if C1 = true then 1 else 0) + if E1 = true then 1 else 0))) := by
  rw [tb_and, h0]
  have hv : v = 1 ∨ v = 2 ∨ v = 3 ∨ v = 4 := by omega
  rcases hv with rfl | rfl | rfl | rfl
  · rw [show tst 1 (1 : Int) 1 = false from rfl]
    simp only [cond_false, tb_or, h1, h2, h3, h4]
    cases D <;> cases s <;> cases A1 <;> cases B1 <;> cases C1 <;> cases E1 <;> rfl
  · rw [show tst 1 (2 : Int) 1 = true from rfl, show tst 1 (2 : Int) 2 = false from rfl]
    simp only [cond_false, cond_true, tb_or, tb_and, h1, h2, h3, h4]
    cases D <;> cases s <;> cases A1 <;> cases B1 <;> cases C1 <;> cases E1 <;> rfl
  · rw [show tst 1 (3 : Int) 1 = true from rfl, show tst 1 (3 : Int) 2 = true from rfl, show tst 1 (3 : Int) 3 = false from rfl]
    simp only [cond_false, cond_true, tb_or, tb_and, h1, h2, h3, h4]
    cases D <;> cases s <;> cases A1 <;> cases B1 <;> cases C1 <;> cases E1 <;> rfl
  · rw [show tst 1 (4 : Int) 1 = true from rfl, show tst 1 (4 : Int) 2 = true from rfl, show tst 1 (4 : Int) 3 = true from rfl]
    simp only [cond_true, tb_and, h1, h2, h3, h4]
    cases D <;> cases s <;> cases A1 <;> cases B1 <;> cases C1 <;> cases E1 <;> rfl
theorem c_clean256 (l : LX B n h) (hd : 10 ≤ d) (hn0 : 0 < n) (hn : n ≤ 52) (m : TbC B h) (e14 : hv h (B + 92) 14 = rf xe) (hx : B + 246 ≤ xe) (s : SG n h (B + 117) S) (se : SG n h xe S) (e97 : hv h (B + 97) 0 = v) (hv1 : 1 ≤ v) (hv4 : v ≤ 4) :
    Vd (cll PP (ev PP (gsF gv) B) d 256 [(2, rf (B + 92))] h) (fun h' => Agr (fun c _ => c = B + 117) h h' ∧ SG n h' (B + 117) (fun g => S g && decide (v ≤ frn n S g))) := by
  refine Vd.inq (D := 9) hd (Nat.le_of_ble_eq_true rfl) rfl (fun d hd Q K => ?_)
  have hN := rows_le hn
  have key := tzy (n := n) hn0 (fun p q => LX B n q ∧ Rw n h (B + 117) (onK n (fun t z y x => S (gI n x y z t) && decide (v ≤ frn n S (gI n x y z t)))) q p)
    (fun t q => ∀ u2 u3 u4 u5 u6 u7 u8 u9 u10 u11 u12 u13 u14 u15, Ends (ev PP (gsF gv) B d 256 2 [(2, rf (B + 92)), (0, (t : Int)), u2, u3, u4, u5, u6, u7, u8, u9, u10, u11, u12, u13, u14, u15] [] q) Q)
    (fun t z q => ∀ u3 u4 u5 u6 u7 u8 u9 u10 u11 u12 u13 u14 u15, Ends (ev PP (gsF gv) B d 256 10 [(2, rf (B + 92)), (0, (t : Int)), (0, (z : Int)), u3, u4, u5, u6, u7, u8, u9, u10, u11, u12, u13, u14, u15] [] q) Q)
    (fun t z y q => ∀ u4 u5 u6 u7 u8 u9 u10 u11 u12 u13 u14 u15, Ends (ev PP (gsF gv) B d 256 20 [(2, rf (B + 92)), (0, (t : Int)), (0, (z : Int)), (0, (y : Int)), u4, u5, u6, u7, u8, u9, u10, u11, u12, u13, u14, u15] [] q) Q)
    (fun t q ht i k u2 u3 u4 u5 u6 u7 u8 u9 u10 u11 u12 u13 u14 u15 => Ends.eq (b256_2 i.1 (by omega)) (Ends.b3 (fun w => absurd w (by omega)) (fun _ => k _ _ _ _ _ _ _ _ _ _ _ _ _)))
    (fun t z q ht hz i k u3 u4 u5 u6 u7 u8 u9 u10 u11 u12 u13 u14 u15 => Ends.eq (b256_10 i.1 (by omega)) (Ends.b3 (fun w => absurd w (by omega)) (fun _ => k _ _ _ _ _ _ _ _ _ _ _ _)))
    (fun t q ht i k u3 u4 u5 u6 u7 u8 u9 u10 u11 u12 u13 u14 u15 => Ends.eq (b256_10 i.1 (by omega)) (Ends.b3 (fun _ => by rw [w_succ (by omega)]; exact k _ _ _ _ _ _ _ _ _ _ _ _ _ _) (fun w => absurd w (by omega))))
    (fun t z q ht hz i k u4 u5 u6 u7 u8 u9 u10 u11 u12 u13 u14 u15 => Ends.eq (b256_20 i.1 (by omega)) (Ends.b3 (fun _ => by rw [w_succ (by omega)]; exact k _ _ _ _ _ _ _ _ _ _ _ _ _) (fun w => absurd w (by omega))))
    ?_
    (fun q i u2 u3 u4 u5 u6 u7 u8 u9 u10 u11 u12 u13 u14 u15 => Ends.eq (b256_2 i.1 (by omega)) (Ends.b3 (fun _ => Ends.sm (K _ ⟨i.2.1, i.2.fin s.1⟩)) (fun w => absurd w (by omega))))
  · refine Ends.eq (b256_0 (n := n) (by (repeat' first | assumption | refine LX.setF _ _ ?_ (by decide +kernel) | refine LX.setS ?_ rfl | refine LX.setA ?_ (by first | assumption | omega))) (by first | assumption | omega)) ?_
    exact key h ⟨l, Rw.ini⟩ _ _ _ _ _ _ _ _ _ _ _ _ _ _
  · intro t z y q ht hz hy i k u4 u5 u6 u7 u8 u9 u10 u11 u12 u13 u14 u15
    have r1 := rw3_lt ht hz hy
    have g := i.2.1
    have mq : TbC B q := m.fr (Agr.fr g) (fun c h1 h2 w => by omega)
    have sq : SG n q xe S := se.agr g (fun _ w => by omega)
    have e14' : hv q (B + 92) 14 = rf xe := by rw [g.at _ _ (by omega)]; exact e14
    have e97' : hv q (B + 97) 0 = v := by rw [g.at _ _ (by omega)]; exact e97
    obtain ⟨k0, b0⟩ := nb_is mq hn sq (f := 0) ht hz hy (by decide)
    obtain ⟨k1, b1⟩ := nb_is mq hn sq (f := 1) ht hz hy (by decide)
    obtain ⟨k2, b2⟩ := nb_is mq hn sq (f := 2) ht hz hy (by decide)
    obtain ⟨k3, b3⟩ := nb_is mq hn sq (f := 3) ht hz hy (by decide)
    refine Ends.eq (b256_20 i.1 (by omega)) (Ends.b3 (fun w => absurd w (by omega)) (fun _ => ?_))
    rw [e14', row_eq hn ht hz hy, tn, show Int.toNat 0 = 0 from rfl, e97', an1, w_succ (by omega)]
    refine Ends.g k0 (Ends.g k1 (Ends.g k2 (Ends.g k3 (Ends.g ⟨by omega, by omega⟩ ?_))))
    refine k _ ⟨i.1.setS rfl, i.2.put cn_bop64 (fun x hx => ?_)⟩ _ _ _ _ _ _ _ _ _ _ _ _
    rw [onK_at hz hy]
    have o0 : tb (hv q (B + 117) (rw3 n t z y)) x = (decide (x < n) && S (gI n x y z t)) := by rw [i.2.2.2 _ (Nat.le_refl _)]; exact s.bit ht hz hy hx
    exact cl_bits o0 (b0 x hx) (b1 x hx) (b2 x hx) (b3 x hx) hv1 hv4
end CLEAN
