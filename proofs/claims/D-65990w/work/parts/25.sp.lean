set_option maxRecDepth 100000
/-! L3: blocks of code over the static cells -/
def rf (a : Nat) : Int := (a : Int) + 1
theorem ad_rf (a : Nat) : ad (rf a) = a := by unfold ad rf; omega
theorem rf_pos (a : Nat) : 0 < rf a := by unfold rf; omega
theorem rf_ne (a : Nat) : rf a ≠ 0 := by unfold rf; omega
theorem rf_inj {a b : Nat} : rf a = rf b ↔ a = b := by unfold rf; omega
noncomputable def gdC (c : Prop) (t : Option Rs) : Option Rs := @gd Rs c (Classical.propDecidable c) t
theorem gdC_pos {c : Prop} {t : Option Rs} (h : c) : gdC c t = t := @gd_pos Rs c (Classical.propDecidable c) t h
theorem gdC_neg {c : Prop} {t : Option Rs} (h : ¬ c) : gdC c t = none := @gd_neg Rs c (Classical.propDecidable c) t h
def tst (o : Nat) (x y : Int) : Bool := brc o x y true false
theorem tst_brc {α : Type} (o : Nat) (x y : Int) (t f : α) : brc o x y t f = cond (tst o x y) t f := by
  unfold tst
  by_cases h : cnd o x y
  · rw [brc_cnd.1 h, brc_cnd.1 h]; rfl
  · rw [brc_cnd.2 h, brc_cnd.2 h]; rfl
theorem tst_cnd {o : Nat} {x y : Int} : tst o x y = true ↔ cnd o x y := by
  unfold tst
  by_cases h : cnd o x y
  · rw [brc_cnd.1 h]; exact ⟨fun _ => h, fun _ => rfl⟩
  · rw [brc_cnd.2 h]; exact ⟨fun q => (by cases q), fun q => absurd q h⟩
theorem tst0 {x y : Int} : tst 0 x y = decide (x = y) := by unfold tst brc; by_cases h : x = y <;> simp [h]
theorem tst1 {x y : Int} : tst 1 x y = !decide (x = y) := by unfold tst brc; by_cases h : x = y <;> simp [h]
theorem tst2 {x y : Int} : tst 2 x y = decide (x < y) := by unfold tst brc; by_cases h : x < y <;> simp [h]
theorem tst3 {x y : Int} : tst 3 x y = !decide (x < y) := by unfold tst brc; by_cases h : x < y <;> simp [h]
theorem tst4 {x y : Int} : tst 4 x y = decide (y < x) := by unfold tst brc; by_cases h : y < x <;> simp [h]
theorem tst5 {x y : Int} : tst 5 x y = !decide (y < x) := by unfold tst brc; by_cases h : y < x <;> simp [h]
section GD
variable {c G : Prop} {x y z : Option Rs}
theorem gd_in [Decidable c] (p : x = gd c y) (q : c → y = gdC G z) : x = gdC (c ∧ G) z := by
  rw [p]
  by_cases hc : c
  · rw [gd_pos hc, q hc]
    by_cases hG : G
    · rw [gdC_pos hG, gdC_pos ⟨hc, hG⟩]
    · rw [gdC_neg hG, gdC_neg (fun w => hG w.2)]
  · rw [gd_neg hc, gdC_neg (fun w => hc w.1)]
theorem gd_in1 [Decidable c] (p : x = gd c y) (q : c → y = z) : x = gdC c z := by
  rw [p]
  by_cases hc : c
  · rw [gd_pos hc, gdC_pos hc, q hc]
  · rw [gd_neg hc, gdC_neg hc]
theorem gC_in (p : x = gdC c y) (q : c → y = gdC G z) : x = gdC (c ∧ G) z := @gd_in c G x y z (Classical.propDecidable c) p q
theorem gC_in1 (p : x = gdC c y) (q : c → y = z) : x = gdC c z := @gd_in1 c x y z (Classical.propDecidable c) p q
theorem gd_sk [Decidable c] (hc : c) (p : x = gd c y) (q : y = z) : x = z := p.trans ((gd_pos hc).trans q)
theorem gC_sk (hc : c) (p : x = gdC c y) (q : y = z) : x = z := p.trans ((gdC_pos hc).trans q)
theorem mg0 {o : Nat} {a b : Int} {l r : Option Rs} (K : Option Rs) (p : x = brc o a b l r) (ql : l = K) (qr : r = K) : x = K := by
  rw [p, tst_brc]
  cases tst o a b
  · exact qr
  · exact ql
theorem mh0 {o : Nat} {a b : Int} {l r : Option Rs} {g1 g2 : Prop} (K : Option Rs) (p : x = brc o a b l r) (ql : l = gdC g1 (K)) (qr : r = gdC g2 (K)) : x = gdC (cond (tst o a b) g1 g2) (K) := by
  rw [p, tst_brc]
  cases tst o a b
  · exact qr
  · exact ql
theorem mg1 {o : Nat} {a b : Int} {l r : Option Rs} (K : Int → Option Rs) (u0 v0 : Int) (p : x = brc o a b l r) (ql : l = K u0) (qr : r = K v0) : x = K (cond (tst o a b) u0 v0) := by
  rw [p, tst_brc]
  cases tst o a b
  · exact qr
  · exact ql
theorem mh1 {o : Nat} {a b : Int} {l r : Option Rs} {g1 g2 : Prop} (K : Int → Option Rs) (u0 v0 : Int) (p : x = brc o a b l r) (ql : l = gdC g1 (K u0)) (qr : r = gdC g2 (K v0)) : x = gdC (cond (tst o a b) g1 g2) (K (cond (tst o a b) u0 v0)) := by
  rw [p, tst_brc]
  cases tst o a b
  · exact qr
  · exact ql
theorem mg2 {o : Nat} {a b : Int} {l r : Option Rs} (K : Int → Int → Option Rs) (u0 v0 u1 v1 : Int) (p : x = brc o a b l r) (ql : l = K u0 u1) (qr : r = K v0 v1) : x = K (cond (tst o a b) u0 v0) (cond (tst o a b) u1 v1) := by
  rw [p, tst_brc]
  cases tst o a b
  · exact qr
  · exact ql
theorem mh2 {o : Nat} {a b : Int} {l r : Option Rs} {g1 g2 : Prop} (K : Int → Int → Option Rs) (u0 v0 u1 v1 : Int) (p : x = brc o a b l r) (ql : l = gdC g1 (K u0 u1)) (qr : r = gdC g2 (K v0 v1)) : x = gdC (cond (tst o a b) g1 g2) (K (cond (tst o a b) u0 v0) (cond (tst o a b) u1 v1)) := by
  rw [p, tst_brc]
  cases tst o a b
  · exact qr
  · exact ql
theorem mg3 {o : Nat} {a b : Int} {l r : Option Rs} (K : Int → Int → Int → Option Rs) (u0 v0 u1 v1 u2 v2 : Int) (p : x = brc o a b l r) (ql : l = K u0 u1 u2) (qr : r = K v0 v1 v2) : x = K (cond (tst o a b) u0 v0) (cond (tst o a b) u1 v1) (cond (tst o a b) u2 v2) := by
  rw [p, tst_brc]
  cases tst o a b
  · exact qr
  · exact ql
theorem mh3 {o : Nat} {a b : Int} {l r : Option Rs} {g1 g2 : Prop} (K : Int → Int → Int → Option Rs) (u0 v0 u1 v1 u2 v2 : Int) (p : x = brc o a b l r) (ql : l = gdC g1 (K u0 u1 u2)) (qr : r = gdC g2 (K v0 v1 v2)) : x = gdC (cond (tst o a b) g1 g2) (K (cond (tst o a b) u0 v0) (cond (tst o a b) u1 v1) (cond (tst o a b) u2 v2)) := by
  rw [p, tst_brc]
  cases tst o a b
  · exact qr
  · exact ql
theorem mg4 {o : Nat} {a b : Int} {l r : Option Rs} (K : Int → Int → Int → Int → Option Rs) (u0 v0 u1 v1 u2 v2 u3 v3 : Int) (p : x = brc o a b l r) (ql : l = K u0 u1 u2 u3) (qr : r = K v0 v1 v2 v3) : x = K (cond (tst o a b) u0 v0) (cond (tst o a b) u1 v1) (cond (tst o a b) u2 v2) (cond (tst o a b) u3 v3) := by
  rw [p, tst_brc]
  cases tst o a b
  · exact qr
  · exact ql
theorem mh4 {o : Nat} {a b : Int} {l r : Option Rs} {g1 g2 : Prop} (K : Int → Int → Int → Int → Option Rs) (u0 v0 u1 v1 u2 v2 u3 v3 : Int) (p : x = brc o a b l r) (ql : l = gdC g1 (K u0 u1 u2 u3)) (qr : r = gdC g2 (K v0 v1 v2 v3)) : x = gdC (cond (tst o a b) g1 g2) (K (cond (tst o a b) u0 v0) (cond (tst o a b) u1 v1) (cond (tst o a b) u2 v2) (cond (tst o a b) u3 v3)) := by
  rw [p, tst_brc]
  cases tst o a b
  · exact qr
  · exact ql
theorem mg5 {o : Nat} {a b : Int} {l r : Option Rs} (K : Int → Int → Int → Int → Int → Option Rs) (u0 v0 u1 v1 u2 v2 u3 v3 u4 v4 : Int) (p : x = brc o a b l r) (ql : l = K u0 u1 u2 u3 u4) (qr : r = K v0 v1 v2 v3 v4) : x = K (cond (tst o a b) u0 v0) (cond (tst o a b) u1 v1) (cond (tst o a b) u2 v2) (cond (tst o a b) u3 v3) (cond (tst o a b) u4 v4) := by
  rw [p, tst_brc]
  cases tst o a b
  · exact qr
  · exact ql
theorem mh5 {o : Nat} {a b : Int} {l r : Option Rs} {g1 g2 : Prop} (K : Int → Int → Int → Int → Int → Option Rs) (u0 v0 u1 v1 u2 v2 u3 v3 u4 v4 : Int) (p : x = brc o a b l r) (ql : l = gdC g1 (K u0 u1 u2 u3 u4)) (qr : r = gdC g2 (K v0 v1 v2 v3 v4)) : x = gdC (cond (tst o a b) g1 g2) (K (cond (tst o a b) u0 v0) (cond (tst o a b) u1 v1) (cond (tst o a b) u2 v2) (cond (tst o a b) u3 v3) (cond (tst o a b) u4 v4)) := by
  rw [p, tst_brc]
  cases tst o a b
  · exact qr
  · exact ql
theorem mg6 {o : Nat} {a b : Int} {l r : Option Rs} (K : Int → Int → Int → Int → Int → Int → Option Rs) (u0 v0 u1 v1 u2 v2 u3 v3 u4 v4 u5 v5 : Int) (p : x = brc o a b l r) (ql : l = K u0 u1 u2 u3 u4 u5) (qr : r = K v0 v1 v2 v3 v4 v5) : x = K (cond (tst o a b) u0 v0) (cond (tst o a b) u1 v1) (cond (tst o a b) u2 v2) (cond (tst o a b) u3 v3) (cond (tst o a b) u4 v4) (cond (tst o a b) u5 v5) := by
  rw [p, tst_brc]
  cases tst o a b
  · exact qr
  · exact ql
theorem mh6 {o : Nat} {a b : Int} {l r : Option Rs} {g1 g2 : Prop} (K : Int → Int → Int → Int → Int → Int → Option Rs) (u0 v0 u1 v1 u2 v2 u3 v3 u4 v4 u5 v5 : Int) (p : x = brc o a b l r) (ql : l = gdC g1 (K u0 u1 u2 u3 u4 u5)) (qr : r = gdC g2 (K v0 v1 v2 v3 v4 v5)) : x = gdC (cond (tst o a b) g1 g2) (K (cond (tst o a b) u0 v0) (cond (tst o a b) u1 v1) (cond (tst o a b) u2 v2) (cond (tst o a b) u3 v3) (cond (tst o a b) u4 v4) (cond (tst o a b) u5 v5)) := by
  rw [p, tst_brc]
  cases tst o a b
  · exact qr
  · exact ql
theorem mg7 {o : Nat} {a b : Int} {l r : Option Rs} (K : Int → Int → Int → Int → Int → Int → Int → Option Rs) (u0 v0 u1 v1 u2 v2 u3 v3 u4 v4 u5 v5 u6 v6 : Int) (p : x = brc o a b l r) (ql : l = K u0 u1 u2 u3 u4 u5 u6) (qr : r = K v0 v1 v2 v3 v4 v5 v6) : x = K (cond (tst o a b) u0 v0) (cond (tst o a b) u1 v1) (cond (tst o a b) u2 v2) (cond (tst o a b) u3 v3) (cond (tst o a b) u4 v4) (cond (tst o a b) u5 v5) (cond (tst o a b) u6 v6) := by
  rw [p, tst_brc]
  cases tst o a b
  · exact qr
  · exact ql
theorem mh7 {o : Nat} {a b : Int} {l r : Option Rs} {g1 g2 : Prop} (K : Int → Int → Int → Int → Int → Int → Int → Option Rs) (u0 v0 u1 v1 u2 v2 u3 v3 u4 v4 u5 v5 u6 v6 : Int) (p : x = brc o a b l r) (ql : l = gdC g1 (K u0 u1 u2 u3 u4 u5 u6)) (qr : r = gdC g2 (K v0 v1 v2 v3 v4 v5 v6)) : x = gdC (cond (tst o a b) g1 g2) (K (cond (tst o a b) u0 v0) (cond (tst o a b) u1 v1) (cond (tst o a b) u2 v2) (cond (tst o a b) u3 v3) (cond (tst o a b) u4 v4) (cond (tst o a b) u5 v5) (cond (tst o a b) u6 v6)) := by
  rw [p, tst_brc]
  cases tst o a b
  · exact qr
  · exact ql
theorem mg8 {o : Nat} {a b : Int} {l r : Option Rs} (K : Int → Int → Int → Int → Int → Int → Int → Int → Option Rs) (u0 v0 u1 v1 u2 v2 u3 v3 u4 v4 u5 v5 u6 v6 u7 v7 : Int) (p : x = brc o a b l r) (ql : l = K u0 u1 u2 u3 u4 u5 u6 u7) (qr : r = K v0 v1 v2 v3 v4 v5 v6 v7) : x = K (cond (tst o a b) u0 v0) (cond (tst o a b) u1 v1) (cond (tst o a b) u2 v2) (cond (tst o a b) u3 v3) (cond (tst o a b) u4 v4) (cond (tst o a b) u5 v5) (cond (tst o a b) u6 v6) (cond (tst o a b) u7 v7) := by
  rw [p, tst_brc]
  cases tst o a b
  · exact qr
  · exact ql
theorem mh8 {o : Nat} {a b : Int} {l r : Option Rs} {g1 g2 : Prop} (K : Int → Int → Int → Int → Int → Int → Int → Int → Option Rs) (u0 v0 u1 v1 u2 v2 u3 v3 u4 v4 u5 v5 u6 v6 u7 v7 : Int) (p : x = brc o a b l r) (ql : l = gdC g1 (K u0 u1 u2 u3 u4 u5 u6 u7)) (qr : r = gdC g2 (K v0 v1 v2 v3 v4 v5 v6 v7)) : x = gdC (cond (tst o a b) g1 g2) (K (cond (tst o a b) u0 v0) (cond (tst o a b) u1 v1) (cond (tst o a b) u2 v2) (cond (tst o a b) u3 v3) (cond (tst o a b) u4 v4) (cond (tst o a b) u5 v5) (cond (tst o a b) u6 v6) (cond (tst o a b) u7 v7)) := by
  rw [p, tst_brc]
  cases tst o a b
  · exact qr
  · exact ql
theorem gT (p : x = z) : x = gdC True z := p.trans (gdC_pos trivial).symm
theorem br0 {o : Nat} {a b : Int} {l r l2 r2 : Option Rs} (p : x = brc o a b l r) (ql : l = l2) (qr : r = r2) : x = brc o a b l2 r2 := by rw [p, ql, qr]
theorem c01 {b : Bool} {u v : Int} (hu : u = 0 ∨ u = 1) (hv : v = 0 ∨ v = 1) : cond b u v = 0 ∨ cond b u v = 1 := by cases b <;> assumption
end GD
theorem hv_na {h : AH} {a k : Nat} {x : Int} {b j : Nat} (hn : b ≠ a) : hv (hset h a k x) b j = hv h b j := by rw [hv_set, if_neg hn]
theorem hv_nk {h : AH} {a k : Nat} {x : Int} {b j : Nat} (hn : j ≠ k) : hv (hset h a k x) b j = hv h b j := by
  rw [hv_set]
  by_cases e : b = a
  · rw [if_pos e, if_neg hn]
  · rw [if_neg e]
theorem hv_eq {h : AH} {a k : Nat} {x : Int} : hv (hset h a k x) a k = x := by rw [hv_set, if_pos rfl, if_pos rfl]
theorem ne_B {B i j : Nat} (h : i ≠ j) : B + i ≠ B + j := by omega
theorem ne_k {h : AH} {p a c t : Nat} (h1 : hk h p = (1, c)) (h2 : (hk h a).1 = t + 2) : p ≠ a := by
  intro e
  subst e
  rw [h1] at h2
  have : (1 : Nat) = t + 2 := h2
  omega
section KST
variable {P : PT} {gs : Nat → AV} {B d j pc a nx : Nat} {b : Int} {L st : List AV} {h : AH}
theorem dl {D K : Nat} (hb : Nat.ble D K = true) (hd : K ≤ d) : D ≤ d := Nat.le_trans (Nat.le_of_ble_eq_true hb) hd
theorem nt0 : ¬ (0 : Nat) = 1 := by decide
theorem nt2 : ¬ (2 : Nat) = 1 := by decide
theorem le8_0 : (0 : Nat) ≤ 8 := by decide
theorem le8_1 : (1 : Nat) ≤ 8 := by decide
theorem le8_2 : (2 : Nat) ≤ 8 := by decide
theorem le8_3 : (3 : Nat) ≤ 8 := by decide
theorem le8_4 : (4 : Nat) ≤ 8 := by decide
theorem le8_5 : (5 : Nat) ≤ 8 := by decide
theorem le8_6 : (6 : Nat) ≤ 8 := by decide
theorem le8_7 : (7 : Nat) ≤ 8 := by decide
theorem le8_8 : (8 : Nat) ≤ 8 := by decide
theorem n9_0 : ¬ (0 : Nat) = 9 := by decide
theorem n9_1 : ¬ (1 : Nat) = 9 := by decide
theorem n9_2 : ¬ (2 : Nat) = 9 := by decide
theorem s7n {x y : Int} (c : pCode P j pc = some (7, a, b, nx)) (hd : a = 108 ∨ a = 112) (hy : y ≠ 0) : ev P gs B d j pc L ((0, y) :: (0, x) :: st) h = ev P gs B d j nx L ((0, bop32 a x y) :: st) h := by rw [s7d c hd, gd_pos hy]
theorem s8n {x y : Int} (c : pCode P j pc = some (8, a, b, nx)) (hd : a = 109 ∨ a = 113) (hy : y ≠ 0) : ev P gs B d j pc L ((1, y) :: (1, x) :: st) h = ev P gs B d j nx L ((1, bop64 a x y) :: st) h := by rw [s8d c hd, gd_pos hy]
theorem s7_96 {x y : Int} (c : pCode P j pc = some (7, 96, b, nx)) : ev P gs B d j pc L ((0, y) :: (0, x) :: st) h = ev P gs B d j nx L ((0, bop32 96 x y) :: st) h := s7 c (by decide)
theorem s7_100 {x y : Int} (c : pCode P j pc = some (7, 100, b, nx)) : ev P gs B d j pc L ((0, y) :: (0, x) :: st) h = ev P gs B d j nx L ((0, bop32 100 x y) :: st) h := s7 c (by decide)
theorem s7_104 {x y : Int} (c : pCode P j pc = some (7, 104, b, nx)) : ev P gs B d j pc L ((0, y) :: (0, x) :: st) h = ev P gs B d j nx L ((0, bop32 104 x y) :: st) h := s7 c (by decide)
theorem s7_120 {x y : Int} (c : pCode P j pc = some (7, 120, b, nx)) : ev P gs B d j pc L ((0, y) :: (0, x) :: st) h = ev P gs B d j nx L ((0, bop32 120 x y) :: st) h := s7 c (by decide)
theorem s7_122 {x y : Int} (c : pCode P j pc = some (7, 122, b, nx)) : ev P gs B d j pc L ((0, y) :: (0, x) :: st) h = ev P gs B d j nx L ((0, bop32 122 x y) :: st) h := s7 c (by decide)
theorem s7_124 {x y : Int} (c : pCode P j pc = some (7, 124, b, nx)) : ev P gs B d j pc L ((0, y) :: (0, x) :: st) h = ev P gs B d j nx L ((0, bop32 124 x y) :: st) h := s7 c (by decide)
theorem s7_126 {x y : Int} (c : pCode P j pc = some (7, 126, b, nx)) : ev P gs B d j pc L ((0, y) :: (0, x) :: st) h = ev P gs B d j nx L ((0, bop32 126 x y) :: st) h := s7 c (by decide)
theorem s7_128 {x y : Int} (c : pCode P j pc = some (7, 128, b, nx)) : ev P gs B d j pc L ((0, y) :: (0, x) :: st) h = ev P gs B d j nx L ((0, bop32 128 x y) :: st) h := s7 c (by decide)
theorem s7_130 {x y : Int} (c : pCode P j pc = some (7, 130, b, nx)) : ev P gs B d j pc L ((0, y) :: (0, x) :: st) h = ev P gs B d j nx L ((0, bop32 130 x y) :: st) h := s7 c (by decide)
theorem s8_97 {x y : Int} (c : pCode P j pc = some (8, 97, b, nx)) : ev P gs B d j pc L ((1, y) :: (1, x) :: st) h = ev P gs B d j nx L ((1, bop64 97 x y) :: st) h := s8 c (by decide)
theorem s8_101 {x y : Int} (c : pCode P j pc = some (8, 101, b, nx)) : ev P gs B d j pc L ((1, y) :: (1, x) :: st) h = ev P gs B d j nx L ((1, bop64 101 x y) :: st) h := s8 c (by decide)
theorem s8_105 {x y : Int} (c : pCode P j pc = some (8, 105, b, nx)) : ev P gs B d j pc L ((1, y) :: (1, x) :: st) h = ev P gs B d j nx L ((1, bop64 105 x y) :: st) h := s8 c (by decide)
theorem s8_127 {x y : Int} (c : pCode P j pc = some (8, 127, b, nx)) : ev P gs B d j pc L ((1, y) :: (1, x) :: st) h = ev P gs B d j nx L ((1, bop64 127 x y) :: st) h := s8 c (by decide)
theorem s8_129 {x y : Int} (c : pCode P j pc = some (8, 129, b, nx)) : ev P gs B d j pc L ((1, y) :: (1, x) :: st) h = ev P gs B d j nx L ((1, bop64 129 x y) :: st) h := s8 c (by decide)
theorem s8_131 {x y : Int} (c : pCode P j pc = some (8, 131, b, nx)) : ev P gs B d j pc L ((1, y) :: (1, x) :: st) h = ev P gs B d j nx L ((1, bop64 131 x y) :: st) h := s8 c (by decide)
theorem s7n108 {x y : Int} (c : pCode P j pc = some (7, 108, b, nx)) (hy : y ≠ 0) : ev P gs B d j pc L ((0, y) :: (0, x) :: st) h = ev P gs B d j nx L ((0, bop32 108 x y) :: st) h := s7n c (by decide) hy
theorem s7d108 {x y : Int} (c : pCode P j pc = some (7, 108, b, nx)) : ev P gs B d j pc L ((0, y) :: (0, x) :: st) h = gd (y ≠ 0) (ev P gs B d j nx L ((0, bop32 108 x y) :: st) h) := s7d c (by decide)
theorem s7n112 {x y : Int} (c : pCode P j pc = some (7, 112, b, nx)) (hy : y ≠ 0) : ev P gs B d j pc L ((0, y) :: (0, x) :: st) h = ev P gs B d j nx L ((0, bop32 112 x y) :: st) h := s7n c (by decide) hy
theorem s7d112 {x y : Int} (c : pCode P j pc = some (7, 112, b, nx)) : ev P gs B d j pc L ((0, y) :: (0, x) :: st) h = gd (y ≠ 0) (ev P gs B d j nx L ((0, bop32 112 x y) :: st) h) := s7d c (by decide)
theorem s8n109 {x y : Int} (c : pCode P j pc = some (8, 109, b, nx)) (hy : y ≠ 0) : ev P gs B d j pc L ((1, y) :: (1, x) :: st) h = ev P gs B d j nx L ((1, bop64 109 x y) :: st) h := s8n c (by decide) hy
theorem s8d109 {x y : Int} (c : pCode P j pc = some (8, 109, b, nx)) : ev P gs B d j pc L ((1, y) :: (1, x) :: st) h = gd (y ≠ 0) (ev P gs B d j nx L ((1, bop64 109 x y) :: st) h) := s8d c (by decide)
theorem s8n113 {x y : Int} (c : pCode P j pc = some (8, 113, b, nx)) (hy : y ≠ 0) : ev P gs B d j pc L ((1, y) :: (1, x) :: st) h = ev P gs B d j nx L ((1, bop64 113 x y) :: st) h := s8n c (by decide) hy
theorem s8d113 {x y : Int} (c : pCode P j pc = some (8, 113, b, nx)) : ev P gs B d j pc L ((1, y) :: (1, x) :: st) h = gd (y ≠ 0) (ev P gs B d j nx L ((1, bop64 113 x y) :: st) h) := s8d c (by decide)
theorem sN (c : pCode P j pc = none) : ev P gs B d j pc L st h = none := by
  rw [ev_eq]
  unfold stp
  rw [c]
theorem k22 {t p : Nat} {v : Int} (c : pCode P j pc = some (22, a, b, nx)) (hf : vt (pFt P a b.toNat) = t) (h1 : hk h p = (1, a)) (h2 : hv h p b.toNat = v) : ev P gs B d j pc L ((2, rf p) :: st) h = ev P gs B d j nx L ((t, v) :: st) h := by
  rw [s22 c, hf, ad_rf, gd_pos ⟨rf_pos p, h1⟩, h2]
theorem k23 {t p : Nat} {v : Int} (f : Nat) (c : pCode P j pc = some (23, a, b, nx)) (hf : pFt P a b.toNat = f) (ht : t = vt f) (h1 : hk h p = (1, a)) (hB : B ≤ p) (ho : okp f v = true) : ev P gs B d j pc L ((t, v) :: (2, rf p) :: st) h = ev P gs B d j nx L st (hset h p b.toNat v) := by
  rw [t23 f c hf ht, ad_rf, gd_pos ⟨rf_pos p, h1, hB, ho⟩]
theorem okp3 {v : Int} (h : v = 0 ∨ v = 1) : okp 3 v = true := by
  rcases h with rfl | rfl <;> rfl
theorem k23z {t p : Nat} {v : Int} (c : pCode P j pc = some (23, a, b, nx)) (hf : pFt P a b.toNat = 3) (ht : t = 0) (h1 : hk h p = (1, a)) (hB : B ≤ p) : ev P gs B d j pc L ((t, v) :: (2, rf p) :: st) h = gd (v = 0 ∨ v = 1) (ev P gs B d j nx L st (hset h p b.toNat v)) := by
  rw [t23 3 c hf ht, ad_rf]
  by_cases hv : v = 0 ∨ v = 1
  · rw [gd_pos hv, gd_pos ⟨rf_pos p, h1, hB, okp3 hv⟩]
  · rw [gd_neg hv, gd_neg]
    rintro ⟨_, _, _, q⟩
    have q : (v == 0 || v == 1) = true := q
    simp at q
    exact hv q
theorem k24 {p N : Nat} {i : Int} (c : pCode P j pc = some (24, a, b, nx)) (h1 : hk h p = (a + 2, N)) : ev P gs B d j pc L ((0, i) :: (2, rf p) :: st) h = gd (0 ≤ i ∧ i < (N : Int)) (ev P gs B d j nx L ((et a, hv h p i.toNat) :: st) h) := by
  rw [s24 c, ad_rf, h1]
  by_cases hi : 0 ≤ i ∧ i < (N : Int)
  · rw [gd_pos hi, gd_pos ⟨rf_pos p, rfl, hi.1, hi.2⟩]
  · rw [gd_neg hi, gd_neg (fun q => hi ⟨q.2.2.1, q.2.2.2⟩)]
theorem k24v {p N : Nat} {i v : Int} (c : pCode P j pc = some (24, a, b, nx)) (h1 : hk h p = (a + 2, N)) (h2 : hv h p i.toNat = v) : ev P gs B d j pc L ((0, i) :: (2, rf p) :: st) h = gd (0 ≤ i ∧ i < (N : Int)) (ev P gs B d j nx L ((et a, v) :: st) h) := by
  rw [k24 c h1, h2]
theorem k25 {t p N : Nat} {i v : Int} (c : pCode P j pc = some (25, a, b, nx)) (ht : t = et a) (h1 : hk h p = (a + 2, N)) (hB : B ≤ p) : ev P gs B d j pc L ((t, v) :: (0, i) :: (2, rf p) :: st) h = gd (0 ≤ i ∧ i < (N : Int)) (ev P gs B d j nx L st (hset h p i.toNat (anar a v))) := by
  rw [s25 c ht, ad_rf, h1]
  by_cases hi : 0 ≤ i ∧ i < (N : Int)
  · rw [gd_pos hi, gd_pos ⟨rf_pos p, rfl, hi.1, hi.2, hB⟩]
  · rw [gd_neg hi, gd_neg (fun q => hi ⟨q.2.2.1, q.2.2.2.1⟩)]
theorem k26 {p N : Nat} {i v : Int} (c : pCode P j pc = some (26, a, b, nx)) (h1 : hk h p = (a + 4 + 2, N)) (hB : B ≤ p) : ev P gs B d j pc L ((2, v) :: (0, i) :: (2, rf p) :: st) h = gd ((0 ≤ i ∧ i < (N : Int)) ∧ (v = 0 ∨ (0 < v ∧ pRo P a (hk h (ad v)) = true))) (ev P gs B d j nx L st (hset h p i.toNat v)) := by
  rw [s26 c, ad_rf, h1]
  by_cases hi : (0 ≤ i ∧ i < (N : Int)) ∧ (v = 0 ∨ (0 < v ∧ pRo P a (hk h (ad v)) = true))
  · rw [gd_pos hi, gd_pos ⟨rf_pos p, rfl, hi.1.1, hi.1.2, hB, hi.2⟩]
  · rw [gd_neg hi, gd_neg (fun q => hi ⟨⟨q.2.2.1, q.2.2.2.1⟩, q.2.2.2.2.2⟩)]
theorem k27 {p t N : Nat} (c : pCode P j pc = some (27, a, b, nx)) (h1 : hk h p = (t + 2, N)) : ev P gs B d j pc L ((2, rf p) :: st) h = ev P gs B d j nx L ((0, (N : Int)) :: st) h := by
  rw [s27 c, ad_rf, h1, gd_pos ⟨rf_pos p, by omega⟩]
theorem k31 {v : AV} (c : pCode P j pc = some (31, a, b, nx)) (hg : gs a = v) : ev P gs B d j pc L st h = ev P gs B d j nx L (v :: st) h := by
  rw [s31 c, hg]
theorem k33 {av rest : List AV} {p : Nat} (n m : Nat) (c : pCode P j pc = some (33, a, b, nx)) (hp : pNa P a = n) (hm : pMc P a = m) (e : st = av.reverse ++ (2, rf p) :: rest) (hn : av.length + 1 = n) (hs : csum rest ≤ 8) (h1 : hk h p = (1, m)) : ev P gs B d j pc L st h = aft P j pc nx L rest (ev P gs B d j) (cll P (ev P gs B) d a ((2, rf p) :: av) h) := by
  rw [t33 n m c hp hm e hn hs, ad_rf, gd_pos ⟨rf_pos p, h1⟩]
theorem k35 {av rest : List AV} {p ci jj : Nat} (n : Nat) (c : pCode P j pc = some (35, a, b, nx)) (hp : pNa P a = n) (e : st = av.reverse ++ (2, rf p) :: rest) (hn : av.length + 1 = n) (hs : csum rest ≤ 8) (h1 : hk h p = (1, ci)) (hq : pVt P a ci = jj) (hj : jj ≠ 0) : ev P gs B d j pc L st h = aft P j pc nx L rest (ev P gs B d j) (cll P (ev P gs B) d jj ((2, rf p) :: av) h) := by
  rw [s35 c e (hn.trans hp.symm) hs, ad_rf, h1]
  rw [gd_pos ⟨rf_pos p, rfl, by rw [hq]; exact hj⟩, hq]
theorem t35 {av rest : List AV} {x : Int} (n : Nat) (c : pCode P j pc = some (35, a, b, nx)) (hp : pNa P a = n) (e : st = av.reverse ++ (2, x) :: rest) (hn : av.length + 1 = n) (hs : csum rest ≤ 8) : ev P gs B d j pc L st h = gd (0 < x ∧ (hk h (ad x)).1 = 1 ∧ pVt P a (hk h (ad x)).2 ≠ 0) (aft P j pc nx L rest (ev P gs B d j) (cll P (ev P gs B) d (pVt P a (hk h (ad x)).2) ((2, x) :: av) h)) := s35 c e (hn.trans hp.symm) hs
theorem t44 {av rest : List AV} {x : Int} (n : Nat) (c : pCode P j pc = some (44, a, b, nx)) (hp : pNa P a = n) (e : st = av.reverse ++ (2, x) :: rest) (hn : av.length + 1 = n) (hs : csum rest ≤ 8) : ev P gs B d j pc L st h = gd (0 < x ∧ (hk h (ad x)).1 = 1 ∧ pVt P a (hk h (ad x)).2 ≠ 0) (aft P j pc nx L rest (ev P gs B d j) (cll P (ev P gs B) d (pVt P a (hk h (ad x)).2) ((2, x) :: av) h)) := s44 c e (hn.trans hp.symm) hs
/-- behind a call that only reads -/
theorem ro_in {rest : List AV} {x q : Option Rs} {v : AV} (hv : ¬ v.1 = 9) (p : x = aft P j pc nx L rest (ev P gs B d j) q) (hq : q = some ((0, v), h)) : x = ev P gs B d j nx L (v :: rest) h := by
  rw [p]; exact aft_ret hq hv
theorem ro_inC {rest : List AV} {x q : Option Rs} {G : Prop} {v : AV} (hv : ¬ v.1 = 9) (p : x = aft P j pc nx L rest (ev P gs B d j) q) (hq : q = gdC G (some ((0, v), h))) : x = gdC G (ev P gs B d j nx L (v :: rest) h) := by
  rw [p, hq]
  by_cases hG : G
  · rw [gdC_pos hG, gdC_pos hG]; exact aft_ret rfl hv
  · rw [gdC_neg hG, gdC_neg hG]; rfl
theorem cll_ro {av L' : List AV} {x : Option Rs} {D : Nat} (hd : D + 1 ≤ d) (hl : (entL av).length ≤ pNl P j) (hL : ent (pNl P j) av = L') (q : ∀ d', D ≤ d' → ev P gs B d' j 0 L' [] h = x) : cll P (ev P gs B) d j av h = x := by
  obtain ⟨d', rfl⟩ : ∃ d', d = d' + 1 := ⟨d - 1, by omega⟩
  rw [cll_in hl, hL]
  exact q d' (by omega)
end KST

def gN (n : Nat) : Nat := 24 * n * n * n
def wN (n : Nat) : Nat := (gN n + 63) / 64
def rmN (n : Nat) : Nat := if 16 * n * n ≤ 256 then 256 else if 16 * n * n ≤ 512 then 512 else if 16 * n * n ≤ 1024 then 1024 else if 16 * n * n ≤ 2048 then 2048 else if 16 * n * n ≤ 4096 then 4096 else if 16 * n * n ≤ 8192 then 8192 else if 16 * n * n ≤ 16384 then 16384 else if 16 * n * n ≤ 32768 then 32768 else 65536
def gtN : Nat := 0xaaaaaaaaaaaaaaaaaaaaaaaaaaaaaaaaaa
/-- statics and texts: their tags; what they are -/
def gsF (gv : Nat → Int) (a : Nat) : AV := (nb2 gtN a, gv a)
/-- the kinds of the static cells -/
def kindL (n : Nat) : List (Nat × Nat) := [(1, 0), (1, 15), (0 + 2, 37368), (0 + 2, 512), (0 + 2, 512), (0 + 2, 512), (0 + 2, 102), (1, 6), (1, 12), (2 + 2, 260), (2 + 2, 16), (1 + 2, 200), (1 + 2, 200), (0 + 2, 200), (0 + 2, 200), (1 + 2, 40), (1 + 2, 40), (0 + 2, 40), (0 + 2, 40), (1 + 2, 40), (3 + 2, 40), (1, 12), (2 + 2, 260), (1, 8), (4 + 2, 31), (4 + 2, 31), (2 + 2, 8192), (5 + 2, 10), (3 + 2, 10), (0 + 2, 10), (0 + 2, 4096), (0 + 2, 128), (1, 12), (0 + 2, 6), (0 + 2, 32), (0 + 2, 16), (1, 7), (0 + 2, 72), (0 + 2, 24), (0 + 2, 24), (0 + 2, 24), (3 + 2, 24), (3 + 2, 24), (0 + 2, 512), (0 + 2, 96), (0 + 2, 96), (0 + 2, 72), (0 + 2, 288), (0 + 2, 864), (0 + 2, 12), (0 + 2, 12), (1, 11), (1 + 2, 64), (5 + 2, 6), (0 + 2, 3), (0 + 2, 3), (1, 14), (1, 2), (1 + 2, 25), (1 + 2, 600), (1 + 2, 24), (0 + 2, 24), (1 + 2, 24), (0 + 2, 6), (0 + 2, 6), (0 + 2, 6), (1 + 2, 144), (1 + 2, 144), (3 + 2, 32), (0 + 2, 24), (0 + 2, 24), (0 + 2, 24), (0 + 2, 24), (0 + 2, 24), (0 + 2, 24), (0 + 2, 24), (0 + 2, 24), (3 + 2, 24), (0 + 2, 6), (0 + 2, 6), (0 + 2, 6), (1, 5), (1, 4), (5 + 2, 4), (0 + 2, 256), (0 + 2, 64), (0 + 2, 64), (0 + 2, 64), (0 + 2, 64), (0 + 2, 64), (0 + 2, 64), (0 + 2, 50), (1, 9), (5 + 2, 5), (5 + 2, 12), (0 + 2, 24), (0 + 2, 25), (0 + 2, 8), (0 + 2, 24), (0 + 2, 24), (0 + 2, 24), (0 + 2, 24), (1, 18), (1, 13), (1, 12), (2 + 2, 260), (0 + 2, 3), (0 + 2, 3), (3 + 2, 3), (0 + 2, 16), (1 + 2, 64), (1 + 2, 64), (0 + 2, 4096), (0 + 2, 4096), (1 + 2, 4 * n), (1, 16), (0 + 2, (n + 1) * (n + 1)), (1 + 2, 24 * n * n), (1, 1), (0 + 2, 12), (0 + 2, 36), (0 + 2, 12), (0 + 2, 36), (0 + 2, 36), (0 + 2, 24), (0 + 2, 24), (0 + 2, 24), (0 + 2, 24), (0 + 2, 13), (0 + 2, 13), (3 + 2, 24), (3 + 2, 12), (1, 17), (0 + 2, 5), (0 + 2, 5), (1, 10), (0 + 2, 2200), (0 + 2, 2200), (0 + 2, 2200), (1 + 2, 64), (1 + 2, 64), (1 + 2, 4 * n), (1 + 2, 4 * n), (1, 3), (2 + 2, 1024), (2 + 2, 1024), (5 + 2, 4), (0 + 2, 6), (1 + 2, 4 * n), (1, 20), (0 + 2, 8192), (10 + 2, 101), (3 + 2, 40), (0 + 2, 41), (3 + 2, 40), (1 + 2, 40), (1 + 2, 40), (0 + 2, 40), (0 + 2, 40), (0 + 2, 41), (1 + 2, 1600), (1 + 2, 25), (0 + 2, 24), (0 + 2, 16), (0 + 2, 16), (3 + 2, 32), (1 + 2, 24), (1 + 2, 24), (0 + 2, 24), (0 + 2, 24), (0 + 2, 24), (0 + 2, 24), (0 + 2, 24), (0 + 2, 6), (0 + 2, 6), (0 + 2, 6), (0 + 2, 24), (3 + 2, 1), (0 + 2, 24), (0 + 2, 24), (0 + 2, 24), (0 + 2, 512), (0 + 2, 24), (0 + 2, 24), (0 + 2, 24), (0 + 2, 96), (0 + 2, 3), (0 + 2, 18), (0 + 2, 3), (0 + 2, 12), (0 + 2, 4096), (0 + 2, 4), (0 + 2, 3), (3 + 2, 10), (9 + 2, 7), (0 + 2, 24), (0 + 2, 24), (0 + 2, 24), (0 + 2, 7), (0 + 2, 24), (0 + 2, 1), (0 + 2, 3), (0 + 2, 3), (0 + 2, 24), (0 + 2, 3), (0 + 2, 12), (0 + 2, 12), (0 + 2, 36), (0 + 2, 36), (0 + 2, 36), (0 + 2, 24), (0 + 2, 24), (0 + 2, 24), (0 + 2, 24), (0 + 2, 12), (0 + 2, 12), (3 + 2, 12), (0 + 2, 12), (3 + 2, 24), (3 + 2, 12), (0 + 2, 3), (0 + 2, 8), (0 + 2, 8), (0 + 2, 24), (0 + 2, 24), (0 + 2, 24), (0 + 2, 4), (0 + 2, 128), (0 + 2, 34), (0 + 2, 3), (0 + 2, 3), (0 + 2, 48), (0 + 2, 64), (0 + 2, 4), (0 + 2, 6), (3 + 2, n * n), (1 + 2, wN n * 19), (1 + 2, 4 * gN n / 12 + 1), (1 + 2, 4 * gN n / 64 + 1), (1 + 2, 4 * gN n / 64 + 1), (0 + 2, 4 * n * n), (3 + 2, 24 * n * n), (0 + 2, 8 * n * n), (0 + 2, 8 * n * n), (0 + 2, 8 * n * n), (0 + 2, rmN n)]
/-- their classes, and 1 more (0: an array) -/
def objL : List Nat := [1, 16, 0, 0, 0, 0, 0, 7, 13, 0, 0, 0, 0, 0, 0, 0, 0, 0, 0, 0, 0, 13, 0, 9, 0, 0, 0, 0, 0, 0, 0, 0, 13, 0, 0, 0, 8, 0, 0, 0, 0, 0, 0, 0, 0, 0, 0, 0, 0, 0, 0, 12, 0, 0, 0, 0, 15, 3, 0, 0, 0, 0, 0, 0, 0, 0, 0, 0, 0, 0, 0, 0, 0, 0, 0, 0, 0, 0, 0, 0, 0, 6, 5, 0, 0, 0, 0, 0, 0, 0, 0, 0, 10, 0, 0, 0, 0, 0, 0, 0, 0, 0, 19, 14, 13, 0, 0, 0, 0, 0, 0, 0, 0, 0, 0, 17, 0, 0, 2, 0, 0, 0, 0, 0, 0, 0, 0, 0, 0, 0, 0, 0, 18, 0, 0, 11, 0, 0, 0, 0, 0, 0, 0, 4, 0, 0, 0, 0, 0, 21, 0, 0, 0, 0, 0, 0, 0, 0, 0, 0, 0, 0, 0, 0, 0, 0, 0, 0, 0, 0, 0, 0, 0, 0, 0, 0, 0, 0, 0, 0, 0, 0, 0, 0, 0, 0, 0, 0, 0, 0, 0, 0, 0, 0, 0, 0, 0, 0, 0, 0, 0, 0, 0, 0, 0, 0, 0, 0, 0, 0, 0, 0, 0, 0, 0, 0, 0, 0, 0, 0, 0, 0, 0, 0, 0, 0, 0, 0, 0, 0, 0, 0, 0, 0, 0, 0, 0, 0, 0, 0, 0, 0, 0, 0, 0, 0]
/-- the fixed fields of the static cells -/
def fixL (B n : Nat) : List (Nat × Int) := [(0, rf (B + 36)), (1, rf (B + 51)), (2, rf (B + 1)), (3, rf (B + 7)), (4, rf (B + 56)), (5, rf (B + 81)), (6, rf (B + 82)), (7, rf (B + 23)), (8, rf (B + 92)), (9, rf (B + 118)), (10, rf (B + 132)), (11, rf (B + 135)), (12, rf (B + 143)), (13, ((n : Nat) : Int)), (14, rf (B + 26)), (16, rf (B + 27)), (17, rf (B + 28)), (18, rf (B + 29)), (22, rf (B + 30)), (26, rf (B + 31)), (27, rf (B + 32)), (28, rf (B + 33)), (31, rf (B + 34)), (32, rf (B + 35)), (256, rf (B + 2)), (261, rf (B + 6)), (1792, rf (B + 1)), (1793, rf (B + 8)), (1794, rf (B + 9)), (1795, rf (B + 10)), (1796, rf (B + 11)), (1797, rf (B + 12)), (1798, rf (B + 13)), (1799, rf (B + 14)), (1807, rf (B + 15)), (1808, rf (B + 16)), (1809, rf (B + 17)), (1810, rf (B + 18)), (1811, rf (B + 19)), (1812, rf (B + 20)), (1815, rf (B + 21)), (1816, rf (B + 22)), (5888, rf (B + 24)), (9216, ((n : Nat) : Int)), (9217, (2 ^ n - 1 : Int)), (9218, ((24 * n * n : Nat) : Int)), (9219, rf (B + 37)), (9220, rf (B + 38)), (9221, rf (B + 39)), (9222, rf (B + 40)), (9223, rf (B + 41)), (9224, rf (B + 42)), (9225, rf (B + 43)), (9226, rf (B + 44)), (9227, rf (B + 45)), (9228, rf (B + 46)), (9229, rf (B + 47)), (9230, rf (B + 48)), (9231, rf (B + 49)), (9232, rf (B + 50)), (13056, rf (B + 36)), (13057, ((n : Nat) : Int)), (13058, rf (B + 52)), (13059, rf (B + 53)), (13060, rf (B + 54)), (13061, rf (B + 55)), (14336, rf (B + 1)), (14337, rf (B + 7)), (14338, ((n : Nat) : Int)), (14339, rf (B + 57)), (14340, rf (B + 63)), (14341, rf (B + 64)), (14342, rf (B + 65)), (14343, rf (B + 66)), (14344, rf (B + 67)), (14345, rf (B + 68)), (14346, rf (B + 69)), (14347, rf (B + 70)), (14348, rf (B + 71)), (14349, rf (B + 72)), (14350, rf (B + 73)), (14351, rf (B + 74)), (14352, rf (B + 75)), (14353, rf (B + 76)), (14354, rf (B + 77)), (14356, rf (B + 78)), (14357, rf (B + 79)), (14358, rf (B + 80)), (14595, rf (B + 58)), (14596, rf (B + 59)), (14597, rf (B + 60)), (14598, rf (B + 61)), (14599, rf (B + 62)), (20736, rf (B + 36)), (20737, ((n : Nat) : Int)), (20992, rf (B + 36)), (20993, ((n : Nat) : Int)), (20994, rf (B + 83)), (21010, rf (B + 91)), (23552, rf (B + 1)), (23553, rf (B + 7)), (23554, rf (B + 56)), (23555, rf (B + 36)), (23556, rf (B + 51)), (23557, rf (B + 81)), (23558, rf (B + 82)), (23559, rf (B + 23)), (23560, ((n : Nat) : Int)), (23561, rf (B + 27)), (23562, rf (B + 28)), (23563, rf (B + 117)), (23567, rf (B + 93)), (23568, rf (B + 94)), (23569, rf (B + 95)), (23571, rf (B + 96)), (23572, rf (B + 114)), (23573, rf (B + 97)), (23574, rf (B + 98)), (23575, rf (B + 99)), (23576, rf (B + 100)), (23577, rf (B + 101)), (23581, rf (B + 102)), (23582, rf (B + 103)), (23583, rf (B + 115)), (23584, rf (B + 104)), (23585, rf (B + 105)), (23586, rf (B + 106)), (23587, rf (B + 107)), (23588, rf (B + 108)), (23590, rf (B + 109)), (23591, rf (B + 110)), (23592, rf (B + 111)), (23595, rf (B + 112)), (23596, rf (B + 113)), (29440, ((n : Nat) : Int)), (29441, rf (B + 116)), (30208, rf (B + 51)), (30209, rf (B + 92)), (30210, rf (B + 27)), (30213, rf (B + 119)), (30214, rf (B + 120)), (30215, rf (B + 121)), (30216, rf (B + 122)), (30217, rf (B + 123)), (30218, rf (B + 124)), (30219, rf (B + 125)), (30220, rf (B + 126)), (30221, rf (B + 127)), (30222, rf (B + 128)), (30223, rf (B + 129)), (30224, rf (B + 130)), (30225, rf (B + 131)), (33792, rf (B + 36)), (33793, rf (B + 51)), (33794, rf (B + 82)), (33795, ((n : Nat) : Int)), (33800, rf (B + 133)), (33801, rf (B + 134)), (34560, rf (B + 51)), (34561, rf (B + 36)), (34562, ((n : Nat) : Int)), (34563, rf (B + 141)), (34564, rf (B + 142)), (34565, rf (B + 136)), (34566, rf (B + 137)), (34567, rf (B + 138)), (34571, rf (B + 139)), (34572, rf (B + 140)), (36608, rf (B + 51)), (36609, rf (B + 36)), (36610, ((n : Nat) : Int)), (36611, rf (B + 92)), (36616, rf (B + 146)), (36618, rf (B + 148)), (36619, rf (B + 147)), (38145, rf (B + 150)), (38159, rf (B + 151)), (38164, rf (B + 152)), (38165, rf (B + 153)), (38171, rf (B + 154)), (38172, rf (B + 155)), (38173, rf (B + 156)), (38174, rf (B + 157)), (38175, rf (B + 158)), (38176, rf (B + 159)), (38177, rf (B + 160)), (38178, rf (B + 161)), (38180, rf (B + 162)), (38182, rf (B + 163)), (38183, rf (B + 164)), (38188, rf (B + 165)), (38189, rf (B + 166)), (38190, rf (B + 167)), (38192, rf (B + 168)), (38193, rf (B + 169)), (38194, rf (B + 170)), (38195, rf (B + 171)), (38196, rf (B + 172)), (38197, rf (B + 173)), (38198, rf (B + 174)), (38199, rf (B + 175)), (38202, rf (B + 176)), (38203, rf (B + 235)), (38204, ((n : Nat) : Int)), (38205, ((n * n * n : Nat) : Int)), (38206, ((gN n : Nat) : Int)), (38207, ((wN n : Nat) : Int)), (38208, rf (B + 178)), (38209, rf (B + 179)), (38210, rf (B + 180)), (38211, rf (B + 181)), (38212, rf (B + 182)), (38213, rf (B + 183)), (38214, rf (B + 184)), (38215, rf (B + 185)), (38216, rf (B + 186)), (38217, rf (B + 236)), (38221, rf (B + 187)), (38223, rf (B + 237)), (38224, rf (B + 188)), (38225, rf (B + 189)), (38226, rf (B + 238)), (38227, rf (B + 239)), (38228, rf (B + 190)), (38231, rf (B + 191)), (38237, rf (B + 192)), (38238, rf (B + 193)), (38239, rf (B + 194)), (38240, rf (B + 195)), (38241, rf (B + 196)), (38242, rf (B + 197)), (38243, rf (B + 198)), (38246, rf (B + 199)), (38247, rf (B + 240)), (38249, rf (B + 201)), (38250, rf (B + 202)), (38260, rf (B + 203)), (38263, rf (B + 204)), (38266, rf (B + 205)), (38267, rf (B + 206)), (38268, rf (B + 207)), (38269, rf (B + 208)), (38270, rf (B + 209)), (38271, rf (B + 210)), (38272, rf (B + 211)), (38273, rf (B + 212)), (38274, rf (B + 213)), (38275, rf (B + 214)), (38276, rf (B + 215)), (38277, rf (B + 216)), (38278, rf (B + 217)), (38279, rf (B + 218)), (38280, rf (B + 219)), (38281, rf (B + 220)), (38282, rf (B + 242)), (38283, rf (B + 243)), (38284, rf (B + 244)), (38285, rf (B + 245)), (38286, rf (B + 221)), (38287, rf (B + 222)), (38288, rf (B + 223)), (38289, rf (B + 224)), (38290, rf (B + 225)), (38294, rf (B + 226)), (38295, rf (B + 227)), (38300, rf (B + 228)), (38301, rf (B + 229)), (38302, rf (B + 230)), (38307, rf (B + 241)), (38310, rf (B + 233)), (38311, rf (B + 234))]
def fixK : List Nat := [0, 1, 2, 3, 4, 5, 6, 7, 8, 9, 10, 11, 12, 13, 14, 16, 17, 18, 22, 26, 27, 28, 31, 32, 256, 261, 1792, 1793, 1794, 1795, 1796, 1797, 1798, 1799, 1807, 1808, 1809, 1810, 1811, 1812, 1815, 1816, 5888, 9216, 9217, 9218, 9219, 9220, 9221, 9222, 9223, 9224, 9225, 9226, 9227, 9228, 9229, 9230, 9231, 9232, 13056, 13057, 13058, 13059, 13060, 13061, 14336, 14337, 14338, 14339, 14340, 14341, 14342, 14343, 14344, 14345, 14346, 14347, 14348, 14349, 14350, 14351, 14352, 14353, 14354, 14356, 14357, 14358, 14595, 14596, 14597, 14598, 14599, 20736, 20737, 20992, 20993, 20994, 21010, 23552, 23553, 23554, 23555, 23556, 23557, 23558, 23559, 23560, 23561, 23562, 23563, 23567, 23568, 23569, 23571, 23572, 23573, 23574, 23575, 23576, 23577, 23581, 23582, 23583, 23584, 23585, 23586, 23587, 23588, 23590, 23591, 23592, 23595, 23596, 29440, 29441, 30208, 30209, 30210, 30213, 30214, 30215, 30216, 30217, 30218, 30219, 30220, 30221, 30222, 30223, 30224, 30225, 33792, 33793, 33794, 33795, 33800, 33801, 34560, 34561, 34562, 34563, 34564, 34565, 34566, 34567, 34571, 34572, 36608, 36609, 36610, 36611, 36616, 36618, 36619, 38145, 38159, 38164, 38165, 38171, 38172, 38173, 38174, 38175, 38176, 38177, 38178, 38180, 38182, 38183, 38188, 38189, 38190, 38192, 38193, 38194, 38195, 38196, 38197, 38198, 38199, 38202, 38203, 38204, 38205, 38206, 38207, 38208, 38209, 38210, 38211, 38212, 38213, 38214, 38215, 38216, 38217, 38221, 38223, 38224, 38225, 38226, 38227, 38228, 38231, 38237, 38238, 38239, 38240, 38241, 38242, 38243, 38246, 38247, 38249, 38250, 38260, 38263, 38266, 38267, 38268, 38269, 38270, 38271, 38272, 38273, 38274, 38275, 38276, 38277, 38278, 38279, 38280, 38281, 38282, 38283, 38284, 38285, 38286, 38287, 38288, 38289, 38290, 38294, 38295, 38300, 38301, 38302, 38307, 38310, 38311]
def fxM : Nat := 0xc870c7fffffc9006cfe09fa3fffcff70d7f830800200030f1885dffffc000ff1fe19dfe3fb8fffbffff9f80ff01c00070d0f3e07ffcf9c477fff
/-- the static cells stand -/
def LX (B n : Nat) (h : AH) : Prop := (∀ i kd, (kindL n)[i]? = some kd → hk h (B + i) = kd) ∧ (∀ e ∈ fixL B n, hv h (B + e.1 / 256) (e.1 % 256) = e.2) ∧ B + 246 ≤ hnx h
theorem LX.f {B n : Nat} {h : AH} {v : Int} (l : LX B n h) (q i k : Nat) (he : (q, v) ∈ fixL B n) (h1 : q / 256 = i) (h2 : q % 256 = k) : hv h (B + i) k = v := by
  have := l.2.1 (q, v) he
  rw [← h1, ← h2]
  exact this
theorem kind_len (n : Nat) : (kindL n).length = 246 := rfl
theorem obj_map (n : Nat) : (kindL n).map (fun kd => if kd.1 = 1 then kd.2 + 1 else 0) = objL := rfl
theorem fix_map (B n : Nat) : (fixL B n).map (fun e => e.1) = fixK := rfl
def fixC (q : Nat) : Bool := match objL[q / 256]? with
  | some (c + 1) => fxM.testBit (foT c + q % 256) && Nat.blt (q / 256) 246
  | _ => false
theorem fix_chk : fixK.all fixC = true := by decide +kernel
theorem fix_obj {B n : Nat} {e : Nat × Int} (he : e ∈ fixL B n) : ∃ c, (kindL n)[e.1 / 256]? = some (1, c) ∧ fxM.testBit (foT c + e.1 % 256) = true ∧ e.1 / 256 < 246 := by
  have h1 : e.1 ∈ fixK := by rw [← fix_map B n]; exact List.mem_map_of_mem he
  have h2 := List.all_eq_true.mp fix_chk _ h1
  unfold fixC at h2
  split at h2
  · next c hc =>
    obtain ⟨h3, h4⟩ := Bool.and_eq_true_iff.mp h2
    rw [← obj_map n, List.getElem?_map] at hc
    cases hk : (kindL n)[e.1 / 256]? with
    | none => rw [hk] at hc; cases hc
    | some kd =>
      rw [hk] at hc
      have hc : (if kd.1 = 1 then kd.2 + 1 else 0) = c + 1 := Option.some.inj hc
      split at hc
      · next h9 =>
        refine ⟨c, ?_, h3, Nat.le_of_ble_eq_true h4⟩
        have : kd.2 = c := by omega
        rw [← this, ← h9]
      · cases hc
  · cases h2
theorem LX.rel {B n mk : Nat} {h h' : AH} (l : LX B n h) (r : Rel foT mk h h') (hm : mk &&& fxM = 0) (hx : hnx h ≤ hnx h') : LX B n h' := by
  have lt : ∀ i, i < 246 → B + i < hnx h := fun i hi => by have := l.2.2; omega
  refine ⟨fun i kd e => ?_, fun e he => ?_, Nat.le_trans l.2.2 hx⟩
  · have hi : i < 246 := by
      have := (List.getElem?_eq_some_iff.mp e).1
      rw [kind_len] at this; exact this
    rw [r.1 _ (lt i hi)]; exact l.1 i kd e
  · obtain ⟨c, h1, h2, h3⟩ := fix_obj he
    rw [r.2 _ _ (lt _ h3) ?_]
    · exact l.2.1 e he
    · rw [l.1 _ _ h1]
      show mk.testBit (foT c + e.1 % 256) = false
      have := congrArg (fun z => z.testBit (foT c + e.1 % 256)) hm
      simp only [Nat.testBit_and, h2, Bool.and_true, Nat.zero_testBit] at this
      exact this
theorem LX.setA {B n : Nat} {h : AH} {a t k : Nat} {v : Int} (l : LX B n h) (ha : (hk h a).1 = t + 2) : LX B n (hset h a k v) := by
  refine ⟨l.1, fun e he => ?_, l.2.2⟩
  obtain ⟨c, h1, h2, h3⟩ := fix_obj he
  rw [hv_na (ne_k (l.1 _ _ h1) ha)]
  exact l.2.1 e he
theorem LX.setF {B n : Nat} {h : AH} (i k : Nat) {v : Int} (l : LX B n h) (hf : fixK.contains (256 * i + k) = false) : LX B n (hset h (B + i) k v) := by
  refine ⟨l.1, fun e he => ?_, l.2.2⟩
  have h1 : e.1 ∈ fixK := by rw [← fix_map B n]; exact List.mem_map_of_mem he
  rw [hv_set]
  split
  · next e1 =>
    split
    · next e2 =>
      exfalso
      have : e.1 = 256 * i + k := by have := Nat.div_add_mod e.1 256; omega
      rw [this] at h1
      rw [List.contains_iff_mem.mpr h1] at hf
      cases hf
    · exact l.2.1 e he
  · exact l.2.1 e he
theorem LX.new {B n : Nat} {h : AH} {kd : Nat × Nat} {sz : Nat} (l : LX B n h) : LX B n (hnew h kd sz) := by
  have lt : ∀ i, i < 246 → B + i ≠ hnx h := fun i hi => by have := l.2.2; omega
  refine ⟨fun i kd e => ?_, fun e he => ?_, by rw [hnx_new]; exact Nat.le_succ_of_le l.2.2⟩
  · have hi : i < 246 := by
      have := (List.getElem?_eq_some_iff.mp e).1
      rw [kind_len] at this; exact this
    rw [hk_new, if_neg (lt i hi)]; exact l.1 i kd e
  · obtain ⟨c, h1, h2, h3⟩ := fix_obj he
    rw [hv_new, if_neg (lt _ h3)]; exact l.2.1 e he
theorem LX.cpy {B n : Nat} {h : AH} {s d sp dp m t : Nat} (l : LX B n h) (hd : (hk h d).1 = t + 2) : LX B n (hcpy h s d sp dp m) := by
  refine ⟨l.1, fun e he => ?_, l.2.2⟩
  obtain ⟨c, h1, h2, h3⟩ := fix_obj he
  rw [hv_cpy, if_neg (fun q => ne_k (l.1 _ _ h1) hd q.1)]
  exact l.2.1 e he

theorem lk_0 {B n : Nat} {h : AH} (l : LX B n h) : hk h (B + 0) = (1, 0) := l.1 0 _ rfl
theorem lk_1 {B n : Nat} {h : AH} (l : LX B n h) : hk h (B + 1) = (1, 15) := l.1 1 _ rfl
theorem lk_2 {B n : Nat} {h : AH} (l : LX B n h) : hk h (B + 2) = (0 + 2, 37368) := l.1 2 _ rfl
theorem lk_3 {B n : Nat} {h : AH} (l : LX B n h) : hk h (B + 3) = (0 + 2, 512) := l.1 3 _ rfl
theorem lk_4 {B n : Nat} {h : AH} (l : LX B n h) : hk h (B + 4) = (0 + 2, 512) := l.1 4 _ rfl
theorem lk_5 {B n : Nat} {h : AH} (l : LX B n h) : hk h (B + 5) = (0 + 2, 512) := l.1 5 _ rfl
theorem lk_6 {B n : Nat} {h : AH} (l : LX B n h) : hk h (B + 6) = (0 + 2, 102) := l.1 6 _ rfl
theorem lk_7 {B n : Nat} {h : AH} (l : LX B n h) : hk h (B + 7) = (1, 6) := l.1 7 _ rfl
theorem lk_8 {B n : Nat} {h : AH} (l : LX B n h) : hk h (B + 8) = (1, 12) := l.1 8 _ rfl
theorem lk_9 {B n : Nat} {h : AH} (l : LX B n h) : hk h (B + 9) = (2 + 2, 260) := l.1 9 _ rfl
theorem lk_10 {B n : Nat} {h : AH} (l : LX B n h) : hk h (B + 10) = (2 + 2, 16) := l.1 10 _ rfl
theorem lk_11 {B n : Nat} {h : AH} (l : LX B n h) : hk h (B + 11) = (1 + 2, 200) := l.1 11 _ rfl
theorem lk_12 {B n : Nat} {h : AH} (l : LX B n h) : hk h (B + 12) = (1 + 2, 200) := l.1 12 _ rfl
theorem lk_13 {B n : Nat} {h : AH} (l : LX B n h) : hk h (B + 13) = (0 + 2, 200) := l.1 13 _ rfl
theorem lk_14 {B n : Nat} {h : AH} (l : LX B n h) : hk h (B + 14) = (0 + 2, 200) := l.1 14 _ rfl
theorem lk_15 {B n : Nat} {h : AH} (l : LX B n h) : hk h (B + 15) = (1 + 2, 40) := l.1 15 _ rfl
theorem lk_16 {B n : Nat} {h : AH} (l : LX B n h) : hk h (B + 16) = (1 + 2, 40) := l.1 16 _ rfl
theorem lk_17 {B n : Nat} {h : AH} (l : LX B n h) : hk h (B + 17) = (0 + 2, 40) := l.1 17 _ rfl
theorem lk_18 {B n : Nat} {h : AH} (l : LX B n h) : hk h (B + 18) = (0 + 2, 40) := l.1 18 _ rfl
theorem lk_19 {B n : Nat} {h : AH} (l : LX B n h) : hk h (B + 19) = (1 + 2, 40) := l.1 19 _ rfl
theorem lk_20 {B n : Nat} {h : AH} (l : LX B n h) : hk h (B + 20) = (3 + 2, 40) := l.1 20 _ rfl
theorem lk_21 {B n : Nat} {h : AH} (l : LX B n h) : hk h (B + 21) = (1, 12) := l.1 21 _ rfl
theorem lk_22 {B n : Nat} {h : AH} (l : LX B n h) : hk h (B + 22) = (2 + 2, 260) := l.1 22 _ rfl
theorem lk_23 {B n : Nat} {h : AH} (l : LX B n h) : hk h (B + 23) = (1, 8) := l.1 23 _ rfl
theorem lk_24 {B n : Nat} {h : AH} (l : LX B n h) : hk h (B + 24) = (4 + 2, 31) := l.1 24 _ rfl
theorem lk_25 {B n : Nat} {h : AH} (l : LX B n h) : hk h (B + 25) = (4 + 2, 31) := l.1 25 _ rfl
theorem lk_26 {B n : Nat} {h : AH} (l : LX B n h) : hk h (B + 26) = (2 + 2, 8192) := l.1 26 _ rfl
theorem lk_27 {B n : Nat} {h : AH} (l : LX B n h) : hk h (B + 27) = (5 + 2, 10) := l.1 27 _ rfl
theorem lk_28 {B n : Nat} {h : AH} (l : LX B n h) : hk h (B + 28) = (3 + 2, 10) := l.1 28 _ rfl
theorem lk_29 {B n : Nat} {h : AH} (l : LX B n h) : hk h (B + 29) = (0 + 2, 10) := l.1 29 _ rfl
theorem lk_30 {B n : Nat} {h : AH} (l : LX B n h) : hk h (B + 30) = (0 + 2, 4096) := l.1 30 _ rfl
theorem lk_31 {B n : Nat} {h : AH} (l : LX B n h) : hk h (B + 31) = (0 + 2, 128) := l.1 31 _ rfl
theorem lk_32 {B n : Nat} {h : AH} (l : LX B n h) : hk h (B + 32) = (1, 12) := l.1 32 _ rfl
theorem lk_33 {B n : Nat} {h : AH} (l : LX B n h) : hk h (B + 33) = (0 + 2, 6) := l.1 33 _ rfl
theorem lk_34 {B n : Nat} {h : AH} (l : LX B n h) : hk h (B + 34) = (0 + 2, 32) := l.1 34 _ rfl
theorem lk_35 {B n : Nat} {h : AH} (l : LX B n h) : hk h (B + 35) = (0 + 2, 16) := l.1 35 _ rfl
theorem lk_36 {B n : Nat} {h : AH} (l : LX B n h) : hk h (B + 36) = (1, 7) := l.1 36 _ rfl
theorem lk_37 {B n : Nat} {h : AH} (l : LX B n h) : hk h (B + 37) = (0 + 2, 72) := l.1 37 _ rfl
theorem lk_38 {B n : Nat} {h : AH} (l : LX B n h) : hk h (B + 38) = (0 + 2, 24) := l.1 38 _ rfl
theorem lk_39 {B n : Nat} {h : AH} (l : LX B n h) : hk h (B + 39) = (0 + 2, 24) := l.1 39 _ rfl
theorem lk_40 {B n : Nat} {h : AH} (l : LX B n h) : hk h (B + 40) = (0 + 2, 24) := l.1 40 _ rfl
theorem lk_41 {B n : Nat} {h : AH} (l : LX B n h) : hk h (B + 41) = (3 + 2, 24) := l.1 41 _ rfl
theorem lk_42 {B n : Nat} {h : AH} (l : LX B n h) : hk h (B + 42) = (3 + 2, 24) := l.1 42 _ rfl
theorem lk_43 {B n : Nat} {h : AH} (l : LX B n h) : hk h (B + 43) = (0 + 2, 512) := l.1 43 _ rfl
theorem lk_44 {B n : Nat} {h : AH} (l : LX B n h) : hk h (B + 44) = (0 + 2, 96) := l.1 44 _ rfl
theorem lk_45 {B n : Nat} {h : AH} (l : LX B n h) : hk h (B + 45) = (0 + 2, 96) := l.1 45 _ rfl
theorem lk_46 {B n : Nat} {h : AH} (l : LX B n h) : hk h (B + 46) = (0 + 2, 72) := l.1 46 _ rfl
theorem lk_47 {B n : Nat} {h : AH} (l : LX B n h) : hk h (B + 47) = (0 + 2, 288) := l.1 47 _ rfl
theorem lk_48 {B n : Nat} {h : AH} (l : LX B n h) : hk h (B + 48) = (0 + 2, 864) := l.1 48 _ rfl
theorem lk_49 {B n : Nat} {h : AH} (l : LX B n h) : hk h (B + 49) = (0 + 2, 12) := l.1 49 _ rfl
theorem lk_50 {B n : Nat} {h : AH} (l : LX B n h) : hk h (B + 50) = (0 + 2, 12) := l.1 50 _ rfl
theorem lk_51 {B n : Nat} {h : AH} (l : LX B n h) : hk h (B + 51) = (1, 11) := l.1 51 _ rfl
theorem lk_52 {B n : Nat} {h : AH} (l : LX B n h) : hk h (B + 52) = (1 + 2, 64) := l.1 52 _ rfl
theorem lk_53 {B n : Nat} {h : AH} (l : LX B n h) : hk h (B + 53) = (5 + 2, 6) := l.1 53 _ rfl
theorem lk_54 {B n : Nat} {h : AH} (l : LX B n h) : hk h (B + 54) = (0 + 2, 3) := l.1 54 _ rfl
theorem lk_55 {B n : Nat} {h : AH} (l : LX B n h) : hk h (B + 55) = (0 + 2, 3) := l.1 55 _ rfl
theorem lk_56 {B n : Nat} {h : AH} (l : LX B n h) : hk h (B + 56) = (1, 14) := l.1 56 _ rfl
theorem lk_57 {B n : Nat} {h : AH} (l : LX B n h) : hk h (B + 57) = (1, 2) := l.1 57 _ rfl
theorem lk_58 {B n : Nat} {h : AH} (l : LX B n h) : hk h (B + 58) = (1 + 2, 25) := l.1 58 _ rfl
theorem lk_59 {B n : Nat} {h : AH} (l : LX B n h) : hk h (B + 59) = (1 + 2, 600) := l.1 59 _ rfl
theorem lk_60 {B n : Nat} {h : AH} (l : LX B n h) : hk h (B + 60) = (1 + 2, 24) := l.1 60 _ rfl
theorem lk_61 {B n : Nat} {h : AH} (l : LX B n h) : hk h (B + 61) = (0 + 2, 24) := l.1 61 _ rfl
theorem lk_62 {B n : Nat} {h : AH} (l : LX B n h) : hk h (B + 62) = (1 + 2, 24) := l.1 62 _ rfl
theorem lk_63 {B n : Nat} {h : AH} (l : LX B n h) : hk h (B + 63) = (0 + 2, 6) := l.1 63 _ rfl
theorem lk_64 {B n : Nat} {h : AH} (l : LX B n h) : hk h (B + 64) = (0 + 2, 6) := l.1 64 _ rfl
theorem lk_65 {B n : Nat} {h : AH} (l : LX B n h) : hk h (B + 65) = (0 + 2, 6) := l.1 65 _ rfl
theorem lk_66 {B n : Nat} {h : AH} (l : LX B n h) : hk h (B + 66) = (1 + 2, 144) := l.1 66 _ rfl
theorem lk_67 {B n : Nat} {h : AH} (l : LX B n h) : hk h (B + 67) = (1 + 2, 144) := l.1 67 _ rfl
theorem lk_68 {B n : Nat} {h : AH} (l : LX B n h) : hk h (B + 68) = (3 + 2, 32) := l.1 68 _ rfl
theorem lk_69 {B n : Nat} {h : AH} (l : LX B n h) : hk h (B + 69) = (0 + 2, 24) := l.1 69 _ rfl
theorem lk_70 {B n : Nat} {h : AH} (l : LX B n h) : hk h (B + 70) = (0 + 2, 24) := l.1 70 _ rfl
theorem lk_71 {B n : Nat} {h : AH} (l : LX B n h) : hk h (B + 71) = (0 + 2, 24) := l.1 71 _ rfl
theorem lk_72 {B n : Nat} {h : AH} (l : LX B n h) : hk h (B + 72) = (0 + 2, 24) := l.1 72 _ rfl
theorem lk_73 {B n : Nat} {h : AH} (l : LX B n h) : hk h (B + 73) = (0 + 2, 24) := l.1 73 _ rfl
theorem lk_74 {B n : Nat} {h : AH} (l : LX B n h) : hk h (B + 74) = (0 + 2, 24) := l.1 74 _ rfl
theorem lk_75 {B n : Nat} {h : AH} (l : LX B n h) : hk h (B + 75) = (0 + 2, 24) := l.1 75 _ rfl
theorem lk_76 {B n : Nat} {h : AH} (l : LX B n h) : hk h (B + 76) = (0 + 2, 24) := l.1 76 _ rfl
theorem lk_77 {B n : Nat} {h : AH} (l : LX B n h) : hk h (B + 77) = (3 + 2, 24) := l.1 77 _ rfl
theorem lk_78 {B n : Nat} {h : AH} (l : LX B n h) : hk h (B + 78) = (0 + 2, 6) := l.1 78 _ rfl
theorem lk_79 {B n : Nat} {h : AH} (l : LX B n h) : hk h (B + 79) = (0 + 2, 6) := l.1 79 _ rfl
theorem lk_80 {B n : Nat} {h : AH} (l : LX B n h) : hk h (B + 80) = (0 + 2, 6) := l.1 80 _ rfl
theorem lk_81 {B n : Nat} {h : AH} (l : LX B n h) : hk h (B + 81) = (1, 5) := l.1 81 _ rfl
theorem lk_82 {B n : Nat} {h : AH} (l : LX B n h) : hk h (B + 82) = (1, 4) := l.1 82 _ rfl
theorem lk_83 {B n : Nat} {h : AH} (l : LX B n h) : hk h (B + 83) = (5 + 2, 4) := l.1 83 _ rfl
theorem lk_84 {B n : Nat} {h : AH} (l : LX B n h) : hk h (B + 84) = (0 + 2, 256) := l.1 84 _ rfl
theorem lk_85 {B n : Nat} {h : AH} (l : LX B n h) : hk h (B + 85) = (0 + 2, 64) := l.1 85 _ rfl
theorem lk_86 {B n : Nat} {h : AH} (l : LX B n h) : hk h (B + 86) = (0 + 2, 64) := l.1 86 _ rfl
theorem lk_87 {B n : Nat} {h : AH} (l : LX B n h) : hk h (B + 87) = (0 + 2, 64) := l.1 87 _ rfl
theorem lk_88 {B n : Nat} {h : AH} (l : LX B n h) : hk h (B + 88) = (0 + 2, 64) := l.1 88 _ rfl
theorem lk_89 {B n : Nat} {h : AH} (l : LX B n h) : hk h (B + 89) = (0 + 2, 64) := l.1 89 _ rfl
theorem lk_90 {B n : Nat} {h : AH} (l : LX B n h) : hk h (B + 90) = (0 + 2, 64) := l.1 90 _ rfl
theorem lk_91 {B n : Nat} {h : AH} (l : LX B n h) : hk h (B + 91) = (0 + 2, 50) := l.1 91 _ rfl
theorem lk_92 {B n : Nat} {h : AH} (l : LX B n h) : hk h (B + 92) = (1, 9) := l.1 92 _ rfl
theorem lk_93 {B n : Nat} {h : AH} (l : LX B n h) : hk h (B + 93) = (5 + 2, 5) := l.1 93 _ rfl
theorem lk_94 {B n : Nat} {h : AH} (l : LX B n h) : hk h (B + 94) = (5 + 2, 12) := l.1 94 _ rfl
theorem lk_95 {B n : Nat} {h : AH} (l : LX B n h) : hk h (B + 95) = (0 + 2, 24) := l.1 95 _ rfl
theorem lk_96 {B n : Nat} {h : AH} (l : LX B n h) : hk h (B + 96) = (0 + 2, 25) := l.1 96 _ rfl
theorem lk_97 {B n : Nat} {h : AH} (l : LX B n h) : hk h (B + 97) = (0 + 2, 8) := l.1 97 _ rfl
theorem lk_98 {B n : Nat} {h : AH} (l : LX B n h) : hk h (B + 98) = (0 + 2, 24) := l.1 98 _ rfl
theorem lk_99 {B n : Nat} {h : AH} (l : LX B n h) : hk h (B + 99) = (0 + 2, 24) := l.1 99 _ rfl
theorem lk_100 {B n : Nat} {h : AH} (l : LX B n h) : hk h (B + 100) = (0 + 2, 24) := l.1 100 _ rfl
theorem lk_101 {B n : Nat} {h : AH} (l : LX B n h) : hk h (B + 101) = (0 + 2, 24) := l.1 101 _ rfl
theorem lk_102 {B n : Nat} {h : AH} (l : LX B n h) : hk h (B + 102) = (1, 18) := l.1 102 _ rfl
theorem lk_103 {B n : Nat} {h : AH} (l : LX B n h) : hk h (B + 103) = (1, 13) := l.1 103 _ rfl
theorem lk_104 {B n : Nat} {h : AH} (l : LX B n h) : hk h (B + 104) = (1, 12) := l.1 104 _ rfl
theorem lk_105 {B n : Nat} {h : AH} (l : LX B n h) : hk h (B + 105) = (2 + 2, 260) := l.1 105 _ rfl
theorem lk_106 {B n : Nat} {h : AH} (l : LX B n h) : hk h (B + 106) = (0 + 2, 3) := l.1 106 _ rfl
theorem lk_107 {B n : Nat} {h : AH} (l : LX B n h) : hk h (B + 107) = (0 + 2, 3) := l.1 107 _ rfl
theorem lk_108 {B n : Nat} {h : AH} (l : LX B n h) : hk h (B + 108) = (3 + 2, 3) := l.1 108 _ rfl
theorem lk_109 {B n : Nat} {h : AH} (l : LX B n h) : hk h (B + 109) = (0 + 2, 16) := l.1 109 _ rfl
theorem lk_110 {B n : Nat} {h : AH} (l : LX B n h) : hk h (B + 110) = (1 + 2, 64) := l.1 110 _ rfl
theorem lk_111 {B n : Nat} {h : AH} (l : LX B n h) : hk h (B + 111) = (1 + 2, 64) := l.1 111 _ rfl
theorem lk_112 {B n : Nat} {h : AH} (l : LX B n h) : hk h (B + 112) = (0 + 2, 4096) := l.1 112 _ rfl
theorem lk_113 {B n : Nat} {h : AH} (l : LX B n h) : hk h (B + 113) = (0 + 2, 4096) := l.1 113 _ rfl
theorem lk_114 {B n : Nat} {h : AH} (l : LX B n h) : hk h (B + 114) = (1 + 2, 4 * n) := l.1 114 _ rfl
theorem lk_115 {B n : Nat} {h : AH} (l : LX B n h) : hk h (B + 115) = (1, 16) := l.1 115 _ rfl
theorem lk_116 {B n : Nat} {h : AH} (l : LX B n h) : hk h (B + 116) = (0 + 2, (n + 1) * (n + 1)) := l.1 116 _ rfl
theorem lk_117 {B n : Nat} {h : AH} (l : LX B n h) : hk h (B + 117) = (1 + 2, 24 * n * n) := l.1 117 _ rfl
theorem lk_118 {B n : Nat} {h : AH} (l : LX B n h) : hk h (B + 118) = (1, 1) := l.1 118 _ rfl
theorem lk_119 {B n : Nat} {h : AH} (l : LX B n h) : hk h (B + 119) = (0 + 2, 12) := l.1 119 _ rfl
theorem lk_120 {B n : Nat} {h : AH} (l : LX B n h) : hk h (B + 120) = (0 + 2, 36) := l.1 120 _ rfl
theorem lk_121 {B n : Nat} {h : AH} (l : LX B n h) : hk h (B + 121) = (0 + 2, 12) := l.1 121 _ rfl
theorem lk_122 {B n : Nat} {h : AH} (l : LX B n h) : hk h (B + 122) = (0 + 2, 36) := l.1 122 _ rfl
theorem lk_123 {B n : Nat} {h : AH} (l : LX B n h) : hk h (B + 123) = (0 + 2, 36) := l.1 123 _ rfl
theorem lk_124 {B n : Nat} {h : AH} (l : LX B n h) : hk h (B + 124) = (0 + 2, 24) := l.1 124 _ rfl
theorem lk_125 {B n : Nat} {h : AH} (l : LX B n h) : hk h (B + 125) = (0 + 2, 24) := l.1 125 _ rfl
theorem lk_126 {B n : Nat} {h : AH} (l : LX B n h) : hk h (B + 126) = (0 + 2, 24) := l.1 126 _ rfl
theorem lk_127 {B n : Nat} {h : AH} (l : LX B n h) : hk h (B + 127) = (0 + 2, 24) := l.1 127 _ rfl
theorem lk_128 {B n : Nat} {h : AH} (l : LX B n h) : hk h (B + 128) = (0 + 2, 13) := l.1 128 _ rfl
theorem lk_129 {B n : Nat} {h : AH} (l : LX B n h) : hk h (B + 129) = (0 + 2, 13) := l.1 129 _ rfl
theorem lk_130 {B n : Nat} {h : AH} (l : LX B n h) : hk h (B + 130) = (3 + 2, 24) := l.1 130 _ rfl
theorem lk_131 {B n : Nat} {h : AH} (l : LX B n h) : hk h (B + 131) = (3 + 2, 12) := l.1 131 _ rfl
theorem lk_132 {B n : Nat} {h : AH} (l : LX B n h) : hk h (B + 132) = (1, 17) := l.1 132 _ rfl
theorem lk_133 {B n : Nat} {h : AH} (l : LX B n h) : hk h (B + 133) = (0 + 2, 5) := l.1 133 _ rfl
theorem lk_134 {B n : Nat} {h : AH} (l : LX B n h) : hk h (B + 134) = (0 + 2, 5) := l.1 134 _ rfl
theorem lk_135 {B n : Nat} {h : AH} (l : LX B n h) : hk h (B + 135) = (1, 10) := l.1 135 _ rfl
theorem lk_136 {B n : Nat} {h : AH} (l : LX B n h) : hk h (B + 136) = (0 + 2, 2200) := l.1 136 _ rfl
theorem lk_137 {B n : Nat} {h : AH} (l : LX B n h) : hk h (B + 137) = (0 + 2, 2200) := l.1 137 _ rfl
theorem lk_138 {B n : Nat} {h : AH} (l : LX B n h) : hk h (B + 138) = (0 + 2, 2200) := l.1 138 _ rfl
theorem lk_139 {B n : Nat} {h : AH} (l : LX B n h) : hk h (B + 139) = (1 + 2, 64) := l.1 139 _ rfl
theorem lk_140 {B n : Nat} {h : AH} (l : LX B n h) : hk h (B + 140) = (1 + 2, 64) := l.1 140 _ rfl
theorem lk_141 {B n : Nat} {h : AH} (l : LX B n h) : hk h (B + 141) = (1 + 2, 4 * n) := l.1 141 _ rfl
theorem lk_142 {B n : Nat} {h : AH} (l : LX B n h) : hk h (B + 142) = (1 + 2, 4 * n) := l.1 142 _ rfl
theorem lk_143 {B n : Nat} {h : AH} (l : LX B n h) : hk h (B + 143) = (1, 3) := l.1 143 _ rfl
theorem lk_144 {B n : Nat} {h : AH} (l : LX B n h) : hk h (B + 144) = (2 + 2, 1024) := l.1 144 _ rfl
theorem lk_145 {B n : Nat} {h : AH} (l : LX B n h) : hk h (B + 145) = (2 + 2, 1024) := l.1 145 _ rfl
theorem lk_146 {B n : Nat} {h : AH} (l : LX B n h) : hk h (B + 146) = (5 + 2, 4) := l.1 146 _ rfl
theorem lk_147 {B n : Nat} {h : AH} (l : LX B n h) : hk h (B + 147) = (0 + 2, 6) := l.1 147 _ rfl
theorem lk_148 {B n : Nat} {h : AH} (l : LX B n h) : hk h (B + 148) = (1 + 2, 4 * n) := l.1 148 _ rfl
theorem lk_149 {B n : Nat} {h : AH} (l : LX B n h) : hk h (B + 149) = (1, 20) := l.1 149 _ rfl
theorem lk_150 {B n : Nat} {h : AH} (l : LX B n h) : hk h (B + 150) = (0 + 2, 8192) := l.1 150 _ rfl
theorem lk_151 {B n : Nat} {h : AH} (l : LX B n h) : hk h (B + 151) = (10 + 2, 101) := l.1 151 _ rfl
theorem lk_152 {B n : Nat} {h : AH} (l : LX B n h) : hk h (B + 152) = (3 + 2, 40) := l.1 152 _ rfl
theorem lk_153 {B n : Nat} {h : AH} (l : LX B n h) : hk h (B + 153) = (0 + 2, 41) := l.1 153 _ rfl
theorem lk_154 {B n : Nat} {h : AH} (l : LX B n h) : hk h (B + 154) = (3 + 2, 40) := l.1 154 _ rfl
theorem lk_155 {B n : Nat} {h : AH} (l : LX B n h) : hk h (B + 155) = (1 + 2, 40) := l.1 155 _ rfl
theorem lk_156 {B n : Nat} {h : AH} (l : LX B n h) : hk h (B + 156) = (1 + 2, 40) := l.1 156 _ rfl
theorem lk_157 {B n : Nat} {h : AH} (l : LX B n h) : hk h (B + 157) = (0 + 2, 40) := l.1 157 _ rfl
theorem lk_158 {B n : Nat} {h : AH} (l : LX B n h) : hk h (B + 158) = (0 + 2, 40) := l.1 158 _ rfl
theorem lk_159 {B n : Nat} {h : AH} (l : LX B n h) : hk h (B + 159) = (0 + 2, 41) := l.1 159 _ rfl
theorem lk_160 {B n : Nat} {h : AH} (l : LX B n h) : hk h (B + 160) = (1 + 2, 1600) := l.1 160 _ rfl
theorem lk_161 {B n : Nat} {h : AH} (l : LX B n h) : hk h (B + 161) = (1 + 2, 25) := l.1 161 _ rfl
theorem lk_162 {B n : Nat} {h : AH} (l : LX B n h) : hk h (B + 162) = (0 + 2, 24) := l.1 162 _ rfl
theorem lk_163 {B n : Nat} {h : AH} (l : LX B n h) : hk h (B + 163) = (0 + 2, 16) := l.1 163 _ rfl
theorem lk_164 {B n : Nat} {h : AH} (l : LX B n h) : hk h (B + 164) = (0 + 2, 16) := l.1 164 _ rfl
theorem lk_165 {B n : Nat} {h : AH} (l : LX B n h) : hk h (B + 165) = (3 + 2, 32) := l.1 165 _ rfl
theorem lk_166 {B n : Nat} {h : AH} (l : LX B n h) : hk h (B + 166) = (1 + 2, 24) := l.1 166 _ rfl
theorem lk_167 {B n : Nat} {h : AH} (l : LX B n h) : hk h (B + 167) = (1 + 2, 24) := l.1 167 _ rfl
theorem lk_168 {B n : Nat} {h : AH} (l : LX B n h) : hk h (B + 168) = (0 + 2, 24) := l.1 168 _ rfl
theorem lk_169 {B n : Nat} {h : AH} (l : LX B n h) : hk h (B + 169) = (0 + 2, 24) := l.1 169 _ rfl
theorem lk_170 {B n : Nat} {h : AH} (l : LX B n h) : hk h (B + 170) = (0 + 2, 24) := l.1 170 _ rfl
theorem lk_171 {B n : Nat} {h : AH} (l : LX B n h) : hk h (B + 171) = (0 + 2, 24) := l.1 171 _ rfl
theorem lk_172 {B n : Nat} {h : AH} (l : LX B n h) : hk h (B + 172) = (0 + 2, 24) := l.1 172 _ rfl
theorem lk_173 {B n : Nat} {h : AH} (l : LX B n h) : hk h (B + 173) = (0 + 2, 6) := l.1 173 _ rfl
theorem lk_174 {B n : Nat} {h : AH} (l : LX B n h) : hk h (B + 174) = (0 + 2, 6) := l.1 174 _ rfl
theorem lk_175 {B n : Nat} {h : AH} (l : LX B n h) : hk h (B + 175) = (0 + 2, 6) := l.1 175 _ rfl
theorem lk_176 {B n : Nat} {h : AH} (l : LX B n h) : hk h (B + 176) = (0 + 2, 24) := l.1 176 _ rfl
theorem lk_177 {B n : Nat} {h : AH} (l : LX B n h) : hk h (B + 177) = (3 + 2, 1) := l.1 177 _ rfl
theorem lk_178 {B n : Nat} {h : AH} (l : LX B n h) : hk h (B + 178) = (0 + 2, 24) := l.1 178 _ rfl
theorem lk_179 {B n : Nat} {h : AH} (l : LX B n h) : hk h (B + 179) = (0 + 2, 24) := l.1 179 _ rfl
theorem lk_180 {B n : Nat} {h : AH} (l : LX B n h) : hk h (B + 180) = (0 + 2, 24) := l.1 180 _ rfl
theorem lk_181 {B n : Nat} {h : AH} (l : LX B n h) : hk h (B + 181) = (0 + 2, 512) := l.1 181 _ rfl
theorem lk_182 {B n : Nat} {h : AH} (l : LX B n h) : hk h (B + 182) = (0 + 2, 24) := l.1 182 _ rfl
theorem lk_183 {B n : Nat} {h : AH} (l : LX B n h) : hk h (B + 183) = (0 + 2, 24) := l.1 183 _ rfl
theorem lk_184 {B n : Nat} {h : AH} (l : LX B n h) : hk h (B + 184) = (0 + 2, 24) := l.1 184 _ rfl
theorem lk_185 {B n : Nat} {h : AH} (l : LX B n h) : hk h (B + 185) = (0 + 2, 96) := l.1 185 _ rfl
theorem lk_186 {B n : Nat} {h : AH} (l : LX B n h) : hk h (B + 186) = (0 + 2, 3) := l.1 186 _ rfl
theorem lk_187 {B n : Nat} {h : AH} (l : LX B n h) : hk h (B + 187) = (0 + 2, 18) := l.1 187 _ rfl
theorem lk_188 {B n : Nat} {h : AH} (l : LX B n h) : hk h (B + 188) = (0 + 2, 3) := l.1 188 _ rfl
theorem lk_189 {B n : Nat} {h : AH} (l : LX B n h) : hk h (B + 189) = (0 + 2, 12) := l.1 189 _ rfl
theorem lk_190 {B n : Nat} {h : AH} (l : LX B n h) : hk h (B + 190) = (0 + 2, 4096) := l.1 190 _ rfl
theorem lk_191 {B n : Nat} {h : AH} (l : LX B n h) : hk h (B + 191) = (0 + 2, 4) := l.1 191 _ rfl
theorem lk_192 {B n : Nat} {h : AH} (l : LX B n h) : hk h (B + 192) = (0 + 2, 3) := l.1 192 _ rfl
theorem lk_193 {B n : Nat} {h : AH} (l : LX B n h) : hk h (B + 193) = (3 + 2, 10) := l.1 193 _ rfl
theorem lk_194 {B n : Nat} {h : AH} (l : LX B n h) : hk h (B + 194) = (9 + 2, 7) := l.1 194 _ rfl
theorem lk_195 {B n : Nat} {h : AH} (l : LX B n h) : hk h (B + 195) = (0 + 2, 24) := l.1 195 _ rfl
theorem lk_196 {B n : Nat} {h : AH} (l : LX B n h) : hk h (B + 196) = (0 + 2, 24) := l.1 196 _ rfl
theorem lk_197 {B n : Nat} {h : AH} (l : LX B n h) : hk h (B + 197) = (0 + 2, 24) := l.1 197 _ rfl
theorem lk_198 {B n : Nat} {h : AH} (l : LX B n h) : hk h (B + 198) = (0 + 2, 7) := l.1 198 _ rfl
theorem lk_199 {B n : Nat} {h : AH} (l : LX B n h) : hk h (B + 199) = (0 + 2, 24) := l.1 199 _ rfl
theorem lk_200 {B n : Nat} {h : AH} (l : LX B n h) : hk h (B + 200) = (0 + 2, 1) := l.1 200 _ rfl
theorem lk_201 {B n : Nat} {h : AH} (l : LX B n h) : hk h (B + 201) = (0 + 2, 3) := l.1 201 _ rfl
theorem lk_202 {B n : Nat} {h : AH} (l : LX B n h) : hk h (B + 202) = (0 + 2, 3) := l.1 202 _ rfl
theorem lk_203 {B n : Nat} {h : AH} (l : LX B n h) : hk h (B + 203) = (0 + 2, 24) := l.1 203 _ rfl
theorem lk_204 {B n : Nat} {h : AH} (l : LX B n h) : hk h (B + 204) = (0 + 2, 3) := l.1 204 _ rfl
theorem lk_205 {B n : Nat} {h : AH} (l : LX B n h) : hk h (B + 205) = (0 + 2, 12) := l.1 205 _ rfl
theorem lk_206 {B n : Nat} {h : AH} (l : LX B n h) : hk h (B + 206) = (0 + 2, 12) := l.1 206 _ rfl
theorem lk_207 {B n : Nat} {h : AH} (l : LX B n h) : hk h (B + 207) = (0 + 2, 36) := l.1 207 _ rfl
theorem lk_208 {B n : Nat} {h : AH} (l : LX B n h) : hk h (B + 208) = (0 + 2, 36) := l.1 208 _ rfl
theorem lk_209 {B n : Nat} {h : AH} (l : LX B n h) : hk h (B + 209) = (0 + 2, 36) := l.1 209 _ rfl
theorem lk_210 {B n : Nat} {h : AH} (l : LX B n h) : hk h (B + 210) = (0 + 2, 24) := l.1 210 _ rfl
theorem lk_211 {B n : Nat} {h : AH} (l : LX B n h) : hk h (B + 211) = (0 + 2, 24) := l.1 211 _ rfl
theorem lk_212 {B n : Nat} {h : AH} (l : LX B n h) : hk h (B + 212) = (0 + 2, 24) := l.1 212 _ rfl
theorem lk_213 {B n : Nat} {h : AH} (l : LX B n h) : hk h (B + 213) = (0 + 2, 24) := l.1 213 _ rfl
theorem lk_214 {B n : Nat} {h : AH} (l : LX B n h) : hk h (B + 214) = (0 + 2, 12) := l.1 214 _ rfl
theorem lk_215 {B n : Nat} {h : AH} (l : LX B n h) : hk h (B + 215) = (0 + 2, 12) := l.1 215 _ rfl
theorem lk_216 {B n : Nat} {h : AH} (l : LX B n h) : hk h (B + 216) = (3 + 2, 12) := l.1 216 _ rfl
theorem lk_217 {B n : Nat} {h : AH} (l : LX B n h) : hk h (B + 217) = (0 + 2, 12) := l.1 217 _ rfl
theorem lk_218 {B n : Nat} {h : AH} (l : LX B n h) : hk h (B + 218) = (3 + 2, 24) := l.1 218 _ rfl
theorem lk_219 {B n : Nat} {h : AH} (l : LX B n h) : hk h (B + 219) = (3 + 2, 12) := l.1 219 _ rfl
theorem lk_220 {B n : Nat} {h : AH} (l : LX B n h) : hk h (B + 220) = (0 + 2, 3) := l.1 220 _ rfl
theorem lk_221 {B n : Nat} {h : AH} (l : LX B n h) : hk h (B + 221) = (0 + 2, 8) := l.1 221 _ rfl
theorem lk_222 {B n : Nat} {h : AH} (l : LX B n h) : hk h (B + 222) = (0 + 2, 8) := l.1 222 _ rfl
theorem lk_223 {B n : Nat} {h : AH} (l : LX B n h) : hk h (B + 223) = (0 + 2, 24) := l.1 223 _ rfl
theorem lk_224 {B n : Nat} {h : AH} (l : LX B n h) : hk h (B + 224) = (0 + 2, 24) := l.1 224 _ rfl
theorem lk_225 {B n : Nat} {h : AH} (l : LX B n h) : hk h (B + 225) = (0 + 2, 24) := l.1 225 _ rfl
theorem lk_226 {B n : Nat} {h : AH} (l : LX B n h) : hk h (B + 226) = (0 + 2, 4) := l.1 226 _ rfl
theorem lk_227 {B n : Nat} {h : AH} (l : LX B n h) : hk h (B + 227) = (0 + 2, 128) := l.1 227 _ rfl
theorem lk_228 {B n : Nat} {h : AH} (l : LX B n h) : hk h (B + 228) = (0 + 2, 34) := l.1 228 _ rfl
theorem lk_229 {B n : Nat} {h : AH} (l : LX B n h) : hk h (B + 229) = (0 + 2, 3) := l.1 229 _ rfl
theorem lk_230 {B n : Nat} {h : AH} (l : LX B n h) : hk h (B + 230) = (0 + 2, 3) := l.1 230 _ rfl
theorem lk_231 {B n : Nat} {h : AH} (l : LX B n h) : hk h (B + 231) = (0 + 2, 48) := l.1 231 _ rfl
theorem lk_232 {B n : Nat} {h : AH} (l : LX B n h) : hk h (B + 232) = (0 + 2, 64) := l.1 232 _ rfl
theorem lk_233 {B n : Nat} {h : AH} (l : LX B n h) : hk h (B + 233) = (0 + 2, 4) := l.1 233 _ rfl
theorem lk_234 {B n : Nat} {h : AH} (l : LX B n h) : hk h (B + 234) = (0 + 2, 6) := l.1 234 _ rfl
theorem lk_235 {B n : Nat} {h : AH} (l : LX B n h) : hk h (B + 235) = (3 + 2, n * n) := l.1 235 _ rfl
theorem lk_236 {B n : Nat} {h : AH} (l : LX B n h) : hk h (B + 236) = (1 + 2, wN n * 19) := l.1 236 _ rfl
theorem lk_237 {B n : Nat} {h : AH} (l : LX B n h) : hk h (B + 237) = (1 + 2, 4 * gN n / 12 + 1) := l.1 237 _ rfl
theorem lk_238 {B n : Nat} {h : AH} (l : LX B n h) : hk h (B + 238) = (1 + 2, 4 * gN n / 64 + 1) := l.1 238 _ rfl
theorem lk_239 {B n : Nat} {h : AH} (l : LX B n h) : hk h (B + 239) = (1 + 2, 4 * gN n / 64 + 1) := l.1 239 _ rfl
theorem lk_240 {B n : Nat} {h : AH} (l : LX B n h) : hk h (B + 240) = (0 + 2, 4 * n * n) := l.1 240 _ rfl
theorem lk_241 {B n : Nat} {h : AH} (l : LX B n h) : hk h (B + 241) = (3 + 2, 24 * n * n) := l.1 241 _ rfl
theorem lk_242 {B n : Nat} {h : AH} (l : LX B n h) : hk h (B + 242) = (0 + 2, 8 * n * n) := l.1 242 _ rfl
theorem lk_243 {B n : Nat} {h : AH} (l : LX B n h) : hk h (B + 243) = (0 + 2, 8 * n * n) := l.1 243 _ rfl
theorem lk_244 {B n : Nat} {h : AH} (l : LX B n h) : hk h (B + 244) = (0 + 2, 8 * n * n) := l.1 244 _ rfl
theorem lk_245 {B n : Nat} {h : AH} (l : LX B n h) : hk h (B + 245) = (0 + 2, rmN n) := l.1 245 _ rfl
theorem lf_0_0 {B n : Nat} {h : AH} (l : LX B n h) : hv h (B + 0) 0 = rf (B + 36) := l.f 0 0 0 (List.mem_of_getElem? (i := 0) rfl) rfl rfl
theorem lf_0_1 {B n : Nat} {h : AH} (l : LX B n h) : hv h (B + 0) 1 = rf (B + 51) := l.f 1 0 1 (List.mem_of_getElem? (i := 1) rfl) rfl rfl
theorem lf_0_2 {B n : Nat} {h : AH} (l : LX B n h) : hv h (B + 0) 2 = rf (B + 1) := l.f 2 0 2 (List.mem_of_getElem? (i := 2) rfl) rfl rfl
theorem lf_0_3 {B n : Nat} {h : AH} (l : LX B n h) : hv h (B + 0) 3 = rf (B + 7) := l.f 3 0 3 (List.mem_of_getElem? (i := 3) rfl) rfl rfl
theorem lf_0_4 {B n : Nat} {h : AH} (l : LX B n h) : hv h (B + 0) 4 = rf (B + 56) := l.f 4 0 4 (List.mem_of_getElem? (i := 4) rfl) rfl rfl
theorem lf_0_5 {B n : Nat} {h : AH} (l : LX B n h) : hv h (B + 0) 5 = rf (B + 81) := l.f 5 0 5 (List.mem_of_getElem? (i := 5) rfl) rfl rfl
theorem lf_0_6 {B n : Nat} {h : AH} (l : LX B n h) : hv h (B + 0) 6 = rf (B + 82) := l.f 6 0 6 (List.mem_of_getElem? (i := 6) rfl) rfl rfl
theorem lf_0_7 {B n : Nat} {h : AH} (l : LX B n h) : hv h (B + 0) 7 = rf (B + 23) := l.f 7 0 7 (List.mem_of_getElem? (i := 7) rfl) rfl rfl
theorem lf_0_8 {B n : Nat} {h : AH} (l : LX B n h) : hv h (B + 0) 8 = rf (B + 92) := l.f 8 0 8 (List.mem_of_getElem? (i := 8) rfl) rfl rfl
theorem lf_0_9 {B n : Nat} {h : AH} (l : LX B n h) : hv h (B + 0) 9 = rf (B + 118) := l.f 9 0 9 (List.mem_of_getElem? (i := 9) rfl) rfl rfl
theorem lf_0_10 {B n : Nat} {h : AH} (l : LX B n h) : hv h (B + 0) 10 = rf (B + 132) := l.f 10 0 10 (List.mem_of_getElem? (i := 10) rfl) rfl rfl
theorem lf_0_11 {B n : Nat} {h : AH} (l : LX B n h) : hv h (B + 0) 11 = rf (B + 135) := l.f 11 0 11 (List.mem_of_getElem? (i := 11) rfl) rfl rfl
theorem lf_0_12 {B n : Nat} {h : AH} (l : LX B n h) : hv h (B + 0) 12 = rf (B + 143) := l.f 12 0 12 (List.mem_of_getElem? (i := 12) rfl) rfl rfl
theorem lf_0_13 {B n : Nat} {h : AH} (l : LX B n h) : hv h (B + 0) 13 = ((n : Nat) : Int) := l.f 13 0 13 (List.mem_of_getElem? (i := 13) rfl) rfl rfl
theorem lf_0_14 {B n : Nat} {h : AH} (l : LX B n h) : hv h (B + 0) 14 = rf (B + 26) := l.f 14 0 14 (List.mem_of_getElem? (i := 14) rfl) rfl rfl
theorem lf_0_16 {B n : Nat} {h : AH} (l : LX B n h) : hv h (B + 0) 16 = rf (B + 27) := l.f 16 0 16 (List.mem_of_getElem? (i := 15) rfl) rfl rfl
theorem lf_0_17 {B n : Nat} {h : AH} (l : LX B n h) : hv h (B + 0) 17 = rf (B + 28) := l.f 17 0 17 (List.mem_of_getElem? (i := 16) rfl) rfl rfl
theorem lf_0_18 {B n : Nat} {h : AH} (l : LX B n h) : hv h (B + 0) 18 = rf (B + 29) := l.f 18 0 18 (List.mem_of_getElem? (i := 17) rfl) rfl rfl
theorem lf_0_22 {B n : Nat} {h : AH} (l : LX B n h) : hv h (B + 0) 22 = rf (B + 30) := l.f 22 0 22 (List.mem_of_getElem? (i := 18) rfl) rfl rfl
theorem lf_0_26 {B n : Nat} {h : AH} (l : LX B n h) : hv h (B + 0) 26 = rf (B + 31) := l.f 26 0 26 (List.mem_of_getElem? (i := 19) rfl) rfl rfl
theorem lf_0_27 {B n : Nat} {h : AH} (l : LX B n h) : hv h (B + 0) 27 = rf (B + 32) := l.f 27 0 27 (List.mem_of_getElem? (i := 20) rfl) rfl rfl
theorem lf_0_28 {B n : Nat} {h : AH} (l : LX B n h) : hv h (B + 0) 28 = rf (B + 33) := l.f 28 0 28 (List.mem_of_getElem? (i := 21) rfl) rfl rfl
theorem lf_0_31 {B n : Nat} {h : AH} (l : LX B n h) : hv h (B + 0) 31 = rf (B + 34) := l.f 31 0 31 (List.mem_of_getElem? (i := 22) rfl) rfl rfl
theorem lf_0_32 {B n : Nat} {h : AH} (l : LX B n h) : hv h (B + 0) 32 = rf (B + 35) := l.f 32 0 32 (List.mem_of_getElem? (i := 23) rfl) rfl rfl
theorem lf_1_0 {B n : Nat} {h : AH} (l : LX B n h) : hv h (B + 1) 0 = rf (B + 2) := l.f 256 1 0 (List.mem_of_getElem? (i := 24) rfl) rfl rfl
theorem lf_1_5 {B n : Nat} {h : AH} (l : LX B n h) : hv h (B + 1) 5 = rf (B + 6) := l.f 261 1 5 (List.mem_of_getElem? (i := 25) rfl) rfl rfl
theorem lf_7_0 {B n : Nat} {h : AH} (l : LX B n h) : hv h (B + 7) 0 = rf (B + 1) := l.f 1792 7 0 (List.mem_of_getElem? (i := 26) rfl) rfl rfl
theorem lf_7_1 {B n : Nat} {h : AH} (l : LX B n h) : hv h (B + 7) 1 = rf (B + 8) := l.f 1793 7 1 (List.mem_of_getElem? (i := 27) rfl) rfl rfl
theorem lf_7_2 {B n : Nat} {h : AH} (l : LX B n h) : hv h (B + 7) 2 = rf (B + 9) := l.f 1794 7 2 (List.mem_of_getElem? (i := 28) rfl) rfl rfl
theorem lf_7_3 {B n : Nat} {h : AH} (l : LX B n h) : hv h (B + 7) 3 = rf (B + 10) := l.f 1795 7 3 (List.mem_of_getElem? (i := 29) rfl) rfl rfl
theorem lf_7_4 {B n : Nat} {h : AH} (l : LX B n h) : hv h (B + 7) 4 = rf (B + 11) := l.f 1796 7 4 (List.mem_of_getElem? (i := 30) rfl) rfl rfl
theorem lf_7_5 {B n : Nat} {h : AH} (l : LX B n h) : hv h (B + 7) 5 = rf (B + 12) := l.f 1797 7 5 (List.mem_of_getElem? (i := 31) rfl) rfl rfl
theorem lf_7_6 {B n : Nat} {h : AH} (l : LX B n h) : hv h (B + 7) 6 = rf (B + 13) := l.f 1798 7 6 (List.mem_of_getElem? (i := 32) rfl) rfl rfl
theorem lf_7_7 {B n : Nat} {h : AH} (l : LX B n h) : hv h (B + 7) 7 = rf (B + 14) := l.f 1799 7 7 (List.mem_of_getElem? (i := 33) rfl) rfl rfl
theorem lf_7_15 {B n : Nat} {h : AH} (l : LX B n h) : hv h (B + 7) 15 = rf (B + 15) := l.f 1807 7 15 (List.mem_of_getElem? (i := 34) rfl) rfl rfl
theorem lf_7_16 {B n : Nat} {h : AH} (l : LX B n h) : hv h (B + 7) 16 = rf (B + 16) := l.f 1808 7 16 (List.mem_of_getElem? (i := 35) rfl) rfl rfl
theorem lf_7_17 {B n : Nat} {h : AH} (l : LX B n h) : hv h (B + 7) 17 = rf (B + 17) := l.f 1809 7 17 (List.mem_of_getElem? (i := 36) rfl) rfl rfl
theorem lf_7_18 {B n : Nat} {h : AH} (l : LX B n h) : hv h (B + 7) 18 = rf (B + 18) := l.f 1810 7 18 (List.mem_of_getElem? (i := 37) rfl) rfl rfl
theorem lf_7_19 {B n : Nat} {h : AH} (l : LX B n h) : hv h (B + 7) 19 = rf (B + 19) := l.f 1811 7 19 (List.mem_of_getElem? (i := 38) rfl) rfl rfl
theorem lf_7_20 {B n : Nat} {h : AH} (l : LX B n h) : hv h (B + 7) 20 = rf (B + 20) := l.f 1812 7 20 (List.mem_of_getElem? (i := 39) rfl) rfl rfl
theorem lf_7_23 {B n : Nat} {h : AH} (l : LX B n h) : hv h (B + 7) 23 = rf (B + 21) := l.f 1815 7 23 (List.mem_of_getElem? (i := 40) rfl) rfl rfl
theorem lf_7_24 {B n : Nat} {h : AH} (l : LX B n h) : hv h (B + 7) 24 = rf (B + 22) := l.f 1816 7 24 (List.mem_of_getElem? (i := 41) rfl) rfl rfl
theorem lf_23_0 {B n : Nat} {h : AH} (l : LX B n h) : hv h (B + 23) 0 = rf (B + 24) := l.f 5888 23 0 (List.mem_of_getElem? (i := 42) rfl) rfl rfl
theorem lf_36_0 {B n : Nat} {h : AH} (l : LX B n h) : hv h (B + 36) 0 = ((n : Nat) : Int) := l.f 9216 36 0 (List.mem_of_getElem? (i := 43) rfl) rfl rfl
theorem lf_36_1 {B n : Nat} {h : AH} (l : LX B n h) : hv h (B + 36) 1 = (2 ^ n - 1 : Int) := l.f 9217 36 1 (List.mem_of_getElem? (i := 44) rfl) rfl rfl
theorem lf_36_2 {B n : Nat} {h : AH} (l : LX B n h) : hv h (B + 36) 2 = ((24 * n * n : Nat) : Int) := l.f 9218 36 2 (List.mem_of_getElem? (i := 45) rfl) rfl rfl
theorem lf_36_3 {B n : Nat} {h : AH} (l : LX B n h) : hv h (B + 36) 3 = rf (B + 37) := l.f 9219 36 3 (List.mem_of_getElem? (i := 46) rfl) rfl rfl
theorem lf_36_4 {B n : Nat} {h : AH} (l : LX B n h) : hv h (B + 36) 4 = rf (B + 38) := l.f 9220 36 4 (List.mem_of_getElem? (i := 47) rfl) rfl rfl
theorem lf_36_5 {B n : Nat} {h : AH} (l : LX B n h) : hv h (B + 36) 5 = rf (B + 39) := l.f 9221 36 5 (List.mem_of_getElem? (i := 48) rfl) rfl rfl
theorem lf_36_6 {B n : Nat} {h : AH} (l : LX B n h) : hv h (B + 36) 6 = rf (B + 40) := l.f 9222 36 6 (List.mem_of_getElem? (i := 49) rfl) rfl rfl
theorem lf_36_7 {B n : Nat} {h : AH} (l : LX B n h) : hv h (B + 36) 7 = rf (B + 41) := l.f 9223 36 7 (List.mem_of_getElem? (i := 50) rfl) rfl rfl
theorem lf_36_8 {B n : Nat} {h : AH} (l : LX B n h) : hv h (B + 36) 8 = rf (B + 42) := l.f 9224 36 8 (List.mem_of_getElem? (i := 51) rfl) rfl rfl
theorem lf_36_9 {B n : Nat} {h : AH} (l : LX B n h) : hv h (B + 36) 9 = rf (B + 43) := l.f 9225 36 9 (List.mem_of_getElem? (i := 52) rfl) rfl rfl
theorem lf_36_10 {B n : Nat} {h : AH} (l : LX B n h) : hv h (B + 36) 10 = rf (B + 44) := l.f 9226 36 10 (List.mem_of_getElem? (i := 53) rfl) rfl rfl
theorem lf_36_11 {B n : Nat} {h : AH} (l : LX B n h) : hv h (B + 36) 11 = rf (B + 45) := l.f 9227 36 11 (List.mem_of_getElem? (i := 54) rfl) rfl rfl
theorem lf_36_12 {B n : Nat} {h : AH} (l : LX B n h) : hv h (B + 36) 12 = rf (B + 46) := l.f 9228 36 12 (List.mem_of_getElem? (i := 55) rfl) rfl rfl
theorem lf_36_13 {B n : Nat} {h : AH} (l : LX B n h) : hv h (B + 36) 13 = rf (B + 47) := l.f 9229 36 13 (List.mem_of_getElem? (i := 56) rfl) rfl rfl
theorem lf_36_14 {B n : Nat} {h : AH} (l : LX B n h) : hv h (B + 36) 14 = rf (B + 48) := l.f 9230 36 14 (List.mem_of_getElem? (i := 57) rfl) rfl rfl
theorem lf_36_15 {B n : Nat} {h : AH} (l : LX B n h) : hv h (B + 36) 15 = rf (B + 49) := l.f 9231 36 15 (List.mem_of_getElem? (i := 58) rfl) rfl rfl
theorem lf_36_16 {B n : Nat} {h : AH} (l : LX B n h) : hv h (B + 36) 16 = rf (B + 50) := l.f 9232 36 16 (List.mem_of_getElem? (i := 59) rfl) rfl rfl
theorem lf_51_0 {B n : Nat} {h : AH} (l : LX B n h) : hv h (B + 51) 0 = rf (B + 36) := l.f 13056 51 0 (List.mem_of_getElem? (i := 60) rfl) rfl rfl
theorem lf_51_1 {B n : Nat} {h : AH} (l : LX B n h) : hv h (B + 51) 1 = ((n : Nat) : Int) := l.f 13057 51 1 (List.mem_of_getElem? (i := 61) rfl) rfl rfl
theorem lf_51_2 {B n : Nat} {h : AH} (l : LX B n h) : hv h (B + 51) 2 = rf (B + 52) := l.f 13058 51 2 (List.mem_of_getElem? (i := 62) rfl) rfl rfl
theorem lf_51_3 {B n : Nat} {h : AH} (l : LX B n h) : hv h (B + 51) 3 = rf (B + 53) := l.f 13059 51 3 (List.mem_of_getElem? (i := 63) rfl) rfl rfl
theorem lf_51_4 {B n : Nat} {h : AH} (l : LX B n h) : hv h (B + 51) 4 = rf (B + 54) := l.f 13060 51 4 (List.mem_of_getElem? (i := 64) rfl) rfl rfl
theorem lf_51_5 {B n : Nat} {h : AH} (l : LX B n h) : hv h (B + 51) 5 = rf (B + 55) := l.f 13061 51 5 (List.mem_of_getElem? (i := 65) rfl) rfl rfl
theorem lf_56_0 {B n : Nat} {h : AH} (l : LX B n h) : hv h (B + 56) 0 = rf (B + 1) := l.f 14336 56 0 (List.mem_of_getElem? (i := 66) rfl) rfl rfl
theorem lf_56_1 {B n : Nat} {h : AH} (l : LX B n h) : hv h (B + 56) 1 = rf (B + 7) := l.f 14337 56 1 (List.mem_of_getElem? (i := 67) rfl) rfl rfl
theorem lf_56_2 {B n : Nat} {h : AH} (l : LX B n h) : hv h (B + 56) 2 = ((n : Nat) : Int) := l.f 14338 56 2 (List.mem_of_getElem? (i := 68) rfl) rfl rfl
theorem lf_56_3 {B n : Nat} {h : AH} (l : LX B n h) : hv h (B + 56) 3 = rf (B + 57) := l.f 14339 56 3 (List.mem_of_getElem? (i := 69) rfl) rfl rfl
theorem lf_56_4 {B n : Nat} {h : AH} (l : LX B n h) : hv h (B + 56) 4 = rf (B + 63) := l.f 14340 56 4 (List.mem_of_getElem? (i := 70) rfl) rfl rfl
theorem lf_56_5 {B n : Nat} {h : AH} (l : LX B n h) : hv h (B + 56) 5 = rf (B + 64) := l.f 14341 56 5 (List.mem_of_getElem? (i := 71) rfl) rfl rfl
theorem lf_56_6 {B n : Nat} {h : AH} (l : LX B n h) : hv h (B + 56) 6 = rf (B + 65) := l.f 14342 56 6 (List.mem_of_getElem? (i := 72) rfl) rfl rfl
theorem lf_56_7 {B n : Nat} {h : AH} (l : LX B n h) : hv h (B + 56) 7 = rf (B + 66) := l.f 14343 56 7 (List.mem_of_getElem? (i := 73) rfl) rfl rfl
theorem lf_56_8 {B n : Nat} {h : AH} (l : LX B n h) : hv h (B + 56) 8 = rf (B + 67) := l.f 14344 56 8 (List.mem_of_getElem? (i := 74) rfl) rfl rfl
theorem lf_56_9 {B n : Nat} {h : AH} (l : LX B n h) : hv h (B + 56) 9 = rf (B + 68) := l.f 14345 56 9 (List.mem_of_getElem? (i := 75) rfl) rfl rfl
theorem lf_56_10 {B n : Nat} {h : AH} (l : LX B n h) : hv h (B + 56) 10 = rf (B + 69) := l.f 14346 56 10 (List.mem_of_getElem? (i := 76) rfl) rfl rfl
theorem lf_56_11 {B n : Nat} {h : AH} (l : LX B n h) : hv h (B + 56) 11 = rf (B + 70) := l.f 14347 56 11 (List.mem_of_getElem? (i := 77) rfl) rfl rfl
theorem lf_56_12 {B n : Nat} {h : AH} (l : LX B n h) : hv h (B + 56) 12 = rf (B + 71) := l.f 14348 56 12 (List.mem_of_getElem? (i := 78) rfl) rfl rfl
theorem lf_56_13 {B n : Nat} {h : AH} (l : LX B n h) : hv h (B + 56) 13 = rf (B + 72) := l.f 14349 56 13 (List.mem_of_getElem? (i := 79) rfl) rfl rfl
theorem lf_56_14 {B n : Nat} {h : AH} (l : LX B n h) : hv h (B + 56) 14 = rf (B + 73) := l.f 14350 56 14 (List.mem_of_getElem? (i := 80) rfl) rfl rfl
theorem lf_56_15 {B n : Nat} {h : AH} (l : LX B n h) : hv h (B + 56) 15 = rf (B + 74) := l.f 14351 56 15 (List.mem_of_getElem? (i := 81) rfl) rfl rfl
theorem lf_56_16 {B n : Nat} {h : AH} (l : LX B n h) : hv h (B + 56) 16 = rf (B + 75) := l.f 14352 56 16 (List.mem_of_getElem? (i := 82) rfl) rfl rfl
theorem lf_56_17 {B n : Nat} {h : AH} (l : LX B n h) : hv h (B + 56) 17 = rf (B + 76) := l.f 14353 56 17 (List.mem_of_getElem? (i := 83) rfl) rfl rfl
theorem lf_56_18 {B n : Nat} {h : AH} (l : LX B n h) : hv h (B + 56) 18 = rf (B + 77) := l.f 14354 56 18 (List.mem_of_getElem? (i := 84) rfl) rfl rfl
theorem lf_56_20 {B n : Nat} {h : AH} (l : LX B n h) : hv h (B + 56) 20 = rf (B + 78) := l.f 14356 56 20 (List.mem_of_getElem? (i := 85) rfl) rfl rfl
theorem lf_56_21 {B n : Nat} {h : AH} (l : LX B n h) : hv h (B + 56) 21 = rf (B + 79) := l.f 14357 56 21 (List.mem_of_getElem? (i := 86) rfl) rfl rfl
theorem lf_56_22 {B n : Nat} {h : AH} (l : LX B n h) : hv h (B + 56) 22 = rf (B + 80) := l.f 14358 56 22 (List.mem_of_getElem? (i := 87) rfl) rfl rfl
theorem lf_57_3 {B n : Nat} {h : AH} (l : LX B n h) : hv h (B + 57) 3 = rf (B + 58) := l.f 14595 57 3 (List.mem_of_getElem? (i := 88) rfl) rfl rfl
theorem lf_57_4 {B n : Nat} {h : AH} (l : LX B n h) : hv h (B + 57) 4 = rf (B + 59) := l.f 14596 57 4 (List.mem_of_getElem? (i := 89) rfl) rfl rfl
theorem lf_57_5 {B n : Nat} {h : AH} (l : LX B n h) : hv h (B + 57) 5 = rf (B + 60) := l.f 14597 57 5 (List.mem_of_getElem? (i := 90) rfl) rfl rfl
theorem lf_57_6 {B n : Nat} {h : AH} (l : LX B n h) : hv h (B + 57) 6 = rf (B + 61) := l.f 14598 57 6 (List.mem_of_getElem? (i := 91) rfl) rfl rfl
theorem lf_57_7 {B n : Nat} {h : AH} (l : LX B n h) : hv h (B + 57) 7 = rf (B + 62) := l.f 14599 57 7 (List.mem_of_getElem? (i := 92) rfl) rfl rfl
theorem lf_81_0 {B n : Nat} {h : AH} (l : LX B n h) : hv h (B + 81) 0 = rf (B + 36) := l.f 20736 81 0 (List.mem_of_getElem? (i := 93) rfl) rfl rfl
theorem lf_81_1 {B n : Nat} {h : AH} (l : LX B n h) : hv h (B + 81) 1 = ((n : Nat) : Int) := l.f 20737 81 1 (List.mem_of_getElem? (i := 94) rfl) rfl rfl
theorem lf_82_0 {B n : Nat} {h : AH} (l : LX B n h) : hv h (B + 82) 0 = rf (B + 36) := l.f 20992 82 0 (List.mem_of_getElem? (i := 95) rfl) rfl rfl
theorem lf_82_1 {B n : Nat} {h : AH} (l : LX B n h) : hv h (B + 82) 1 = ((n : Nat) : Int) := l.f 20993 82 1 (List.mem_of_getElem? (i := 96) rfl) rfl rfl
theorem lf_82_2 {B n : Nat} {h : AH} (l : LX B n h) : hv h (B + 82) 2 = rf (B + 83) := l.f 20994 82 2 (List.mem_of_getElem? (i := 97) rfl) rfl rfl
theorem lf_82_18 {B n : Nat} {h : AH} (l : LX B n h) : hv h (B + 82) 18 = rf (B + 91) := l.f 21010 82 18 (List.mem_of_getElem? (i := 98) rfl) rfl rfl
theorem lf_92_0 {B n : Nat} {h : AH} (l : LX B n h) : hv h (B + 92) 0 = rf (B + 1) := l.f 23552 92 0 (List.mem_of_getElem? (i := 99) rfl) rfl rfl
theorem lf_92_1 {B n : Nat} {h : AH} (l : LX B n h) : hv h (B + 92) 1 = rf (B + 7) := l.f 23553 92 1 (List.mem_of_getElem? (i := 100) rfl) rfl rfl
theorem lf_92_2 {B n : Nat} {h : AH} (l : LX B n h) : hv h (B + 92) 2 = rf (B + 56) := l.f 23554 92 2 (List.mem_of_getElem? (i := 101) rfl) rfl rfl
theorem lf_92_3 {B n : Nat} {h : AH} (l : LX B n h) : hv h (B + 92) 3 = rf (B + 36) := l.f 23555 92 3 (List.mem_of_getElem? (i := 102) rfl) rfl rfl
theorem lf_92_4 {B n : Nat} {h : AH} (l : LX B n h) : hv h (B + 92) 4 = rf (B + 51) := l.f 23556 92 4 (List.mem_of_getElem? (i := 103) rfl) rfl rfl
theorem lf_92_5 {B n : Nat} {h : AH} (l : LX B n h) : hv h (B + 92) 5 = rf (B + 81) := l.f 23557 92 5 (List.mem_of_getElem? (i := 104) rfl) rfl rfl
theorem lf_92_6 {B n : Nat} {h : AH} (l : LX B n h) : hv h (B + 92) 6 = rf (B + 82) := l.f 23558 92 6 (List.mem_of_getElem? (i := 105) rfl) rfl rfl
theorem lf_92_7 {B n : Nat} {h : AH} (l : LX B n h) : hv h (B + 92) 7 = rf (B + 23) := l.f 23559 92 7 (List.mem_of_getElem? (i := 106) rfl) rfl rfl
theorem lf_92_8 {B n : Nat} {h : AH} (l : LX B n h) : hv h (B + 92) 8 = ((n : Nat) : Int) := l.f 23560 92 8 (List.mem_of_getElem? (i := 107) rfl) rfl rfl
theorem lf_92_9 {B n : Nat} {h : AH} (l : LX B n h) : hv h (B + 92) 9 = rf (B + 27) := l.f 23561 92 9 (List.mem_of_getElem? (i := 108) rfl) rfl rfl
theorem lf_92_10 {B n : Nat} {h : AH} (l : LX B n h) : hv h (B + 92) 10 = rf (B + 28) := l.f 23562 92 10 (List.mem_of_getElem? (i := 109) rfl) rfl rfl
theorem lf_92_11 {B n : Nat} {h : AH} (l : LX B n h) : hv h (B + 92) 11 = rf (B + 117) := l.f 23563 92 11 (List.mem_of_getElem? (i := 110) rfl) rfl rfl
theorem lf_92_15 {B n : Nat} {h : AH} (l : LX B n h) : hv h (B + 92) 15 = rf (B + 93) := l.f 23567 92 15 (List.mem_of_getElem? (i := 111) rfl) rfl rfl
theorem lf_92_16 {B n : Nat} {h : AH} (l : LX B n h) : hv h (B + 92) 16 = rf (B + 94) := l.f 23568 92 16 (List.mem_of_getElem? (i := 112) rfl) rfl rfl
theorem lf_92_17 {B n : Nat} {h : AH} (l : LX B n h) : hv h (B + 92) 17 = rf (B + 95) := l.f 23569 92 17 (List.mem_of_getElem? (i := 113) rfl) rfl rfl
theorem lf_92_19 {B n : Nat} {h : AH} (l : LX B n h) : hv h (B + 92) 19 = rf (B + 96) := l.f 23571 92 19 (List.mem_of_getElem? (i := 114) rfl) rfl rfl
theorem lf_92_20 {B n : Nat} {h : AH} (l : LX B n h) : hv h (B + 92) 20 = rf (B + 114) := l.f 23572 92 20 (List.mem_of_getElem? (i := 115) rfl) rfl rfl
theorem lf_92_21 {B n : Nat} {h : AH} (l : LX B n h) : hv h (B + 92) 21 = rf (B + 97) := l.f 23573 92 21 (List.mem_of_getElem? (i := 116) rfl) rfl rfl
theorem lf_92_22 {B n : Nat} {h : AH} (l : LX B n h) : hv h (B + 92) 22 = rf (B + 98) := l.f 23574 92 22 (List.mem_of_getElem? (i := 117) rfl) rfl rfl
theorem lf_92_23 {B n : Nat} {h : AH} (l : LX B n h) : hv h (B + 92) 23 = rf (B + 99) := l.f 23575 92 23 (List.mem_of_getElem? (i := 118) rfl) rfl rfl
theorem lf_92_24 {B n : Nat} {h : AH} (l : LX B n h) : hv h (B + 92) 24 = rf (B + 100) := l.f 23576 92 24 (List.mem_of_getElem? (i := 119) rfl) rfl rfl
theorem lf_92_25 {B n : Nat} {h : AH} (l : LX B n h) : hv h (B + 92) 25 = rf (B + 101) := l.f 23577 92 25 (List.mem_of_getElem? (i := 120) rfl) rfl rfl
theorem lf_92_29 {B n : Nat} {h : AH} (l : LX B n h) : hv h (B + 92) 29 = rf (B + 102) := l.f 23581 92 29 (List.mem_of_getElem? (i := 121) rfl) rfl rfl
theorem lf_92_30 {B n : Nat} {h : AH} (l : LX B n h) : hv h (B + 92) 30 = rf (B + 103) := l.f 23582 92 30 (List.mem_of_getElem? (i := 122) rfl) rfl rfl
theorem lf_92_31 {B n : Nat} {h : AH} (l : LX B n h) : hv h (B + 92) 31 = rf (B + 115) := l.f 23583 92 31 (List.mem_of_getElem? (i := 123) rfl) rfl rfl
theorem lf_92_32 {B n : Nat} {h : AH} (l : LX B n h) : hv h (B + 92) 32 = rf (B + 104) := l.f 23584 92 32 (List.mem_of_getElem? (i := 124) rfl) rfl rfl
theorem lf_92_33 {B n : Nat} {h : AH} (l : LX B n h) : hv h (B + 92) 33 = rf (B + 105) := l.f 23585 92 33 (List.mem_of_getElem? (i := 125) rfl) rfl rfl
theorem lf_92_34 {B n : Nat} {h : AH} (l : LX B n h) : hv h (B + 92) 34 = rf (B + 106) := l.f 23586 92 34 (List.mem_of_getElem? (i := 126) rfl) rfl rfl
theorem lf_92_35 {B n : Nat} {h : AH} (l : LX B n h) : hv h (B + 92) 35 = rf (B + 107) := l.f 23587 92 35 (List.mem_of_getElem? (i := 127) rfl) rfl rfl
theorem lf_92_36 {B n : Nat} {h : AH} (l : LX B n h) : hv h (B + 92) 36 = rf (B + 108) := l.f 23588 92 36 (List.mem_of_getElem? (i := 128) rfl) rfl rfl
theorem lf_92_38 {B n : Nat} {h : AH} (l : LX B n h) : hv h (B + 92) 38 = rf (B + 109) := l.f 23590 92 38 (List.mem_of_getElem? (i := 129) rfl) rfl rfl
theorem lf_92_39 {B n : Nat} {h : AH} (l : LX B n h) : hv h (B + 92) 39 = rf (B + 110) := l.f 23591 92 39 (List.mem_of_getElem? (i := 130) rfl) rfl rfl
theorem lf_92_40 {B n : Nat} {h : AH} (l : LX B n h) : hv h (B + 92) 40 = rf (B + 111) := l.f 23592 92 40 (List.mem_of_getElem? (i := 131) rfl) rfl rfl
theorem lf_92_43 {B n : Nat} {h : AH} (l : LX B n h) : hv h (B + 92) 43 = rf (B + 112) := l.f 23595 92 43 (List.mem_of_getElem? (i := 132) rfl) rfl rfl
theorem lf_92_44 {B n : Nat} {h : AH} (l : LX B n h) : hv h (B + 92) 44 = rf (B + 113) := l.f 23596 92 44 (List.mem_of_getElem? (i := 133) rfl) rfl rfl
theorem lf_115_0 {B n : Nat} {h : AH} (l : LX B n h) : hv h (B + 115) 0 = ((n : Nat) : Int) := l.f 29440 115 0 (List.mem_of_getElem? (i := 134) rfl) rfl rfl
theorem lf_115_1 {B n : Nat} {h : AH} (l : LX B n h) : hv h (B + 115) 1 = rf (B + 116) := l.f 29441 115 1 (List.mem_of_getElem? (i := 135) rfl) rfl rfl
theorem lf_118_0 {B n : Nat} {h : AH} (l : LX B n h) : hv h (B + 118) 0 = rf (B + 51) := l.f 30208 118 0 (List.mem_of_getElem? (i := 136) rfl) rfl rfl
theorem lf_118_1 {B n : Nat} {h : AH} (l : LX B n h) : hv h (B + 118) 1 = rf (B + 92) := l.f 30209 118 1 (List.mem_of_getElem? (i := 137) rfl) rfl rfl
theorem lf_118_2 {B n : Nat} {h : AH} (l : LX B n h) : hv h (B + 118) 2 = rf (B + 27) := l.f 30210 118 2 (List.mem_of_getElem? (i := 138) rfl) rfl rfl
theorem lf_118_5 {B n : Nat} {h : AH} (l : LX B n h) : hv h (B + 118) 5 = rf (B + 119) := l.f 30213 118 5 (List.mem_of_getElem? (i := 139) rfl) rfl rfl
theorem lf_118_6 {B n : Nat} {h : AH} (l : LX B n h) : hv h (B + 118) 6 = rf (B + 120) := l.f 30214 118 6 (List.mem_of_getElem? (i := 140) rfl) rfl rfl
theorem lf_118_7 {B n : Nat} {h : AH} (l : LX B n h) : hv h (B + 118) 7 = rf (B + 121) := l.f 30215 118 7 (List.mem_of_getElem? (i := 141) rfl) rfl rfl
theorem lf_118_8 {B n : Nat} {h : AH} (l : LX B n h) : hv h (B + 118) 8 = rf (B + 122) := l.f 30216 118 8 (List.mem_of_getElem? (i := 142) rfl) rfl rfl
theorem lf_118_9 {B n : Nat} {h : AH} (l : LX B n h) : hv h (B + 118) 9 = rf (B + 123) := l.f 30217 118 9 (List.mem_of_getElem? (i := 143) rfl) rfl rfl
theorem lf_118_10 {B n : Nat} {h : AH} (l : LX B n h) : hv h (B + 118) 10 = rf (B + 124) := l.f 30218 118 10 (List.mem_of_getElem? (i := 144) rfl) rfl rfl
theorem lf_118_11 {B n : Nat} {h : AH} (l : LX B n h) : hv h (B + 118) 11 = rf (B + 125) := l.f 30219 118 11 (List.mem_of_getElem? (i := 145) rfl) rfl rfl
theorem lf_118_12 {B n : Nat} {h : AH} (l : LX B n h) : hv h (B + 118) 12 = rf (B + 126) := l.f 30220 118 12 (List.mem_of_getElem? (i := 146) rfl) rfl rfl
theorem lf_118_13 {B n : Nat} {h : AH} (l : LX B n h) : hv h (B + 118) 13 = rf (B + 127) := l.f 30221 118 13 (List.mem_of_getElem? (i := 147) rfl) rfl rfl
theorem lf_118_14 {B n : Nat} {h : AH} (l : LX B n h) : hv h (B + 118) 14 = rf (B + 128) := l.f 30222 118 14 (List.mem_of_getElem? (i := 148) rfl) rfl rfl
theorem lf_118_15 {B n : Nat} {h : AH} (l : LX B n h) : hv h (B + 118) 15 = rf (B + 129) := l.f 30223 118 15 (List.mem_of_getElem? (i := 149) rfl) rfl rfl
theorem lf_118_16 {B n : Nat} {h : AH} (l : LX B n h) : hv h (B + 118) 16 = rf (B + 130) := l.f 30224 118 16 (List.mem_of_getElem? (i := 150) rfl) rfl rfl
theorem lf_118_17 {B n : Nat} {h : AH} (l : LX B n h) : hv h (B + 118) 17 = rf (B + 131) := l.f 30225 118 17 (List.mem_of_getElem? (i := 151) rfl) rfl rfl
theorem lf_132_0 {B n : Nat} {h : AH} (l : LX B n h) : hv h (B + 132) 0 = rf (B + 36) := l.f 33792 132 0 (List.mem_of_getElem? (i := 152) rfl) rfl rfl
theorem lf_132_1 {B n : Nat} {h : AH} (l : LX B n h) : hv h (B + 132) 1 = rf (B + 51) := l.f 33793 132 1 (List.mem_of_getElem? (i := 153) rfl) rfl rfl
theorem lf_132_2 {B n : Nat} {h : AH} (l : LX B n h) : hv h (B + 132) 2 = rf (B + 82) := l.f 33794 132 2 (List.mem_of_getElem? (i := 154) rfl) rfl rfl
theorem lf_132_3 {B n : Nat} {h : AH} (l : LX B n h) : hv h (B + 132) 3 = ((n : Nat) : Int) := l.f 33795 132 3 (List.mem_of_getElem? (i := 155) rfl) rfl rfl
theorem lf_132_8 {B n : Nat} {h : AH} (l : LX B n h) : hv h (B + 132) 8 = rf (B + 133) := l.f 33800 132 8 (List.mem_of_getElem? (i := 156) rfl) rfl rfl
theorem lf_132_9 {B n : Nat} {h : AH} (l : LX B n h) : hv h (B + 132) 9 = rf (B + 134) := l.f 33801 132 9 (List.mem_of_getElem? (i := 157) rfl) rfl rfl
theorem lf_135_0 {B n : Nat} {h : AH} (l : LX B n h) : hv h (B + 135) 0 = rf (B + 51) := l.f 34560 135 0 (List.mem_of_getElem? (i := 158) rfl) rfl rfl
theorem lf_135_1 {B n : Nat} {h : AH} (l : LX B n h) : hv h (B + 135) 1 = rf (B + 36) := l.f 34561 135 1 (List.mem_of_getElem? (i := 159) rfl) rfl rfl
theorem lf_135_2 {B n : Nat} {h : AH} (l : LX B n h) : hv h (B + 135) 2 = ((n : Nat) : Int) := l.f 34562 135 2 (List.mem_of_getElem? (i := 160) rfl) rfl rfl
theorem lf_135_3 {B n : Nat} {h : AH} (l : LX B n h) : hv h (B + 135) 3 = rf (B + 141) := l.f 34563 135 3 (List.mem_of_getElem? (i := 161) rfl) rfl rfl
theorem lf_135_4 {B n : Nat} {h : AH} (l : LX B n h) : hv h (B + 135) 4 = rf (B + 142) := l.f 34564 135 4 (List.mem_of_getElem? (i := 162) rfl) rfl rfl
theorem lf_135_5 {B n : Nat} {h : AH} (l : LX B n h) : hv h (B + 135) 5 = rf (B + 136) := l.f 34565 135 5 (List.mem_of_getElem? (i := 163) rfl) rfl rfl
theorem lf_135_6 {B n : Nat} {h : AH} (l : LX B n h) : hv h (B + 135) 6 = rf (B + 137) := l.f 34566 135 6 (List.mem_of_getElem? (i := 164) rfl) rfl rfl
theorem lf_135_7 {B n : Nat} {h : AH} (l : LX B n h) : hv h (B + 135) 7 = rf (B + 138) := l.f 34567 135 7 (List.mem_of_getElem? (i := 165) rfl) rfl rfl
theorem lf_135_11 {B n : Nat} {h : AH} (l : LX B n h) : hv h (B + 135) 11 = rf (B + 139) := l.f 34571 135 11 (List.mem_of_getElem? (i := 166) rfl) rfl rfl
theorem lf_135_12 {B n : Nat} {h : AH} (l : LX B n h) : hv h (B + 135) 12 = rf (B + 140) := l.f 34572 135 12 (List.mem_of_getElem? (i := 167) rfl) rfl rfl
theorem lf_143_0 {B n : Nat} {h : AH} (l : LX B n h) : hv h (B + 143) 0 = rf (B + 51) := l.f 36608 143 0 (List.mem_of_getElem? (i := 168) rfl) rfl rfl
theorem lf_143_1 {B n : Nat} {h : AH} (l : LX B n h) : hv h (B + 143) 1 = rf (B + 36) := l.f 36609 143 1 (List.mem_of_getElem? (i := 169) rfl) rfl rfl
theorem lf_143_2 {B n : Nat} {h : AH} (l : LX B n h) : hv h (B + 143) 2 = ((n : Nat) : Int) := l.f 36610 143 2 (List.mem_of_getElem? (i := 170) rfl) rfl rfl
theorem lf_143_3 {B n : Nat} {h : AH} (l : LX B n h) : hv h (B + 143) 3 = rf (B + 92) := l.f 36611 143 3 (List.mem_of_getElem? (i := 171) rfl) rfl rfl
theorem lf_143_8 {B n : Nat} {h : AH} (l : LX B n h) : hv h (B + 143) 8 = rf (B + 146) := l.f 36616 143 8 (List.mem_of_getElem? (i := 172) rfl) rfl rfl
theorem lf_143_10 {B n : Nat} {h : AH} (l : LX B n h) : hv h (B + 143) 10 = rf (B + 148) := l.f 36618 143 10 (List.mem_of_getElem? (i := 173) rfl) rfl rfl
theorem lf_143_11 {B n : Nat} {h : AH} (l : LX B n h) : hv h (B + 143) 11 = rf (B + 147) := l.f 36619 143 11 (List.mem_of_getElem? (i := 174) rfl) rfl rfl
theorem lf_149_1 {B n : Nat} {h : AH} (l : LX B n h) : hv h (B + 149) 1 = rf (B + 150) := l.f 38145 149 1 (List.mem_of_getElem? (i := 175) rfl) rfl rfl
theorem lf_149_15 {B n : Nat} {h : AH} (l : LX B n h) : hv h (B + 149) 15 = rf (B + 151) := l.f 38159 149 15 (List.mem_of_getElem? (i := 176) rfl) rfl rfl
theorem lf_149_20 {B n : Nat} {h : AH} (l : LX B n h) : hv h (B + 149) 20 = rf (B + 152) := l.f 38164 149 20 (List.mem_of_getElem? (i := 177) rfl) rfl rfl
theorem lf_149_21 {B n : Nat} {h : AH} (l : LX B n h) : hv h (B + 149) 21 = rf (B + 153) := l.f 38165 149 21 (List.mem_of_getElem? (i := 178) rfl) rfl rfl
theorem lf_149_27 {B n : Nat} {h : AH} (l : LX B n h) : hv h (B + 149) 27 = rf (B + 154) := l.f 38171 149 27 (List.mem_of_getElem? (i := 179) rfl) rfl rfl
theorem lf_149_28 {B n : Nat} {h : AH} (l : LX B n h) : hv h (B + 149) 28 = rf (B + 155) := l.f 38172 149 28 (List.mem_of_getElem? (i := 180) rfl) rfl rfl
theorem lf_149_29 {B n : Nat} {h : AH} (l : LX B n h) : hv h (B + 149) 29 = rf (B + 156) := l.f 38173 149 29 (List.mem_of_getElem? (i := 181) rfl) rfl rfl
theorem lf_149_30 {B n : Nat} {h : AH} (l : LX B n h) : hv h (B + 149) 30 = rf (B + 157) := l.f 38174 149 30 (List.mem_of_getElem? (i := 182) rfl) rfl rfl
theorem lf_149_31 {B n : Nat} {h : AH} (l : LX B n h) : hv h (B + 149) 31 = rf (B + 158) := l.f 38175 149 31 (List.mem_of_getElem? (i := 183) rfl) rfl rfl
theorem lf_149_32 {B n : Nat} {h : AH} (l : LX B n h) : hv h (B + 149) 32 = rf (B + 159) := l.f 38176 149 32 (List.mem_of_getElem? (i := 184) rfl) rfl rfl
theorem lf_149_33 {B n : Nat} {h : AH} (l : LX B n h) : hv h (B + 149) 33 = rf (B + 160) := l.f 38177 149 33 (List.mem_of_getElem? (i := 185) rfl) rfl rfl
theorem lf_149_34 {B n : Nat} {h : AH} (l : LX B n h) : hv h (B + 149) 34 = rf (B + 161) := l.f 38178 149 34 (List.mem_of_getElem? (i := 186) rfl) rfl rfl
theorem lf_149_36 {B n : Nat} {h : AH} (l : LX B n h) : hv h (B + 149) 36 = rf (B + 162) := l.f 38180 149 36 (List.mem_of_getElem? (i := 187) rfl) rfl rfl
theorem lf_149_38 {B n : Nat} {h : AH} (l : LX B n h) : hv h (B + 149) 38 = rf (B + 163) := l.f 38182 149 38 (List.mem_of_getElem? (i := 188) rfl) rfl rfl
theorem lf_149_39 {B n : Nat} {h : AH} (l : LX B n h) : hv h (B + 149) 39 = rf (B + 164) := l.f 38183 149 39 (List.mem_of_getElem? (i := 189) rfl) rfl rfl
theorem lf_149_44 {B n : Nat} {h : AH} (l : LX B n h) : hv h (B + 149) 44 = rf (B + 165) := l.f 38188 149 44 (List.mem_of_getElem? (i := 190) rfl) rfl rfl
theorem lf_149_45 {B n : Nat} {h : AH} (l : LX B n h) : hv h (B + 149) 45 = rf (B + 166) := l.f 38189 149 45 (List.mem_of_getElem? (i := 191) rfl) rfl rfl
theorem lf_149_46 {B n : Nat} {h : AH} (l : LX B n h) : hv h (B + 149) 46 = rf (B + 167) := l.f 38190 149 46 (List.mem_of_getElem? (i := 192) rfl) rfl rfl
theorem lf_149_48 {B n : Nat} {h : AH} (l : LX B n h) : hv h (B + 149) 48 = rf (B + 168) := l.f 38192 149 48 (List.mem_of_getElem? (i := 193) rfl) rfl rfl
theorem lf_149_49 {B n : Nat} {h : AH} (l : LX B n h) : hv h (B + 149) 49 = rf (B + 169) := l.f 38193 149 49 (List.mem_of_getElem? (i := 194) rfl) rfl rfl
theorem lf_149_50 {B n : Nat} {h : AH} (l : LX B n h) : hv h (B + 149) 50 = rf (B + 170) := l.f 38194 149 50 (List.mem_of_getElem? (i := 195) rfl) rfl rfl
theorem lf_149_51 {B n : Nat} {h : AH} (l : LX B n h) : hv h (B + 149) 51 = rf (B + 171) := l.f 38195 149 51 (List.mem_of_getElem? (i := 196) rfl) rfl rfl
theorem lf_149_52 {B n : Nat} {h : AH} (l : LX B n h) : hv h (B + 149) 52 = rf (B + 172) := l.f 38196 149 52 (List.mem_of_getElem? (i := 197) rfl) rfl rfl
theorem lf_149_53 {B n : Nat} {h : AH} (l : LX B n h) : hv h (B + 149) 53 = rf (B + 173) := l.f 38197 149 53 (List.mem_of_getElem? (i := 198) rfl) rfl rfl
theorem lf_149_54 {B n : Nat} {h : AH} (l : LX B n h) : hv h (B + 149) 54 = rf (B + 174) := l.f 38198 149 54 (List.mem_of_getElem? (i := 199) rfl) rfl rfl
theorem lf_149_55 {B n : Nat} {h : AH} (l : LX B n h) : hv h (B + 149) 55 = rf (B + 175) := l.f 38199 149 55 (List.mem_of_getElem? (i := 200) rfl) rfl rfl
theorem lf_149_58 {B n : Nat} {h : AH} (l : LX B n h) : hv h (B + 149) 58 = rf (B + 176) := l.f 38202 149 58 (List.mem_of_getElem? (i := 201) rfl) rfl rfl
theorem lf_149_59 {B n : Nat} {h : AH} (l : LX B n h) : hv h (B + 149) 59 = rf (B + 235) := l.f 38203 149 59 (List.mem_of_getElem? (i := 202) rfl) rfl rfl
theorem lf_149_60 {B n : Nat} {h : AH} (l : LX B n h) : hv h (B + 149) 60 = ((n : Nat) : Int) := l.f 38204 149 60 (List.mem_of_getElem? (i := 203) rfl) rfl rfl
theorem lf_149_61 {B n : Nat} {h : AH} (l : LX B n h) : hv h (B + 149) 61 = ((n * n * n : Nat) : Int) := l.f 38205 149 61 (List.mem_of_getElem? (i := 204) rfl) rfl rfl
theorem lf_149_62 {B n : Nat} {h : AH} (l : LX B n h) : hv h (B + 149) 62 = ((gN n : Nat) : Int) := l.f 38206 149 62 (List.mem_of_getElem? (i := 205) rfl) rfl rfl
theorem lf_149_63 {B n : Nat} {h : AH} (l : LX B n h) : hv h (B + 149) 63 = ((wN n : Nat) : Int) := l.f 38207 149 63 (List.mem_of_getElem? (i := 206) rfl) rfl rfl
theorem lf_149_64 {B n : Nat} {h : AH} (l : LX B n h) : hv h (B + 149) 64 = rf (B + 178) := l.f 38208 149 64 (List.mem_of_getElem? (i := 207) rfl) rfl rfl
theorem lf_149_65 {B n : Nat} {h : AH} (l : LX B n h) : hv h (B + 149) 65 = rf (B + 179) := l.f 38209 149 65 (List.mem_of_getElem? (i := 208) rfl) rfl rfl
theorem lf_149_66 {B n : Nat} {h : AH} (l : LX B n h) : hv h (B + 149) 66 = rf (B + 180) := l.f 38210 149 66 (List.mem_of_getElem? (i := 209) rfl) rfl rfl
theorem lf_149_67 {B n : Nat} {h : AH} (l : LX B n h) : hv h (B + 149) 67 = rf (B + 181) := l.f 38211 149 67 (List.mem_of_getElem? (i := 210) rfl) rfl rfl
theorem lf_149_68 {B n : Nat} {h : AH} (l : LX B n h) : hv h (B + 149) 68 = rf (B + 182) := l.f 38212 149 68 (List.mem_of_getElem? (i := 211) rfl) rfl rfl
theorem lf_149_69 {B n : Nat} {h : AH} (l : LX B n h) : hv h (B + 149) 69 = rf (B + 183) := l.f 38213 149 69 (List.mem_of_getElem? (i := 212) rfl) rfl rfl
theorem lf_149_70 {B n : Nat} {h : AH} (l : LX B n h) : hv h (B + 149) 70 = rf (B + 184) := l.f 38214 149 70 (List.mem_of_getElem? (i := 213) rfl) rfl rfl
theorem lf_149_71 {B n : Nat} {h : AH} (l : LX B n h) : hv h (B + 149) 71 = rf (B + 185) := l.f 38215 149 71 (List.mem_of_getElem? (i := 214) rfl) rfl rfl
theorem lf_149_72 {B n : Nat} {h : AH} (l : LX B n h) : hv h (B + 149) 72 = rf (B + 186) := l.f 38216 149 72 (List.mem_of_getElem? (i := 215) rfl) rfl rfl
theorem lf_149_73 {B n : Nat} {h : AH} (l : LX B n h) : hv h (B + 149) 73 = rf (B + 236) := l.f 38217 149 73 (List.mem_of_getElem? (i := 216) rfl) rfl rfl
theorem lf_149_77 {B n : Nat} {h : AH} (l : LX B n h) : hv h (B + 149) 77 = rf (B + 187) := l.f 38221 149 77 (List.mem_of_getElem? (i := 217) rfl) rfl rfl
theorem lf_149_79 {B n : Nat} {h : AH} (l : LX B n h) : hv h (B + 149) 79 = rf (B + 237) := l.f 38223 149 79 (List.mem_of_getElem? (i := 218) rfl) rfl rfl
theorem lf_149_80 {B n : Nat} {h : AH} (l : LX B n h) : hv h (B + 149) 80 = rf (B + 188) := l.f 38224 149 80 (List.mem_of_getElem? (i := 219) rfl) rfl rfl
theorem lf_149_81 {B n : Nat} {h : AH} (l : LX B n h) : hv h (B + 149) 81 = rf (B + 189) := l.f 38225 149 81 (List.mem_of_getElem? (i := 220) rfl) rfl rfl
theorem lf_149_82 {B n : Nat} {h : AH} (l : LX B n h) : hv h (B + 149) 82 = rf (B + 238) := l.f 38226 149 82 (List.mem_of_getElem? (i := 221) rfl) rfl rfl
theorem lf_149_83 {B n : Nat} {h : AH} (l : LX B n h) : hv h (B + 149) 83 = rf (B + 239) := l.f 38227 149 83 (List.mem_of_getElem? (i := 222) rfl) rfl rfl
theorem lf_149_84 {B n : Nat} {h : AH} (l : LX B n h) : hv h (B + 149) 84 = rf (B + 190) := l.f 38228 149 84 (List.mem_of_getElem? (i := 223) rfl) rfl rfl
theorem lf_149_87 {B n : Nat} {h : AH} (l : LX B n h) : hv h (B + 149) 87 = rf (B + 191) := l.f 38231 149 87 (List.mem_of_getElem? (i := 224) rfl) rfl rfl
theorem lf_149_93 {B n : Nat} {h : AH} (l : LX B n h) : hv h (B + 149) 93 = rf (B + 192) := l.f 38237 149 93 (List.mem_of_getElem? (i := 225) rfl) rfl rfl
theorem lf_149_94 {B n : Nat} {h : AH} (l : LX B n h) : hv h (B + 149) 94 = rf (B + 193) := l.f 38238 149 94 (List.mem_of_getElem? (i := 226) rfl) rfl rfl
theorem lf_149_95 {B n : Nat} {h : AH} (l : LX B n h) : hv h (B + 149) 95 = rf (B + 194) := l.f 38239 149 95 (List.mem_of_getElem? (i := 227) rfl) rfl rfl
theorem lf_149_96 {B n : Nat} {h : AH} (l : LX B n h) : hv h (B + 149) 96 = rf (B + 195) := l.f 38240 149 96 (List.mem_of_getElem? (i := 228) rfl) rfl rfl
theorem lf_149_97 {B n : Nat} {h : AH} (l : LX B n h) : hv h (B + 149) 97 = rf (B + 196) := l.f 38241 149 97 (List.mem_of_getElem? (i := 229) rfl) rfl rfl
theorem lf_149_98 {B n : Nat} {h : AH} (l : LX B n h) : hv h (B + 149) 98 = rf (B + 197) := l.f 38242 149 98 (List.mem_of_getElem? (i := 230) rfl) rfl rfl
theorem lf_149_99 {B n : Nat} {h : AH} (l : LX B n h) : hv h (B + 149) 99 = rf (B + 198) := l.f 38243 149 99 (List.mem_of_getElem? (i := 231) rfl) rfl rfl
theorem lf_149_102 {B n : Nat} {h : AH} (l : LX B n h) : hv h (B + 149) 102 = rf (B + 199) := l.f 38246 149 102 (List.mem_of_getElem? (i := 232) rfl) rfl rfl
theorem lf_149_103 {B n : Nat} {h : AH} (l : LX B n h) : hv h (B + 149) 103 = rf (B + 240) := l.f 38247 149 103 (List.mem_of_getElem? (i := 233) rfl) rfl rfl
theorem lf_149_105 {B n : Nat} {h : AH} (l : LX B n h) : hv h (B + 149) 105 = rf (B + 201) := l.f 38249 149 105 (List.mem_of_getElem? (i := 234) rfl) rfl rfl
theorem lf_149_106 {B n : Nat} {h : AH} (l : LX B n h) : hv h (B + 149) 106 = rf (B + 202) := l.f 38250 149 106 (List.mem_of_getElem? (i := 235) rfl) rfl rfl
theorem lf_149_116 {B n : Nat} {h : AH} (l : LX B n h) : hv h (B + 149) 116 = rf (B + 203) := l.f 38260 149 116 (List.mem_of_getElem? (i := 236) rfl) rfl rfl
theorem lf_149_119 {B n : Nat} {h : AH} (l : LX B n h) : hv h (B + 149) 119 = rf (B + 204) := l.f 38263 149 119 (List.mem_of_getElem? (i := 237) rfl) rfl rfl
theorem lf_149_122 {B n : Nat} {h : AH} (l : LX B n h) : hv h (B + 149) 122 = rf (B + 205) := l.f 38266 149 122 (List.mem_of_getElem? (i := 238) rfl) rfl rfl
theorem lf_149_123 {B n : Nat} {h : AH} (l : LX B n h) : hv h (B + 149) 123 = rf (B + 206) := l.f 38267 149 123 (List.mem_of_getElem? (i := 239) rfl) rfl rfl
theorem lf_149_124 {B n : Nat} {h : AH} (l : LX B n h) : hv h (B + 149) 124 = rf (B + 207) := l.f 38268 149 124 (List.mem_of_getElem? (i := 240) rfl) rfl rfl
theorem lf_149_125 {B n : Nat} {h : AH} (l : LX B n h) : hv h (B + 149) 125 = rf (B + 208) := l.f 38269 149 125 (List.mem_of_getElem? (i := 241) rfl) rfl rfl
theorem lf_149_126 {B n : Nat} {h : AH} (l : LX B n h) : hv h (B + 149) 126 = rf (B + 209) := l.f 38270 149 126 (List.mem_of_getElem? (i := 242) rfl) rfl rfl
theorem lf_149_127 {B n : Nat} {h : AH} (l : LX B n h) : hv h (B + 149) 127 = rf (B + 210) := l.f 38271 149 127 (List.mem_of_getElem? (i := 243) rfl) rfl rfl
theorem lf_149_128 {B n : Nat} {h : AH} (l : LX B n h) : hv h (B + 149) 128 = rf (B + 211) := l.f 38272 149 128 (List.mem_of_getElem? (i := 244) rfl) rfl rfl
theorem lf_149_129 {B n : Nat} {h : AH} (l : LX B n h) : hv h (B + 149) 129 = rf (B + 212) := l.f 38273 149 129 (List.mem_of_getElem? (i := 245) rfl) rfl rfl
theorem lf_149_130 {B n : Nat} {h : AH} (l : LX B n h) : hv h (B + 149) 130 = rf (B + 213) := l.f 38274 149 130 (List.mem_of_getElem? (i := 246) rfl) rfl rfl
theorem lf_149_131 {B n : Nat} {h : AH} (l : LX B n h) : hv h (B + 149) 131 = rf (B + 214) := l.f 38275 149 131 (List.mem_of_getElem? (i := 247) rfl) rfl rfl
theorem lf_149_132 {B n : Nat} {h : AH} (l : LX B n h) : hv h (B + 149) 132 = rf (B + 215) := l.f 38276 149 132 (List.mem_of_getElem? (i := 248) rfl) rfl rfl
theorem lf_149_133 {B n : Nat} {h : AH} (l : LX B n h) : hv h (B + 149) 133 = rf (B + 216) := l.f 38277 149 133 (List.mem_of_getElem? (i := 249) rfl) rfl rfl
theorem lf_149_134 {B n : Nat} {h : AH} (l : LX B n h) : hv h (B + 149) 134 = rf (B + 217) := l.f 38278 149 134 (List.mem_of_getElem? (i := 250) rfl) rfl rfl
theorem lf_149_135 {B n : Nat} {h : AH} (l : LX B n h) : hv h (B + 149) 135 = rf (B + 218) := l.f 38279 149 135 (List.mem_of_getElem? (i := 251) rfl) rfl rfl
theorem lf_149_136 {B n : Nat} {h : AH} (l : LX B n h) : hv h (B + 149) 136 = rf (B + 219) := l.f 38280 149 136 (List.mem_of_getElem? (i := 252) rfl) rfl rfl
theorem lf_149_137 {B n : Nat} {h : AH} (l : LX B n h) : hv h (B + 149) 137 = rf (B + 220) := l.f 38281 149 137 (List.mem_of_getElem? (i := 253) rfl) rfl rfl
theorem lf_149_138 {B n : Nat} {h : AH} (l : LX B n h) : hv h (B + 149) 138 = rf (B + 242) := l.f 38282 149 138 (List.mem_of_getElem? (i := 254) rfl) rfl rfl
theorem lf_149_139 {B n : Nat} {h : AH} (l : LX B n h) : hv h (B + 149) 139 = rf (B + 243) := l.f 38283 149 139 (List.mem_of_getElem? (i := 255) rfl) rfl rfl
theorem lf_149_140 {B n : Nat} {h : AH} (l : LX B n h) : hv h (B + 149) 140 = rf (B + 244) := l.f 38284 149 140 (List.mem_of_getElem? (i := 256) rfl) rfl rfl
theorem lf_149_141 {B n : Nat} {h : AH} (l : LX B n h) : hv h (B + 149) 141 = rf (B + 245) := l.f 38285 149 141 (List.mem_of_getElem? (i := 257) rfl) rfl rfl
theorem lf_149_142 {B n : Nat} {h : AH} (l : LX B n h) : hv h (B + 149) 142 = rf (B + 221) := l.f 38286 149 142 (List.mem_of_getElem? (i := 258) rfl) rfl rfl
theorem lf_149_143 {B n : Nat} {h : AH} (l : LX B n h) : hv h (B + 149) 143 = rf (B + 222) := l.f 38287 149 143 (List.mem_of_getElem? (i := 259) rfl) rfl rfl
theorem lf_149_144 {B n : Nat} {h : AH} (l : LX B n h) : hv h (B + 149) 144 = rf (B + 223) := l.f 38288 149 144 (List.mem_of_getElem? (i := 260) rfl) rfl rfl
theorem lf_149_145 {B n : Nat} {h : AH} (l : LX B n h) : hv h (B + 149) 145 = rf (B + 224) := l.f 38289 149 145 (List.mem_of_getElem? (i := 261) rfl) rfl rfl
theorem lf_149_146 {B n : Nat} {h : AH} (l : LX B n h) : hv h (B + 149) 146 = rf (B + 225) := l.f 38290 149 146 (List.mem_of_getElem? (i := 262) rfl) rfl rfl
theorem lf_149_150 {B n : Nat} {h : AH} (l : LX B n h) : hv h (B + 149) 150 = rf (B + 226) := l.f 38294 149 150 (List.mem_of_getElem? (i := 263) rfl) rfl rfl
theorem lf_149_151 {B n : Nat} {h : AH} (l : LX B n h) : hv h (B + 149) 151 = rf (B + 227) := l.f 38295 149 151 (List.mem_of_getElem? (i := 264) rfl) rfl rfl
theorem lf_149_156 {B n : Nat} {h : AH} (l : LX B n h) : hv h (B + 149) 156 = rf (B + 228) := l.f 38300 149 156 (List.mem_of_getElem? (i := 265) rfl) rfl rfl
theorem lf_149_157 {B n : Nat} {h : AH} (l : LX B n h) : hv h (B + 149) 157 = rf (B + 229) := l.f 38301 149 157 (List.mem_of_getElem? (i := 266) rfl) rfl rfl
theorem lf_149_158 {B n : Nat} {h : AH} (l : LX B n h) : hv h (B + 149) 158 = rf (B + 230) := l.f 38302 149 158 (List.mem_of_getElem? (i := 267) rfl) rfl rfl
theorem lf_149_163 {B n : Nat} {h : AH} (l : LX B n h) : hv h (B + 149) 163 = rf (B + 241) := l.f 38307 149 163 (List.mem_of_getElem? (i := 268) rfl) rfl rfl
theorem lf_149_166 {B n : Nat} {h : AH} (l : LX B n h) : hv h (B + 149) 166 = rf (B + 233) := l.f 38310 149 166 (List.mem_of_getElem? (i := 269) rfl) rfl rfl
theorem lf_149_167 {B n : Nat} {h : AH} (l : LX B n h) : hv h (B + 149) 167 = rf (B + 234) := l.f 38311 149 167 (List.mem_of_getElem? (i := 270) rfl) rfl rfl
theorem le_B {B i : Nat} : B ≤ B + i := Nat.le_add_right _ _
theorem ne_ka {h : AH} {p a c t N : Nat} (h1 : hk h p = (1, c)) (h2 : hk h a = (t + 2, N)) : p ≠ a := ne_k h1 (by rw [h2])
theorem ne_cc {h : AH} {p a c c2 : Nat} (h1 : hk h p = (1, c)) (h2 : hk h a = (1, c2)) (hc : c ≠ c2) : p ≠ a := by
  intro e
  subst e
  rw [h1] at h2
  exact hc (congrArg Prod.snd h2)
theorem ev_c {P : PT} {gs : Nat → AV} {B d j nx t : Nat} {L st : List AV} {h : AH} {v v2 : Int} (e : v = v2) : ev P gs B d j nx L ((t, v) :: st) h = ev P gs B d j nx L ((t, v2) :: st) h := by rw [e]
def noFx (c : Nat) : Bool := fixK.all fun q => !(objL[q / 256]? == some (c + 1))
theorem LX.setO {B n : Nat} {h : AH} {a c k : Nat} {v : Int} (l : LX B n h) (ha : hk h a = (1, c)) (hc : noFx c = true) : LX B n (hset h a k v) := by
  refine ⟨l.1, fun e he => ?_, l.2.2⟩
  obtain ⟨c2, h1, h2, h3⟩ := fix_obj he
  have h4 : e.1 ∈ fixK := by rw [← fix_map B n]; exact List.mem_map_of_mem he
  have h5 := List.all_eq_true.mp hc _ h4
  have h6 : objL[e.1 / 256]? = some (c2 + 1) := by
    rw [← obj_map n, List.getElem?_map, h1]
    rfl
  rw [hv_na]
  · exact l.2.1 e he
  · refine ne_cc (l.1 _ _ h1) ha ?_
    rintro rfl
    rw [h6] at h5
    simp at h5
theorem nfx_12 : noFx 12 = true := by decide +kernel
theorem nfx_21 : noFx 21 = true := by decide +kernel
theorem nfx_25 : noFx 25 = true := by decide +kernel
theorem nfx_22 : noFx 22 = true := by decide +kernel
/-- an object of signs -/
def YO (B o : Nat) (h : AH) : Prop := hk h o = (1, 12) ∧ B ≤ o
theorem YO.kd {B o : Nat} {h : AH} (l : YO B o h) : hk h o = (1, 12) := l.1
theorem YO.bp {B o : Nat} {h : AH} (l : YO B o h) : B ≤ o := l.2
theorem YO.st {B i : Nat} {h : AH} (k : hk h (B + i) = (1, 12)) : YO B (B + i) h := ⟨k, Nat.le_add_right _ _⟩
/-- PartDesignerModel$Sketch with its arrays behind it -/
def YS (B w : Nat) (h : AH) : Prop := (hk h w = (1, 25) ∧ B + 246 ≤ w) ∧ (hk h (w + 1) = (0 + 2, 12) ∧ hk h (w + 2) = (0 + 2, 12) ∧ hk h (w + 3) = (0 + 2, 24) ∧ hk h (w + 4) = (0 + 2, 24) ∧ hk h (w + 5) = (3 + 2, 24) ∧ hk h (w + 6) = (0 + 2, 6) ∧ hk h (w + 7) = (6 + 2, 6) ∧ hk h (w + 8) = (0 + 2, 32) ∧ hk h (w + 9) = (0 + 2, 32) ∧ hk h (w + 10) = (0 + 2, 32) ∧ hk h (w + 11) = (0 + 2, 32) ∧ hk h (w + 12) = (3 + 2, 32) ∧ hk h (w + 13) = (6 + 2, 32)) ∧ (hv h w 6 = rf (w + 1) ∧ hv h w 7 = rf (w + 2) ∧ hv h w 8 = rf (w + 3) ∧ hv h w 9 = rf (w + 4) ∧ hv h w 10 = rf (w + 5) ∧ hv h w 11 = rf (w + 6) ∧ hv h w 12 = rf (w + 7) ∧ hv h w 13 = rf (w + 8) ∧ hv h w 14 = rf (w + 9) ∧ hv h w 15 = rf (w + 10) ∧ hv h w 16 = rf (w + 11) ∧ hv h w 17 = rf (w + 12) ∧ hv h w 18 = rf (w + 13))
theorem YS.kd {B w : Nat} {h : AH} (l : YS B w h) : hk h w = (1, 25) := l.1.1
theorem YS.lo {B w : Nat} {h : AH} (l : YS B w h) : B + 246 ≤ w := l.1.2
theorem YS.bp {B w : Nat} {h : AH} (l : YS B w h) : B ≤ w := by have := l.1.2; omega
theorem YS.k1 {B w : Nat} {h : AH} (l : YS B w h) : hk h (w + 1) = (0 + 2, 12) := l.2.1.1
theorem YS.b1 {B w : Nat} {h : AH} (l : YS B w h) : B ≤ w + 1 := by have := l.1.2; omega
theorem YS.k2 {B w : Nat} {h : AH} (l : YS B w h) : hk h (w + 2) = (0 + 2, 12) := l.2.1.2.1
theorem YS.b2 {B w : Nat} {h : AH} (l : YS B w h) : B ≤ w + 2 := by have := l.1.2; omega
theorem YS.k3 {B w : Nat} {h : AH} (l : YS B w h) : hk h (w + 3) = (0 + 2, 24) := l.2.1.2.2.1
theorem YS.b3 {B w : Nat} {h : AH} (l : YS B w h) : B ≤ w + 3 := by have := l.1.2; omega
theorem YS.k4 {B w : Nat} {h : AH} (l : YS B w h) : hk h (w + 4) = (0 + 2, 24) := l.2.1.2.2.2.1
theorem YS.b4 {B w : Nat} {h : AH} (l : YS B w h) : B ≤ w + 4 := by have := l.1.2; omega
theorem YS.k5 {B w : Nat} {h : AH} (l : YS B w h) : hk h (w + 5) = (3 + 2, 24) := l.2.1.2.2.2.2.1
theorem YS.b5 {B w : Nat} {h : AH} (l : YS B w h) : B ≤ w + 5 := by have := l.1.2; omega
theorem YS.k6 {B w : Nat} {h : AH} (l : YS B w h) : hk h (w + 6) = (0 + 2, 6) := l.2.1.2.2.2.2.2.1
theorem YS.b6 {B w : Nat} {h : AH} (l : YS B w h) : B ≤ w + 6 := by have := l.1.2; omega
theorem YS.k7 {B w : Nat} {h : AH} (l : YS B w h) : hk h (w + 7) = (6 + 2, 6) := l.2.1.2.2.2.2.2.2.1
theorem YS.b7 {B w : Nat} {h : AH} (l : YS B w h) : B ≤ w + 7 := by have := l.1.2; omega
theorem YS.k8 {B w : Nat} {h : AH} (l : YS B w h) : hk h (w + 8) = (0 + 2, 32) := l.2.1.2.2.2.2.2.2.2.1
theorem YS.b8 {B w : Nat} {h : AH} (l : YS B w h) : B ≤ w + 8 := by have := l.1.2; omega
theorem YS.k9 {B w : Nat} {h : AH} (l : YS B w h) : hk h (w + 9) = (0 + 2, 32) := l.2.1.2.2.2.2.2.2.2.2.1
theorem YS.b9 {B w : Nat} {h : AH} (l : YS B w h) : B ≤ w + 9 := by have := l.1.2; omega
theorem YS.k10 {B w : Nat} {h : AH} (l : YS B w h) : hk h (w + 10) = (0 + 2, 32) := l.2.1.2.2.2.2.2.2.2.2.2.1
theorem YS.b10 {B w : Nat} {h : AH} (l : YS B w h) : B ≤ w + 10 := by have := l.1.2; omega
theorem YS.k11 {B w : Nat} {h : AH} (l : YS B w h) : hk h (w + 11) = (0 + 2, 32) := l.2.1.2.2.2.2.2.2.2.2.2.2.1
theorem YS.b11 {B w : Nat} {h : AH} (l : YS B w h) : B ≤ w + 11 := by have := l.1.2; omega
theorem YS.k12 {B w : Nat} {h : AH} (l : YS B w h) : hk h (w + 12) = (3 + 2, 32) := l.2.1.2.2.2.2.2.2.2.2.2.2.2.1
theorem YS.b12 {B w : Nat} {h : AH} (l : YS B w h) : B ≤ w + 12 := by have := l.1.2; omega
theorem YS.k13 {B w : Nat} {h : AH} (l : YS B w h) : hk h (w + 13) = (6 + 2, 32) := l.2.1.2.2.2.2.2.2.2.2.2.2.2.2
theorem YS.b13 {B w : Nat} {h : AH} (l : YS B w h) : B ≤ w + 13 := by have := l.1.2; omega
theorem YS.f6 {B w : Nat} {h : AH} (l : YS B w h) : hv h w 6 = rf (w + 1) := l.2.2.1
theorem YS.f7 {B w : Nat} {h : AH} (l : YS B w h) : hv h w 7 = rf (w + 2) := l.2.2.2.1
theorem YS.f8 {B w : Nat} {h : AH} (l : YS B w h) : hv h w 8 = rf (w + 3) := l.2.2.2.2.1
theorem YS.f9 {B w : Nat} {h : AH} (l : YS B w h) : hv h w 9 = rf (w + 4) := l.2.2.2.2.2.1
theorem YS.f10 {B w : Nat} {h : AH} (l : YS B w h) : hv h w 10 = rf (w + 5) := l.2.2.2.2.2.2.1
theorem YS.f11 {B w : Nat} {h : AH} (l : YS B w h) : hv h w 11 = rf (w + 6) := l.2.2.2.2.2.2.2.1
theorem YS.f12 {B w : Nat} {h : AH} (l : YS B w h) : hv h w 12 = rf (w + 7) := l.2.2.2.2.2.2.2.2.1
theorem YS.f13 {B w : Nat} {h : AH} (l : YS B w h) : hv h w 13 = rf (w + 8) := l.2.2.2.2.2.2.2.2.2.1
theorem YS.f14 {B w : Nat} {h : AH} (l : YS B w h) : hv h w 14 = rf (w + 9) := l.2.2.2.2.2.2.2.2.2.2.1
theorem YS.f15 {B w : Nat} {h : AH} (l : YS B w h) : hv h w 15 = rf (w + 10) := l.2.2.2.2.2.2.2.2.2.2.2.1
theorem YS.f16 {B w : Nat} {h : AH} (l : YS B w h) : hv h w 16 = rf (w + 11) := l.2.2.2.2.2.2.2.2.2.2.2.2.1
theorem YS.f17 {B w : Nat} {h : AH} (l : YS B w h) : hv h w 17 = rf (w + 12) := l.2.2.2.2.2.2.2.2.2.2.2.2.2.1
theorem YS.f18 {B w : Nat} {h : AH} (l : YS B w h) : hv h w 18 = rf (w + 13) := l.2.2.2.2.2.2.2.2.2.2.2.2.2.2
/-- PartDesignerModel$Feature with its arrays behind it -/
def YF (B w : Nat) (h : AH) : Prop := (hk h w = (1, 22) ∧ B + 246 ≤ w) ∧ (hk h (w + 1) = (9 + 2, 7)) ∧ (hv h w 5 = rf (w + 1))
theorem YF.kd {B w : Nat} {h : AH} (l : YF B w h) : hk h w = (1, 22) := l.1.1
theorem YF.lo {B w : Nat} {h : AH} (l : YF B w h) : B + 246 ≤ w := l.1.2
theorem YF.bp {B w : Nat} {h : AH} (l : YF B w h) : B ≤ w := by have := l.1.2; omega
theorem YF.k1 {B w : Nat} {h : AH} (l : YF B w h) : hk h (w + 1) = (9 + 2, 7) := l.2.1
theorem YF.b1 {B w : Nat} {h : AH} (l : YF B w h) : B ≤ w + 1 := by have := l.1.2; omega
theorem YF.f5 {B w : Nat} {h : AH} (l : YF B w h) : hv h w 5 = rf (w + 1) := l.2.2
/-- PartDesignerModel$Design with its arrays behind it -/
def YD (B w : Nat) (h : AH) : Prop := (hk h w = (1, 21) ∧ B + 246 ≤ w) ∧ (hk h (w + 1) = (0 + 2, 480) ∧ hk h (w + 2) = (0 + 2, 40) ∧ hk h (w + 3) = (6 + 2, 160) ∧ hk h (w + 4) = (0 + 2, 4) ∧ hk h (w + 5) = (7 + 2, 6) ∧ hk h (w + 6) = (8 + 2, 24) ∧ hk h (w + 7) = (0 + 2, 24)) ∧ (hv h w 6 = rf (w + 1) ∧ hv h w 7 = rf (w + 2) ∧ hv h w 8 = rf (w + 3) ∧ hv h w 9 = rf (w + 4) ∧ hv h w 10 = rf (w + 5) ∧ hv h w 11 = rf (w + 6) ∧ hv h w 12 = rf (w + 7)) ∧ (∀ s, s < 6 → YS B (w + (8 + 14 * s)) h ∧ hv h (w + 5) s = rf (w + (8 + 14 * s))) ∧ (∀ s, s < 24 → YF B (w + (92 + 2 * s)) h ∧ hv h (w + 6) s = rf (w + (92 + 2 * s)))
theorem YD.kd {B w : Nat} {h : AH} (l : YD B w h) : hk h w = (1, 21) := l.1.1
theorem YD.lo {B w : Nat} {h : AH} (l : YD B w h) : B + 246 ≤ w := l.1.2
theorem YD.bp {B w : Nat} {h : AH} (l : YD B w h) : B ≤ w := by have := l.1.2; omega
theorem YD.k1 {B w : Nat} {h : AH} (l : YD B w h) : hk h (w + 1) = (0 + 2, 480) := l.2.1.1
theorem YD.b1 {B w : Nat} {h : AH} (l : YD B w h) : B ≤ w + 1 := by have := l.1.2; omega
theorem YD.k2 {B w : Nat} {h : AH} (l : YD B w h) : hk h (w + 2) = (0 + 2, 40) := l.2.1.2.1
theorem YD.b2 {B w : Nat} {h : AH} (l : YD B w h) : B ≤ w + 2 := by have := l.1.2; omega
theorem YD.k3 {B w : Nat} {h : AH} (l : YD B w h) : hk h (w + 3) = (6 + 2, 160) := l.2.1.2.2.1
theorem YD.b3 {B w : Nat} {h : AH} (l : YD B w h) : B ≤ w + 3 := by have := l.1.2; omega
theorem YD.k4 {B w : Nat} {h : AH} (l : YD B w h) : hk h (w + 4) = (0 + 2, 4) := l.2.1.2.2.2.1
theorem YD.b4 {B w : Nat} {h : AH} (l : YD B w h) : B ≤ w + 4 := by have := l.1.2; omega
theorem YD.k5 {B w : Nat} {h : AH} (l : YD B w h) : hk h (w + 5) = (7 + 2, 6) := l.2.1.2.2.2.2.1
theorem YD.b5 {B w : Nat} {h : AH} (l : YD B w h) : B ≤ w + 5 := by have := l.1.2; omega
theorem YD.k6 {B w : Nat} {h : AH} (l : YD B w h) : hk h (w + 6) = (8 + 2, 24) := l.2.1.2.2.2.2.2.1
theorem YD.b6 {B w : Nat} {h : AH} (l : YD B w h) : B ≤ w + 6 := by have := l.1.2; omega
theorem YD.k7 {B w : Nat} {h : AH} (l : YD B w h) : hk h (w + 7) = (0 + 2, 24) := l.2.1.2.2.2.2.2.2
theorem YD.b7 {B w : Nat} {h : AH} (l : YD B w h) : B ≤ w + 7 := by have := l.1.2; omega
theorem YD.f6 {B w : Nat} {h : AH} (l : YD B w h) : hv h w 6 = rf (w + 1) := l.2.2.1.1
theorem YD.f7 {B w : Nat} {h : AH} (l : YD B w h) : hv h w 7 = rf (w + 2) := l.2.2.1.2.1
theorem YD.f8 {B w : Nat} {h : AH} (l : YD B w h) : hv h w 8 = rf (w + 3) := l.2.2.1.2.2.1
theorem YD.f9 {B w : Nat} {h : AH} (l : YD B w h) : hv h w 9 = rf (w + 4) := l.2.2.1.2.2.2.1
theorem YD.f10 {B w : Nat} {h : AH} (l : YD B w h) : hv h w 10 = rf (w + 5) := l.2.2.1.2.2.2.2.1
theorem YD.f11 {B w : Nat} {h : AH} (l : YD B w h) : hv h w 11 = rf (w + 6) := l.2.2.1.2.2.2.2.2.1
theorem YD.f12 {B w : Nat} {h : AH} (l : YD B w h) : hv h w 12 = rf (w + 7) := l.2.2.1.2.2.2.2.2.2
theorem YD.sk {B w : Nat} {h : AH} (l : YD B w h) {i : Int} (g : 0 ≤ i ∧ i < ((6 : Nat) : Int)) : YS B (w + (8 + 14 * i.toNat)) h ∧ hv h (w + 5) i.toNat = rf (w + (8 + 14 * i.toNat)) := l.2.2.2.1 _ (by omega)
theorem YD.fe {B w : Nat} {h : AH} (l : YD B w h) {i : Int} (g : 0 ≤ i ∧ i < ((24 : Nat) : Int)) : YF B (w + (92 + 2 * i.toNat)) h ∧ hv h (w + 6) i.toNat = rf (w + (92 + 2 * i.toNat)) := l.2.2.2.2 _ (by omega)
