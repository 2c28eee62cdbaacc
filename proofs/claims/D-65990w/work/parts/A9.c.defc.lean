/-! L3: a VALUE told: what the component writes -/
theorem or_16 {z y : Int} (h1 : 0 ≤ y) (h2 : y < 65536) : bop32 128 (bop32 120 z 16) y = w32 (z * 65536 + y) := by
  show (Int32.ofInt (Int32.ofInt z <<< (Int32.ofInt ((16 : Nat) : Int) &&& 31)).toInt ||| Int32.ofInt y).toBitVec.toInt = _
  rw [Int32.ofInt_toInt, Int32.toBitVec_or, Int32.toBitVec_shiftLeft, sh_c32 ⟨16, by decide⟩, BitVec.shiftLeft_eq']
  have hm : (BitVec.ofNat 32 16).toNat = 16 := rfl
  rw [hm, ← BitVec.add_eq_or_of_and_eq_zero]
  · rw [BitVec.toInt_add, BitVec.toInt_shiftLeft]
    have e4 : (Int32.ofInt z).toBitVec.toNat = (z % ((2 ^ 32 : Nat) : Int)).toNat := BitVec.toNat_ofInt ..
    have h5 : 0 ≤ z % ((2 ^ 32 : Nat) : Int) := Int.emod_nonneg _ (by decide)
    have e5 : (Int32.ofInt y).toBitVec.toInt = y := (to32 y).trans (w32_id ⟨by omega, by omega⟩)
    rw [e4, e5, Nat.shiftLeft_eq]
    have e6 : (((z % ((2 ^ 32 : Nat) : Int)).toNat * 2 ^ 16 : Nat) : Int) = (z % 4294967296) * 65536 := by
      rw [Int.natCast_mul, Int.toNat_of_nonneg h5]; rfl
    rw [e6]
    show w32 (w32 _ + y) = _
    refine w32_c _ _ ?_
    have := w32_m (z % 4294967296 * 65536)
    omega
  · apply BitVec.eq_of_getLsbD_eq
    intro i hi
    rw [BitVec.getLsbD_and, BitVec.getLsbD_shiftLeft]
    by_cases h8 : i < 16
    · simp [h8]
    · have : (Int32.ofInt y).toBitVec.getLsbD i = false := by
        have t : (Int32.ofInt y).toBitVec.toNat = y.toNat := by
          show (BitVec.ofInt 32 y).toNat = _
          rw [BitVec.toNat_ofInt, Int.emod_eq_of_lt h1 (by omega)]
        show Nat.testBit _ i = false
        rw [t]
        exact Nat.testBit_lt_two_pow (Nat.lt_of_lt_of_le (show y.toNat < 2 ^ 16 by omega) (Nat.pow_le_pow_right (by decide) (by omega)))
      rw [this, Bool.and_false]; simp
theorem or_24 {z y : Int} (h1 : 0 ≤ y) (h2 : y < 16777216) : bop32 128 (bop32 120 z 24) y = w32 (z * 16777216 + y) := by
  show (Int32.ofInt (Int32.ofInt z <<< (Int32.ofInt ((24 : Nat) : Int) &&& 31)).toInt ||| Int32.ofInt y).toBitVec.toInt = _
  rw [Int32.ofInt_toInt, Int32.toBitVec_or, Int32.toBitVec_shiftLeft, sh_c32 ⟨24, by decide⟩, BitVec.shiftLeft_eq']
  have hm : (BitVec.ofNat 32 24).toNat = 24 := rfl
  rw [hm, ← BitVec.add_eq_or_of_and_eq_zero]
  · rw [BitVec.toInt_add, BitVec.toInt_shiftLeft]
    have e4 : (Int32.ofInt z).toBitVec.toNat = (z % ((2 ^ 32 : Nat) : Int)).toNat := BitVec.toNat_ofInt ..
    have h5 : 0 ≤ z % ((2 ^ 32 : Nat) : Int) := Int.emod_nonneg _ (by decide)
    have e5 : (Int32.ofInt y).toBitVec.toInt = y := (to32 y).trans (w32_id ⟨by omega, by omega⟩)
    rw [e4, e5, Nat.shiftLeft_eq]
    have e6 : (((z % ((2 ^ 32 : Nat) : Int)).toNat * 2 ^ 24 : Nat) : Int) = (z % 4294967296) * 16777216 := by
      rw [Int.natCast_mul, Int.toNat_of_nonneg h5]; rfl
    rw [e6]
    show w32 (w32 _ + y) = _
    refine w32_c _ _ ?_
    have := w32_m (z % 4294967296 * 16777216)
    omega
  · apply BitVec.eq_of_getLsbD_eq
    intro i hi
    rw [BitVec.getLsbD_and, BitVec.getLsbD_shiftLeft]
    by_cases h8 : i < 24
    · simp [h8]
    · have : (Int32.ofInt y).toBitVec.getLsbD i = false := by
        have t : (Int32.ofInt y).toBitVec.toNat = y.toNat := by
          show (BitVec.ofInt 32 y).toNat = _
          rw [BitVec.toNat_ofInt, Int.emod_eq_of_lt h1 (by omega)]
        show Nat.testBit _ i = false
        rw [t]
        exact Nat.testBit_lt_two_pow (Nat.lt_of_lt_of_le (show y.toNat < 2 ^ 24 by omega) (Nat.pow_le_pow_right (by decide) (by omega)))
      rw [this, Bool.and_false]; simp
theorem pk_or {a b c e : Int} : bop32 128 (bop32 128 (bop32 128 (bop32 120 (bop32 126 a 255) 24) (bop32 120 (bop32 126 b 255) 16)) (bop32 120 (bop32 126 c 255) 8)) (bop32 126 e 255) = pk4 a b c e := by
  rw [and255, and255, and255, and255]
  have ha : 0 ≤ a % 256 ∧ a % 256 < 256 := by omega
  have hb : 0 ≤ b % 256 ∧ b % 256 < 256 := by omega
  have hc : 0 ≤ c % 256 ∧ c % 256 < 256 := by omega
  have he : 0 ≤ e % 256 ∧ e % 256 < 256 := by omega
  unfold pk4
  generalize a % 256 = a at *
  generalize b % 256 = b at *
  generalize c % 256 = c at *
  generalize e % 256 = e at *
  have e1 : bop32 120 b 16 = b * 65536 := (shl32 b (k := 16) (by decide)).trans (w32_id ⟨by omega, by omega⟩)
  have e2 : bop32 120 c 8 = c * 256 := (shl32 c (k := 8) (by decide)).trans (w32_id ⟨by omega, by omega⟩)
  have e3 : w32 (a * 16777216 + b * 65536) = bop32 120 (a * 256 + b) 16 := by
    rw [show bop32 120 (a * 256 + b) 16 = w32 ((a * 256 + b) * 2 ^ 16) from shl32 (a * 256 + b) (k := 16) (by decide)]
    exact congrArg w32 (by omega)
  have e4 : w32 ((a * 256 + b) * 65536 + c * 256) = bop32 120 ((a * 256 + b) * 256 + c) 8 := by
    rw [show bop32 120 ((a * 256 + b) * 256 + c) 8 = w32 (((a * 256 + b) * 256 + c) * 2 ^ 8) from shl32 ((a * 256 + b) * 256 + c) (k := 8) (by decide)]
    exact congrArg w32 (by omega)
  rw [e1, e2, or_24 (by omega) (by omega), e3, or_16 (by omega) (by omega), e4, or_lo he.1 he.2]
theorem an2 {v : Int} (h : -128 ≤ v ∧ v < 128) : anar 2 v = v := by
  show v.bmod 256 = v
  rw [Int.bmod_def]
  split <;> omega
section DEFC
variable {gv : Nat → Int} {B n d : Nat} {h : AH} {H : Nat → Nat → Int} {s : Nat → Nat} {dn tt tu mw : Nat} {c : Nat → Int}
theorem SX.at {t : AH} (x : SX B h t) (J : StJ B h mw) (hb : B + 246 ≤ hnx h) {a : Nat} (ha : a = B ∨ (B + 7 ≤ a ∧ a < B + 246)) (k : Nat) : hv t a k = hv h a k := by
  have J3 := J.2.2.1
  exact x.1.at k (by omega) (fun w => by unfold StW at w; omega)
/-- the text of the told VALUE is laid down -/
theorem e_def403 {a N m f v k : Nat} {x5 x6 : Int} {u8 : AV} {Q : Rs → Prop} (l : LX B n h) (hd : 20 ≤ d) (S : Sw B h H s dn tu mw c) (hv' : v < 40) (hk4 : k < 4) (ha : hk h a = (4, N)) (hax : a < hnx h) (he : m ≤ N) (hN : N ≤ 100000) (hf : f ≤ m) (hm : m ≤ 240) (hw : mw + 70 < 1000000) (hdn : dn < 100)
    (K : ∀ h', SX B h h' → (∃ s', St B h' (fun i => if i ≤ dn then H i else txt c (fo v k) (fun z => hv h a (f + z)) (m - f)) s' (dn + 1) (dn + 1) tu (mw + 61)) → Q ((0, (0, (v : Int))), h')) :
    Ends (ev PP (gsF gv) B d 190 403 [(2, rf (B + 7)), (2, rf a), (0, (m : Int)), (0, (k : Int)), (0, (v : Int)), (0, x5), (0, x6), (0, (f : Int)), u8] [] h) Q := by
  refine Ends.eq (b190_403 (n := n) (by (repeat' first | assumption | refine LX.setF _ _ ?_ (by decide +kernel) | refine LX.setS ?_ rfl | refine LX.setA ?_ (by first | assumption | omega))) (by first | assumption | omega)) ?_
  rw [fo_is (by omega) (by omega)]
  refine Ends.cv l (by decide +kernel) (c_setText l (by omega) S (by unfold fo; omega) ha hax he hN hf (by omega) hw) (fun h1 l1 _ _ _ ⟨x1, S1⟩ => ?_)
  refine Ends.eq (b190_420 (n := n) (by (repeat' first | assumption | refine LX.setF _ _ ?_ (by decide +kernel) | refine LX.setS ?_ rfl | refine LX.setA ?_ (by first | assumption | omega))) (by first | assumption | omega)) ?_
  refine Ends.cv l1 (by decide +kernel) (c_stEnd l1 (by omega) S1 hdn) (fun h2 l2 _ _ _ ⟨_, x2, s', S2⟩ => ?_)
  refine Ends.eq (b190_427 (n := n) (by (repeat' first | assumption | refine LX.setF _ _ ?_ (by decide +kernel) | refine LX.setS ?_ rfl | refine LX.setA ?_ (by first | assumption | omega))) (by first | assumption | omega)) ?_
  refine Ends.sm (K _ (x1.tr x2) ⟨s', ?_⟩)
  obtain ⟨J, c1, c2, c3, c4, c5, c6, c7⟩ := S2
  exact ⟨⟨J.1, J.2.1, J.2.2.1, J.2.2.2.1, J.2.2.2.2.1, J.2.2.2.2.2.1, by have := J.2.2.2.2.2.2; omega⟩, c1, c2, c3, c4, c5, fun i hi => by have := c6 i hi; omega, c7⟩
/-- the name's cells -/
def nmW3 (b : Nat → Int) (t i : Nat) : Int := pk4 (bz b t (4 * i)) (bz b t (4 * i + 1)) (bz b t (4 * i + 2)) (bz b t (4 * i + 3))
/-- a new VALUE nv with the name of t bytes b -/
def nmd (c : Nat → Int) (nv t : Nat) (b : Nat → Int) : Nat → Int := upc (upc (upc (upc (upc (upc (upc (upc c 0 ((nv + 1 : Nat) : Int)) (40 + 248 * nv) (t : Int)) (40 + 248 * nv + 1 + 0) (nmW3 b t 0)) (40 + 248 * nv + 1 + 1) (nmW3 b t 1)) (40 + 248 * nv + 1 + 2) (nmW3 b t 2)) (fo nv 1) 0) (fo nv 2) 0) (fo nv 3) 0
/-- the store was written, and the desk's bytes -/
def SX1 (B : Nat) (h t : AH) : Prop := Ext (fun c k => StW B h c k ∨ c = B + 10) (jl B t - jl B h) (6 * (jl B t - jl B h)) h t ∧ jl B h ≤ jl B t ∧ (j1 B t = j1 B h ∨ hnx h ≤ j1 B t) ∧ (j2 B t = j2 B h ∨ hnx h ≤ j2 B t) ∧ (j3 B t = j3 B h ∨ hnx h ≤ j3 B t)
theorem SX.one {t : AH} (x : SX B h t) : SX1 B h t := ⟨x.1.sub (fun c k _ w => Or.inl w) (Nat.le_refl _) (Nat.le_refl _), x.2⟩
theorem SX1.tr {t u : AH} (a : SX1 B h t) (b : SX1 B t u) : SX1 B h u := by
  obtain ⟨a1, a2, a3, a4, a5⟩ := a
  obtain ⟨b1, b2, b3, b4, b5⟩ := b
  have hx := a1.2.2.1
  refine ⟨(a1.tr b1 (fun c k hc w => ?_)).sub (fun _ _ _ z => z) (by omega) (by omega), by omega, by omega, by omega, by omega⟩
  rcases w with (w | w | w | w | w | w) | w
  · exact Or.inl (Or.inl w)
  · exact Or.inl (Or.inr (Or.inl w))
  · exact Or.inl (Or.inr (Or.inr (Or.inl w)))
  · exact Or.inl (Or.inr (Or.inr (Or.inr (Or.inl (a3.elim (fun e => w.trans e) (fun e => by omega))))))
  · exact Or.inl (Or.inr (Or.inr (Or.inr (Or.inr (Or.inl (a4.elim (fun e => w.trans e) (fun e => by omega)))))))
  · exact Or.inl (Or.inr (Or.inr (Or.inr (Or.inr (Or.inr (a5.elim (fun e => w.trans e) (fun e => by omega)))))))
  · exact Or.inr w
theorem SX1.b10 {t : AH} (g : Agr (fun c _ => c = B + 10) h t) : SX1 B h t := by
  have e1 : j1 B t = j1 B h := by unfold j1; rw [g.at _ _ (by omega)]
  have e2 : j2 B t = j2 B h := by unfold j2; rw [g.at _ _ (by omega)]
  have e3 : j3 B t = j3 B h := by unfold j3; rw [g.at _ _ (by omega)]
  have e4 : jl B t = jl B h := by unfold jl; rw [e1, g.hk]
  exact ⟨g.ext.sub (fun c k _ w => Or.inr w) (Nat.zero_le _) (Nat.zero_le _), by omega, Or.inl e1, Or.inl e2, Or.inl e3⟩
theorem SX1.at {t : AH} (x : SX1 B h t) (J : StJ B h mw) (hb : B + 246 ≤ hnx h) {a : Nat} (ha : a = B ∨ (B + 7 ≤ a ∧ a < B + 246)) (h10 : a ≠ B + 10) (k : Nat) : hv t a k = hv h a k := by
  have J3 := J.2.2.1
  exact x.1.at k (by omega) (fun w => by unfold StW at w; omega)
theorem Sw.b10 {t : AH} (S : Sw B h H s dn tu mw c) (hb : B + 246 ≤ hnx h) (g : Agr (fun c _ => c = B + 10) h t) : Sw B t H s dn tu mw c := by
  have J3 := S.1.2.2.1
  exact S.ext hb g.ext (fun a k w => by omega)
section NAME
variable {a N m f t f2 v : Nat} {Q : Rs → Prop}
/-- the desk's bytes are cleared -/
theorem e_clear (l : LX B n h) (hd : 20 ≤ d) (K : ∀ q, LX B n q → Agr (fun c _ => c = B + 10) h q → (∀ w, w < 16 → hv q (B + 10) w = 0) → Ends (ev PP (gsF gv) B d 190 227 [(2, rf (B + 7)), (2, rf a), (0, (m : Int)), (0, ((0 : Nat) : Int)), (0, (v : Int)), (0, (f : Int)), (0, ((f + t : Nat) : Int)), (0, (f2 : Int)), (0, (f : Int))] [] q) Q) : Ends (ev PP (gsF gv) B d 190 202 [(2, rf (B + 7)), (2, rf a), (0, (m : Int)), (0, ((0 : Nat) : Int)), (0, (v : Int)), (0, (f : Int)), (0, ((f + t : Nat) : Int)), (0, (f2 : Int)), (0, (0 : Int))] [] h) Q := by
  have key : ∀ (j i : Nat) (q : AH), i + j = 16 → LX B n q → Agr (fun c _ => c = B + 10) h q → (∀ w, w < i → hv q (B + 10) w = 0) → Ends (ev PP (gsF gv) B d 190 202 [(2, rf (B + 7)), (2, rf a), (0, (m : Int)), (0, ((0 : Nat) : Int)), (0, (v : Int)), (0, (f : Int)), (0, ((f + t : Nat) : Int)), (0, (f2 : Int)), (0, (i : Int))] [] q) Q := by
    intro j
    induction j with
    | zero =>
      intro i q hi lq g z
      obtain rfl : i = 16 := by omega
      refine Ends.eq (b190_202 (n := n) (by (repeat' first | assumption | refine LX.setF _ _ ?_ (by decide +kernel) | refine LX.setS ?_ rfl | refine LX.setA ?_ (by first | assumption | omega))) (by first | assumption | omega)) ?_
      exact Ends.b3 (fun _ => K q lq g z) (fun z => absurd z (by decide))
    | succ j ih =>
      intro i q hi lq g z
      refine Ends.eq (b190_202 (n := n) (by (repeat' first | assumption | refine LX.setF _ _ ?_ (by decide +kernel) | refine LX.setS ?_ rfl | refine LX.setA ?_ (by first | assumption | omega))) (by first | assumption | omega)) ?_
      rw [tn, w_succ (by omega), show anar 2 0 = 0 from rfl]
      refine Ends.b3 (fun z => by omega) (fun _ => Ends.g ⟨by omega, by omega⟩ (ih (i + 1) _ (by omega) ((by (repeat' first | assumption | refine LX.setF _ _ ?_ (by decide +kernel) | refine LX.setS ?_ rfl | refine LX.setA ?_ (by assumption)))) (g.set rfl) (fun w hw => ?_)))
      by_cases e : w = i
      · rw [e]; exact hv_set_at ..
      · rw [hv_set_ne (by omega)]; exact z w (by omega)
  exact key 16 0 h rfl l Agr.rf (fun w hw => absurd hw (by omega))
/-- the name's bytes come to the desk's -/
theorem e_bytes (l : LX B n h) (hd : 20 ≤ d) (ha : hk h a = (4, N)) (hN : m ≤ N) (hm : m ≤ 240) (ht : t ≤ 12) (hft : f + t ≤ m) (ha10 : a ≠ B + 10) (hb : ∀ i, i < m → -128 ≤ hv h a i ∧ hv h a i < 128) (z0 : ∀ w, w < 16 → hv h (B + 10) w = 0) (hv' : v < 40)
    (K : ∀ q, LX B n q → Agr (fun c _ => c = B + 10) h q → (∀ w, w < 16 → hv q (B + 10) w = bz (fun z => hv h a (f + z)) t w) → Ends (aft PP 190 268 271 [(2, rf (B + 7)), (2, rf a), (0, (m : Int)), (0, ((0 : Nat) : Int)), (0, (v : Int)), (0, (f : Int)), (0, ((f + t : Nat) : Int)), (0, (f2 : Int)), (0, ((f + t : Nat) : Int))] [] (ev PP (gsF gv) B d 190) (cll PP (ev PP (gsF gv) B) d 451 [(2, rf (B + 1)), (0, ((40 + 248 * v : Nat) : Int)), (0, (t : Int))] q)) Q) : Ends (ev PP (gsF gv) B d 190 227 [(2, rf (B + 7)), (2, rf a), (0, (m : Int)), (0, ((0 : Nat) : Int)), (0, (v : Int)), (0, (f : Int)), (0, ((f + t : Nat) : Int)), (0, (f2 : Int)), (0, (f : Int))] [] h) Q := by
  have key : ∀ (j i : Nat) (q : AH), i + j = t → LX B n q → Agr (fun c _ => c = B + 10) h q → (∀ w, w < 16 → hv q (B + 10) w = bz (fun z => hv h a (f + z)) i w) → Ends (ev PP (gsF gv) B d 190 227 [(2, rf (B + 7)), (2, rf a), (0, (m : Int)), (0, ((0 : Nat) : Int)), (0, (v : Int)), (0, (f : Int)), (0, ((f + t : Nat) : Int)), (0, (f2 : Int)), (0, ((f + i : Nat) : Int))] [] q) Q := by
    intro j
    induction j with
    | zero =>
      intro i q hi lq g z
      obtain rfl : i = t := by omega
      refine Ends.eq (b190_227 (n := n) (by (repeat' first | assumption | refine LX.setF _ _ ?_ (by decide +kernel) | refine LX.setS ?_ rfl | refine LX.setA ?_ (by first | assumption | omega))) (by first | assumption | omega)) ?_
      rw [cl_of (by omega), show bop32 100 ((f + i : Nat) : Int) (f : Int) = (i : Int) from by rw [subNN (by omega) (by omega), show f + i - f = i by omega]]
      exact Ends.b3 (fun _ => K q lq g z) (fun z => absurd z (by omega))
    | succ j ih =>
      intro i q hi lq g z
      have src : hv q a (f + i) = hv h a (f + i) := g.at _ _ (by omega)
      have r := hb (f + i) (by omega)
      refine Ends.eq (b190_227 (n := n) (by (repeat' first | assumption | refine LX.setF _ _ ?_ (by decide +kernel) | refine LX.setS ?_ rfl | refine LX.setA ?_ (by first | assumption | omega))) (by first | assumption | omega)) ?_
      rw [ad_rf, g.hk, ha, show bop32 100 ((f + i : Nat) : Int) (f : Int) = (i : Int) from by rw [subNN (by omega) (by omega), show f + i - f = i by omega], tn, tn, src, an2 r, w_succ (by omega)]
      refine Ends.b3 (fun z => by omega) (fun _ => Ends.g ⟨rf_pos _, rfl, by omega, by show _ < ((N : Nat) : Int); omega⟩ (Ends.g ⟨by omega, by omega⟩ (ih (i + 1) _ (by omega) ((by (repeat' first | assumption | refine LX.setF _ _ ?_ (by decide +kernel) | refine LX.setS ?_ rfl | refine LX.setA ?_ (by assumption)))) (g.set rfl) (fun w hw => ?_))))
      by_cases e : w = i
      · rw [e, hv_set_at]
        unfold bz
        rw [if_pos (by omega)]
      · rw [hv_set_ne (by omega), z w hw]
        unfold bz
        by_cases e2 : w < i
        · rw [if_pos e2, if_pos (by omega)]
        · rw [if_neg e2, if_neg (by omega)]
  exact key t 0 h (by omega) l Agr.rf (fun w hw => by rw [z0 w hw]; unfold bz; rw [if_neg (by omega)])
/-- a cell of the name -/
theorem e_wd {i : Nat} {b : Nat → Int} (hi : i < 3) (l : LX B n h) (hd : 20 ≤ d) (S : Sw B h H s dn tu mw c) (hw : mw < 1000000) (hv' : v < 40) (z10 : ∀ w, w < 16 → hv h (B + 10) w = bz b t w)
    (K : ∀ q, LX B n q → SX B h q → Sw B q H s dn tu (mw + 1) (upc c (40 + 248 * v + 1 + i) (nmW3 b t i)) → Ends (ev PP (gsF gv) B d 190 274 [(2, rf (B + 7)), (2, rf a), (0, (m : Int)), (0, ((0 : Nat) : Int)), (0, (v : Int)), (0, (f : Int)), (0, ((f + t : Nat) : Int)), (0, (f2 : Int)), (0, ((i + 1 : Nat) : Int))] [] q) Q) : Ends (ev PP (gsF gv) B d 190 274 [(2, rf (B + 7)), (2, rf a), (0, (m : Int)), (0, ((0 : Nat) : Int)), (0, (v : Int)), (0, (f : Int)), (0, ((f + t : Nat) : Int)), (0, (f2 : Int)), (0, (i : Int))] [] h) Q := by
  refine Ends.eq (b190_274 (n := n) (by (repeat' first | assumption | refine LX.setF _ _ ?_ (by decide +kernel) | refine LX.setS ?_ rfl | refine LX.setA ?_ (by first | assumption | omega))) (by first | assumption | omega)) ?_
  rw [cl_of (by omega), b_at (by omega), pk_or, show bop32 104 4 (i : Int) = ((4 * i : Nat) : Int) from mulNN (x := 4) (by omega), b96_1 (by omega), show bop32 96 ((4 * i : Nat) : Int) 2 = ((4 * i + 2 : Nat) : Int) from addNN (y := 2) (by omega), show bop32 96 ((4 * i : Nat) : Int) 3 = ((4 * i + 3 : Nat) : Int) from addNN (y := 3) (by omega), tn, tn, tn, tn, z10 _ (by omega), z10 _ (by omega), z10 _ (by omega), z10 _ (by omega)]
  refine Ends.b3 (fun z => by omega) (fun _ => Ends.g ⟨by omega, by omega⟩ (Ends.g ⟨by omega, by omega⟩ (Ends.g ⟨by omega, by omega⟩ (Ends.g ⟨by omega, by omega⟩ ?_))))
  refine Ends.cv l (by decide +kernel) (c_stSet l (by omega) S (k := 40 + 248 * v + 1 + i) (by omega) hw) (fun h1 l1 _ _ _ ⟨x1, S1⟩ => ?_)
  refine Ends.eq (b190_367 (n := n) (by (repeat' first | assumption | refine LX.setF _ _ ?_ (by decide +kernel) | refine LX.setS ?_ rfl | refine LX.setA ?_ (by first | assumption | omega))) (by first | assumption | omega)) ?_
  rw [w_succ (by omega)]
  exact K h1 l1 x1 S1
/-- the other CONFIGURATIONS have none -/
theorem e_zr {i : Nat} (hi : i < 4) (l : LX B n h) (hd : 20 ≤ d) (S : Sw B h H s dn tu mw c) (hw : mw < 1000000) (hv' : v < 40)
    (K : ∀ q, LX B n q → SX B h q → Sw B q H s dn tu (mw + 1) (upc c (fo v i) 0) → Ends (ev PP (gsF gv) B d 190 376 [(2, rf (B + 7)), (2, rf a), (0, (m : Int)), (0, ((0 : Nat) : Int)), (0, (v : Int)), (0, (f : Int)), (0, ((f + t : Nat) : Int)), (0, (f2 : Int)), (0, ((i + 1 : Nat) : Int))] [] q) Q) : Ends (ev PP (gsF gv) B d 190 376 [(2, rf (B + 7)), (2, rf a), (0, (m : Int)), (0, ((0 : Nat) : Int)), (0, (v : Int)), (0, (f : Int)), (0, ((f + t : Nat) : Int)), (0, (f2 : Int)), (0, (i : Int))] [] h) Q := by
  refine Ends.eq (b190_376 (n := n) (by (repeat' first | assumption | refine LX.setF _ _ ?_ (by decide +kernel) | refine LX.setS ?_ rfl | refine LX.setA ?_ (by first | assumption | omega))) (by first | assumption | omega)) ?_
  rw [fo_is (by omega) (by omega)]
  refine Ends.b3 (fun z => by omega) (fun _ => ?_)
  refine Ends.cv l (by decide +kernel) (c_stSet l (by omega) S (k := fo v i) (by unfold fo; omega) hw) (fun h1 l1 _ _ _ ⟨x1, S1⟩ => ?_)
  refine Ends.eq (b190_397 (n := n) (by (repeat' first | assumption | refine LX.setF _ _ ?_ (by decide +kernel) | refine LX.setS ?_ rfl | refine LX.setA ?_ (by first | assumption | omega))) (by first | assumption | omega)) ?_
  rw [w_succ (by omega)]
  exact K h1 l1 x1 S1
end NAME
/-- a new VALUE -/
theorem e_def172 {a N m f t f2 v : Nat} {u8 : AV} {Q : Rs → Prop} (l : LX B n h) (hd : 20 ≤ d) (S : Sw B h H s dn tu mw c) (hv' : v < 40) (hc0 : c 0 = (v : Int)) (ha : hk h a = (4, N)) (haB : a = B + 26) (he : m ≤ N) (hN : N ≤ 100000) (hf : f2 ≤ m) (hm : m ≤ 240) (ht : t ≤ 12) (hft : f + t ≤ m) (hb : ∀ i, i < m → -128 ≤ hv h a i ∧ hv h a i < 128) (hw : mw + 90 < 1000000) (hdn : dn < 100) {x4 : Int} (h4 : x4 < 0)
    (K : ∀ h', SX1 B h h' → (∃ s', St B h' (fun i => if i ≤ dn then H i else txt (nmd c v t (fun z => hv h a (f + z))) (fo v 0) (fun z => hv h a (f2 + z)) (m - f2)) s' (dn + 1) (dn + 1) tu (mw + 69)) → Q ((0, (0, (v : Int))), h')) :
    Ends (ev PP (gsF gv) B d 190 172 [(2, rf (B + 7)), (2, rf a), (0, (m : Int)), (0, ((0 : Nat) : Int)), (0, x4), (0, (f : Int)), (0, ((f + t : Nat) : Int)), (0, (f2 : Int)), u8] [] h) Q := by
  have hb0 := l.2.2
  subst haB
  refine Ends.eq (b190_172 (n := n) (by (repeat' first | assumption | refine LX.setF _ _ ?_ (by decide +kernel) | refine LX.setS ?_ rfl | refine LX.setA ?_ (by first | assumption | omega))) (by first | assumption | omega)) ?_
  have e0 : v447 B h 0 = (v : Int) := by
    unfold v447
    exact (S.2.2.2.2.2.2.1 0 (by decide)).trans hc0
  rw [e0, b96_1 (by omega)]
  refine Ends.b3 (fun z => by omega) (fun _ => Ends.g (by unfold q447; omega) ?_)
  refine Ends.cv l (by decide +kernel) (c_stSet l (by omega) S (k := 0) (by decide) (by omega)) (fun h1 l1 n1 _ _ ⟨x1, S1⟩ => ?_)
  refine Ends.eq (b190_199 (n := n) (by (repeat' first | assumption | refine LX.setF _ _ ?_ (by decide +kernel) | refine LX.setS ?_ rfl | refine LX.setA ?_ (by first | assumption | omega))) (by first | assumption | omega)) ?_
  refine e_clear l1 hd (fun h2 l2 g2 z2 => ?_)
  have X2 : SX1 B h h2 := x1.one.tr (SX1.b10 g2)
  have S2 := S1.b10 (by omega) g2
  have hb2 := l2.2.2
  have k26 : ∀ q : AH, LX B n q → hk q (B + 26) = (4, 8192) := fun q lq => lk_26 lq
  have eN : N = 8192 := congrArg Prod.snd (ha.symm.trans (k26 h l))
  have src2 : ∀ i, hv h2 (B + 26) i = hv h (B + 26) i := fun i => X2.at S.1 hb0 (by omega) (by omega) i
  refine e_bytes (N := N) l2 hd (by rw [eN]; exact k26 h2 l2) he hm ht hft (by omega) (fun i hi => by rw [src2]; exact hb i hi) z2 hv' (fun h3 l3 g3 z3 => ?_)
  have X3 : SX1 B h h3 := X2.tr (SX1.b10 g3)
  have S3 := S2.b10 hb2 g3
  have ef : (fun z => hv h2 (B + 26) (f + z)) = (fun z => hv h (B + 26) (f + z)) := funext (fun z => src2 _)
  rw [ef] at z3
  have hb3 := l3.2.2
  refine Ends.cv l3 (by decide +kernel) (c_stSet l3 (by omega) S3 (k := 40 + 248 * v) (by omega) (by omega)) (fun h4 l4 n4 _ _ ⟨x4', S4⟩ => ?_)
  have z4 : ∀ w, w < 16 → hv h4 (B + 10) w = bz (fun z => hv h (B + 26) (f + z)) t w := fun w hw' => by rw [x4'.at S3.1 hb3 (by omega) w]; exact z3 w hw'
  have hb4 := l4.2.2
  refine Ends.eq (b190_271 (n := n) (by (repeat' first | assumption | refine LX.setF _ _ ?_ (by decide +kernel) | refine LX.setS ?_ rfl | refine LX.setA ?_ (by first | assumption | omega))) (by first | assumption | omega)) ?_
  refine e_wd (i := 0) (by decide) l4 hd S4 (by omega) hv' z4 (fun h5 l5 x5 S5 => ?_)
  have z5 : ∀ w, w < 16 → hv h5 (B + 10) w = bz (fun z => hv h (B + 26) (f + z)) t w := fun w hw' => by rw [x5.at S4.1 hb4 (by omega) w]; exact z4 w hw'
  have hb5 := l5.2.2
  refine e_wd (i := 1) (by decide) l5 hd S5 (by omega) hv' z5 (fun h6 l6 x6 S6 => ?_)
  have z6 : ∀ w, w < 16 → hv h6 (B + 10) w = bz (fun z => hv h (B + 26) (f + z)) t w := fun w hw' => by rw [x6.at S5.1 hb5 (by omega) w]; exact z5 w hw'
  refine e_wd (i := 2) (by decide) l6 hd S6 (by omega) hv' z6 (fun h7 l7 x7 S7 => ?_)
  refine Ends.eq (b190_274 (n := n) (by (repeat' first | assumption | refine LX.setF _ _ ?_ (by decide +kernel) | refine LX.setS ?_ rfl | refine LX.setA ?_ (by first | assumption | omega))) (by first | assumption | omega)) ?_
  refine Ends.b3 (fun _ => ?_) (fun z => absurd z (by decide))
  refine e_zr (i := 1) (by decide) l7 hd S7 (by omega) hv' (fun h8 l8 x8 S8 => ?_)
  refine e_zr (i := 2) (by decide) l8 hd S8 (by omega) hv' (fun h9 l9 x9 S9 => ?_)
  refine e_zr (i := 3) (by decide) l9 hd S9 (by omega) hv' (fun h10 l10 x10 S10 => ?_)
  have X10 : SX1 B h h10 := ((((((X3.tr x4'.one).tr x5.one).tr x6.one).tr x7.one).tr x8.one).tr x9.one).tr x10.one
  refine Ends.eq (b190_376 (n := n) (by (repeat' first | assumption | refine LX.setF _ _ ?_ (by decide +kernel) | refine LX.setS ?_ rfl | refine LX.setA ?_ (by first | assumption | omega))) (by first | assumption | omega)) ?_
  refine Ends.b3 (fun _ => ?_) (fun z => absurd z (by decide))
  have hb10 := l10.2.2
  refine e_def403 (k := 0) l10 hd S10 hv' (by decide) (by rw [eN]; exact k26 h10 l10) (by omega) he hN hf hm (by omega) hdn (fun h' x11 S11 => ?_)
  have src10 : ∀ i, hv h10 (B + 26) i = hv h (B + 26) i := fun i => X10.at S.1 hb0 (by omega) (by omega) i
  rw [show (fun z => hv h10 (B + 26) (f2 + z)) = (fun z => hv h (B + 26) (f2 + z)) from funext (fun z => src10 _)] at S11
  exact K h' (X10.tr x11.one) S11
end DEFC
