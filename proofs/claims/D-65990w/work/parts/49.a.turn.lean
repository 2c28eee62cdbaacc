/-! L3: the component's tables; solids by grains; uniteTurned -/
def TbC (B : Nat) (h : AH) : Prop := (∀ t, t < 24 → (∀ a, a < 3 → hv h (B + 37) (3 * t + a) = (rT t a : Nat)) ∧ hv h (B + 38) t = (aA t : Nat) ∧ hv h (B + 39) t = (aB t : Nat) ∧ hv h (B + 40) t = (aC t : Nat) ∧ hv h (B + 41) t = (if hiB t then 1 else 0) ∧ hv h (B + 42) t = (if hiC t then 1 else 0) ∧ (∀ f, f < 4 → hv h (B + 44) (4 * t + f) = (nxt t f : Nat) ∧ hv h (B + 45) (4 * t + f) = (dirT t f : Nat)) ∧ ∀ a, a < 3 → hv h (B + 46) (24 * a + t) = (quT a t : Nat)) ∧ ∀ x y z, x < 8 → y < 8 → z < 8 → hv h (B + 43) (64 * x + 8 * y + z) = if tyN x y z < 24 then (tyN x y z : Int) else -1
theorem TbC.fr {B : Nat} {h s : AH} {A : Nat → Prop} (m : TbC B h) (f : Fr A h s) (hA : ∀ c, B + 37 ≤ c → c ≤ B + 46 → ¬ A c) : TbC B s := by
  have e : ∀ c k, B + 37 ≤ c → c ≤ B + 46 → hv s c k = hv h c k := fun c k h1 h2 => f.1 c (hA c h1 h2) k
  refine ⟨fun t ht => ?_, fun x y z hx hy hz => ?_⟩
  · obtain ⟨m1, m2, m3, m4, m5, m6, m7, m8⟩ := m.1 t ht
    refine ⟨fun a ha => ?_, ?_, ?_, ?_, ?_, ?_, fun f hf => ⟨?_, ?_⟩, fun a ha => ?_⟩
    · rw [e _ _ (by omega) (by omega)]; exact m1 a ha
    · rw [e _ _ (by omega) (by omega)]; exact m2
    · rw [e _ _ (by omega) (by omega)]; exact m3
    · rw [e _ _ (by omega) (by omega)]; exact m4
    · rw [e _ _ (by omega) (by omega)]; exact m5
    · rw [e _ _ (by omega) (by omega)]; exact m6
    · rw [e _ _ (by omega) (by omega)]; exact (m7 f hf).1
    · rw [e _ _ (by omega) (by omega)]; exact (m7 f hf).2
    · rw [e _ _ (by omega) (by omega)]; exact m8 a ha
  · rw [e _ _ (by omega) (by omega)]; exact m.2 x y z hx hy hz
/-- the solid in cell a, by grains -/
def SG (n : Nat) (h : AH) (a : Nat) (S : Nat → Bool) : Prop := Sol n h a (onK n (fun t z y x => S (gI n x y z t)))
section SGS
variable {n a : Nat} {h h' : AH} {S T : Nat → Bool}
theorem SG.of {R : Nat → Nat → Bool} (hn0 : 0 < n) (s : Sol n h a R) (e : ∀ t z y x, t < 24 → z < n → y < n → x < n → R (rw3 n t z y) x = S (gI n x y z t)) : SG n h a S := Sol.byM hn0 s e
theorem SG.congr (hn0 : 0 < n) (s : SG n h a S) (e : ∀ g, g < gN n → S g = T g) : SG n h a T :=
  SG.of hn0 s (fun t z y x ht hz hy hx => by rw [onK_at hz hy, e _ (gI_lt hx hy hz ht)])
theorem SG.fr {A : Nat → Prop} (s : SG n h a S) (f : Fr A h h') (ha : ¬ A a) : SG n h' a S := Sol.fr s f ha
theorem gI_inj {x y z t x' y' z' t' : Nat} (hx : x < n) (hy : y < n) (ht : t < 24) (hx' : x' < n) (hy' : y' < n) (ht' : t' < 24) : gI n x y z t = gI n x' y' z' t' ↔ x = x' ∧ y = y' ∧ z = z' ∧ t = t' := by
  constructor
  · intro e
    have e1 := congrArg (gX n) e
    have e2 := congrArg (gY n) e
    have e3 := congrArg (gZ n) e
    have e4 := congrArg gSo e
    rw [gX_I hx ht, gX_I hx' ht'] at e1
    rw [gY_I hx hy ht, gY_I hx' hy' ht'] at e2
    rw [gZ_I hx hy ht, gZ_I hx' hy' ht'] at e3
    rw [gSo_I ht, gSo_I ht'] at e4
    exact ⟨e1, e2, e3, e4⟩
  · rintro ⟨rfl, rfl, rfl, rfl⟩; rfl
theorem rw3_inj {t z y t' z' y' : Nat} (hz : z < n) (hy : y < n) (hz' : z' < n) (hy' : y' < n) : rw3 n t z y = rw3 n t' z' y' ↔ t = t' ∧ z = z' ∧ y = y' := by
  constructor
  · intro e
    have e1 := congrArg (fun k => k / (n * n)) e
    have e2 := congrArg (fun k => k / n % n) e
    have e3 := congrArg (fun k => k % n) e
    rw [dec_t hz hy, dec_t hz' hy'] at e1
    rw [dec_z hz hy, dec_z hz' hy'] at e2
    rw [dec_y hy, dec_y hy'] at e3
    exact ⟨e1, e2, e3⟩
  · rintro ⟨rfl, rfl, rfl⟩; rfl
end SGS
section TURN
variable {gv : Nat → Int} {B n d a b : Nat} {h : AH} {S T : Nat → Bool}
theorem c_putG (l : LX B n h) (hd : 10 ≤ d) (hn0 : 0 < n) (hn : n ≤ 52) (sa : SG n h a S) (hB : B ≤ a) {t x y z : Nat} (ht : t < 24) (hx : x < n) (hy : y < n) (hz : z < n) :
    Vd (cll PP (ev PP (gsF gv) B) d 352 [(2, rf (B + 51)), (2, rf a), (0, (t : Int)), (0, (x : Int)), (0, (y : Int)), (0, (z : Int))] h) (fun h' => Fr (fun c => c = a) h h' ∧ SG n h' a (fun g => S g || decide (g = gI n x y z t))) := by
  obtain ⟨h', e, f, s⟩ := c_put (gv := gv) l hd hn ht hx hy hz sa hB
  refine ⟨h', e, f, SG.of hn0 s (fun t' z' y' x' ht' hz' hy' hx' => ?_)⟩
  rw [onK_at hz' hy']
  congr 1
  have h1 := rw3_inj (n := n) (t := t') (t' := t) hz' hy' hz hy
  have h2 := gI_inj (n := n) (z := z') (z' := z) hx' hy' ht' hx hy ht
  rw [Bool.eq_iff_iff]
  simp only [Bool.and_eq_true, beq_iff_eq, decide_eq_true_eq]
  rw [h1, h2]
  constructor
  · rintro ⟨⟨rfl, rfl, rfl⟩, rfl⟩; exact ⟨rfl, rfl, rfl, rfl⟩
  · rintro ⟨rfl, rfl, rfl, rfl⟩; exact ⟨⟨rfl, rfl, rfl⟩, rfl⟩
/-- what Parts' from, turned, add hold -/
def TrA (B : Nat) (h : AH) (fr : Nat → Nat) (tu : Nat → Bool) (ad : Nat → Int) : Prop := ∀ k, k < 3 → hv h (B + 106) k = (fr k : Nat) ∧ fr k < 3 ∧ hv h (B + 108) k = (if tu k then 1 else 0) ∧ hv h (B + 107) k = 8 * ad k ∧ -10000 ≤ ad k ∧ ad k ≤ 10000
theorem TrA.fr {fr : Nat → Nat} {tu : Nat → Bool} {ad : Nat → Int} {A : Nat → Prop} {h' : AH} (m : TrA B h fr tu ad) (f : Fr A h h') (hA : ∀ c, B + 106 ≤ c → c ≤ B + 108 → ¬ A c) : TrA B h' fr tu ad := by
  intro k hk
  rw [f.1 _ (hA _ (by omega) (by omega)), f.1 _ (hA _ (by omega) (by omega)), f.1 _ (hA _ (by omega) (by omega))]
  exact m k hk
/-- number k of grain g's middle, turned -/
def ta8 (n : Nat) (fr : Nat → Nat) (tu : Nat → Bool) (ad : Nat → Int) (g k : Nat) : Int := (if tu k then -((g8 n g (fr k) : Nat) : Int) else ((g8 n g (fr k) : Nat) : Int)) + 8 * ad k
def taG (n : Nat) (fr : Nat → Nat) (tu : Nat → Bool) (ad : Nat → Int) (g : Nat) : Int := gAt n (ta8 n fr tu ad g 0) (ta8 n fr tu ad g 1) (ta8 n fr tu ad g 2)
/-- from is a change of places -/
def isPer (fr : Nat → Nat) : Prop := (fr 0 = 0 ∧ fr 1 = 1 ∧ fr 2 = 2) ∨ (fr 0 = 1 ∧ fr 1 = 2 ∧ fr 2 = 0) ∨ (fr 0 = 2 ∧ fr 1 = 0 ∧ fr 2 = 1) ∨ (fr 0 = 0 ∧ fr 1 = 2 ∧ fr 2 = 1) ∨ (fr 0 = 2 ∧ fr 1 = 1 ∧ fr 2 = 0) ∨ (fr 0 = 1 ∧ fr 1 = 0 ∧ fr 2 = 2)
theorem per_ty : ∀ t : Fin 24, ∀ p : Fin 6, ∀ u v w : Bool, tyN (let r := rT t ([0, 1, 2, 0, 2, 1].getD p 0); if u then (8 - r) % 8 else r) (let r := rT t ([1, 2, 0, 2, 1, 0].getD p 0); if v then (8 - r) % 8 else r) (let r := rT t ([2, 0, 1, 1, 0, 2].getD p 0); if w then (8 - r) % 8 else r) < 24 := by decide +kernel
theorem ta8_mod {fr : Nat → Nat} {tu : Nat → Bool} {ad : Nat → Int} {g k : Nat} (hg : g < gN n) (hf : fr k < 3) (h0 : 0 ≤ ta8 n fr tu ad g k) : (ta8 n fr tu ad g k).toNat % 8 = if tu k then (8 - rT (gSo g) (fr k)) % 8 else rT (gSo g) (fr k) := by
  obtain ⟨-, -, -, -, ht⟩ := g_lt hg
  have hr : 1 ≤ rT (gSo g) (fr k) ∧ rT (gSo g) (fr k) < 8 := rT_lt ⟨gSo g, ht⟩ ⟨fr k, hf⟩
  obtain ⟨c, hc⟩ := @g8_mod n g _ hf
  unfold ta8 at h0 ⊢
  rw [hc] at h0 ⊢
  cases hq : tu k <;> simp only [hq, if_true, if_false, Bool.false_eq_true] at h0 ⊢ <;> omega
theorem ta_ty {fr : Nat → Nat} {tu : Nat → Bool} {ad : Nat → Int} {g : Nat} (hg : g < gN n) (hp : isPer fr) (h0 : 0 ≤ ta8 n fr tu ad g 0) (h1 : 0 ≤ ta8 n fr tu ad g 1) (h2 : 0 ≤ ta8 n fr tu ad g 2) : tyN ((ta8 n fr tu ad g 0).toNat % 8) ((ta8 n fr tu ad g 1).toNat % 8) ((ta8 n fr tu ad g 2).toNat % 8) < 24 := by
  obtain ⟨-, -, -, -, ht⟩ := g_lt hg
  have f0 : fr 0 < 3 := by unfold isPer at hp; omega
  have f1 : fr 1 < 3 := by unfold isPer at hp; omega
  have f2 : fr 2 < 3 := by unfold isPer at hp; omega
  rw [ta8_mod hg f0 h0, ta8_mod hg f1 h1, ta8_mod hg f2 h2]
  rcases hp with ⟨e0, e1, e2⟩ | ⟨e0, e1, e2⟩ | ⟨e0, e1, e2⟩ | ⟨e0, e1, e2⟩ | ⟨e0, e1, e2⟩ | ⟨e0, e1, e2⟩ <;> rw [e0, e1, e2]
  · exact per_ty ⟨gSo g, ht⟩ 0 (tu 0) (tu 1) (tu 2)
  · exact per_ty ⟨gSo g, ht⟩ 1 (tu 0) (tu 1) (tu 2)
  · exact per_ty ⟨gSo g, ht⟩ 2 (tu 0) (tu 1) (tu 2)
  · exact per_ty ⟨gSo g, ht⟩ 3 (tu 0) (tu 1) (tu 2)
  · exact per_ty ⟨gSo g, ht⟩ 4 (tu 0) (tu 1) (tu 2)
  · exact per_ty ⟨gSo g, ht⟩ 5 (tu 0) (tu 1) (tu 2)
theorem ta8_b {fr : Nat → Nat} {tu : Nat → Bool} {ad : Nat → Int} {g k : Nat} (hn : n ≤ 52) (hg : g < gN n) (b : -10000 ≤ ad k ∧ ad k ≤ 10000) : -100000 ≤ ta8 n fr tu ad g k ∧ ta8 n fr tu ad g k ≤ 100000 := by
  have := g8_lt hg (fr k)
  unfold ta8
  split <;> omega
end TURN
