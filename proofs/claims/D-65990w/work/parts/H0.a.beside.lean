/-! L3: facets beside one another (printed by gen_h0a.py) -/
section BSD
theorem blt_lt {a b : Nat} (h : Nat.blt a b = true) : a < b := Nat.le_of_ble_eq_true h
/-- tables, packed: the facet beside, its cube, corners, directions -/
def bsP : Nat := 0x3d560f395a0e474b1154585035520b2d5e0a434f15505c54315307295f06424e19505c58255703215b02464a1d54585c593a43553e42333701383c1c5d2e47513646273f052c34185d2a4b51324a233b0928301459224f55264e2b2f0d202410491e27194e260f5f291c4c38451f23154f220e5e2d1c4c3c4d1a331d4a320b5b2118482c4d16371d4636075725144428411b2b114b2a0a5a3918483441172f11472e06563d14443049123f19423e03533110402045133b15433a025235104024093b13053f12323651383c4c0d2f17013716263e552c34480d2b1b01331a223a5928304409231f05271e2a2e5d2024403d065f390a5e171b4104080035025b2d0e5a131f45000c04310357290f56121e49000c08250753210b52161a4d04080c
def bcP : Nat := 0x555955565555a55559555955565555995556555955565555915554555955565555855551555655559555a55565555595556555995565555515554555915565555455551555855565555655559555695556555655559555615554555595556555695559555515554555615559555595556555495551555515554555415551555455551555495556555455551555415554555655559555255545555595556555195545555515554555115545555455551555055545555155545555255559555155545555195556555155545555115554555155545555055551
def fcP : Nat := 0x565a9596856aa25aa8565a9596256a8a5aa2565a15960568825a205658959605628258a0559a9566856aa19aa8556a955a256a896aa2554a15520568814a205518954605628118a0559a9564a56a299a8a559a15648568219a08556a9558a56a296a8a554a15508568214a0855689558256209688255481550056001480055189544256209188255181544056001180055929564854a21928855629558254a09628255421550054801420055109544054201108054529514854a20528854529514254a085282545215140548005200545095140542005080
def drPk : Nat := 0x985ee386aeccc6ec9d2ea8d707a4b67a6e4a8e2a28e70bd4305a4f65a7248bc368be6428f2abd4eab95308ac768aea4b95ea9862c386eccccacc9d6c
def bsT (k s : Nat) : Nat := bsP / 256 ^ (3 * k + s) % 256
def bcU (k s a : Nat) : Nat := bcP / 4 ^ (9 * k + 3 * s + a) % 4
def fcC (k i : Nat) : Nat := fcP / 4 ^ (9 * k + i) % 4
def drT (k : Nat) : Nat := drPk / 32 ^ k % 32
def alB : Nat → (Nat → Bool) → Bool
  | 0, _ => true
  | n + 1, p => p n && alB n p
theorem alB_t {p : Nat → Bool} : ∀ {n : Nat}, alB n p = true → ∀ i, i < n → p i = true
  | 0, _, i, hi => absurd hi (Nat.not_lt_zero i)
  | n + 1, e, i, hi => by
    unfold alB at e
    rw [Bool.and_eq_true] at e
    rcases (by omega : i = n ∨ i < n) with z | z
    · rw [z]; exact e.1
    · exact alB_t e.2 i z
/-- corner k of sort t along an axis, in halves; the corners of a facet -/
def coT (t k a : Nat) : Nat := if k = 3 then 1 else if a = aC t then (if hiC t then 2 else 0) else if k = 2 then 1 else if a = aB t then (if hiB t then 2 else 0) else if k = 0 then 0 else 2
def fcK (f p : Nat) : Nat := if p = 0 then (if f = 3 then 1 else 0) else if p = 1 then (if f < 2 then 1 else 2) else (if f = 0 then 2 else 3)
theorem dr_all : alB 96 (fun k => drT k == dirT (k / 4) (k % 4)) = true := by decide +kernel
theorem dr_is {t f : Nat} (ht : t < 24) (hf : f < 4) : drT (4 * t + f) = dirT t f := by
  have := alB_t dr_all (4 * t + f) (by omega)
  rw [beq_iff_eq, show (4 * t + f) / 4 = t by omega, show (4 * t + f) % 4 = f by omega] at this
  exact this
theorem fc_all : alB 96 (fun k => alB 9 (fun i => fcC k i == coT (k / 4) (fcK (k % 4) (i / 3)) (i % 3))) = true := by decide +kernel
theorem fc_is {t f p a : Nat} (ht : t < 24) (hf : f < 4) (hp : p < 3) (ha : a < 3) : fcC (4 * t + f) (3 * p + a) = coT t (fcK f p) a := by
  have := alB_t (alB_t fc_all (4 * t + f) (by omega)) (3 * p + a) (by omega)
  rw [beq_iff_eq, show (4 * t + f) / 4 = t by omega, show (4 * t + f) % 4 = f by omega, show (3 * p + a) / 3 = p by omega, show (3 * p + a) % 3 = a by omega] at this
  exact this
theorem bs_all : alB 96 (fun k => alB 3 (fun s => Nat.blt (bsT k s) 96 && alB 3 (fun a => Nat.blt (bcU k s a) 3) && (drT (bsT k s) == drT k))) = true := by decide +kernel
theorem bs_lt {k s : Nat} (hk : k < 96) (hs : s < 3) : bsT k s < 96 ∧ (∀ a, a < 3 → bcU k s a < 3) ∧ drT (bsT k s) = drT k := by
  have := alB_t (alB_t bs_all k hk) s hs
  rw [Bool.and_eq_true, Bool.and_eq_true, beq_iff_eq] at this
  exact ⟨blt_lt this.1.1, fun a ha => blt_lt (alB_t this.1.2 a ha), this.2⟩
def syB (k s u : Nat) : Bool := (bsT (bsT k s) u == k) && alB 3 (fun a => bcU (bsT k s) u a + bcU k s a == 2)
theorem sy_all : alB 96 (fun k => alB 3 (fun s => syB k s 0 || syB k s 1 || syB k s 2)) = true := by decide +kernel
theorem bs_sym {k s : Nat} (hk : k < 96) (hs : s < 3) : ∃ u, u < 3 ∧ bsT (bsT k s) u = k ∧ ∀ a, a < 3 → bcU (bsT k s) u a + bcU k s a = 2 := by
  have := alB_t (alB_t sy_all k hk) s hs
  have g : ∀ u, u < 3 → syB k s u = true → ∃ u, u < 3 ∧ bsT (bsT k s) u = k ∧ ∀ a, a < 3 → bcU (bsT k s) u a + bcU k s a = 2 := fun u hu e => by
    unfold syB at e
    rw [Bool.and_eq_true, beq_iff_eq] at e
    exact ⟨u, hu, e.1, fun a ha => by have := alB_t e.2 a ha; rw [beq_iff_eq] at this; exact this⟩
  rw [Bool.or_eq_true, Bool.or_eq_true] at this
  rcases this with (z | z) | z
  · exact g 0 (by decide) z
  · exact g 1 (by decide) z
  · exact g 2 (by decide) z
variable {n K s : Nat}
/-- the facet beside facet K at side s: its cube; its number (-1: none in the room) -/
def bsX (n K s : Nat) : Int := (gX n (K / 4) : Int) + (bcU (K % 96) s 0 : Nat) - 1
def bsY (n K s : Nat) : Int := (gY n (K / 4) : Int) + (bcU (K % 96) s 1 : Nat) - 1
def bsZ (n K s : Nat) : Int := (gZ n (K / 4) : Int) + (bcU (K % 96) s 2 : Nat) - 1
def bsd (n K s : Nat) : Int := if inRm n (bsX n K s) (bsY n K s) (bsZ n K s) = true then ((4 * gI n (bsX n K s).toNat (bsY n K s).toNat (bsZ n K s).toNat (bsT (K % 96) s / 4) + bsT (K % 96) s % 4 : Nat) : Int) else -1
theorem K96 : K % 96 = 4 * gSo (K / 4) + K % 4 := by unfold gSo; omega
theorem K96_lt : K % 96 < 96 := Nat.mod_lt _ (by decide)
theorem K4_lt {n K : Nat} (hK : K < 4 * gN n) : K / 4 < gN n := by omega
theorem bsd_cases (hs : s < 3) : bsd n K s = -1 ∨ ∃ x y z : Nat, x < n ∧ y < n ∧ z < n ∧ bsX n K s = (x : Int) ∧ bsY n K s = (y : Int) ∧ bsZ n K s = (z : Int) ∧ inRm n (bsX n K s) (bsY n K s) (bsZ n K s) = true ∧ bsd n K s = ((4 * gI n x y z (bsT (K % 96) s / 4) + bsT (K % 96) s % 4 : Nat) : Int) := by
  by_cases w : inRm n (bsX n K s) (bsY n K s) (bsZ n K s) = true
  · right
    obtain ⟨h1, h2, h3, h4, h5, h6⟩ := inRm_iff.mp w
    refine ⟨(bsX n K s).toNat, (bsY n K s).toNat, (bsZ n K s).toNat, by omega, by omega, by omega, by omega, by omega, by omega, w, ?_⟩
    unfold bsd
    rw [if_pos w]
  · left
    unfold bsd
    rw [if_neg w]
theorem bsd_at (hs : s < 3) {x y z : Nat} (hx : x < n) (hy : y < n) (hz : z < n) (e1 : bsX n K s = (x : Int)) (e2 : bsY n K s = (y : Int)) (e3 : bsZ n K s = (z : Int)) : bsd n K s = ((4 * gI n x y z (bsT (K % 96) s / 4) + bsT (K % 96) s % 4 : Nat) : Int) := by
  unfold bsd
  rw [e1, e2, e3, if_pos (inRm_iff.mpr ⟨by omega, by omega, by omega, by omega, by omega, by omega⟩), tn, tn, tn]
theorem bsd_lt (hs : s < 3) {y : Nat} (e : bsd n K s = (y : Int)) : y < 4 * gN n := by
  rcases bsd_cases (n := n) (K := K) hs with z | ⟨x, y', z', h1, h2, h3, -, -, -, -, h4⟩
  · omega
  · have := (bs_lt (K96_lt (K := K)) hs).1
    have := gI_lt h1 h2 h3 (show bsT (K % 96) s / 4 < 24 by omega)
    omega
theorem bsd_sym (hK : K < 4 * gN n) (hs : s < 3) {y : Nat} (e : bsd n K s = (y : Int)) : ∃ u, u < 3 ∧ bsd n y u = (K : Int) := by
  rcases bsd_cases (n := n) (K := K) hs with z | ⟨x', y', z', h1, h2, h3, e1, e2, e3, -, h4⟩
  · omega
  · obtain ⟨b1, b2, -⟩ := bs_lt (K96_lt (K := K)) hs
    obtain ⟨u, hu, s1, s2⟩ := bs_sym (K96_lt (K := K)) hs
    obtain ⟨j, ej⟩ : ∃ j, j = bsT (K % 96) s := ⟨_, rfl⟩
    rw [← ej] at b1 s1 s2 h4
    have ey : y = 4 * gI n x' y' z' (j / 4) + j % 4 := by omega
    have hj : j / 4 < 24 := by omega
    have y4 : y / 4 = gI n x' y' z' (j / 4) := by omega
    have y96 : y % 96 = j := by
      rw [K96, y4, gSo_I hj]; omega
    have g1 : gX n (y / 4) = x' := by rw [y4]; exact gX_I h1 hj
    have g2 : gY n (y / 4) = y' := by rw [y4]; exact gY_I h1 h2 hj
    have g3 : gZ n (y / 4) = z' := by rw [y4]; exact gZ_I h1 h2 hj
    obtain ⟨-, k1, k2, k3, k4⟩ := g_lt (n := n) (g := K / 4) (by omega)
    have t0 := s2 0 (by decide)
    have t1 := s2 1 (by decide)
    have t2 := s2 2 (by decide)
    unfold bsX at e1
    unfold bsY at e2
    unfold bsZ at e3
    refine ⟨u, hu, ?_⟩
    rw [bsd_at hu (x := gX n (K / 4)) (y := gY n (K / 4)) (z := gZ n (K / 4)) k1 k2 k3 (by unfold bsX; rw [g1, y96]; omega) (by unfold bsY; rw [g2, y96]; omega) (by unfold bsZ; rw [g3, y96]; omega), y96, s1]
    have : K % 96 / 4 = gSo (K / 4) := by unfold gSo; omega
    rw [this, gI_g]
    omega
/-- reached from facet a by facets of E -/
def FRe (n : Nat) (E : Nat → Bool) (a b : Nat) : Prop := ∀ P : Nat → Prop, P a → (∀ x y s, x < 4 * gN n → y < 4 * gN n → s < 3 → P x → bsd n x s = (y : Int) → E y = true → P y) → P b
variable {E V E' : Nat → Bool} {a b c : Nat}
theorem FRe.rf : FRe n E a a := fun _ p _ => p
theorem FRe.st (r : FRe n E a b) (hx : b < 4 * gN n) (hy : c < 4 * gN n) (hs : s < 3) (e : bsd n b s = (c : Int)) (hE : E c = true) : FRe n E a c := fun P p k => k b c s hx hy hs (r P p k) e hE
theorem FRe.tr (r : FRe n E a b) (q : FRe n E b c) : FRe n E a c := fun P p k => q P (r P p k) k
theorem FRe.inE (r : FRe n E a b) (ha : a < 4 * gN n) (hE : E a = true) : b < 4 * gN n ∧ E b = true := r (fun b => b < 4 * gN n ∧ E b = true) ⟨ha, hE⟩ (fun _ _ _ _ hy _ _ _ hE => ⟨hy, hE⟩)
theorem FRe.sym (r : FRe n E a b) (ha : a < 4 * gN n) (hE : E a = true) : FRe n E b a :=
  (r (fun b => E b = true ∧ FRe n E b a) ⟨hE, FRe.rf⟩ (fun x y s hx hy hs ⟨p1, p2⟩ e hE' => ⟨hE', by
    obtain ⟨u, h1, h2⟩ := bsd_sym hx hs e
    exact (FRe.rf.st hy hx h1 h2 p1).tr p2⟩)).2
/-- V is closed in E -/
def FCl (n : Nat) (E V : Nat → Bool) : Prop := ∀ x y s, x < 4 * gN n → y < 4 * gN n → s < 3 → V x = true → bsd n x s = (y : Int) → E y = true → V y = true
theorem FCl.re (c : FCl n E V) (r : FRe n E a b) (ha : V a = true) : V b = true := r (fun b => V b = true) ha (fun x y s hx hy hs p e hE => c x y s hx hy hs p e hE)
/-- what is left of E behind V has the pieces that E has -/
theorem FRe.left (c : FCl n E V) (eE : ∀ x, x < 4 * gN n → (E' x = true ↔ E x = true ∧ V x = false)) (ha : a < 4 * gN n) (hE : E a = true) (hV : V a = false) : FRe n E' a b ↔ FRe n E a b := by
  constructor
  · intro r P p k
    exact r P p (fun x y s hx hy hs q e hE' => k x y s hx hy hs q e ((eE y hy).mp hE').1)
  · intro r
    refine (r (fun b => FRe n E a b ∧ FRe n E' a b) ⟨FRe.rf, FRe.rf⟩ (fun x y s hx hy hs ⟨p1, p2⟩ e hEy => ?_)).2
    have q := p1.st hx hy hs e hEy
    refine ⟨q, p2.st hx hy hs e ((eE y hy).mpr ⟨hEy, ?_⟩)⟩
    cases w : V y
    · rfl
    · rw [c.re (q.sym ha hE) w] at hV
      exact absurd hV (by decide)
/-- the place of a facet in the order -/
def rkS (n g : Nat) : Nat := rw3 (8 * n) (g8 n g 2) (g8 n g 1) (g8 n g 0)
def fpo (n k : Nat) : Nat := 4 * rkS n (k / 4) + k % 4
/-- a face's first facet; the first facets below place p -/
def Fst (n : Nat) (E : Nat → Bool) (k : Nat) : Prop := k < 4 * gN n ∧ E k = true ∧ ∀ x, x < 4 * gN n → FRe n E k x → fpo n k ≤ fpo n x
def FcL (n : Nat) (E : Nat → Bool) (p m : Nat) (F : Nat → Nat) : Prop := (∀ i, i < m → Fst n E (F i) ∧ fpo n (F i) < p) ∧ (∀ i j, i < j → j < m → fpo n (F i) < fpo n (F j)) ∧ ∀ k, Fst n E k → fpo n k < p → ∃ i, i < m ∧ F i = k
/-- facets of faces that begin below p -/
def Fsn (n : Nat) (E V : Nat → Bool) (p : Nat) : Prop := ∀ k, k < 4 * gN n → (V k = true ↔ E k = true ∧ ∃ x, x < 4 * gN n ∧ FRe n E k x ∧ fpo n x < p)
variable {p m : Nat} {F F' : Nat → Nat} {m' : Nat}
theorem g8_inj {g g' : Nat} (hg : g < gN n) (hg' : g' < gN n) (h0 : g8 n g 0 = g8 n g' 0) (h1 : g8 n g 1 = g8 n g' 1) (h2 : g8 n g 2 = g8 n g' 2) : g = g' := by
  obtain ⟨-, a1, a2, a3, a4⟩ := g_lt hg
  obtain ⟨-, b1, b2, b3, b4⟩ := g_lt hg'
  have r0 := rT_lt ⟨gSo g, a4⟩ 0
  have r1 := rT_lt ⟨gSo g, a4⟩ 1
  have r2 := rT_lt ⟨gSo g, a4⟩ 2
  have q0 := rT_lt ⟨gSo g', b4⟩ 0
  have q1 := rT_lt ⟨gSo g', b4⟩ 1
  have q2 := rT_lt ⟨gSo g', b4⟩ 2
  simp only [Fin.val_zero, Fin.val_one, Fin.val_two] at r0 r1 r2 q0 q1 q2
  simp only [g8] at h0 h1 h2
  have e0 : gX n g = gX n g' ∧ rT (gSo g) 0 = rT (gSo g') 0 := by omega
  have e1 : gY n g = gY n g' ∧ rT (gSo g) 1 = rT (gSo g') 1 := by omega
  have e2 : gZ n g = gZ n g' ∧ rT (gSo g) 2 = rT (gSo g') 2 := by omega
  have et : gSo g = gSo g' := by
    have t1 := tyN_rT ⟨gSo g, a4⟩
    have t2 := tyN_rT ⟨gSo g', b4⟩
    simp only at t1 t2
    rw [← t1, ← t2, e0.2, e1.2, e2.2]
  rw [← gI_g (n := n) (g := g), ← gI_g (n := n) (g := g'), e0.1, e1.1, e2.1, et]
theorem rkS_inj {g g' : Nat} (hg : g < gN n) (hg' : g' < gN n) (e : rkS n g = rkS n g') : g = g' := by
  have a0 := (g8_lt hg 0).2
  have a1 := (g8_lt hg 1).2
  have b0 := (g8_lt hg' 0).2
  have b1 := (g8_lt hg' 1).2
  have e0 := congrArg (fun v => v % (8 * n)) e
  have e1 := congrArg (fun v => v / (8 * n) % (8 * n)) e
  have e2 := congrArg (fun v => v / (8 * n * (8 * n))) e
  simp only [rkS] at e0 e1 e2
  rw [dec_y a0, dec_y b0] at e0
  rw [dec_z a1 a0, dec_z b1 b0] at e1
  rw [dec_t a1 a0, dec_t b1 b0] at e2
  exact g8_inj hg hg' e0 e1 e2
theorem fpo_inj {k k' : Nat} (hk : k < 4 * gN n) (hk' : k' < 4 * gN n) (e : fpo n k = fpo n k') : k = k' := by
  unfold fpo at e
  have h1 : k % 4 = k' % 4 := by omega
  have h2 : rkS n (k / 4) = rkS n (k' / 4) := by omega
  have := rkS_inj (K4_lt hk) (K4_lt hk') h2
  omega
theorem FcL.uniq (u : FcL n E p m F) (u' : FcL n E p m' F') : m = m' ∧ ∀ i, i < m → F i = F' i := by
  have key : ∀ {m m' : Nat} {F F' : Nat → Nat}, FcL n E p m F → FcL n E p m' F' → ∀ i, (∀ j, j < i → j < m → j < m' ∧ F j = F' j) → i < m → i < m' ∧ fpo n (F' i) ≤ fpo n (F i) := by
    intro m m' F F' u u' i ih hi
    obtain ⟨c, hc, ec⟩ := u'.2.2 (F i) (u.1 i hi).1 (u.1 i hi).2
    have ci : ¬ c < i := fun z => by
      have e := (ih c z (by omega)).2
      have := u.2.1 c i z hi
      rw [e, ec] at this
      omega
    refine ⟨by omega, ?_⟩
    rw [← ec]
    rcases (by omega : i = c ∨ i < c) with z | z
    · rw [z]; exact Nat.le_refl _
    · have := u'.2.1 i c z hc; omega
  have all : ∀ i, (∀ j, j < i → j < m → j < m' ∧ F j = F' j) ∧ (∀ j, j < i → j < m' → j < m) := by
    intro i
    induction i with
    | zero => exact ⟨fun j hj => absurd hj (Nat.not_lt_zero j), fun j hj => absurd hj (Nat.not_lt_zero j)⟩
    | succ i ih =>
      have ih' : ∀ j, j < i → j < m' → j < m ∧ F' j = F j := fun j hj h => ⟨ih.2 j hj h, (ih.1 j hj (ih.2 j hj h)).2.symm⟩
      refine ⟨fun j hj h => ?_, fun j hj h => ?_⟩
      · rcases (by omega : j < i ∨ j = i) with z | z
        · exact ih.1 j z h
        · subst z
          have w1 := key u u' j ih.1 h
          have w2 := key u' u j ih' w1.1
          exact ⟨w1.1, fpo_inj (u.1 j h).1.1 (u'.1 j w1.1).1.1 (by omega)⟩
      · rcases (by omega : j < i ∨ j = i) with z | z
        · exact ih.2 j z h
        · subst z
          exact (key u' u j ih' h).1
  have em : m = m' := by
    have a1 := all (m + m' + 1)
    apply Classical.byContradiction
    intro w
    rcases Nat.lt_or_gt_of_ne w with z | z
    · have := a1.2 m (by omega) z; omega
    · have := (a1.1 m' (by omega) z).1; omega
  exact ⟨em, fun i hi => ((all (i + 1)).1 i (by omega) hi).2⟩
theorem FcL.ini : FcL n E 0 0 F := ⟨fun i hi => absurd hi (Nat.not_lt_zero i), fun i j _ hj => absurd hj (Nat.not_lt_zero j), fun k _ h => absurd h (Nat.not_lt_zero _)⟩
theorem Fsn.ini (h : ∀ k, k < 4 * gN n → V k = false) : Fsn n E V 0 := fun k hk => ⟨fun z => by rw [h k hk] at z; exact absurd z (by decide), fun ⟨_, x, _, _, z⟩ => absurd z (Nat.not_lt_zero _)⟩
/-- no facet between two places -/
theorem FcL.skip {p' : Nat} (u : FcL n E p m F) (hp : p ≤ p') (no : ∀ k, k < 4 * gN n → E k = true → p ≤ fpo n k → fpo n k < p' → ∃ x, x < 4 * gN n ∧ FRe n E k x ∧ fpo n x < p) : FcL n E p' m F := by
  refine ⟨fun i hi => ⟨(u.1 i hi).1, by have := (u.1 i hi).2; omega⟩, u.2.1, fun k hk h => ?_⟩
  by_cases z : fpo n k < p
  · exact u.2.2 k hk z
  · obtain ⟨x, h1, h2, h3⟩ := no k hk.1 hk.2.1 (by omega) h
    have := hk.2.2 x h1 h2
    omega
theorem Fsn.skip {p' : Nat} (u : Fsn n E V p) (hp : p ≤ p') (no : ∀ k, k < 4 * gN n → E k = true → p ≤ fpo n k → fpo n k < p' → ∃ x, x < 4 * gN n ∧ FRe n E k x ∧ fpo n x < p) : Fsn n E V p' := fun k hk => by
  rw [u k hk]
  constructor
  · rintro ⟨h1, x, h2, h3, h4⟩
    exact ⟨h1, x, h2, h3, by omega⟩
  · rintro ⟨h1, x, h2, h3, h4⟩
    by_cases z : fpo n x < p
    · exact ⟨h1, x, h2, h3, z⟩
    · obtain ⟨y, g1, g2, g3⟩ := no x h2 (h3.inE hk h1).2 (by omega) h4
      exact ⟨h1, y, g1, h3.tr g2, g3⟩
theorem Fsn.cl (u : Fsn n E V p) : FCl n E V := fun x y s hx hy hs hv e hE => by
  obtain ⟨h1, z, h2, h3, h4⟩ := (u x hx).mp hv
  exact (u y hy).mpr ⟨hE, z, h2, ((FRe.rf.st hx hy hs e hE).sym hx h1).tr h3, h4⟩
/-- a facet at place p that was not seen: a new face -/
theorem Fsn.first {k : Nat} (u : Fsn n E V p) (hk : k < 4 * gN n) (hE : E k = true) (hp : fpo n k = p) (hV : V k = false) : Fst n E k := by
  refine ⟨hk, hE, fun x hx r => ?_⟩
  apply Classical.byContradiction
  intro z
  rw [(u k hk).mpr ⟨hE, x, hx, r, by omega⟩] at hV
  exact absurd hV (by decide)
theorem FcL.put {k : Nat} (u : FcL n E p m F) (f : Fst n E k) (hp : fpo n k = p) : FcL n E (p + 1) (m + 1) (fun i => if i = m then k else F i) := by
  refine ⟨fun i hi => ?_, fun i j hij hj => ?_, fun x hx h => ?_⟩
  · show Fst n E (if i = m then k else F i) ∧ fpo n (if i = m then k else F i) < p + 1
    by_cases z : i = m
    · rw [if_pos z]; exact ⟨f, by omega⟩
    · rw [if_neg z]; exact ⟨(u.1 i (by omega)).1, by have := (u.1 i (by omega)).2; omega⟩
  · show fpo n (if i = m then k else F i) < fpo n (if j = m then k else F j)
    rw [if_neg (by omega : ¬ i = m)]
    by_cases z : j = m
    · rw [if_pos z]; have := (u.1 i (by omega)).2; omega
    · rw [if_neg z]; exact u.2.1 i j hij (by omega)
  · by_cases z : fpo n x < p
    · obtain ⟨i, h1, h2⟩ := u.2.2 x hx z
      refine ⟨i, by omega, ?_⟩
      show (if i = m then k else F i) = x
      rw [if_neg (by omega)]; exact h2
    · refine ⟨m, by omega, ?_⟩
      show (if m = m then k else F m) = x
      rw [if_pos rfl]
      exact fpo_inj f.1 hx.1 (by omega)
theorem Fsn.put {k : Nat} {V' : Nat → Bool} (u : Fsn n E V p) (hk : k < 4 * gN n) (hE : E k = true) (hp : fpo n k = p) (e : ∀ x, x < 4 * gN n → (V' x = true ↔ V x = true ∨ FRe n E k x)) : Fsn n E V' (p + 1) := fun x hx => by
  rw [e x hx, u x hx]
  constructor
  · rintro (⟨h1, y, h2, h3, h4⟩ | h)
    · exact ⟨h1, y, h2, h3, by omega⟩
    · exact ⟨(h.inE hk hE).2, k, hk, h.sym hk hE, by omega⟩
  · rintro ⟨h1, y, h2, h3, h4⟩
    by_cases z : fpo n y < p
    · exact Or.inl ⟨h1, y, h2, h3, z⟩
    · right
      have : y = k := fpo_inj h2 hk (by omega)
      rw [this] at h3
      exact h3.sym hx h1
end BSD
