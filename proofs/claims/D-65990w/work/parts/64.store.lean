/-! L3: Store: the cells of what is designed, and the journal of what was written into them -/
def upc (f : Nat → Int) (k : Nat) (v : Int) : Nat → Int := fun j => if j = k then v else f j
theorem upc_self (f : Nat → Int) (k : Nat) : upc f k (f k) = f := by funext j; unfold upc; split <;> simp_all
theorem upc_upc (f : Nat → Int) (k : Nat) (v w : Int) : upc (upc f k v) k w = upc f k w := by funext j; unfold upc; split <;> rfl
theorem upc_back (f : Nat → Int) (k : Nat) (v : Int) : upc (upc f k v) k (f k) = f := by rw [upc_upc, upc_self]
/-- the entries a .. a + m - 1 taken back, the last one first; brought on again -/
def unJ (pa po : Nat → Int) (a : Nat) : Nat → (Nat → Int) → Nat → Int
  | 0, g => g
  | m + 1, g => unJ pa po a m (upc g (pa (a + m)).toNat (po (a + m)))
def reJ (pa pw : Nat → Int) (a : Nat) (f : Nat → Int) : Nat → Nat → Int
  | 0 => f
  | m + 1 => upc (reJ pa pw a f m) (pa (a + m)).toNat (pw (a + m))
def Jn (pa po pw : Nat → Int) (a m : Nat) (f g : Nat → Int) : Prop := (∀ e, a ≤ e → e < a + m → 0 ≤ pa e ∧ pa e < 37368) ∧ unJ pa po a m g = f ∧ reJ pa pw a f m = g
section JN
variable {pa po pw pa' po' pw' : Nat → Int} {a m k : Nat} {f g : Nat → Int} {v : Int}
theorem unJ_congr : ∀ (m : Nat) (g : Nat → Int), (∀ e, a ≤ e → e < a + m → pa' e = pa e ∧ po' e = po e) → unJ pa' po' a m g = unJ pa po a m g
  | 0, g, _ => rfl
  | m + 1, g, e => by
    unfold unJ
    obtain ⟨e1, e2⟩ := e (a + m) (by omega) (by omega)
    rw [e1, e2]
    exact unJ_congr m _ (fun z h1 h2 => e z h1 (by omega))
theorem reJ_congr : ∀ (m : Nat), (∀ e, a ≤ e → e < a + m → pa' e = pa e ∧ pw' e = pw e) → reJ pa' pw' a f m = reJ pa pw a f m
  | 0, _ => rfl
  | m + 1, e => by
    unfold reJ
    obtain ⟨e1, e2⟩ := e (a + m) (by omega) (by omega)
    rw [e1, e2, reJ_congr m (fun z h1 h2 => e z h1 (by omega))]
theorem Jn.congr (j : Jn pa po pw a m f g) (e : ∀ z, a ≤ z → z < a + m → pa' z = pa z ∧ po' z = po z ∧ pw' z = pw z) : Jn pa' po' pw' a m f g := by
  obtain ⟨j1, j2, j3⟩ := j
  refine ⟨fun z h1 h2 => by rw [(e z h1 h2).1]; exact j1 z h1 h2, ?_, ?_⟩
  · rw [unJ_congr m g (fun z h1 h2 => ⟨(e z h1 h2).1, (e z h1 h2).2.1⟩)]; exact j2
  · rw [reJ_congr m (fun z h1 h2 => ⟨(e z h1 h2).1, (e z h1 h2).2.2⟩)]; exact j3
theorem Jn.nil : Jn pa po pw a 0 f f := ⟨fun e h1 h2 => absurd h2 (by omega), rfl, rfl⟩
theorem Jn.app (j : Jn pa po pw a m f g) (hk : k < 37368) (e1 : pa (a + m) = (k : Int)) (e2 : po (a + m) = g k) (e3 : pw (a + m) = v) : Jn pa po pw a (m + 1) f (upc g k v) := by
  obtain ⟨j1, j2, j3⟩ := j
  refine ⟨fun z h1 h2 => ?_, ?_, ?_⟩
  · by_cases e : z = a + m
    · rw [e, e1]; omega
    · exact j1 z h1 (by omega)
  · unfold unJ
    rw [e1, e2, Int.toNat_natCast, upc_back]; exact j2
  · unfold reJ
    rw [j3, e1, e3, Int.toNat_natCast]
end JN
/-- the journal's three arrays -/
def j1 (B : Nat) (h : AH) : Nat := ad (hv h (B + 1) 1)
def j2 (B : Nat) (h : AH) : Nat := ad (hv h (B + 1) 2)
def j3 (B : Nat) (h : AH) : Nat := ad (hv h (B + 1) 3)
def jl (B : Nat) (h : AH) : Nat := (hk h (j1 B h)).2
def StJ (B : Nat) (h : AH) (mw : Nat) : Prop := (hv h (B + 1) 1 = rf (j1 B h) ∧ hv h (B + 1) 2 = rf (j2 B h) ∧ hv h (B + 1) 3 = rf (j3 B h)) ∧ (hk h (j1 B h) = (2, jl B h) ∧ hk h (j2 B h) = (2, jl B h) ∧ hk h (j3 B h) = (2, jl B h)) ∧ ((j1 B h = B + 3 ∨ B + 246 ≤ j1 B h) ∧ (j2 B h = B + 4 ∨ B + 246 ≤ j2 B h) ∧ (j3 B h = B + 5 ∨ B + 246 ≤ j3 B h)) ∧ (j1 B h ≠ j2 B h ∧ j1 B h ≠ j3 B h ∧ j2 B h ≠ j3 B h) ∧ (j1 B h < hnx h ∧ j2 B h < hnx h ∧ j3 B h < hnx h) ∧ 512 ≤ jl B h ∧ jl B h ≤ 512 + 2 * mw
/-- what the store's methods may write -/
def StW (B : Nat) (h : AH) : Nat → Nat → Prop := fun c k => (c = B + 1 ∧ 1 ≤ k ∧ k ≤ 8 ∧ k ≠ 5) ∨ c = B + 2 ∨ c = B + 6 ∨ c = j1 B h ∨ c = j2 B h ∨ c = j3 B h
/-- from h to t the store alone was written, and its journal made longer -/
def SX (B : Nat) (h t : AH) : Prop := Ext (StW B h) (jl B t - jl B h) (6 * (jl B t - jl B h)) h t ∧ jl B h ≤ jl B t ∧ (j1 B t = j1 B h ∨ hnx h ≤ j1 B t) ∧ (j2 B t = j2 B h ∨ hnx h ≤ j2 B t) ∧ (j3 B t = j3 B h ∨ hnx h ≤ j3 B t)
theorem SX.rf {B : Nat} {h : AH} : SX B h h := ⟨Ext.rf, Nat.le_refl _, Or.inl rfl, Or.inl rfl, Or.inl rfl⟩
theorem SX.tr {B : Nat} {h t u : AH} (a : SX B h t) (b : SX B t u) : SX B h u := by
  obtain ⟨a1, a2, a3, a4, a5⟩ := a
  obtain ⟨b1, b2, b3, b4, b5⟩ := b
  have hx := a1.2.2.1
  refine ⟨(a1.tr b1 (fun c k hc w => ?_)).sub (fun _ _ _ z => z) (by omega) (by omega), by omega, by omega, by omega, by omega⟩
  rcases w with w | w | w | w | w | w
  · exact Or.inl w
  · exact Or.inr (Or.inl w)
  · exact Or.inr (Or.inr (Or.inl w))
  · exact Or.inr (Or.inr (Or.inr (Or.inl (a3.elim (fun e => w.trans e) (fun e => by omega)))))
  · exact Or.inr (Or.inr (Or.inr (Or.inr (Or.inl (a4.elim (fun e => w.trans e) (fun e => by omega))))))
  · exact Or.inr (Or.inr (Or.inr (Or.inr (Or.inr (a5.elim (fun e => w.trans e) (fun e => by omega))))))
/-- history: the cells after each edit; s: where its entries begin -/
def StH (B : Nat) (h : AH) (H : Nat → Nat → Int) (s : Nat → Nat) (tt : Nat) : Prop := (∀ i, i ≤ tt → hv h (B + 6) i = (s i : Int)) ∧ (∀ i, i < tt → s i ≤ s (i + 1)) ∧ (∀ i, i ≤ tt → s i ≤ jl B h) ∧ ∀ i, i < tt → Jn (hv h (j1 B h)) (hv h (j2 B h)) (hv h (j3 B h)) (s i) (s (i + 1) - s i) (H i) (H (i + 1))
/-- between edits -/
def St (B : Nat) (h : AH) (H : Nat → Nat → Int) (s : Nat → Nat) (dn tt tu mw : Nat) : Prop := StJ B h mw ∧ StH B h H s tt ∧ hv h (B + 1) 6 = (dn : Int) ∧ hv h (B + 1) 7 = (tt : Int) ∧ hv h (B + 1) 8 = (tu : Int) ∧ dn ≤ tt ∧ (∀ i, i ≤ tt → s i ≤ mw) ∧ ∀ k, k < 37368 → hv h (B + 2) k = H dn k
/-- within an edit: c the cells now -/
def Sw (B : Nat) (h : AH) (H : Nat → Nat → Int) (s : Nat → Nat) (dn tu mw : Nat) (c : Nat → Int) : Prop := StJ B h mw ∧ StH B h H s dn ∧ hv h (B + 1) 6 = (dn : Int) ∧ hv h (B + 1) 7 = (dn : Int) ∧ hv h (B + 1) 8 = (tu : Int) ∧ (∀ i, i ≤ dn → s i ≤ mw) ∧ (∀ k, k < 37368 → hv h (B + 2) k = c k) ∧ ∃ w : Nat, hv h (B + 1) 4 = (w : Int) ∧ s dn ≤ w ∧ w ≤ jl B h ∧ w ≤ mw ∧ Jn (hv h (j1 B h)) (hv h (j2 B h)) (hv h (j3 B h)) (s dn) (w - s dn) (H dn) c
section STORE
variable {gv : Nat → Int} {B n d : Nat} {h : AH} {H : Nat → Nat → Int} {s : Nat → Nat} {dn tt tu mw : Nat} {c : Nat → Int}
theorem c_stBegin (l : LX B n h) (hd : 10 ≤ d) (S : St B h H s dn tt tu mw) (hdn : dn < 100) (htu : tu < 1000000) :
    Vd (cll PP (ev PP (gsF gv) B) d 444 [(2, rf (B + 1))] h) (fun h' => Agr (fun c k => c = B + 1 ∧ (k = 4 ∨ k = 7 ∨ k = 8)) h h' ∧ SX B h h' ∧ Sw B h' H s dn (tu + 1) mw (H dn)) := by
  obtain ⟨⟨⟨a1, a2, a3⟩, a4⟩, ⟨b1, b2, b3, b4⟩, c1, c2, c3, c4, c5, c6⟩ := S
  refine Vd.into (D := 9) hd (Nat.le_of_ble_eq_true rfl) rfl (fun d hd => ?_)
  refine Ends.eq (b444_0 (n := n) (by (repeat' first | assumption | refine LX.setF _ _ ?_ (by decide +kernel) | refine LX.setS ?_ rfl | refine LX.setA ?_ (by first | assumption | omega))) (by first | assumption | omega)) ?_
  rw [c1, c3, tn, b1 dn c4]
  refine Ends.g ⟨by omega, by omega⟩ ?_
  rw [add32 (by omega) (by omega)]
  generalize hq : hset (hset (hset h (B + 1) 7 (dn : Int)) (B + 1) 4 (s dn : Int)) (B + 1) 8 ((tu : Int) + 1) = q
  have g : Agr (fun c k => c = B + 1 ∧ (k = 4 ∨ k = 7 ∨ k = 8)) h q := by
    rw [← hq]
    exact ((Agr.rf.set ⟨rfl, by omega⟩).set ⟨rfl, by omega⟩).set ⟨rfl, by omega⟩
  have e1 : j1 B q = j1 B h := by unfold j1; rw [g.at _ _ (by omega)]
  have e2 : j2 B q = j2 B h := by unfold j2; rw [g.at _ _ (by omega)]
  have e3 : j3 B q = j3 B h := by unfold j3; rw [g.at _ _ (by omega)]
  have e4 : jl B q = jl B h := by unfold jl; rw [e1, g.hk]
  have sx : SX B h q := ⟨(g.ext.sub (fun c k _ z => Or.inl ⟨z.1, by omega⟩) (Nat.zero_le _) (Nat.zero_le _)), by omega, Or.inl e1, Or.inl e2, Or.inl e3⟩
  have hb := l.2.2
  obtain ⟨⟨k1, k2, k3⟩, ⟨o1, o2, o3⟩, ap, ⟨x1, x2, x3⟩, y1, y2⟩ := a4
  have f1 : ∀ e, hv q (j1 B h) e = hv h (j1 B h) e := fun e => g.at _ _ (by omega)
  have f2 : ∀ e, hv q (j2 B h) e = hv h (j2 B h) e := fun e => g.at _ _ (by omega)
  have f3 : ∀ e, hv q (j3 B h) e = hv h (j3 B h) e := fun e => g.at _ _ (by omega)
  refine Ends.sm ⟨_, rfl, ?_⟩
  refine ⟨g, sx, ?_⟩
  refine ⟨?_, ⟨fun i hi => ?_, fun i hi => b2 i (by omega), fun i hi => by rw [e4]; exact b3 i (by omega), fun i hi => ?_⟩, ?_, ?_, ?_, fun i hi => c5 i (by omega), fun k hk => ?_, s dn, ?_, Nat.le_refl _, by rw [e4]; exact b3 dn c4, c5 dn c4, ?_⟩
  · unfold StJ
    rw [e1, e2, e3, e4, g.nx, g.hk, g.hk, g.hk, g.at _ _ (by omega), g.at _ _ (by omega), g.at _ _ (by omega)]
    exact ⟨⟨a1, a2, a3⟩, ⟨k1, k2, k3⟩, ⟨o1, o2, o3⟩, ap, ⟨x1, x2, x3⟩, y1, y2⟩
  · rw [g.at _ _ (by omega)]; exact b1 i (by omega)
  · rw [e1, e2, e3]
    exact (b4 i (by omega)).congr (fun z _ _ => ⟨f1 z, f2 z, f3 z⟩)
  · rw [g.at _ _ (by omega)]; exact c1
  · rw [← hq, hv_set_ne (by omega), hv_set_ne (by omega)]; exact hv_set_at ..
  · rw [← hq]; exact hv_set_at ..
  · rw [g.at _ _ (by omega)]; exact c6 k hk
  · rw [← hq, hv_set_ne (by omega)]; exact hv_set_at ..
  · rw [Nat.sub_self]; exact Jn.nil
end STORE
