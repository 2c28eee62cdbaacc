/-! L3: the model's formulas as cells -/
/-- the formula in cell x comes to D, names N; g: how deep it is -/
def AstI (lo : Nat) : Nat → AH → Int → Dn → (Nat → Bool) → Prop
  | 0, _, _, _, _ => False
  | g + 1, h, x, D, N => ∃ a : Nat, x = rf a ∧ lo ≤ a ∧ a < hnx h ∧ hk h a = (1, 24) ∧
    ((hv h a 0 = 0 ∧ hv h a 4 = 0 ∧ hv h a 5 = 0 ∧ hv h a 6 = 0 ∧ (0 ≤ hv h a 2 ∧ hv h a 2 ≤ 2000000000000) ∧ (1 ≤ hv h a 3 ∧ hv h a 3 ≤ 100000) ∧ (hv h a 1 = 0 ∨ hv h a 1 = 1) ∧ D = (fun _ => mkF (hv h a 2) (hv h a 3) (hv h a 1)) ∧ N = fun _ => false) ∨
    (hv h a 0 = 1 ∧ hv h a 4 = 0 ∧ hv h a 5 = 0 ∧ hv h a 6 = 0 ∧ ∃ v : Nat, v < 40 ∧ hv h a 1 = (v : Int) ∧ D = (fun e => e v) ∧ N = fun w => decide (w = v)) ∨
    (hv h a 0 = 2 ∧ ∃ D1 N1 D2 N2 D3 N3, AstI lo g h (hv h a 4) D1 N1 ∧ AstI lo g h (hv h a 5) D2 N2 ∧ AstI lo g h (hv h a 6) D3 N3 ∧ D = (fun e => fIf (D1 e) (D2 e) (D3 e)) ∧ N = orN N1 (orN N2 N3)) ∨
    ((hv h a 0 = 3 ∨ hv h a 0 = 4) ∧ hv h a 5 = 0 ∧ hv h a 6 = 0 ∧ ∃ D1, AstI lo g h (hv h a 4) D1 N ∧ D = fun e => if hv h a 0 = 3 then fNeg (D1 e) else fNot (D1 e)) ∨
    (hv h a 0 = 5 ∧ ∃ f : Nat, f ≤ 10 ∧ hv h a 1 = (f : Int) ∧ ((4 < f ∧ hv h a 5 = 0 ∧ hv h a 6 = 0 ∧ ∃ D1, AstI lo g h (hv h a 4) D1 N ∧ D = fun e => fAlone f (D1 e)) ∨ (f < 4 ∧ hv h a 6 = 0 ∧ ∃ D1 N1 D2 N2, AstI lo g h (hv h a 4) D1 N1 ∧ AstI lo g h (hv h a 5) D2 N2 ∧ D = (fun e => fPair f (D1 e) (D2 e)) ∧ N = orN N1 N2) ∨ (f = 4 ∧ ∃ D1 N1 D2 N2 D3 N3, AstI lo g h (hv h a 4) D1 N1 ∧ AstI lo g h (hv h a 5) D2 N2 ∧ AstI lo g h (hv h a 6) D3 N3 ∧ D = (fun e => fThree (D1 e) (D2 e) (D3 e)) ∧ N = orN N1 (orN N2 N3)))) ∨
    (hv h a 0 = 6 ∧ hv h a 6 = 0 ∧ ∃ (s : Nat) (op : Int) (D1 : Dn) (N1 : Nat → Bool) (D2 : Dn) (N2 : Nat → Bool), hv h a 1 = (s : Int) ∧ opC[s]? = some op ∧ AstI lo g h (hv h a 4) D1 N1 ∧ AstI lo g h (hv h a 5) D2 N2 ∧ D = (fun e => fTwo op (D1 e) (D2 e)) ∧ N = orN N1 N2))
/-- formulas stay where their cells stay -/
theorem AstI.keep {lo lo' : Nat} {h t : AH} (hlo : lo' ≤ lo) (hn : hnx h ≤ hnx t) (hh : ∀ a, lo ≤ a → a < hnx h → hk h a = (1, 24) → hk t a = (1, 24) ∧ ∀ k, k ≤ 6 → hv t a k = hv h a k) : ∀ (g g' : Nat) (x : Int) (D : Dn) (N : Nat → Bool), g ≤ g' → AstI lo g h x D N → AstI lo' g' t x D N
  | 0, _, _, _, _, _, A => by unfold AstI at A; exact A.elim
  | g + 1, 0, _, _, _, hg, _ => by omega
  | g + 1, g' + 1, x, D, N, hg, A => by
    have ih := AstI.keep hlo hn hh g g'
    unfold AstI at A ⊢
    obtain ⟨a, ex, la, ha, ka, A⟩ := A
    obtain ⟨k1, k2⟩ := hh a la ha ka
    refine ⟨a, ex, Nat.le_trans hlo la, Nat.lt_of_lt_of_le ha hn, k1, ?_⟩
    rw [k2 0 (by decide), k2 1 (by decide), k2 2 (by decide), k2 3 (by decide), k2 4 (by decide), k2 5 (by decide), k2 6 (by decide)]
    have up : ∀ x D N, AstI lo g h x D N → AstI lo' g' t x D N := fun x D N B => ih x D N (by omega) B
    rcases A with A | A | ⟨A1, D1, N1, D2, N2, D3, N3, b1, b2, b3, b4, b5⟩ | ⟨A1, A2, A3, D1, b1, b2⟩ | ⟨A1, f, A2, A3, A4⟩ | ⟨A1, A2, s, op, D1, N1, D2, N2, b1, b2, b3, b4, b5, b6⟩
    · exact Or.inl A
    · exact Or.inr (Or.inl A)
    · exact Or.inr (Or.inr (Or.inl ⟨A1, D1, N1, D2, N2, D3, N3, up _ _ _ b1, up _ _ _ b2, up _ _ _ b3, b4, b5⟩))
    · exact Or.inr (Or.inr (Or.inr (Or.inl ⟨A1, A2, A3, D1, up _ _ _ b1, b2⟩)))
    · refine Or.inr (Or.inr (Or.inr (Or.inr (Or.inl ⟨A1, f, A2, A3, ?_⟩))))
      rcases A4 with ⟨c1, c2, c3, D1, b1, b2⟩ | ⟨c1, c2, D1, N1, D2, N2, b1, b2, b3, b4⟩ | ⟨c1, D1, N1, D2, N2, D3, N3, b1, b2, b3, b4, b5⟩
      · exact Or.inl ⟨c1, c2, c3, D1, up _ _ _ b1, b2⟩
      · exact Or.inr (Or.inl ⟨c1, c2, D1, N1, D2, N2, up _ _ _ b1, up _ _ _ b2, b3, b4⟩)
      · exact Or.inr (Or.inr ⟨c1, D1, N1, D2, N2, D3, N3, up _ _ _ b1, up _ _ _ b2, up _ _ _ b3, b4, b5⟩)
    · exact Or.inr (Or.inr (Or.inr (Or.inr (Or.inr ⟨A1, A2, s, op, D1, N1, D2, N2, b1, b2, up _ _ _ b3, up _ _ _ b4, b5, b6⟩))))
theorem AstI.pos {lo : Nat} {h : AH} {x : Int} {D : Dn} {N : Nat → Bool} : ∀ {g : Nat}, AstI lo g h x D N → 0 < x
  | 0, A => by unfold AstI at A; exact A.elim
  | g + 1, A => by
    unfold AstI at A
    obtain ⟨a, ex, _⟩ := A
    rw [ex]; exact rf_pos a
theorem AstI.up {lo : Nat} {h : AH} {x : Int} {D : Dn} {N : Nat → Bool} {g g' : Nat} (A : AstI lo g h x D N) (hg : g ≤ g') : AstI lo g' h x D N := AstI.keep (Nat.le_refl _) (Nat.le_refl _) (fun a _ _ k => ⟨k, fun _ _ => rfl⟩) g g' x D N hg A
theorem AstI.lo {lo lo' : Nat} {h : AH} {x : Int} {D : Dn} {N : Nat → Bool} {g : Nat} (A : AstI lo g h x D N) (hl : lo' ≤ lo) : AstI lo' g h x D N := AstI.keep hl (Nat.le_refl _) (fun a _ _ k => ⟨k, fun _ _ => rfl⟩) g g x D N (Nat.le_refl _) A
/-- what the model's reader writes -/
def MW (B : Nat) : Nat → Nat → Prop := fun c k => (c = B + 149 ∧ ((4 ≤ k ∧ k ≤ 12) ∨ k = 22)) ∨ c = B + 152 ∨ c = B + 153
theorem AstI.mw {lo B n c s g g' : Nat} {h t : AH} {x : Int} {D : Dn} {N : Nat → Bool} (A : AstI lo g h x D N) (l : LX B n h) (e : Ext (MW B) c s h t) (hg : g ≤ g') : AstI lo g' t x D N := by
  refine AstI.keep (Nat.le_refl _) e.2.2.1 (fun a _ ha ka => ⟨by rw [e.1 a ha]; exact ka, fun k _ => e.at k ha (fun w => ?_)⟩) g g' x D N hg A
  have k9 := lk_149 l
  have k2 := lk_152 l
  have k3 := lk_153 l
  rcases w with w | w | w
  · rw [w.1, k9] at ka; exact absurd (congrArg Prod.snd ka) (by decide)
  · rw [w, k2] at ka; exact absurd (congrArg Prod.fst ka) (by decide)
  · rw [w, k3] at ka; exact absurd (congrArg Prod.fst ka) (by decide)
/-- a new formula's cell -/
def mkN (h : AH) (op n a b c : Int) : AH := hset (hset (hset (hset (hset (hnew h (1, 24) 7) (hnx h) 0 op) (hnx h) 1 n) (hnx h) 4 a) (hnx h) 5 b) (hnx h) 6 c
section MKN
variable {gv : Nat → Int} {B n d : Nat} {h : AH} {op nn a b c : Int}
theorem mkN_hv (k : Nat) : hv (mkN h op nn a b c) (hnx h) k = if k = 6 then c else if k = 5 then b else if k = 4 then a else if k = 1 then nn else if k = 0 then op else 0 := by
  unfold mkN
  rw [hv_set, if_pos rfl, hv_set, if_pos rfl, hv_set, if_pos rfl, hv_set, if_pos rfl, hv_set, if_pos rfl, hv_new, if_pos rfl]
theorem mkN_hk : hk (mkN h op nn a b c) (hnx h) = (1, 24) := by
  show hk (hnew h (1, 24) 7) (hnx h) = _
  rw [hk_new, if_pos rfl]
theorem mkN_nx : hnx (mkN h op nn a b c) = hnx h + 1 := rfl
theorem mkN_ext {W : Nat → Nat → Prop} : Ext W 1 7 h (mkN h op nn a b c) :=
  ((((Ext.new.set (fun z => absurd z (by omega))).set (fun z => absurd z (by omega))).set (fun z => absurd z (by omega))).set (fun z => absurd z (by omega))).set (fun z => absurd z (by omega))
theorem lx_na {k : Nat} {v : Int} {q : AH} {x : Nat} (l : LX B n q) (hx : B + 246 ≤ x) : LX B n (hset q x k v) := by
  refine ⟨l.1, fun e he => ?_, l.2.2⟩
  obtain ⟨cc, h1, h2, h3⟩ := fix_obj he
  rw [hv_na (by omega)]
  exact l.2.1 e he
theorem mkN_lx (l : LX B n h) : LX B n (mkN h op nn a b c) := by
  have hb := l.2.2
  exact lx_na (lx_na (lx_na (lx_na (lx_na l.new hb) hb) hb) hb) hb
theorem c_initF (l : LX B n h) (hd : 10 ≤ d) {x : Int} (hx : 0 < x) : Vd (cll PP (ev PP (gsF gv) B) d 874 [(2, x)] h) (fun h' => h' = h) := by
  refine Vd.into (D := 9) hd (Nat.le_of_ble_eq_true rfl) rfl (fun d hd => ?_)
  refine Ends.eq (b874_0 (n := n) ) ?_
  exact Ends.g hx (Ends.sm ⟨_, rfl, rfl⟩)
theorem c_mkF (l : LX B n h) (hd : 12 ≤ d) : Vt 2 (cll PP (ev PP (gsF gv) B) d 646 [(0, op), (0, nn), (2, a), (2, b), (2, c)] h) (fun x h' => x = rf (hnx h) ∧ h' = mkN h op nn a b c) := by
  have hb := l.2.2
  refine Vt.into (D := 11) hd (Nat.le_of_ble_eq_true rfl) rfl (fun d hd => ?_)
  refine Ends.eq (b646_0 (n := n) (by (repeat' first | assumption | refine LX.setF _ _ ?_ (by decide +kernel) | refine LX.setS ?_ rfl | refine LX.setA ?_ (by first | assumption | omega))) (by first | assumption | omega)) ?_
  have l0 : LX B n (hnew h (1, 24) 7) := l.new
  have k0 : hk (hnew h (1, 24) 7) (hnx h) = (1, 24) := by rw [hk_new, if_pos rfl]
  refine Ends.eq (b646_3 (n := n) (by (repeat' first | assumption | refine LX.setF _ _ ?_ (by decide +kernel) | refine LX.setS ?_ rfl | refine LX.setA ?_ (by first | assumption | omega))) (by first | assumption | omega)) ?_
  refine Ends.g (rf_pos _) ?_
  refine Ends.cv l0 (by decide +kernel) (c_initF l0 (by omega) (rf_pos _)) (fun h1 l1 _ _ _ e => ?_)
  subst e
  refine Ends.eq (b646_7 (n := n) (by (repeat' first | assumption | refine LX.setF _ _ ?_ (by decide +kernel) | refine LX.setS ?_ rfl | refine LX.setA ?_ (by first | assumption | omega))) (by first | assumption | omega)) ?_
  rw [ad_rf]
  refine Ends.g ⟨rf_pos _, k0, by omega, rfl⟩ ?_
  have l2 : LX B n (hset (hnew h (1, 24) 7) (hnx h) 0 op) := lx_na l0 hb
  refine Ends.eq (b646_15 (n := n) (by (repeat' first | assumption | refine LX.setF _ _ ?_ (by decide +kernel) | refine LX.setS ?_ rfl | refine LX.setA ?_ (by first | assumption | omega))) (by first | assumption | omega)) ?_
  rw [ad_rf]
  refine Ends.g ⟨rf_pos _, k0, by omega, rfl⟩ ?_
  have l3 : LX B n (hset (hset (hnew h (1, 24) 7) (hnx h) 0 op) (hnx h) 1 nn) := lx_na l2 hb
  refine Ends.eq (b646_21 (n := n) (by (repeat' first | assumption | refine LX.setF _ _ ?_ (by decide +kernel) | refine LX.setS ?_ rfl | refine LX.setA ?_ (by first | assumption | omega))) (by first | assumption | omega)) ?_
  rw [ad_rf]
  refine Ends.g ⟨rf_pos _, k0, by omega, rfl⟩ ?_
  have l4 : LX B n (hset (hset (hset (hnew h (1, 24) 7) (hnx h) 0 op) (hnx h) 1 nn) (hnx h) 4 a) := lx_na l3 hb
  refine Ends.eq (b646_27 (n := n) (by (repeat' first | assumption | refine LX.setF _ _ ?_ (by decide +kernel) | refine LX.setS ?_ rfl | refine LX.setA ?_ (by first | assumption | omega))) (by first | assumption | omega)) ?_
  rw [ad_rf]
  refine Ends.g ⟨rf_pos _, k0, by omega, rfl⟩ ?_
  have l5 : LX B n (hset (hset (hset (hset (hnew h (1, 24) 7) (hnx h) 0 op) (hnx h) 1 nn) (hnx h) 4 a) (hnx h) 5 b) := lx_na l4 hb
  refine Ends.eq (b646_33 (n := n) (by (repeat' first | assumption | refine LX.setF _ _ ?_ (by decide +kernel) | refine LX.setS ?_ rfl | refine LX.setA ?_ (by first | assumption | omega))) (by first | assumption | omega)) ?_
  rw [ad_rf]
  refine Ends.g ⟨rf_pos _, k0, by omega, rfl⟩ ?_
  have l6 : LX B n (hset (hset (hset (hset (hset (hnew h (1, 24) 7) (hnx h) 0 op) (hnx h) 1 nn) (hnx h) 4 a) (hnx h) 5 b) (hnx h) 6 c) := lx_na l5 hb
  refine Ends.eq (b646_40 (n := n) (by (repeat' first | assumption | refine LX.setF _ _ ?_ (by decide +kernel) | refine LX.setS ?_ rfl | refine LX.setA ?_ (by first | assumption | omega))) (by first | assumption | omega)) ?_
  exact Ends.sm ⟨_, _, rfl, rfl, rfl⟩
end MKN
