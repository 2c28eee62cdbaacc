/-! L3: what every run leaves as it was: kinds of cells; fields and arrays that a method, and what it calls, never writes -/
def fbit (fo : Nat → Nat) (kd : Nat × Nat) (k : Nat) : Nat := match kd.1 with
  | 0 => 2000
  | 1 => fo kd.2 + k
  | t + 2 => 1000 + t
def Rel (fo : Nat → Nat) (mk : Nat) (h h' : AH) : Prop := (∀ a, a < hnx h → hk h' a = hk h a) ∧ ∀ a k, a < hnx h → mk.testBit (fbit fo (hk h a) k) = false → hv h' a k = hv h a k
def subM (x y : Nat) : Bool := Nat.beq (x &&& y) x
theorem subM_bit {x y : Nat} (h : subM x y = true) {b : Nat} (hy : y.testBit b = false) : x.testBit b = false := by
  have e : x &&& y = x := Nat.eq_of_beq_eq_true h
  rw [← e, Nat.testBit_and, hy, Bool.and_false]
theorem Rel.rf {fo : Nat → Nat} {mk : Nat} {h : AH} : Rel fo mk h h := ⟨fun _ _ => rfl, fun _ _ _ _ => rfl⟩
theorem Rel.tr {fo : Nat → Nat} {mk : Nat} {h h1 h2 : AH} (m : hnx h ≤ hnx h1) (r1 : Rel fo mk h h1) (r2 : Rel fo mk h1 h2) : Rel fo mk h h2 := by
  refine ⟨fun a ha => (r2.1 a (Nat.lt_of_lt_of_le ha m)).trans (r1.1 a ha), fun a k ha hb => ?_⟩
  rw [r2.2 a k (Nat.lt_of_lt_of_le ha m) (by rw [r1.1 a ha]; exact hb), r1.2 a k ha hb]
theorem Rel.sub {fo : Nat → Nat} {m1 m2 : Nat} {h h1 : AH} (s : subM m1 m2 = true) (r : Rel fo m1 h h1) : Rel fo m2 h h1 := ⟨r.1, fun a k ha hb => r.2 a k ha (subM_bit s hb)⟩
theorem hv_cpy (h : AH) (s d sp dp n b j : Nat) : hv (hcpy h s d sp dp n) b j = if b = d ∧ dp ≤ j ∧ j < dp + n then hv h s (sp + (j - dp)) else hv h b j := rfl
theorem hk_cpy (h : AH) (s d sp dp n b : Nat) : hk (hcpy h s d sp dp n) b = hk h b := rfl
theorem Rel.set {fo : Nat → Nat} {mk : Nat} {h h1 : AH} {a0 k0 : Nat} {v : Int} (hb : mk.testBit (fbit fo (hk h a0) k0) = true) (r : Rel fo mk (hset h a0 k0 v) h1) : Rel fo mk h h1 := by
  refine ⟨r.1, fun a k ha hf => ?_⟩
  rw [r.2 a k ha hf, hv_set]
  by_cases e : a = a0
  · subst e
    rw [if_pos rfl]
    by_cases e2 : k = k0
    · subst e2; rw [hb] at hf; cases hf
    · rw [if_neg e2]
  · rw [if_neg e]
theorem Rel.cpy {fo : Nat → Nat} {mk : Nat} {h h1 : AH} {s d sp dp n t : Nat} (hd : (hk h d).1 = t + 2) (hb : mk.testBit (1000 + t) = true) (r : Rel fo mk (hcpy h s d sp dp n) h1) : Rel fo mk h h1 := by
  refine ⟨r.1, fun a k ha hf => ?_⟩
  rw [r.2 a k ha hf, hv_cpy]
  by_cases e : a = d ∧ dp ≤ k ∧ k < dp + n
  · exfalso
    have e1 := e.1
    subst e1
    unfold fbit at hf
    rw [hd] at hf
    dsimp only at hf
    rw [hb] at hf; cases hf
  · rw [if_neg e]
theorem Rel.new {fo : Nat → Nat} {mk : Nat} {h h1 : AH} {kd : Nat × Nat} {sz : Nat} (r : Rel fo mk (hnew h kd sz) h1) : Rel fo mk h h1 := by
  refine ⟨fun a ha => ?_, fun a k ha hf => ?_⟩
  · rw [r.1 a (Nat.lt_succ_of_lt ha), hk_new, if_neg (Nat.ne_of_lt ha)]
  · rw [r.2 a k (Nat.lt_succ_of_lt ha) (by rw [hk_new, if_neg (Nat.ne_of_lt ha)]; exact hf), hv_new, if_neg (Nat.ne_of_lt ha)]
/-- an entry keeps to the bits of its method -/
def okE (fo : Nat → Nat) (P : PT) (mask : Nat → Nat) (j : Nat) (i : Nat × Nat × Int × Nat) : Bool := match i.1 with
  | 23 => (mask j).testBit (fo i.2.1 + i.2.2.1.toNat)
  | 25 => (mask j).testBit (1000 + i.2.1)
  | 26 => (mask j).testBit (1004 + i.2.1)
  | 42 => (mask j).testBit (1000 + i.2.1)
  | 32 => subM (mask i.2.1) (mask j)
  | 33 => subM (mask i.2.1) (mask j)
  | 34 => subM (mask i.2.1) (mask j)
  | 35 => (List.range 64).all fun ci => Nat.beq (pVt P i.2.1 ci) 0 || subM (mask (pVt P i.2.1 ci)) (mask j)
  | 44 => (List.range 64).all fun ci => Nat.beq (pVt P i.2.1 ci) 0 || subM (mask (pVt P i.2.1 ci)) (mask j)
  | _ => true
section GLOB
variable {fo : Nat → Nat} {P : PT} {mask : Nat → Nat} {gs : Nat → AV} {B : Nat} {j pc op a : Nat} {b : Int} {nx : Nat} {L st : List AV} {h : AH} {k : Nat → List AV → List AV → AH → Option Rs} {call : Nat → List AV → AH → Option Rs} {r : Rs}
theorem thr_rel {mk : Nat} {x : Int} (hk1 : ∀ pc L st h r, k pc L st h = some r → Mono h r ∧ Rel fo mk h r.2) (e : thr P j pc L x h k = some r) : Rel fo mk h r.2 := by
  unfold thr at e
  split at e
  · exact (hk1 _ _ _ _ _ e).2
  · cases e; exact Rel.rf
  · cases e
theorem aft_rel {mk m2 : Nat} {rest : List AV} {q : Option Rs} (hs : subM m2 mk = true) (hk1 : ∀ pc L st h r, k pc L st h = some r → Mono h r ∧ Rel fo mk h r.2) (hq : ∀ r, q = some r → Mono h r ∧ Rel fo m2 h r.2) (e : aft P j pc nx L rest k q = some r) : Rel fo mk h r.2 := by
  unfold aft at e
  split at e
  · cases e
  · next v h2 =>
    have h1 := hq _ rfl
    exact Rel.tr h1.1.1 (h1.2.sub hs) (hk1 _ _ _ _ _ e).2
  · next z v h2 hz =>
    have h1 := hq _ rfl
    exact Rel.tr h1.1.1 (h1.2.sub hs) (thr_rel hk1 e)
theorem vt_sub {a ci j : Nat} (hv : ∀ ci, 64 ≤ ci → pVt P a ci = 0) (h : ((List.range 64).all fun ci => Nat.beq (pVt P a ci) 0 || subM (mask (pVt P a ci)) (mask j)) = true) (hn : pVt P a ci ≠ 0) : subM (mask (pVt P a ci)) (mask j) = true := by
  by_cases hc : ci < 64
  · have := List.all_eq_true.mp h ci (List.mem_range.mpr hc)
    rcases Bool.or_eq_true_iff.mp this with q | q
    · exact absurd (Nat.eq_of_beq_eq_true q) hn
    · exact q
  · exact absurd (hv ci (by omega)) hn
set_option maxHeartbeats 8000000 in
theorem exec1_rel (hv : ∀ a ci, 64 ≤ ci → pVt P a ci = 0) (hI : okE fo P mask j (op, a, b, nx) = true) (hk1 : ∀ pc L st h r, k pc L st h = some r → Mono h r ∧ Rel fo (mask j) h r.2) (hc : ∀ j' av h r, call j' av h = some r → Mono h r ∧ Rel fo (mask j') h r.2) (e : exec1 P gs B j pc op a b nx L st h k call = some r) : Rel fo (mask j) h r.2 := by
  unfold exec1 at e
  split at e
  all_goals (try (split at e))
  all_goals (try (split at e))
  all_goals (try (split at e))
  all_goals (try (split at e))
  all_goals first
    | (cases e; done)
    | exact (hk1 _ _ _ _ _ e).2
    | exact (hk1 _ _ _ _ _ e).2.new
    | exact thr_rel hk1 e
    | (cases e; exact Rel.rf)
    | (rcases brc_or a _ _ (k _ _ _ _) (k _ _ _ _) with q | q <;> (rw [q] at e; exact (hk1 _ _ _ _ _ e).2))
    | exact aft_rel hI hk1 (fun r q => hc _ _ _ _ q) e
    | (next hg => exact aft_rel (vt_sub (hv _) hI hg.2.2) hk1 (fun r q => hc _ _ _ _ q) e)
    | (next hg => exact Rel.cpy hg.2.2.1 hI (hk1 _ _ _ _ _ e).2)
    | (next hg => refine Rel.set ?_ (hk1 _ _ _ _ _ e).2; unfold fbit; rw [hg.2.1]; exact hI)
    | (next hg => refine Rel.set ?_ (hk1 _ _ _ _ _ e).2; unfold fbit; rw [hg.2.1]; dsimp only; rw [show 1000 + (a + 4) = 1004 + a by omega]; exact hI)
theorem arun_rel (hv : ∀ a ci, 64 ≤ ci → pVt P a ci = 0) (hI : ∀ j pc i, pCode P j pc = some i → okE fo P mask j i = true) {n : Nat} : ∀ {d j pc : Nat} {L st : List AV} {h : AH} {r : Rs}, arun P gs B n d j pc L st h = some r → Rel fo (mask j) h r.2 := by
  induction n with
  | zero => intro d j pc L st h r e; cases e
  | succ n ih =>
    intro d j pc L st h r e
    unfold arun at e
    split at e
    · cases e
    · next i hi =>
      refine exec1_rel hv (hI j pc i hi) (fun pc L st h r q => ⟨arun_mono q, ih q⟩) (fun j' av h r q => ?_) e
      split at q
      · cases q
      · split at q
        · exact ⟨arun_mono q, ih q⟩
        · cases q
theorem ev_rel (hv : ∀ a ci, 64 ≤ ci → pVt P a ci = 0) (hI : ∀ j pc i, pCode P j pc = some i → okE fo P mask j i = true) {d j pc : Nat} {L st : List AV} {h : AH} {r : Rs} (e : ev P gs B d j pc L st h = some r) : Mono h r ∧ Rel fo (mask j) h r.2 := by
  obtain ⟨n, hn⟩ := ev_iff.mp e
  exact ⟨arun_mono hn, arun_rel hv hI hn⟩
theorem cll_rel (hv : ∀ a ci, 64 ≤ ci → pVt P a ci = 0) (hI : ∀ j pc i, pCode P j pc = some i → okE fo P mask j i = true) {d j : Nat} {av : List AV} {h : AH} {r : Rs} (e : cll P (ev P gs B) d j av h = some r) : Mono h r ∧ Rel fo (mask j) h r.2 := by
  unfold cll at e
  split at e
  · cases e
  · split at e
    · exact ev_rel hv hI e
    · cases e
end GLOB
