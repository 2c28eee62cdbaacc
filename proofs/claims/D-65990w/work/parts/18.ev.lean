/-! L2: the equation of what a run comes to -/
section FIN
variable {P : PT} {gs : Nat → AV} {B : Nat} {j pc op a : Nat} {b : Int} {nx : Nat} {L st : List AV} {h : AH} {k : Nat → List AV → List AV → AH → Option Rs} {call : Nat → List AV → AH → Option Rs} {r : Rs} {kN : Nat → Nat → List AV → List AV → AH → Option Rs} {cN : Nat → Nat → List AV → AH → Option Rs}
theorem thr_fin {x : Int} (hk1 : ∀ pc L st h r, k pc L st h = some r → ∃ n, kN n pc L st h = some r) (e : thr P j pc L x h k = some r) : ∃ n, thr P j pc L x h (kN n) = some r := by
  unfold thr at e ⊢
  split at e
  · exact hk1 _ _ _ _ _ e
  · exact ⟨0, e⟩
  · cases e
theorem aft_fin {rest : List AV} {q : Option Rs} {qN : Nat → Option Rs} (hk1 : ∀ pc L st h r, k pc L st h = some r → ∃ n, kN n pc L st h = some r) (hkm : ∀ n m pc L st h r, n ≤ m → kN n pc L st h = some r → kN m pc L st h = some r) (hq : ∀ r, q = some r → ∃ n, qN n = some r) (hqm : ∀ n m r, n ≤ m → qN n = some r → qN m = some r) (e : aft P j pc nx L rest k q = some r) : ∃ n, aft P j pc nx L rest (kN n) (qN n) = some r := by
  have key : ∀ r0, q = some r0 → (∃ n, aft P j pc nx L rest (kN n) (some r0) = some r) → ∃ n, aft P j pc nx L rest (kN n) (qN n) = some r := by
    intro r0 h0 ⟨n, hn⟩
    obtain ⟨m, hm⟩ := hq r0 h0
    refine ⟨max n m, ?_⟩
    rw [hqm m (max n m) r0 (Nat.le_max_right _ _) hm]
    exact aft_more (fun pc L st h r q => hkm n _ _ _ _ _ _ (Nat.le_max_left _ _) q) (fun r q => q) hn
  cases q with
  | none => cases e
  | some r0 =>
    refine key r0 rfl ?_
    unfold aft at e
    split at e
    · next q9 => cases q9
    · next v h2 q9 =>
      cases q9
      exact hk1 _ _ _ _ _ e
    · next z v h2 hz q9 =>
      cases q9
      obtain ⟨n, hn⟩ := thr_fin hk1 e
      refine ⟨n, ?_⟩
      unfold aft
      split
      · next q8 => cases q8
      · next v8 h8 q8 => cases q8; exact absurd rfl hz
      · next z8 v8 h8 hz8 q8 => cases q8; exact hn
theorem brc_fin {o : Nat} {x y : Int} {t f : Option Rs} {tN fN : Nat → Option Rs} (ht : ∀ r, t = some r → ∃ n, tN n = some r) (hf : ∀ r, f = some r → ∃ n, fN n = some r) (e : brc o x y t f = some r) : ∃ n, brc o x y (tN n) (fN n) = some r := by
  unfold brc at e ⊢
  split at e <;> split at e <;> first
    | (obtain ⟨n, hn⟩ := ht _ e; refine ⟨n, ?_⟩; rw [if_pos (by assumption)]; exact hn)
    | (obtain ⟨n, hn⟩ := hf _ e; refine ⟨n, ?_⟩; rw [if_pos (by assumption)]; exact hn)
    | (obtain ⟨n, hn⟩ := ht _ e; refine ⟨n, ?_⟩; rw [if_neg (by assumption)]; exact hn)
    | (obtain ⟨n, hn⟩ := hf _ e; refine ⟨n, ?_⟩; rw [if_neg (by assumption)]; exact hn)
set_option maxHeartbeats 8000000 in
theorem exec1_fin (hk1 : ∀ pc L st h r, k pc L st h = some r → ∃ n, kN n pc L st h = some r) (hkm : ∀ n m pc L st h r, n ≤ m → kN n pc L st h = some r → kN m pc L st h = some r) (hc : ∀ j av h r, call j av h = some r → ∃ n, cN n j av h = some r) (hcm : ∀ n m j av h r, n ≤ m → cN n j av h = some r → cN m j av h = some r) (e : exec1 P gs B j pc op a b nx L st h k call = some r) : ∃ n, exec1 P gs B j pc op a b nx L st h (kN n) (cN n) = some r := by
  by_cases h39 : op = 39
  · subst h39
    exact ⟨0, e⟩
  by_cases h40 : op = 40
  · subst h40
    exact ⟨0, e⟩
  by_cases h45 : op = 45
  · subst h45
    exact ⟨0, e⟩
  by_cases h41 : op = 41
  · subst h41
    exact ⟨0, e⟩
  unfold exec1 at e ⊢
  split at e
  all_goals (try (split at e))
  all_goals (try (split at e))
  all_goals (try (split at e))
  all_goals (try (split at e))
  all_goals first
    | (cases e; done)
    | exact absurd rfl h39
    | exact absurd rfl h40
    | exact absurd rfl h41
    | exact absurd rfl h45
    | (obtain ⟨n, e2⟩ := hk1 _ _ _ _ _ e; refine ⟨n, ?_⟩; first
        | exact e2
        | (simp only [*, if_true, if_false, and_self, true_and, and_true, not_true_eq_false, not_false_eq_true]; done)
        | (simp only [*, if_true, if_false, and_self, true_and, and_true, not_true_eq_false, not_false_eq_true]; exact e2)
        | ((repeat (first | rw [if_pos (by assumption)] | rw [if_neg (by assumption)])); exact e2))
    | (obtain ⟨n, e2⟩ := aft_fin (qN := fun n => cN n _ _ _) hk1 hkm (fun r q => hc _ _ _ _ q) (fun n m r => hcm n m _ _ _ r) e; refine ⟨n, ?_⟩; first
        | exact e2
        | (simp only [*, if_true, if_false, and_self, true_and, and_true, not_true_eq_false, not_false_eq_true]; exact e2)
        | ((repeat (first | rw [if_pos (by assumption)] | rw [if_neg (by assumption)])); exact e2))
    | (obtain ⟨n, e2⟩ := thr_fin hk1 e; refine ⟨n, ?_⟩; first
        | exact e2
        | (simp only [*, if_true, if_false, and_self, true_and, and_true, not_true_eq_false, not_false_eq_true]; exact e2)
        | ((repeat (first | rw [if_pos (by assumption)] | rw [if_neg (by assumption)])); exact e2))
    | (obtain ⟨n, e2⟩ := brc_fin (tN := fun n => kN n _ _ _ _) (fN := fun n => kN n _ _ _ _) (fun r q => hk1 _ _ _ _ _ q) (fun r q => hk1 _ _ _ _ _ q) e; refine ⟨n, ?_⟩; first
        | exact e2
        | (simp only [*, if_true, if_false, and_self, true_and, and_true, not_true_eq_false, not_false_eq_true]; exact e2)
        | ((repeat (first | rw [if_pos (by assumption)] | rw [if_neg (by assumption)])); exact e2))
end FIN
section EV2
variable {P : PT} {gs : Nat → AV} {B : Nat}
theorem arun_det {n m d j pc : Nat} {L st : List AV} {h : AH} {r r2 : Rs} (e : arun P gs B n d j pc L st h = some r) (e2 : arun P gs B m d j pc L st h = some r2) : r = r2 := by
  have h1 := arun_le (Nat.le_max_left n m) e
  have h2 := arun_le (Nat.le_max_right n m) e2
  rw [h1] at h2
  exact Option.some.inj h2
theorem ev_iff {d j pc : Nat} {L st : List AV} {h : AH} {r : Rs} : ev P gs B d j pc L st h = some r ↔ ∃ n, arun P gs B n d j pc L st h = some r := by
  unfold ev
  constructor
  · intro e
    split at e
    · next hx =>
      obtain ⟨n, hn⟩ := Classical.choose_spec hx
      exact ⟨n, by rw [hn]; exact e⟩
    · cases e
  · rintro ⟨n, hn⟩
    have hx : ∃ r n, arun P gs B n d j pc L st h = some r := ⟨r, n, hn⟩
    rw [dif_pos hx]
    obtain ⟨m, hm⟩ := Classical.choose_spec hx
    exact congrArg some (arun_det hm hn)
/-- a call, over any meaning of the runs -/
def cll (P : PT) (f : Nat → Nat → Nat → List AV → List AV → AH → Option Rs) (d j' : Nat) (av : List AV) (h' : AH) : Option Rs := match d with
  | 0 => none
  | d' + 1 => if (entL av).length ≤ pNl P j' then f d' j' 0 (ent (pNl P j') av) [] h' else none
/-- one step, over any meaning of the runs -/
def stp (P : PT) (gs : Nat → AV) (B : Nat) (f : Nat → Nat → Nat → List AV → List AV → AH → Option Rs) (d j pc : Nat) (L st : List AV) (h : AH) : Option Rs := match pCode P j pc with
  | none => none
  | some i => exec1 P gs B j pc i.1 i.2.1 i.2.2.1 i.2.2.2 L st h (f d j) (cll P f d)
theorem cll_more {f g : Nat → Nat → Nat → List AV → List AV → AH → Option Rs} {d j' : Nat} {av : List AV} {h' : AH} {r : Rs} (hfg : ∀ d j pc L st h r, f d j pc L st h = some r → g d j pc L st h = some r) (q : cll P f d j' av h' = some r) : cll P g d j' av h' = some r := by
  cases d with
  | zero => cases q
  | succ d =>
    unfold cll at q ⊢
    dsimp only at q ⊢
    split at q
    · next hq => rw [if_pos hq]; exact hfg _ _ _ _ _ _ _ q
    · cases q
theorem cll_fin {f : Nat → Nat → Nat → List AV → List AV → AH → Option Rs} {fN : Nat → Nat → Nat → Nat → List AV → List AV → AH → Option Rs} {d j' : Nat} {av : List AV} {h' : AH} {r : Rs} (hfg : ∀ d j pc L st h r, f d j pc L st h = some r → ∃ n, fN n d j pc L st h = some r) (q : cll P f d j' av h' = some r) : ∃ n, cll P (fN n) d j' av h' = some r := by
  cases d with
  | zero => cases q
  | succ d =>
    unfold cll at q ⊢
    dsimp only at q ⊢
    split at q
    · next hq =>
      obtain ⟨n, hn⟩ := hfg _ _ _ _ _ _ _ q
      exact ⟨n, by rw [if_pos hq]; exact hn⟩
    · cases q
theorem arun_stp {n d j pc : Nat} {L st : List AV} {h : AH} : arun P gs B (n + 1) d j pc L st h = stp P gs B (arun P gs B n) d j pc L st h := by
  unfold arun stp
  cases pCode P j pc with
  | none => rfl
  | some i => cases d <;> rfl
theorem ev_eq (d j pc : Nat) (L st : List AV) (h : AH) : ev P gs B d j pc L st h = stp P gs B (ev P gs B) d j pc L st h := by
  apply Option.ext
  intro r
  constructor
  · intro e
    have e : ev P gs B d j pc L st h = some r := e
    obtain ⟨n, hn⟩ := ev_iff.mp e
    show stp P gs B (ev P gs B) d j pc L st h = some r
    cases n with
    | zero => cases hn
    | succ n =>
      rw [arun_stp] at hn
      unfold stp at hn ⊢
      split at hn
      · cases hn
      · next i hi =>
        exact exec1_more (fun pc L st h r q => ev_iff.mpr ⟨n, q⟩) (fun j' av h' r q => cll_more (fun d j pc L st h r q => ev_iff.mpr ⟨n, q⟩) q) hn
  · intro e
    have e : stp P gs B (ev P gs B) d j pc L st h = some r := e
    show ev P gs B d j pc L st h = some r
    refine ev_iff.mpr ?_
    unfold stp at e
    split at e
    · cases e
    · next i hi =>
      obtain ⟨n, hn⟩ := exec1_fin (kN := fun n => arun P gs B n d j) (cN := fun n => cll P (arun P gs B n) d)
        (fun pc L st h r q => ev_iff.mp q) (fun n m pc L st h r hnm q => arun_le hnm q) (fun j' av h' r q => cll_fin (fN := fun n => arun P gs B n) (fun d j pc L st h r q => ev_iff.mp q) q) (fun n m j' av h' r hnm q => cll_more (fun d j pc L st h r q => arun_le hnm q) q) e
      refine ⟨n + 1, ?_⟩
      rw [arun_stp]
      unfold stp
      rw [hi]
      exact hn
/-- steps up to the places of rest: u says where a run rests -/
def stps (P : PT) (gs : Nat → AV) (B : Nat) (u : Nat → Nat → Bool) : Nat → (Nat → Nat → Nat → List AV → List AV → AH → Option Rs) → Nat → Nat → Nat → List AV → List AV → AH → Option Rs
  | 0, f, d, j, pc, L, st, h => f d j pc L st h
  | n + 1, f, d, j, pc, L, st, h => cond (u j pc) (f d j pc L st h) (stp P gs B (fun d' j' pc' L' st' h' => cond (Nat.beq j j') (stps P gs B u n f d' j' pc' L' st' h') (f d' j' pc' L' st' h')) d j pc L st h)
theorem stps_ev {u : Nat → Nat → Bool} : ∀ (n d j pc : Nat) (L st : List AV) (h : AH), stps P gs B u n (ev P gs B) d j pc L st h = ev P gs B d j pc L st h
  | 0, d, j, pc, L, st, h => rfl
  | n + 1, d, j, pc, L, st, h => by
    unfold stps
    cases u j pc with
    | true => rfl
    | false =>
      refine Eq.trans ?_ (ev_eq d j pc L st h).symm
      dsimp only [cond]
      congr 1
      funext d' j' pc' L' st' h'
      cases Nat.beq j j' with
      | true => exact stps_ev n d' j' pc' L' st' h'
      | false => rfl
/-- a stretch of a run, from one place to the places of rest -/
theorem ev_go (u : Nat → Nat → Bool) (n d j pc : Nat) (L st : List AV) (h : AH) : ev P gs B d j pc L st h = stp P gs B (fun d' j' pc' L' st' h' => cond (Nat.beq j j') (stps P gs B u n (ev P gs B) d' j' pc' L' st' h') (ev P gs B d' j' pc' L' st' h')) d j pc L st h := by
  rw [ev_eq]
  congr 1
  funext d' j' pc' L' st' h'
  cases Nat.beq j j' with
  | true => exact (stps_ev n d' j' pc' L' st' h').symm
  | false => rfl
end EV2
