/-! L1: cells only come; what is found is found with more time, too -/
def Mono (h : AH) (r : Rs) : Prop := hnx h ≤ hnx r.2 ∧ hus h ≤ hus r.2
theorem Mono.set {h : AH} {a k : Nat} {x : Int} {r : Rs} (h1 : Mono (hset h a k x) r) : Mono h r := h1
theorem Mono.cpy {h : AH} {a b c d n : Nat} {r : Rs} (h1 : Mono (hcpy h a b c d n) r) : Mono h r := h1
theorem Mono.new {h : AH} {kd : Nat × Nat} {sz : Nat} {r : Rs} (h1 : Mono (hnew h kd sz) r) : Mono h r := ⟨Nat.le_trans (Nat.le_succ _) h1.1, Nat.le_trans (Nat.le_add_right _ _) h1.2⟩
theorem brc_or {α : Type} (o : Nat) (x y : Int) (t f : α) : brc o x y t f = t ∨ brc o x y t f = f := by
  unfold brc
  split <;> split <;> first | exact Or.inl rfl | exact Or.inr rfl
section MONO
variable {P : PT} {gs : Nat → AV} {B : Nat} {j pc op a : Nat} {b : Int} {nx : Nat} {L st : List AV} {h : AH} {k : Nat → List AV → List AV → AH → Option Rs} {call : Nat → List AV → AH → Option Rs} {r : Rs}
theorem thr_mono {x : Int} (hk1 : ∀ pc L st h r, k pc L st h = some r → Mono h r) (e : thr P j pc L x h k = some r) : Mono h r := by
  unfold thr at e
  split at e
  · exact hk1 _ _ _ _ _ e
  · cases e; exact ⟨Nat.le_refl _, Nat.le_refl _⟩
  · cases e
theorem aft_mono {rest : List AV} {q : Option Rs} (hk1 : ∀ pc L st h r, k pc L st h = some r → Mono h r) (hq : ∀ r, q = some r → Mono h r) (e : aft P j pc nx L rest k q = some r) : Mono h r := by
  unfold aft at e
  split at e
  · cases e
  · next v h2 =>
    have h1 := hq _ rfl
    have h2 := hk1 _ _ _ _ _ e
    exact ⟨Nat.le_trans h1.1 h2.1, Nat.le_trans h1.2 h2.2⟩
  · next z v h2 hz =>
    have h1 := hq _ rfl
    have h2 := thr_mono hk1 e
    exact ⟨Nat.le_trans h1.1 h2.1, Nat.le_trans h1.2 h2.2⟩
set_option maxHeartbeats 4000000 in
theorem exec1_mono (hk1 : ∀ pc L st h r, k pc L st h = some r → Mono h r) (hc : ∀ j av h r, call j av h = some r → Mono h r) (e : exec1 P gs B j pc op a b nx L st h k call = some r) : Mono h r := by
  unfold exec1 at e
  split at e
  all_goals (try (split at e))
  all_goals (try (split at e))
  all_goals (try (split at e))
  all_goals (try (split at e))
  all_goals first
    | (cases e; done)
    | exact hk1 _ _ _ _ _ e
    | exact (hk1 _ _ _ _ _ e).set
    | exact (hk1 _ _ _ _ _ e).cpy
    | exact (hk1 _ _ _ _ _ e).new
    | exact aft_mono hk1 (fun r q => hc _ _ _ _ q) e
    | exact thr_mono hk1 e
    | (cases e; exact ⟨Nat.le_refl _, Nat.le_refl _⟩)
    | (rcases brc_or a _ _ (k _ _ _ _) (k _ _ _ _) with q | q <;> (rw [q] at e; exact hk1 _ _ _ _ _ e))
theorem arun_mono {n : Nat} : ∀ {d j pc : Nat} {L st : List AV} {h : AH} {r : Rs}, arun P gs B n d j pc L st h = some r → Mono h r := by
  induction n with
  | zero => intro d j pc L st h r e; cases e
  | succ n ih =>
    intro d j pc L st h r e
    unfold arun at e
    split at e
    · cases e
    · refine exec1_mono (fun pc L st h r q => ih q) (fun j av h r q => ?_) e
      split at q
      · cases q
      · split at q
        · exact ih q
        · cases q
/-- more time: the same -/
theorem thr_more {x : Int} {k2 : Nat → List AV → List AV → AH → Option Rs} (hk1 : ∀ pc L st h r, k pc L st h = some r → k2 pc L st h = some r) (e : thr P j pc L x h k = some r) : thr P j pc L x h k2 = some r := by
  unfold thr at e ⊢
  split at e
  · exact hk1 _ _ _ _ _ e
  · exact e
  · cases e
theorem aft_more {rest : List AV} {q q2 : Option Rs} {k2 : Nat → List AV → List AV → AH → Option Rs} (hk1 : ∀ pc L st h r, k pc L st h = some r → k2 pc L st h = some r) (hq : ∀ r, q = some r → q2 = some r) (e : aft P j pc nx L rest k q = some r) : aft P j pc nx L rest k2 q2 = some r := by
  unfold aft at e
  split at e
  · cases e
  · next v h2 =>
    rw [hq _ rfl]
    exact hk1 _ _ _ _ _ e
  · next z v h2 hz =>
    rw [hq _ rfl]
    unfold aft
    split
    · next q9 => cases q9
    · next v9 h9 q9 => cases q9; exact absurd rfl hz
    · next z9 v9 h9 hz9 q9 => cases q9; exact thr_more hk1 e
theorem brc_more {o : Nat} {x y : Int} {t f t2 f2 : Option Rs} (ht : ∀ r, t = some r → t2 = some r) (hf : ∀ r, f = some r → f2 = some r) (e : brc o x y t f = some r) : brc o x y t2 f2 = some r := by
  unfold brc at e ⊢
  split at e <;> split at e <;> first
    | (rw [if_pos (by assumption)]; exact ht _ e)
    | (rw [if_pos (by assumption)]; exact hf _ e)
    | (rw [if_neg (by assumption)]; exact ht _ e)
    | (rw [if_neg (by assumption)]; exact hf _ e)
set_option maxHeartbeats 8000000 in
theorem exec1_more {k2 : Nat → List AV → List AV → AH → Option Rs} {call2 : Nat → List AV → AH → Option Rs} (hk1 : ∀ pc L st h r, k pc L st h = some r → k2 pc L st h = some r) (hc : ∀ j av h r, call j av h = some r → call2 j av h = some r) (e : exec1 P gs B j pc op a b nx L st h k call = some r) : exec1 P gs B j pc op a b nx L st h k2 call2 = some r := by
  unfold exec1 at e ⊢
  split at e
  all_goals (try (split at e))
  all_goals (try (split at e))
  all_goals (try (split at e))
  all_goals (try (split at e))
  all_goals first
    | (cases e; done)
    | ((try simp only [*, if_true, if_false, and_self, true_and, and_true, not_true_eq_false, not_false_eq_true]); first
        | exact hk1 _ _ _ _ _ e
        | exact aft_more hk1 (fun r q => hc _ _ _ _ q) e
        | exact thr_more hk1 e
        | exact e
        | exact brc_more (fun r q => hk1 _ _ _ _ _ q) (fun r q => hk1 _ _ _ _ _ q) e)
    | ((repeat (first | rw [if_pos (by assumption)] | rw [if_neg (by assumption)])); first
        | exact hk1 _ _ _ _ _ e
        | exact aft_more hk1 (fun r q => hc _ _ _ _ q) e
        | exact thr_more hk1 e
        | exact e
        | exact brc_more (fun r q => hk1 _ _ _ _ _ q) (fun r q => hk1 _ _ _ _ _ q) e)
theorem arun_more {n : Nat} : ∀ {d j pc : Nat} {L st : List AV} {h : AH} {r : Rs}, arun P gs B n d j pc L st h = some r → arun P gs B (n + 1) d j pc L st h = some r := by
  induction n with
  | zero => intro d j pc L st h r e; cases e
  | succ n ih =>
    intro d j pc L st h r e
    unfold arun at e
    unfold arun
    split at e
    · cases e
    · refine exec1_more (fun pc L st h r q => ih q) (fun j av h r q => ?_) e
      split at q
      · cases q
      · split at q
        · next hq => rw [if_pos hq]; exact ih q
        · cases q
theorem arun_le {n m : Nat} (hnm : n ≤ m) {d j pc : Nat} {L st : List AV} {h : AH} {r : Rs} (e : arun P gs B n d j pc L st h = some r) : arun P gs B m d j pc L st h = some r := by
  induction hnm with
  | refl => exact e
  | step _ ih => exact arun_more ih
end MONO
