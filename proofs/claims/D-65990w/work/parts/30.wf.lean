/-! L3: values keep to their types: cells, locals, what comes back -/
def WF (P : PT) (h : AH) : Prop := (∀ a c k, hk h a = (1, c) → cn (vt (pFt P c k)) (hv h a k) ∧ (pFt P c k = 3 → hv h a k = 0 ∨ hv h a k = 1)) ∧ ∀ a t m i, hk h a = (t + 2, m) → ea t (hv h a i) ∧ m < 2147483648
def OKs (l : List AV) : Prop := ∀ q ∈ l, cn q.1 q.2
theorem OKs.nil : OKs [] := fun q hq => by cases hq
theorem OKs.cons {q : AV} {l : List AV} (h1 : cn q.1 q.2) (h2 : OKs l) : OKs (q :: l) := fun z hz => by
  rcases List.mem_cons.mp hz with rfl | hz
  · exact h1
  · exact h2 z hz
theorem OKs.hd {q : AV} {l : List AV} (h : OKs (q :: l)) : cn q.1 q.2 := h q List.mem_cons_self
theorem OKs.tl {q : AV} {l : List AV} (h : OKs (q :: l)) : OKs l := fun z hz => h z (List.mem_cons_of_mem _ hz)
theorem OKs.set {l : List AV} {k : Nat} {q : AV} (h : OKs l) (hq : cn q.1 q.2) : OKs (l.set k q) := fun z hz => by
  rcases List.mem_or_eq_of_mem_set hz with hz | rfl
  · exact h z hz
  · exact hq
theorem cn90 : cn 9 0 := (by decide : (0 : Int) ≤ 0)
theorem OKs.st1 {l : List AV} {k : Nat} {q : AV} (h : OKs l) (hq : cn q.1 q.2) : OKs (lst1 l k q) := by
  unfold lst1
  split
  · exact h.set hq
  · split
    · exact (h.set cn90).set hq
    · exact h.set hq
theorem OKs.st2 {l : List AV} {k : Nat} {q : AV} (h : OKs l) (hq : cn q.1 q.2) : OKs (lst2 l k q) := (h.st1 hq).set cn90
theorem OKs.entL : ∀ {l : List AV}, OKs l → OKs (entL l)
  | [], h => h
  | q :: r, h => by
    unfold _root_.Jvm.Pilot.CPartDesignerLaw_law_r7324_a227e6.entL
    split
    · exact OKs.cons h.hd (OKs.cons cn90 h.tl.entL)
    · exact OKs.cons h.hd h.tl.entL
theorem OKs.app {l m : List AV} (h1 : OKs l) (h2 : OKs m) : OKs (l ++ m) := fun z hz => by
  rcases List.mem_append.mp hz with hz | hz
  · exact h1 z hz
  · exact h2 z hz
theorem OKs.ent {n : Nat} {l : List AV} (h : OKs l) : OKs (ent n l) := h.entL.app (fun z hz => by rw [(List.mem_replicate.mp hz).2]; exact cn90)
theorem OKs.rev {l : List AV} (h : OKs l) : OKs l.reverse := fun z hz => h z (List.mem_reverse.mp hz)
theorem OKs.take {l : List AV} {k : Nat} (h : OKs l) : OKs (l.take k) := fun z hz => h z (List.mem_of_mem_take hz)
theorem OKs.drop {l : List AV} {k : Nat} (h : OKs l) : OKs (l.drop k) := fun z hz => h z (List.mem_of_mem_drop hz)
theorem OKs.get {l : List AV} {k : Nat} {q : AV} (h : OKs l) (e : l[k]? = some q) : cn q.1 q.2 := h q (List.mem_of_getElem? e)
section WFS
variable {P : PT} {gs : Nat → AV} {B : Nat} {j pc op a : Nat} {b : Int} {nx : Nat} {L st : List AV} {h : AH} {k : Nat → List AV → List AV → AH → Option Rs} {call : Nat → List AV → AH → Option Rs} {r : Rs}
def Fine (P : PT) (r : Rs) : Prop := WF P r.2 ∧ cn r.1.2.1 r.1.2.2 ∧ (r.1.1 ≠ 0 → 0 ≤ r.1.2.2)
theorem WF.new {kd : Nat × Nat} {sz : Nat} (w : WF P h) (hm : ∀ t m, kd = (t + 2, m) → m < 2147483648) : WF P (hnew h kd sz) := by
  refine ⟨fun a c k e => ?_, fun a t m i e => ?_⟩
  · rw [hv_new]
    by_cases h1 : a = hnx h
    · rw [if_pos h1]
      refine ⟨?_, fun _ => Or.inl rfl⟩
      match vt (pFt P c k) with
      | 0 => exact ⟨by decide, by decide⟩
      | 1 => exact ⟨by decide, by decide⟩
      | n + 2 => exact (by decide : (0 : Int) ≤ 0)
    · rw [if_neg h1]
      rw [hk_new, if_neg h1] at e
      exact w.1 a c k e
  · rw [hv_new]
    by_cases h1 : a = hnx h
    · rw [if_pos h1]
      rw [hk_new, if_pos h1] at e
      exact ⟨ea_0 t, hm _ _ e⟩
    · rw [if_neg h1]
      rw [hk_new, if_neg h1] at e
      exact w.2 a t m i e
theorem WF.setF {x c f : Nat} {v : Int} (w : WF P h) (hx : hk h x = (1, c)) (hc : cn (vt (pFt P c f)) v) (ho : okp (pFt P c f) v = true) : WF P (hset h x f v) := by
  refine ⟨fun a c' k e => ?_, fun a t m i e => ?_⟩
  · rw [hv_set]
    replace e : hk h a = (1, c') := e
    by_cases h1 : a = x
    · subst h1
      rw [hx] at e
      cases e
      rw [if_pos rfl]
      by_cases h2 : k = f
      · subst h2
        rw [if_pos rfl]
        refine ⟨hc, fun h3 => ?_⟩
        rw [h3] at ho
        have ho : (v == 0 || v == 1) = true := ho
        simp at ho
        exact ho
      · rw [if_neg h2]; exact w.1 _ _ k hx
    · rw [if_neg h1]; exact w.1 a c' k e
  · rw [hv_set]
    replace e : hk h a = (t + 2, m) := e
    by_cases h1 : a = x
    · subst h1
      rw [hx] at e
      have := congrArg Prod.fst e
      have : (1 : Nat) = t + 2 := this
      omega
    · rw [if_neg h1]; exact w.2 a t m i e
theorem WF.setA {x t f : Nat} {v : Int} (w : WF P h) (hx : (hk h x).1 = t + 2) (hc : ea t v) : WF P (hset h x f v) := by
  refine ⟨fun a c' k e => ?_, fun a t' m i e => ?_⟩
  · rw [hv_set]
    replace e : hk h a = (1, c') := e
    by_cases h1 : a = x
    · subst h1
      rw [e] at hx
      have hx : (1 : Nat) = t + 2 := hx
      omega
    · rw [if_neg h1]; exact w.1 a c' k e
  · rw [hv_set]
    replace e : hk h a = (t' + 2, m) := e
    by_cases h1 : a = x
    · subst h1
      rw [if_pos rfl]
      rw [e] at hx
      have hx : t' + 2 = t + 2 := hx
      have : t' = t := by omega
      subst this
      split
      · exact ⟨hc, (w.2 _ _ m i e).2⟩
      · exact w.2 _ _ m i e
    · rw [if_neg h1]; exact w.2 a t' m i e
theorem WF.cpy {s d sp dp m t : Nat} (w : WF P h) (hs : (hk h s).1 = t + 2) (hd : (hk h d).1 = t + 2) : WF P (hcpy h s d sp dp m) := by
  refine ⟨fun a c' k e => ?_, fun a t' m' i e => ?_⟩
  · rw [hv_cpy]
    replace e : hk h a = (1, c') := e
    rw [if_neg]
    · exact w.1 a c' k e
    · rintro ⟨rfl, _⟩
      rw [e] at hd
      have hd : (1 : Nat) = t + 2 := hd
      omega
  · rw [hv_cpy]
    replace e : hk h a = (t' + 2, m') := e
    split
    · next q =>
      obtain ⟨q1, _⟩ := q
      subst q1
      rw [e] at hd
      have hd : t' + 2 = t + 2 := hd
      have : t' = t := by omega
      subst this
      exact ⟨(w.2 s t' (hk h s).2 _ (Prod.ext hs rfl)).1, (w.2 _ _ m' 0 e).2⟩
    · exact w.2 a t' m' i e
theorem thr_fine {x : Int} (hk1 : ∀ pc L st h r, k pc L st h = some r → OKs L → OKs st → WF P h → Fine P r) (hx : 0 ≤ x) (hL : OKs L) (w : WF P h) (e : thr P j pc L x h k = some r) : Fine P r := by
  unfold thr at e
  split at e
  · exact hk1 _ _ _ _ _ e hL (OKs.cons hx OKs.nil) w
  · cases e; exact ⟨w, hx, fun _ => hx⟩
  · cases e
theorem aft_fine {rest : List AV} {q : Option Rs} (hk1 : ∀ pc L st h r, k pc L st h = some r → OKs L → OKs st → WF P h → Fine P r) (hq : ∀ r, q = some r → Fine P r) (hL : OKs L) (hr : OKs rest) (e : aft P j pc nx L rest k q = some r) : Fine P r := by
  unfold aft at e
  split at e
  · cases e
  · next v h2 =>
    obtain ⟨h1, h3, _⟩ := hq _ rfl
    refine hk1 _ _ _ _ _ e hL ?_ h1
    split
    · exact hr
    · exact OKs.cons h3 hr
  · next z v h2 hz =>
    obtain ⟨h1, h3, h4⟩ := hq _ rfl
    exact thr_fine hk1 (h4 hz) hL h1 e
theorem nw_small {t0 n0 : Nat} (h : n0 ≤ 16777216) : ∀ t m, (t0 + 2, n0) = (t + 2, m) → m < 2147483648 := fun t m e => by
  have := congrArg Prod.snd e
  have : n0 = m := this
  omega
theorem nw_obj {c : Nat} : ∀ t m, ((1, c) : Nat × Nat) = (t + 2, m) → m < 2147483648 := fun t m e => by
  have := congrArg Prod.fst e
  have : (1 : Nat) = t + 2 := this
  omega
theorem len_cn {x : Nat} (w : WF P h) (hx : 2 ≤ (hk h x).1) : cn 0 ((hk h x).2 : Int) := by
  have h9 := (w.2 x ((hk h x).1 - 2) (hk h x).2 0 (Prod.ext (show (hk h x).1 = (hk h x).1 - 2 + 2 by omega) rfl)).2
  exact ⟨by omega, by omega⟩
set_option maxHeartbeats 8000000 in
theorem exec1_fine (hg9 : ∀ a, cn (gs a).1 (gs a).2) (hC : op = 0 → cn 0 b) (hC1 : op = 1 → cn 1 b) (hk1 : ∀ pc L st h r, k pc L st h = some r → OKs L → OKs st → WF P h → Fine P r) (hc : ∀ j' av h r, call j' av h = some r → OKs av → WF P h → Fine P r) (hL : OKs L) (hs : OKs st) (w : WF P h) (e : exec1 P gs B j pc op a b nx L st h k call = some r) : Fine P r := by
  unfold exec1 at e
  split at e
  all_goals (try (split at e))
  all_goals (try (split at e))
  all_goals (try (split at e))
  all_goals (try (split at e))
  all_goals first
    | (cases e; done)
    | exact hk1 _ _ _ _ _ e hL (OKs.cons (hC rfl) hs) w
    | exact hk1 _ _ _ _ _ e hL (OKs.cons (hC1 rfl) hs) w
    | exact hk1 _ _ _ _ _ e hL (OKs.cons (show (0 : Int) ≤ 0 by decide) hs) w
    | (next q hq hh => exact hk1 _ _ _ _ _ e hL (OKs.cons (hL.get hq) hs) w)
    | exact hk1 _ _ _ _ _ e (hL.st1 hs.hd) hs.tl w
    | exact hk1 _ _ _ _ _ e (hL.st2 hs.hd) hs.tl w
    | exact hk1 _ _ _ _ _ e (hL.st1 (w32_cn _)) hs w
    | exact hk1 _ _ _ _ _ e hL (OKs.cons (bop32_cn _ _ _) hs.tl.tl) w
    | exact hk1 _ _ _ _ _ e hL (OKs.cons (bop64_cn _ _ _) hs.tl.tl) w
    | exact hk1 _ _ _ _ _ e hL (OKs.cons (sop64_cn _ _ _) hs.tl.tl) w
    | exact hk1 _ _ _ _ _ e hL (OKs.cons (cmp64_cn _ _) hs.tl.tl) w
    | (next hx => exact hk1 _ _ _ _ _ e hL (OKs.cons (uop_cn (by rw [← hx]; exact hs.hd)) hs.tl) w)
    | exact hk1 _ _ _ _ _ e hL (OKs.cons hs.hd hs) w
    | exact hk1 _ _ _ _ _ e hL (OKs.cons hs.hd (OKs.cons hs.tl.hd (OKs.cons hs.hd hs.tl.tl))) w
    | exact hk1 _ _ _ _ _ e hL (OKs.cons hs.hd (OKs.cons hs.tl.hd hs)) w
    | exact hk1 _ _ _ _ _ e hL hs.tl w
    | exact hk1 _ _ _ _ _ e hL hs w
    | (rcases brc_or a _ _ (k _ _ _ _) (k _ _ _ _) with q | q <;> (rw [q] at e; exact hk1 _ _ _ _ _ e hL hs.tl w))
    | (rcases brc_or a _ _ (k _ _ _ _) (k _ _ _ _) with q | q <;> (rw [q] at e; exact hk1 _ _ _ _ _ e hL hs.tl.tl w))
    | (next hg => exact hk1 _ _ _ _ _ e hL (OKs.cons (w.1 _ _ _ hg.2).1 hs.tl) w)
    | (next hq hg => exact hk1 _ _ _ _ _ e hL hs.tl.tl (w.setF hg.2.1 (by rw [← hq.2]; exact hs.hd) hg.2.2.2))
    | (next hg => exact hk1 _ _ _ _ _ e hL (OKs.cons (ea_cn (w.2 _ _ _ _ (Prod.ext hg.2.1 rfl)).1) hs.tl.tl) w)
    | (next hq hg => exact hk1 _ _ _ _ _ e hL hs.tl.tl.tl (w.setA hg.2.1 (anar_ea (by rw [← hq.2.2]; exact hs.hd))))
    | (next hq hg => exact hk1 _ _ _ _ _ e hL hs.tl.tl.tl (w.setA (t := a + 4) hg.2.1 (show (0 : Int) ≤ _ by rcases hg.2.2.2.2.2 with z | z <;> omega)))
    | (next hg => exact hk1 _ _ _ _ _ e hL (OKs.cons (len_cn w hg.2) hs.tl) w)
    | (next hg => exact hk1 _ _ _ _ _ e hL (OKs.cons (show (0 : Int) ≤ _ by omega) hs.tl) (w.new (nw_small (by omega))))
    | exact hk1 _ _ _ _ _ e hL (OKs.cons (show (0 : Int) ≤ _ by omega) hs) (w.new nw_obj)
    | exact hk1 _ _ _ _ _ e hL (OKs.cons (hg9 _) hs) w
    | (next hd _ _ => exact aft_fine hk1 (fun r q => hc _ _ _ _ q (OKs.cons (OKs.hd (q := _) (l := _) (by rw [← hd]; exact hs.drop)) hs.take.rev) w) hL (OKs.tl (q := _) (by rw [← hd]; exact hs.drop)) e)
    | exact aft_fine hk1 (fun r q => hc _ _ _ _ q hs.take.rev w) hL hs.drop e
    | exact thr_fine hk1 (show (0 : Int) ≤ _ by omega) hL w e
    | (next hg => exact hk1 _ _ _ _ _ e hL hs.tl.tl.tl.tl.tl (w.cpy hg.2.2.2.1 hg.2.2.1))
    | (cases e; exact ⟨w, hs.hd, fun z => absurd rfl z⟩)
    | (cases e; exact ⟨w, cn90, fun z => absurd rfl z⟩)
theorem arun_fine (hg9 : ∀ a, cn (gs a).1 (gs a).2) (hC : ∀ j pc i, pCode P j pc = some i → (i.1 = 0 → cn 0 i.2.2.1) ∧ (i.1 = 1 → cn 1 i.2.2.1)) {n : Nat} : ∀ {d j pc : Nat} {L st : List AV} {h : AH} {r : Rs}, arun P gs B n d j pc L st h = some r → OKs L → OKs st → WF P h → Fine P r := by
  induction n with
  | zero => intro d j pc L st h r e; cases e
  | succ n ih =>
    intro d j pc L st h r e hL hs w
    unfold arun at e
    split at e
    · cases e
    · next i hi =>
      refine exec1_fine hg9 (hC _ _ _ hi).1 (hC _ _ _ hi).2 (fun pc L st h r q => ih q) (fun j' av h r q ha w => ?_) hL hs w e
      split at q
      · cases q
      · split at q
        · exact ih q ha.ent OKs.nil w
        · cases q
end WFS
