/-! L1: the whole: what the abstract machine finds, the machine does -/
theorem entL_args : ∀ (av : List AV) (i k t : Nat) (x : Int), (entL av)[k]? = some (t, x) → t ≤ 2 → (i + k, vv t x) ∈ lv_args i (av.map vp) ∧ (t, x) ∈ av
  | [], i, k, t, x, h, _ => by simp [entL] at h
  | q :: r, i, k, t, x, h, ht => by
    unfold entL at h
    rw [List.map_cons]
    unfold lv_args
    have hcat : (vp q).category = if q.1 = 1 then 2 else 1 := vv_cat q.1 q.2
    split at h
    · next h1 =>
      rw [hcat, if_pos h1, if_pos rfl]
      match k, h with
      | 0, h =>
        have : q = (t, x) := Option.some.inj h
        subst this
        exact ⟨List.mem_cons_self, List.mem_cons_self⟩
      | 1, h =>
        have : ((9, 0) : AV) = (t, x) := Option.some.inj h
        cases this
        exact absurd ht (by decide)
      | k + 2, h =>
        have h : (entL r)[k]? = some (t, x) := h
        obtain ⟨g1, g2⟩ := entL_args r (i + 2) k t x h ht
        refine ⟨List.mem_cons_of_mem _ ?_, List.mem_cons_of_mem _ g2⟩
        rw [show i + (k + 2) = i + 2 + k by omega]
        exact g1
    · next h1 =>
      rw [hcat, if_neg h1, if_neg (by decide)]
      match k, h with
      | 0, h =>
        have : q = (t, x) := Option.some.inj h
        subst this
        exact ⟨List.mem_cons_self, List.mem_cons_self⟩
      | k + 1, h =>
        have h : (entL r)[k]? = some (t, x) := h
        obtain ⟨g1, g2⟩ := entL_args r (i + 1) k t x h ht
        refine ⟨List.mem_cons_of_mem _ ?_, List.mem_cons_of_mem _ g2⟩
        rw [show i + (k + 1) = i + 1 + k by omega]
        exact g1
theorem entL_len : ∀ av : List AV, (lg_sl (av.map vp)).length = (entL av).length
  | [] => rfl
  | q :: r => by
    have hcat : (vp q).category = if q.1 = 1 then 2 else 1 := vv_cat q.1 q.2
    rw [List.map_cons]
    unfold lg_sl entL
    rw [List.flatMap_cons, List.length_append]
    have ih := entL_len r
    unfold lg_sl at ih
    rw [ih, hcat]
    by_cases h : q.1 = 1
    · rw [if_pos h, if_pos rfl, if_pos h]
      simp
      omega
    · rw [if_neg h, if_neg (by decide), if_neg h]
      simp
      omega
theorem LR_entry {av : List AV} {n : Nat} (hl : (entL av).length ≤ n) (hc : ∀ q ∈ av, cn q.1 q.2) : LR (lg_sl (av.map vp) ++ List.replicate (n - (lg_sl (av.map vp)).length) Slot.unset).toArray n (ent n av) := by
  have h := lv_entry (av.map vp) (n := n) (by rw [entL_len]; exact hl)
  refine ⟨h.1, h.2.1, fun k t x hk ht => ?_⟩
  unfold ent at hk
  by_cases hlt : k < (entL av).length
  · rw [List.getElem?_append_left hlt] at hk
    obtain ⟨g1, g2⟩ := entL_args av 0 k t x hk ht
    rw [Nat.zero_add] at g1
    exact ⟨h.2.2 _ g1, hc _ g2⟩
  · rw [List.getElem?_append_right (by omega)] at hk
    have := List.mem_of_getElem? hk
    have := (List.mem_replicate.mp this).2
    cases this
    exact absurd ht (by decide)
section BODF
variable {l : Launch}
/-- as vx_ofW, for a class of which some methods are run by entries (this one is not) -/
theorem vx_ofWF {y : MethodName} {ws ws' : List Cond} {rm : Room} {Pc : Array Value → State → Prop} {Qc : Array Value → State → Outcome → State → Prop} {XC : Addr → String → State → State → Prop} {mc ms : Nat} {free : Addr → Prop} {cc : ByteArray} {maxL : Nat} {ret : Option FieldType}
    (hy : plainFor y = true) (hw : ws = Cond.code y cc maxL ret :: ws')
    (body : ∀ p e s m args below meth c s₁, BodyLoose p l y (headSpec ws rm) cc maxL ret e s m args below meth c s₁ → c.maxLocals = maxL → (∀ x ∈ c.exceptionTable.toList, False) → Pc args s →
      W p l e (headSpec ws rm).room s m args below meth c s.heap [] 0 0 (vx_MQ below Qc XC args s mc ms free) (entryFrame m args maxL)) : vx_Met l y ws rm Pc Qc XC mc ms free := by
  refine MetFree.of_bodySF (code := cc) (maxLocals := maxL) (ret := ret) hy ?_ ?_
  · intro args s m h hn
    obtain ⟨meth, c, h1, h2, h3, h4, h5, h6, -, -⟩ := Cond.code_spec hn (atoms_spec (ws := ws) h _ (by rw [hw]; exact List.mem_cons_self))
    exact ⟨meth, c, h1, h2, h3, h4, h5, h6⟩
  · intro p e s m args below meth c s₁ B hml hP _
    have hh0 : s₁.heap = s.heap := by rw [B.state]; rfl
    have ht : ∀ x ∈ c.exceptionTable.toList, False := by
      obtain ⟨meth9, c9, h1, h2, -, -, -, -, h7, -⟩ := Cond.code_spec B.named (atoms_spec (ws := ws) B.pre _ (by rw [hw]; exact List.mem_cons_self))
      cases Option.some.inj (h1.symm.trans B.method)
      cases Option.some.inj (h2.symm.trans (Stand.of_body B).code)
      intro x hx
      rw [Array.isEmpty_iff.mp h7] at hx
      cases hx
    obtain ⟨t, a1, o, b1, b2, b3⟩ := body p e s m args below meth c s₁ B hml ht hP s₁ hh0 (Stand.of_body B)
    exact ⟨t, o, a1, b1, b2, b3⟩
theorem vx_ofWHF {y : MethodName} {ws ws' : List Cond} {rm : Room} {Pc : Array Value → State → Prop} {Qc : Array Value → State → Outcome → State → Prop} {XC : Addr → String → State → State → Prop} {mc ms : Nat} {free : Addr → Prop} {cc : ByteArray} {maxL : Nat} {ret : Option FieldType} {hh : List (Nat × Nat × Nat × Nat)}
    (hy : plainFor y = true) (hw : ws = Cond.codeWith y cc maxL ret hh :: ws')
    (body : ∀ p e s m args below meth c s₁, BodyLoose p l y (headSpec ws rm) cc maxL ret e s m args below meth c s₁ → c.maxLocals = maxL → Pc args s →
      W p l e (headSpec ws rm).room s m args below meth c s.heap [] 0 0 (vx_MQ below Qc XC args s mc ms free) (entryFrame m args maxL)) : vx_Met l y ws rm Pc Qc XC mc ms free := by
  refine MetFree.of_bodySF (code := cc) (maxLocals := maxL) (ret := ret) hy ?_ ?_
  · intro args s m h hn
    obtain ⟨m9, meth, c, hn9, h1, h2, h3, h4, -, h5, h6, -⟩ := Cond.codeWith_spec (atoms_spec (ws := ws) h _ (by rw [hw]; exact List.mem_cons_self))
    cases hn.symm.trans hn9
    exact ⟨meth, c, h1, h2, h3, h4, h5, h6⟩
  · intro p e s m args below meth c s₁ B hml hP _
    have hh0 : s₁.heap = s.heap := by rw [B.state]; rfl
    obtain ⟨t, a1, o, b1, b2, b3⟩ := body p e s m args below meth c s₁ B hml hP s₁ hh0 (Stand.of_body B)
    exact ⟨t, o, a1, b1, b2, b3⟩
end BODF
section MAIN
variable {D : va_G} {cl : List vw_C} {dA : Nat → ClassId} {NT : Nat} {rt : Nat → FieldType} {KX : State → Heap → Prop} {P : PT} {gs : Nat → AV} {B : Nat} {M : MT} {Ts : List Cond} {CT : Nat → String × u_T × Nat × (Nat → FieldType)} {l : Launch}
/-- the tables are right -/
def ProgOK (D : va_G) (cl : List vw_C) (dA : Nat → ClassId) (NT : Nat) (rt : Nat → FieldType) (KX : State → Heap → Prop) (P : PT) (gs : Nat → AV) (B : Nat) (M : MT) (Ts : List Cond) (CT : Nat → String × u_T × Nat × (Nat → FieldType)) : Prop :=
  (∀ n, (rt n).isReference = true) ∧ KXok KX B ∧ (∀ j pc i, pCode P j pc = some i → InsOK D cl dA NT rt KX P gs B M Ts CT j pc i.1 i.2.1 i.2.2.1 i.2.2.2) ∧ ∀ j, plainFor (mY M j) = true
/-- n steps: every walk -/
def Walks (D : va_G) (cl : List vw_C) (dA : Nat → ClassId) (NT : Nat) (rt : Nat → FieldType) (KX : State → Heap → Prop) (P : PT) (gs : Nat → AV) (B : Nat) (M : MT) (Ts : List Cond) (l : Launch) (n : Nat) : Prop :=
  ∀ (d j : Nat) (h0 : AH) (r : Rs) (p : Program) (e : Env) (R : Room) (s : State) (m : MethodId) (args : Array Value) (below : List Frame) (meth : Method) (c : Code), Fx D cl dA NT rt KX P M Ts p s m args meth c j → hnx r.2 - hnx h0 ≤ R.cells → hus r.2 - hus h0 ≤ R.slots → d + 10 ≤ R.frames → 100 * d + 1000 ≤ R.locals →
    ∀ (pc : Nat) (L st : List AV) (h : AH), arun P gs B n d j pc L st h = some r → WS D cl dA NT (pFt P) B h0 p l e R s m args below meth c (pNl P j) (vx_MQ below (cQc D cl dA NT P B r) (cXC D cl dA NT P B r) args s (hnx r.2 - hnx h0) (hus r.2 - hus h0) (fun q => B ≤ q)) pc L st h
theorem Ct_of_walks (hP : ProgOK D cl dA NT rt KX P gs B M Ts CT) {n : Nat} (hW : Walks D cl dA NT rt KX P gs B M Ts l n) {d j : Nat} {av : List AV} {h : AH} {r : Rs} (hl : (entL av).length ≤ pNl P j) (hc : ∀ q ∈ av, cn q.1 q.2) (he : arun P gs B n d j 0 (ent (pNl P j) av) [] h = some r) : Ct D cl dA NT rt KX P B M Ts l d j av h r := by
  have body : ∀ (ws : List Cond), ws = mW M P Ts j → (∀ w ∈ Ts, w ∈ ws) → ∀ p e s m args below meth c s₁, BodyLoose p l (mY M j) (headSpec ws { frames := d + 10, cells := hnx r.2 - hnx h, slots := hus r.2 - hus h, locals := 100 * d + 1000 }) (mC M j) (pNl P j) (mR M j) e s m args below meth c s₁ → c.maxLocals = pNl P j → c.exceptionTable.toList = mTab M j → cPc D cl dA NT rt KX P av h args s →
      W p l e (headSpec ws { frames := d + 10, cells := hnx r.2 - hnx h, slots := hus r.2 - hus h, locals := 100 * d + 1000 }).room s m args below meth c s.heap [] 0 0 (vx_MQ below (cQc D cl dA NT P B r) (cXC D cl dA NT P B r) args s (hnx r.2 - hnx h) (hus r.2 - hus h) (fun q => B ≤ q)) (entryFrame m args (pNl P j)) := by
    intro ws hws hsub p e s m args below meth c s₁ Bd hml htab hpc
    obtain ⟨hargs, hRH, hKA⟩ := hpc
    have hts := atoms_spec (ws := ws) Bd.pre
    have hF : Fx D cl dA NT rt KX P M Ts p s m args meth c j := ⟨Bd.exec, Bd.bytes, hml, findClass_of_methodNamed Bd.named, fun w hw => hts w (hsub w hw), hKA, Bd.returns, Bd.notSynchronized, (name_of_methodNamed Bd.named Bd.method).1, htab⟩
    have := hW d j h r p e (headSpec ws { frames := d + 10, cells := hnx r.2 - hnx h, slots := hus r.2 - hus h, locals := 100 * d + 1000 }).room s m args below meth c hF (Nat.le_refl _) (Nat.le_refl _) (Nat.le_refl _) (Nat.le_refl _) 0 _ [] h he s.heap [] 0 0 _ hRH va_S.rf (by omega) (by omega) (LR_entry hl hc) (fun z hz => by cases hz)
    rw [hargs, lg_entry_eq]
    rw [hargs] at this
    exact this
  unfold Ct
  unfold mW mTab at *
  split
  · next hh =>
    refine vx_ofWF (hP.2.2.2 j) rfl ?_
    intro p e s m args below meth c s₁ Bd hml ht hpc
    refine body _ (by rw [hh]) (fun w hw => List.mem_cons_of_mem _ hw) p e s m args below meth c s₁ Bd hml ?_ hpc
    rw [hh]
    exact List.eq_nil_iff_forall_not_mem.mpr (fun x hx => ht x hx)
  · next hs hh =>
    refine vx_ofWHF (hP.2.2.2 j) rfl ?_
    intro p e s m args below meth c s₁ Bd hml hpc
    refine body _ (by rw [hh]) (fun w hw => List.mem_cons_of_mem _ hw) p e s m args below meth c s₁ Bd hml ?_ hpc
    rw [hh]
    exact vx_table (x := mY M j) Bd (atoms_spec (ws := _) Bd.pre _ List.mem_cons_self)
theorem walks (hl : l.stackTraces = false) (hP : ProgOK D cl dA NT rt KX P gs B M Ts CT) : ∀ n, Walks D cl dA NT rt KX P gs B M Ts l n := by
  intro n
  induction n with
  | zero => intro d j h0 r p e R s m args below meth c hF hRc hRs hRf hRl pc L st h he; cases he
  | succ n ih =>
    intro d j h0 r p e R s m args below meth c hF hRc hRs hRf hRl pc L st h he
    unfold arun at he
    split at he
    · cases he
    · next i hi =>
      have hI := hP.2.2.1 j pc i hi
      have hk1 : KW D cl dA NT P B h0 p l e R s m args below meth c j (vx_MQ below (cQc D cl dA NT P B r) (cXC D cl dA NT P B r) args s (hnx r.2 - hnx h0) (hus r.2 - hus h0) (fun q => B ≤ q)) (fun pc' L' st' h' => arun P gs B n d j pc' L' st' h') r :=
        fun pc' L' st' h' hq => ⟨arun_mono hq, ih d j h0 r p e R s m args below meth c hF hRc hRs hRf hRl pc' L' st' h' hq⟩
      by_cases hop : i.1 ≤ 31
      · exact exec1_soundA hP.1 hP.2.1 hF hk1 hop hRc hRs hI he
      · refine exec1_soundB hl hP.2.1 hF rfl rfl rfl hk1 (d := d) ?_ (by omega) hRc hRs hRf hRl hI he
        intro j' av h1 r1 hcall
        split at hcall
        · cases hcall
        · next d' =>
          dsimp only at hcall
          split at hcall
          · next hlen => exact ⟨arun_mono hcall, fun hcn => ⟨d', rfl, Ct_of_walks hP ih hlen hcn hcall⟩⟩
          · cases hcall
end MAIN
