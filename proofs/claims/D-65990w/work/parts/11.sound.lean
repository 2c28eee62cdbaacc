/-! L1: the machine follows the abstract one -/
theorem nar_byte {x : Int} (h : uop 4 x = x) : narrow .byte (.int (Int32.ofInt x)) = .int (Int32.ofInt x) := by
  have h : x.bmod 256 = x := h
  show Value.int _ = Value.int _
  congr 1
  apply Int32.toInt_inj.mp
  rw [Int8.toInt_toInt32, Int32.toInt_toInt8, to32]
  have h1 := @Int.le_bmod x 256 (by decide)
  have h2 := @Int.bmod_lt x 256 (by decide)
  rw [w32_id (show cn 0 x from ⟨by omega, by omega⟩)]
  exact h
theorem nar_char {x : Int} (h : uop 5 x = x) : narrow .char (.int (Int32.ofInt x)) = .int (Int32.ofInt x) := by
  have h : x.emod 65536 = x := h
  show Value.int _ = Value.int _
  congr 1
  rw [UInt32.toUInt32_toUInt16, uop_5, h]
section SOUND
variable {D : va_G} {cl : List vw_C} {dA : Nat → ClassId} {NT : Nat} {rt : Nat → FieldType} {KX : State → Heap → Prop} {P : PT} {gs : Nat → AV} {B : Nat} {M : MT} {Ts : List Cond} {CT : Nat → String × u_T × Nat × (Nat → FieldType)} {h0 : AH}
variable {p : Program} {l : Launch} {e : Env} {R : Room} {s : State} {m : MethodId} {args : Array Value} {below : List Frame} {meth : Method} {c : Code} {Q : State → Prop}
variable {j pc op a nx : Nat} {b : Int} {L st : List AV} {h : AH} {k : Nat → List AV → List AV → AH → Option Rs} {call : Nat → List AV → AH → Option Rs} {r : Rs} {d : Nat}
/-- what the world's further knowledge must bear -/
def KXok (KX : State → Heap → Prop) (B : Nat) : Prop := (∀ (u U : State) (H : Heap), u.WarmedH U.vm → KX u H → KX U H) ∧ ∀ (U : State) (H H1 : Heap), H.size ≤ H1.size → (∀ q, q < H.size → ¬ B ≤ q → H1[q]? = H[q]?) → KX U H → KX U H1
theorem KA.moved {u U : State} {H : Heap} (hX : KXok KX B) (hW : u.WarmedH U.vm) (h : KA D cl dA NT rt KX u H) : KA D cl dA NT rt KX U H := ⟨h.1.moved hW.alike, h.2.1.moved hW.alike, hX.1 _ _ _ hW h.2.2⟩
theorem KA.kept {U : State} {H H1 : Heap} (hX : KXok KX B) (h1 : H.size ≤ H1.size) (h2 : ∀ q, q < H.size → ¬ B ≤ q → H1[q]? = H[q]?) (h : KA D cl dA NT rt KX U H) : KA D cl dA NT rt KX U H1 := ⟨h.1, h.2.1, hX.2 _ _ _ h1 h2 h.2.2⟩
theorem cPc_blind (hX : KXok KX B) {av : List AV} {h : AH} : FrameBlind (cPc D cl dA NT rt KX P av h) := by
  intro a U g mk q
  obtain ⟨q0, q1, q2⟩ := q
  exact ⟨q0, q1, KA.moved (U := U.calling g mk a) hX (State.WarmedH.refl U) q2⟩
/-- a call by an instruction of w bytes -/
def vx_RunW (w : Nat) (p : Program) (l : Launch) (e : Env) (R : Room) (s : State) (m : MethodId) (args : Array Value) (below : List Frame) (meth : Method) (c : Code) (H : Heap) (locs : List Loc) (cells slots mc ms : Nat) (g : JFrame) (rest : List Value) (Qa : State → Outcome → State → Prop) (XC : Addr → String → State → State → Prop) (free : Addr → Prop) : Prop :=
  ∀ T : State, T.heap = H → Stand p l e R s m args below meth c T locs cells slots →
    (∃ (v : Option Value) (st₀ t T' : State) (L : List Loc), st₀.heap = H ∧ Stand p l e R s m args below meth c T' (locs ++ L) (cells + mc) (slots + ms) ∧ (∀ q ∈ L, free q.base) ∧ T'.heap = t.heap ∧ T'.vm = t.vm ∧ Qa st₀ (.returned v) t ∧
      Goes p e below T g T' { g with pc := g.pc + w, stack := v.toList ++ rest }) ∨
    (∃ (q : Addr) (st₀ t T' : State) (L : List Loc) (E : String) (ce : Cell), st₀.heap = H ∧ Stand p l e R s m args below meth c T' (locs ++ L) (cells + mc) (slots + ms) ∧ (∀ z ∈ L, free z.base) ∧ T'.heap = t.heap ∧ T'.vm = t.vm ∧ XC q E st₀ t ∧ t.heap[q]? = some ce ∧ ce.vm = .none ∧ s.vm.findClass E = some ce.cls ∧
      Steps p.tables e below (T.setTop g) ((T'.setTop { g with stack := rest }).pushFrame (.throwing q)))
/-- behind a call -/
theorem ws_run {w : Nat} {H : Heap} {locs : List Loc} {cells slots mc ms : Nat} {ls : Array Slot} {st0 rest : List Value} {r1 : Rs} {A : Array Value}
    (hr : vx_RunW w p l e R s m args below meth c H locs cells slots mc ms (F0 m pc ls st0) rest (cQc D cl dA NT P B r1 A) (cXC D cl dA NT P B r1) (fun q => B ≤ q)) (hS : va_S (fun q => B ≤ q) s.heap H locs)
    (kk : r1.1.1 = 0 → (r1.1.2.1 = 9 ∨ cn r1.1.2.1 r1.1.2.2) → ∀ (H1 : Heap) (locs1 : List Loc), RH D cl dA NT (pFt P) r1.2 H1 → va_S (fun q => B ≤ q) s.heap H1 locs1 → W p l e R s m args below meth c H1 locs1 (cells + mc) (slots + ms) Q (F0 m (pc + w) ls ((if r1.1.2.1 = 9 then [] else [vp r1.1.2]) ++ rest)))
    (kx : r1.1.1 ≠ 0 → ∀ (q ci : Nat) (z : vw_C) (ce : Cell) (H1 : Heap) (locs1 : List Loc), r1.1.2 = (2, (q : Int) + 1) → hk r1.2 q = (1, ci) → cl[ci]? = some z → RH D cl dA NT (pFt P) r1.2 H1 → va_S (fun q => B ≤ q) s.heap H1 locs1 → H1[q]? = some ce → ce.vm = .none → s.vm.findClass z.1 = some ce.cls → vx_W p l e R s m args below meth c H1 locs1 (cells + mc) (slots + ms) Q (F0 m pc ls rest) q) :
    W p l e R s m args below meth c H locs cells slots Q (F0 m pc ls st0) := by
  intro T hT X
  rcases hr T hT X with ⟨v, st₀, t, T', L, g0, X', hL, e1, e2, ⟨⟨q1, q2, q3, q4⟩, hF⟩, stp⟩ | ⟨q, st₀, t, T', L, E, ce, g0, X', hL, e1, e2, ⟨⟨q1, q2, ⟨ci, z, q5, q6, q7⟩, q4⟩, hF⟩, hce, hcv, hcl, stp⟩
  · obtain ⟨k1, k2, k3⟩ := vx_keep (A0 := fun q => B ≤ q) (free := fun q => B ≤ q) g0 e1 hS (fun q _ z => z) (fun q z => z) hL hF
    obtain ⟨t2, a1, b1⟩ := kk q1 q3 T'.heap (locs ++ L) (by rw [e1]; exact q4) k3 T' rfl X'
    refine ⟨t2, stp t2 ?_, b1⟩
    have : v = if r1.1.2.1 = 9 then none else some (vp r1.1.2) := Outcome.returned.inj q2
    subst this
    split at a1
    · next z => rw [if_pos z]; exact a1
    · next z => rw [if_neg z]; exact a1
  · obtain ⟨k1, k2, k3⟩ := vx_keep (A0 := fun q => B ≤ q) (free := fun q => B ≤ q) g0 e1 hS (fun q _ z => z) (fun q z => z) hL hF
    obtain ⟨t2, a1, b1⟩ := kx q1 q ci z ce T'.heap (locs ++ L) q2 q5 q6 (by rw [e1]; exact q4) k3 (by rw [e1]; exact hce) hcv (by rw [q7]; exact hcl) T' rfl X'
    exact ⟨t2, stp.trans a1, b1⟩
/-- an exception at a place -/
theorem ws_thr {mc ms : Nat} (hF : Fx D cl dA NT rt KX P M Ts p s m args meth c j) (hH : ∀ ci, HndR D cl dA NT rt KX P M Ts j pc ci) {q ci : Nat} {z : vw_C} {ce : Cell} {H : Heap} {locs : List Loc} {cells slots : Nat} {ls : Array Slot} {rest : List Value}
    (hk1 : ∀ pc' L' st' h', k pc' L' st' h' = some r → WS D cl dA NT (pFt P) B h0 p l e R s m args below meth c (pNl P j) (vx_MQ below (cQc D cl dA NT P B r) (cXC D cl dA NT P B r) args s mc ms (fun q => B ≤ q)) pc' L' st' h')
    (hmc : mc = hnx r.2 - hnx h0) (hms : ms = hus r.2 - hus h0)
    (h1 : RH D cl dA NT (pFt P) h H) (h2 : va_S (fun q => B ≤ q) s.heap H locs) (h3 : cells + hnx h0 = hnx h) (h4 : slots + hus h0 = hus h) (h5 : LR ls (pNl P j) L)
    (hq1 : hk h q = (1, ci)) (hq2 : cl[ci]? = some z) (hce : H[q]? = some ce) (hcv : ci ≠ 29 → ce.vm = .none) (hcl : s.vm.findClass z.1 = some ce.cls)
    (he : thr P j pc L ((q : Int) + 1) h k = some r) :
    vx_W p l e R s m args below meth c H locs cells slots (vx_MQ below (cQc D cl dA NT P B r) (cXC D cl dA NT P B r) args s mc ms (fun q => B ≤ q)) (F0 m pc ls rest) q := by
  have had : ad ((q : Int) + 1) = q := by unfold ad; omega
  have hh := hH ci p l e R s m args below meth c H locs cells slots ls rest q ce z hF hq2 hce hcv hcl
  unfold thr at he
  rw [had, hq1] at he
  dsimp only at he
  split at he
  · next t q9 =>
    rw [q9] at hh
    refine hh _ ?_
    have := hk1 _ _ _ _ he H locs cells slots ls h1 h2 h3 h4 h5 (cns (show (0 : Int) ≤ _ by omega) (fun z hz => by cases hz))
    rw [List.map_cons, vp_ref] at this
    exact this
  · next q9 =>
    rw [q9] at hh
    have hr : r = ((1, (2, (q : Int) + 1)), h) := (Option.some.inj he).symm
    have e1 : r.2 = h := by rw [hr]
    refine hh _ _ mc ms _ (fun t ht hal => ⟨⟨(by rw [hr]; exact Nat.one_ne_zero), (by rw [hr]), ⟨ci, z, (by rw [e1]; exact hq1), hq2, rfl⟩, (by rw [e1, ht]; exact h1)⟩, h2.F ht⟩) h2.2.2 (by rw [hmc, e1]; omega) (by rw [hms, e1]; omega)
  · cases he
/-- what the rest of the walk gives -/
def KW (D : va_G) (cl : List vw_C) (dA : Nat → ClassId) (NT : Nat) (P : PT) (B : Nat) (h0 : AH) (p : Program) (l : Launch) (e : Env) (R : Room) (s : State) (m : MethodId) (args : Array Value) (below : List Frame) (meth : Method) (c : Code) (j : Nat) (Q : State → Prop) (k : Nat → List AV → List AV → AH → Option Rs) (r : Rs) : Prop :=
  ∀ pc' L' st' h', k pc' L' st' h' = some r → Mono h' r ∧ WS D cl dA NT (pFt P) B h0 p l e R s m args below meth c (pNl P j) Q pc' L' st' h'
theorem aft_sound {w : Nat} {mc ms : Nat} (hX : KXok KX B) (hF : Fx D cl dA NT rt KX P M Ts p s m args meth c j) (hH : ∀ ci, HndR D cl dA NT rt KX P M Ts j pc ci)
    (hQ : Q = vx_MQ below (cQc D cl dA NT P B r) (cXC D cl dA NT P B r) args s mc ms (fun q => B ≤ q)) (hmc : mc = hnx r.2 - hnx h0) (hms : ms = hus r.2 - hus h0)
    (hk1 : KW D cl dA NT P B h0 p l e R s m args below meth c j Q k r) {r1 : Rs} {rest : List AV} (hm1 : Mono h r1) (he : aft P j pc (pc + w) L rest k (some r1) = some r)
    {H : Heap} {locs : List Loc} {cells slots : Nat} {ls : Array Slot} {st0 : List Value} {A : Array Value} (h2 : va_S (fun q => B ≤ q) s.heap H locs) (h3 : cells + hnx h0 = hnx h) (h4 : slots + hus h0 = hus h) (h5 : LR ls (pNl P j) L) (h6 : ∀ q ∈ rest, cn q.1 q.2)
    (hr : vx_RunW w p l e R s m args below meth c H locs cells slots (hnx r1.2 - hnx h) (hus r1.2 - hus h) (F0 m pc ls st0) (rest.map vp) (cQc D cl dA NT P B r1 A) (cXC D cl dA NT P B r1) (fun q => B ≤ q)) :
    W p l e R s m args below meth c H locs cells slots Q (F0 m pc ls st0) := by
  obtain ⟨m1, m2⟩ := hm1
  refine ws_run hr h2 (fun z0 zc H1 locs1 g1 g2 => ?_) (fun z0 q ci z ce H1 locs1 q1 q2 q3 g1 g2 g3 g4 g5 => ?_)
  · obtain ⟨⟨z, v⟩, h'⟩ := r1
    have z0 : z = 0 := z0
    subst z0
    have he : k (pc + w) L (if v.1 = 9 then rest else v :: rest) h' = some r := he
    have := (hk1 _ _ _ _ he).2 H1 locs1 (cells + (hnx h' - hnx h)) (slots + (hus h' - hus h)) ls g1 g2 (by have : hnx h ≤ hnx h' := m1; omega) (by have : hus h ≤ hus h' := m2; omega) h5 (by
      split
      · exact h6
      · next q9 => exact cns (zc.resolve_left q9) h6)
    show W p l e R s m args below meth c H1 locs1 _ _ Q (F0 m (pc + w) ls ((if v.1 = 9 then [] else [vp v]) ++ rest.map vp))
    split at this
    · next q9 => rw [if_pos q9]; exact this
    · next q9 => rw [if_neg q9]; exact this
  · obtain ⟨⟨z9, v⟩, h'⟩ := r1
    have q1' : v = (2, (q : Int) + 1) := q1
    clear q1
    subst q1'
    have z0 : z9 ≠ 0 := z0
    have he' : thr P j pc L ((q : Int) + 1) h' k = some r := by
      match z9, z0, he with
      | n + 1, _, he => exact he
    rw [hQ]
    exact ws_thr hF hH (fun a1 a2 a3 a4 a5 => by rw [← hQ]; exact (hk1 _ _ _ _ a5).2) hmc hms g1 g2 (by have : hnx h ≤ hnx h' := m1; show cells + (hnx h' - hnx h) + hnx h0 = hnx h'; omega) (by have : hus h ≤ hus h' := m2; show slots + (hus h' - hus h) + hus h0 = hus h'; omega) h5 q2 q3 g3 (fun _ => g4) g5 he'
end SOUND
