/-! L1: each instruction -/
section EXEC
variable {D : va_G} {cl : List vw_C} {dA : Nat → ClassId} {NT : Nat} {rt : Nat → FieldType} {KX : State → Heap → Prop} {P : PT} {gs : Nat → AV} {B : Nat} {M : MT} {Ts : List Cond} {CT : Nat → String × u_T × Nat × (Nat → FieldType)} {h0 : AH}
variable {p : Program} {l : Launch} {e : Env} {R : Room} {s : State} {m : MethodId} {args : Array Value} {below : List Frame} {meth : Method} {c : Code} {Q : State → Prop}
variable {j pc op a nx : Nat} {b : Int} {L st : List AV} {h : AH} {k : Nat → List AV → List AV → AH → Option Rs} {call : Nat → List AV → AH → Option Rs} {r : Rs} {d : Nat}
theorem push_sound {v : AV} (hF : Fx D cl dA NT rt KX P M Ts p s m args meth c j) (hp : PushR D cl dA NT rt KX P B M Ts j pc nx v) (hc : cn v.1 v.2)
    (hk1 : WS D cl dA NT (pFt P) B h0 p l e R s m args below meth c (pNl P j) Q nx L (v :: st) h) : WS D cl dA NT (pFt P) B h0 p l e R s m args below meth c (pNl P j) Q pc L st h :=
  fun H locs cells slots ls h1 h2 h3 h4 h5 h6 => hp p l e R s m args below meth c H locs cells slots ls (st.map vp) Q hF h2 (hk1 H locs cells slots ls h1 h2 h3 h4 h5 (cns hc h6))
set_option maxHeartbeats 8000000 in
theorem exec1_soundA (hrt : ∀ n, (rt n).isReference = true) (hX : KXok KX B) (hF : Fx D cl dA NT rt KX P M Ts p s m args meth c j)
    (hk1 : KW D cl dA NT P B h0 p l e R s m args below meth c j Q k r) (hop : op ≤ 31) (hRc : hnx r.2 - hnx h0 ≤ R.cells) (hRs : hus r.2 - hus h0 ≤ R.slots)
    (hI : InsOK D cl dA NT rt KX P gs B M Ts CT j pc op a b nx) (he : exec1 P gs B j pc op a b nx L st h k call = some r) :
    WS D cl dA NT (pFt P) B h0 p l e R s m args below meth c (pNl P j) Q pc L st h := by
  obtain ⟨hx, hb, hml, hown, hts, ⟨hK, hKR, hKX⟩, hret, hlocks, hname, htab⟩ := id hF
  unfold exec1 at he
  unfold InsOK at hI
  split at he
  · exact push_sound hF hI.2 hI.1 (hk1 _ _ _ _ he).2
  · exact push_sound hF hI.2 hI.1 (hk1 _ _ _ _ he).2
  · exact push_sound hF hI (show (0 : Int) ≤ 0 by decide) (hk1 _ _ _ _ he).2
  · -- 3 load
    split at he
    · next q hl =>
      split at he
      · next hq =>
        have k9 := (hk1 _ _ _ _ he).2
        obtain ⟨t, x⟩ := q
        have hq : (t : Int) = b := hq
        rcases hI with ⟨rfl, hd⟩ | ⟨rfl, hd⟩ | ⟨rfl, hd⟩
        · obtain rfl : t = 0 := by omega
          exact ws_iload hx hb hd hl k9
        · obtain rfl : t = 1 := by omega
          exact ws_lload hx hb hd hl k9
        · obtain rfl : t = 2 := by omega
          exact ws_aload hx hb hd hl k9
      · cases he
    · cases he
  · -- 4 store
    split at he
    · next q r9 =>
      split at he
      · next hq =>
        have k9 := (hk1 _ _ _ _ he).2
        obtain ⟨t, x⟩ := q
        have hq : (t : Int) = b := hq
        obtain ⟨hi, ⟨rfl, hd⟩ | ⟨rfl, hd⟩⟩ := hI
        · obtain rfl : t = 0 := by omega
          exact ws_istore hx hb hd hi k9
        · obtain rfl : t = 2 := by omega
          exact ws_astore hx hb hd hi k9
      · cases he
    · cases he
  · -- 5
    split at he
    · next q r9 =>
      split at he
      · next hq =>
        have k9 := (hk1 _ _ _ _ he).2
        obtain ⟨t, x⟩ := q
        obtain rfl : t = 1 := hq
        exact ws_lstore hx hb hI.2 hI.1 k9
      · cases he
    · cases he
  · -- 6
    split at he
    · next q hl =>
      split at he
      · next hq =>
        obtain ⟨t, x⟩ := q
        obtain rfl : t = 0 := hq
        obtain ⟨i1, i2, rfl⟩ := hI
        exact ws_iinc hx hb i2 i1 hl (hk1 _ _ _ _ he).2
      · cases he
    · cases he
  · -- 7
    split at he
    · next y x r9 =>
      split at he
      · next hq =>
        split at he
        · cases he
        · next hz =>
          obtain ⟨ty, y⟩ := y
          obtain ⟨tx, x⟩ := x
          obtain ⟨q1, q2⟩ := hq
          have q1 : ty = 0 := q1
          have q2 : tx = 0 := q2
          subst q1; subst q2
          obtain ⟨i1, rfl⟩ := hI
          exact ws_bop32 hx hb i1 (fun q w => hz ⟨q, w⟩) (hk1 _ _ _ _ he).2
      · cases he
    · cases he
  · -- 8
    split at he
    · next y x r9 =>
      split at he
      · next hq =>
        split at he
        · cases he
        · next hz =>
          obtain ⟨ty, y⟩ := y
          obtain ⟨tx, x⟩ := x
          obtain ⟨q1, q2⟩ := hq
          have q1 : ty = 1 := q1
          have q2 : tx = 1 := q2
          subst q1; subst q2
          obtain ⟨i1, rfl⟩ := hI
          exact ws_bop64 hx hb i1 (fun q w => hz ⟨q, w⟩) (hk1 _ _ _ _ he).2
      · cases he
    · cases he
  · -- 9
    split at he
    · next y x r9 =>
      split at he
      · next hq =>
        obtain ⟨ty, y⟩ := y
        obtain ⟨tx, x⟩ := x
        obtain ⟨q1, q2⟩ := hq
        have q1 : ty = 0 := q1
        have q2 : tx = 1 := q2
        subst q1; subst q2
        obtain ⟨i1, rfl⟩ := hI
        exact ws_sop64 hx hb i1 (hk1 _ _ _ _ he).2
      · cases he
    · cases he
  · -- 10
    split at he
    · next x r9 =>
      split at he
      · next hq =>
        obtain ⟨tx, x⟩ := x
        have hq : tx = ufr a := hq
        subst hq
        obtain ⟨i1, rfl⟩ := hI
        exact ws_uop hx hb i1 (hk1 _ _ _ _ he).2
      · cases he
    · cases he
  · -- 11
    split at he
    · next y x r9 =>
      split at he
      · next hq =>
        obtain ⟨ty, y⟩ := y
        obtain ⟨tx, x⟩ := x
        obtain ⟨q1, q2⟩ := hq
        have q1 : ty = 1 := q1
        have q2 : tx = 1 := q2
        subst q1; subst q2
        obtain ⟨i1, rfl⟩ := hI
        exact ws_lcmp hx hb i1 (hk1 _ _ _ _ he).2
      · cases he
    · cases he
  · -- 12
    split at he
    · split at he
      · cases he
      · next hq =>
        obtain ⟨i1, rfl⟩ := hI
        exact ws_dup hx hb hq i1 (hk1 _ _ _ _ he).2
    · cases he
  · -- 13
    split at he
    · split at he
      · cases he
      · next hq =>
        obtain ⟨i1, rfl⟩ := hI
        exact ws_dup_x1 hx hb (fun z => hq (Or.inl z)) (fun z => hq (Or.inr z)) i1 (hk1 _ _ _ _ he).2
    · cases he
  · -- 14
    split at he
    · split at he
      · next hq =>
        obtain ⟨i1, rfl⟩ := hI
        exact ws_dup2L hx hb hq i1 (hk1 _ _ _ _ he).2
      · next hq =>
        split at he
        · split at he
          · cases he
          · next hq2 =>
            obtain ⟨i1, rfl⟩ := hI
            exact ws_dup2 hx hb hq hq2 i1 (hk1 _ _ _ _ he).2
        · cases he
    · cases he
  · -- 15
    split at he
    · split at he
      · cases he
      · next hq =>
        obtain ⟨i1, rfl⟩ := hI
        exact ws_pop hx hb hq i1 (hk1 _ _ _ _ he).2
    · cases he
  · -- 16
    split at he
    · next x r9 =>
      split at he
      · next hq =>
        obtain ⟨tx, x⟩ := x
        have hq : tx = 0 := hq
        subst hq
        obtain ⟨⟨off, i1, i2⟩, rfl⟩ := hI
        exact ws_if hx hb i1 i2 (fun z => (hk1 _ _ _ _ (by rw [← he]; exact (brc_cnd.1 z).symm)).2) (fun z => (hk1 _ _ _ _ (by rw [← he]; exact (brc_cnd.2 z).symm)).2)
      · cases he
    · cases he
  · -- 17
    split at he
    · next y x r9 =>
      split at he
      · next hq =>
        obtain ⟨ty, y⟩ := y
        obtain ⟨tx, x⟩ := x
        obtain ⟨q1, q2⟩ := hq
        have q1 : ty = 0 := q1
        have q2 : tx = 0 := q2
        subst q1; subst q2
        obtain ⟨⟨off, i1, i2⟩, rfl⟩ := hI
        exact ws_icmp hx hb i1 i2 (fun z => (hk1 _ _ _ _ (by rw [← he]; exact (brc_cnd.1 z).symm)).2) (fun z => (hk1 _ _ _ _ (by rw [← he]; exact (brc_cnd.2 z).symm)).2)
      · cases he
    · cases he
  · -- 18
    split at he
    · next x r9 =>
      split at he
      · next hq =>
        obtain ⟨tx, x⟩ := x
        have hq : tx = 2 := hq
        subst hq
        obtain ⟨⟨off, i1, i2⟩, rfl⟩ := hI
        dsimp only at he
        exact ws_ifnull hx hb i1 i2 (fun z => (hk1 _ _ _ _ (by rw [← he, if_pos z])).2) (fun z => (hk1 _ _ _ _ (by rw [← he, if_neg z])).2)
      · cases he
    · cases he
  · -- 19
    split at he
    · next x r9 =>
      split at he
      · next hq =>
        obtain ⟨tx, x⟩ := x
        have hq : tx = 2 := hq
        subst hq
        obtain ⟨⟨off, i1, i2⟩, rfl⟩ := hI
        dsimp only at he
        exact ws_ifnonnull hx hb i1 i2 (fun z => (hk1 _ _ _ _ (by rw [← he, if_neg z])).2) (fun z => (hk1 _ _ _ _ (by rw [← he, if_pos z])).2)
      · cases he
    · cases he
  · -- 20
    obtain ⟨off, i1, i2⟩ := hI
    exact ws_goto hx hb i1 i2 (hk1 _ _ _ _ he).2
  · -- 21
    split at he
    · next x r9 =>
      split at he
      · next hq =>
        obtain ⟨tx, x⟩ := x
        have hq : tx = 0 := hq
        subst hq
        rcases hI with ⟨dflt, lo, hi, offs, len, i1, i2⟩ | ⟨dflt, ps, len, i1, i2, i3⟩
        · exact ws_table hx hb i1 (i2 x) (hk1 _ _ _ _ he).2
        · exact ws_lookup hx hb i1 i2 rfl (i3 x) (hk1 _ _ _ _ he).2
      · cases he
    · cases he
  · -- 22
    split at he
    · next x r9 =>
      split at he
      · next hq =>
        split at he
        · next hz =>
          obtain ⟨tx, x⟩ := x
          have hq : tx = 2 := hq
          subst hq
          obtain ⟨⟨idx, i1, i2⟩, i3, i4, rfl⟩ := hI
          have k9 := (hk1 _ _ _ _ he).2
          have k8 := ws_get hx hb hts i4 hK hown i3 (i2 p s m args meth c hF) i1 hz.2 k9
          rw [← ad_eq (x := x) hz.1] at k8
          exact k8
        · cases he
      · cases he
    · cases he
  · -- 23
    split at he
    · next v x r9 =>
      split at he
      · next hq =>
        split at he
        · next hz =>
          obtain ⟨tx, x⟩ := x
          obtain ⟨tv, v⟩ := v
          obtain ⟨q1, q2⟩ := hq
          have q1 : tx = 2 := q1
          subst q1
          obtain ⟨⟨idx, i1, i2, i6⟩, i3, i4, i5, rfl⟩ := hI
          have k9 := (hk1 _ _ _ _ he).2
          have hft := (i4.2.2.2.2 b.toNat i3).1
          have hok : okPut ((CT a).2.2.2 b.toNat) tv v := okPut_of (pOK2_ok i5) (by rw [← hft]; exact q2) (by rw [← hft]; exact hz.2.2.2)
          have k8 := ws_put hx hb hts i4 hK hown i3 (i2 p s m args meth c hF) i1 (pOK2_ne i5) hz.2.1 hz.2.2.1 hok (i6 p s m args meth c hF) k9
          rw [← ad_eq (x := x) hz.1] at k8
          exact k8
        · cases he
      · cases he
    · cases he
  · -- 24
    split at he
    · next i x r9 =>
      split at he
      · next hq =>
        split at he
        · next hz =>
          obtain ⟨ti, i⟩ := i
          obtain ⟨tx, x⟩ := x
          obtain ⟨q1, q2⟩ := hq
          have q1 : ti = 0 := q1
          have q2 : tx = 2 := q2
          subst q1; subst q2
          obtain ⟨i1, rfl⟩ := hI
          have k9 := (hk1 _ _ _ _ he).2
          obtain ⟨z1, z2, z3, z4⟩ := hz
          have k8 := ws_ald hx hb hrt hK hKR i1 (n := (hk h (ad x)).2) (Prod.ext z2 rfl) z3 z4 k9
          rw [← ad_eq (x := x) z1] at k8
          exact k8
        · cases he
      · cases he
    · cases he
  · -- 25
    split at he
    · next v i x r9 =>
      split at he
      · next hq =>
        split at he
        · next hz =>
          obtain ⟨tv, v⟩ := v
          obtain ⟨ti, i⟩ := i
          obtain ⟨tx, x⟩ := x
          obtain ⟨q1, q2, q3⟩ := hq
          have q1 : ti = 0 := q1
          have q2 : tx = 2 := q2
          have q3 : tv = et a := q3
          subst q1; subst q2; subst q3
          obtain ⟨i1, i2, rfl⟩ := hI
          have k9 := (hk1 _ _ _ _ he).2
          obtain ⟨z1, z2, z3, z4, z5⟩ := hz
          have k8 := ws_ast hx hb hK hKR i1 i2 (n := (hk h (ad x)).2) (Prod.ext z2 rfl) z3 z4 z5 k9
          rw [← ad_eq (x := x) z1] at k8
          exact k8
        · cases he
      · cases he
    · cases he
  · -- 26
    split at he
    · next v i x r9 =>
      split at he
      · next hq =>
        split at he
        · next hz =>
          obtain ⟨tv, v⟩ := v
          obtain ⟨ti, i⟩ := i
          obtain ⟨tx, x⟩ := x
          obtain ⟨q1, q2, q3⟩ := hq
          have q1 : ti = 0 := q1
          have q2 : tx = 2 := q2
          have q3 : tv = 2 := q3
          subst q1; subst q2; subst q3
          obtain ⟨i1, i2, rfl⟩ := hI
          have k9 := (hk1 _ _ _ _ he).2
          obtain ⟨z1, z2, z3, z4, z5, z6⟩ := hz
          rcases z6 with z6 | ⟨z6, z7⟩
          · have z6 : v = 0 := z6
            subst z6
            have k8 := ws_aast0 hx hb hrt hK hKR i1 (n := (hk h (ad x)).2) (Prod.ext z2 rfl) z3 z4 z5 k9
            rw [← ad_eq (x := x) z1] at k8
            exact k8
          · have e9 : v = (ad v : Int) + 1 := ad_eq z6
            have k9 : WS D cl dA NT (pFt P) B h0 p l e R s m args below meth c (pNl P j) Q (pc + 1) L r9 (hset h (ad x) i.toNat ((ad v : Int) + 1)) := by
              rw [← e9]; exact k9
            have k8 := ws_aast hx hb hrt hK hKR i1 (n := (hk h (ad x)).2) (Prod.ext z2 rfl) z3 z4 z5 (i2 _ z7) k9
            rw [← ad_eq (x := x) z1, ← ad_eq (x := v) z6] at k8
            exact k8
        · cases he
      · cases he
    · cases he
  · -- 27
    split at he
    · next x r9 =>
      split at he
      · next hq =>
        split at he
        · next hz =>
          obtain ⟨tx, x⟩ := x
          have hq : tx = 2 := hq
          subst hq
          obtain ⟨i1, rfl⟩ := hI
          have k9 := (hk1 _ _ _ _ he).2
          obtain ⟨z1, z2⟩ := hz
          have k8 := ws_alen hx hb hK hKR i1 (t := (hk h (ad x)).1 - 2) (n := (hk h (ad x)).2) (Prod.ext (by show (hk h (ad x)).1 = (hk h (ad x)).1 - 2 + 2; have z2 : 2 ≤ (hk h (ad x)).1 := z2; omega) rfl) k9
          rw [← ad_eq (x := x) z1] at k8
          exact k8
        · cases he
      · cases he
    · cases he
  · -- 28
    split at he
    · next n r9 =>
      split at he
      · next hq =>
        split at he
        · next hz =>
          obtain ⟨tn, n⟩ := n
          have hq : tn = 0 := hq
          subst hq
          obtain ⟨i1, i2, i3, i4, rfl⟩ := hI
          obtain ⟨m9, k9⟩ := hk1 _ _ _ _ he
          have m1 : hnx h + 1 ≤ hnx r.2 := m9.1
          have m2 : hus h + n.toNat ≤ hus r.2 := m9.2
          exact ws_newa hx hb i1 i2 hKR (hts _ i3) i4 hz.1 hz.2 (by omega) (by omega) k9
        · cases he
      · cases he
    · cases he
  · -- 29
    obtain ⟨⟨idx, i1, i2⟩, i3, i4, i5, rfl⟩ := hI
    obtain ⟨m9, k9⟩ := hk1 _ _ _ _ he
    have m1 : hnx h + 1 ≤ hnx r.2 := m9.1
    have m2 : hus h + pNf P a ≤ hus r.2 := m9.2
    exact ws_new hx hb hts i3 hK hown (hts _ i2) (hts _ i4) (hts _ i5.1) i5.2 i1 (by omega) (by omega) k9
  · -- 30
    split at he
    · next n r9 =>
      split at he
      · next hq =>
        split at he
        · next hz =>
          obtain ⟨tn, n⟩ := n
          have hq : tn = 0 := hq
          subst hq
          obtain ⟨⟨idx, i1, i2⟩, i3, i4, i5, rfl⟩ := hI
          obtain ⟨m9, k9⟩ := hk1 _ _ _ _ he
          have m1 : hnx h + 1 ≤ hnx r.2 := m9.1
          have m2 : hus h + n.toNat ≤ hus r.2 := m9.2
          exact ws_anew hx hb i3 hKR hown (hts _ i2) (i5 p s m args meth c hF) i4 i1 hz.1 hz.2 (by omega) (by omega) k9
        · cases he
      · cases he
    · cases he
  · exact push_sound hF hI.2 hI.1 (hk1 _ _ _ _ he).2
  all_goals (first | (exfalso; omega) | cases he)
/-- a callee's contract -/
def CW (D : va_G) (cl : List vw_C) (dA : Nat → ClassId) (NT : Nat) (rt : Nat → FieldType) (KX : State → Heap → Prop) (P : PT) (B : Nat) (M : MT) (Ts : List Cond) (l : Launch) (d : Nat) (call : Nat → List AV → AH → Option Rs) : Prop :=
  ∀ j' av h1 r1, call j' av h1 = some r1 → Mono h1 r1 ∧ ((∀ q ∈ av, cn q.1 q.2) → ∃ d', d = d' + 1 ∧ Ct D cl dA NT rt KX P B M Ts l d' j' av h1 r1)
theorem aft_mono1 {rest : List AV} {r1 : Rs} (hk1 : ∀ pc L st h, k pc L st h = some r → Mono h r) (e : aft P j pc nx L rest k (some r1) = some r) : Mono r1.2 r := by
  obtain ⟨⟨z, v⟩, h'⟩ := r1
  match z, e with
  | 0, e => exact hk1 _ _ _ _ e
  | n + 1, e =>
    have e : thr P j pc L v.2 h' k = some r := e
    unfold thr at e
    split at e
    · exact hk1 _ _ _ _ e
    · cases e; exact ⟨Nat.le_refl _, Nat.le_refl _⟩
    · cases e
theorem callee_pre (hX : KXok KX B) (hF : Fx D cl dA NT rt KX P M Ts p s m args meth c j) {H : Heap} {locs : List Loc} (h1 : RH D cl dA NT (pFt P) h H) (h2 : va_S (fun q => B ≤ q) s.heap H locs) (av : List AV) :
    ∀ U : State, U.heap = H → s.WarmedH U.vm → cPc D cl dA NT rt KX P av h (av.map vp).toArray U := by
  intro U hU hW
  refine ⟨rfl, by rw [hU]; exact h1, ?_⟩
  have := hF.2.2.2.2.2.1
  rw [hU]
  exact KA.moved hX hW (KA.kept hX h2.1 h2.2.1 this)
set_option maxHeartbeats 8000000 in
theorem exec1_soundB (hl : l.stackTraces = false) (hX : KXok KX B) (hF : Fx D cl dA NT rt KX P M Ts p s m args meth c j) {mc ms : Nat}
    (hQ : Q = vx_MQ below (cQc D cl dA NT P B r) (cXC D cl dA NT P B r) args s mc ms (fun q => B ≤ q)) (hmc : mc = hnx r.2 - hnx h0) (hms : ms = hus r.2 - hus h0)
    (hk1 : KW D cl dA NT P B h0 p l e R s m args below meth c j Q k r) (hc1 : CW D cl dA NT rt KX P B M Ts l d call) (hop : 32 ≤ op) (hRc : hnx r.2 - hnx h0 ≤ R.cells) (hRs : hus r.2 - hus h0 ≤ R.slots) (hRf : d + 10 ≤ R.frames) (hRl : 100 * d + 1000 ≤ R.locals)
    (hI : InsOK D cl dA NT rt KX P gs B M Ts CT j pc op a b nx) (he : exec1 P gs B j pc op a b nx L st h k call = some r) :
    WS D cl dA NT (pFt P) B h0 p l e R s m args below meth c (pNl P j) Q pc L st h := by
  obtain ⟨hx, hb, hml, hown, hts, ⟨hK, hKR, hKX⟩, hret, hlocks, hname, htab⟩ := id hF
  have inst : ∀ (w j' : Nat) (x : AV) (r9 : List AV) (C : String), ((w = 3 ∧ CallV D cl dA NT rt KX P M Ts j j' pc C ∨ w = 5 ∧ CallF D cl dA NT rt KX P M Ts j j' pc C) ∧ (∀ H, RH D cl dA NT (pFt P) h H → ∃ cellB : Cell, H[ad x.2]? = some cellB ∧ cellB.vm.isStatics = false ∧ s.vm.findClass C = some cellB.cls) ∨ w = 3 ∧ CallI D cl dA NT rt KX P M Ts j j' pc) → pNl P j' ≤ 81 → (∀ ci, HndR D cl dA NT rt KX P M Ts j pc ci) → st.drop (pNa P j' - 1) = x :: r9 → x.1 = 2 → 0 < pNa P j' → csum r9 ≤ 8 → 0 < x.2 →
      aft P j pc (pc + w) L r9 k (call j' (x :: (st.take (pNa P j' - 1)).reverse) h) = some r → WS D cl dA NT (pFt P) B h0 p l e R s m args below meth c (pNl P j) Q pc L st h := by
    intro w j' x r9 C hcall hnl hH hdrop hx2 hna hcs hpos he
    intro H locs cells slots ls h1 h2 h3 h4 h5 h6
    cases hcl : call j' (x :: (st.take (pNa P j' - 1)).reverse) h with
    | none => rw [hcl] at he; cases he
    | some r1 =>
      rw [hcl] at he
      obtain ⟨hm1, hct⟩ := hc1 _ _ _ _ hcl
      have hlen : pNa P j' - 1 < st.length := by
        have := congrArg List.length hdrop
        rw [List.length_drop, List.length_cons] at this
        omega
      have hst : st = st.take (pNa P j' - 1) ++ x :: r9 := by rw [← hdrop, List.take_append_drop]
      have h6a : ∀ q ∈ st.take (pNa P j' - 1), cn q.1 q.2 := fun q hq => h6 q (List.mem_of_mem_take hq)
      have h6b : ∀ q ∈ x :: r9, cn q.1 q.2 := fun q hq => h6 q (by rw [hst]; exact List.mem_append_right _ hq)
      obtain ⟨d', hd', hct⟩ := hct (fun q hq => by
        rcases List.mem_cons.mp hq with rfl | hq
        · exact h6b _ List.mem_cons_self
        · exact h6a q (List.mem_reverse.mp hq))
      have hm2 : hnx r1.2 ≤ hnx r.2 ∧ hus r1.2 ≤ hus r.2 := aft_mono1 (fun a1 a2 a3 a4 a5 => (hk1 _ _ _ _ a5).1) he
      obtain ⟨tx, xx⟩ := x
      obtain rfl : tx = 2 := hx2
      have hxe : vp (2, xx) = .ref (ad xx) := by
        have e9 : xx = (ad xx : Int) + 1 := ad_eq hpos
        rw [e9, vp_ref]
        unfold ad
        congr 1
      have hstk : st.map vp = ((st.take (pNa P j' - 1)).reverse.map vp).reverse ++ .ref (ad xx) :: r9.map vp := by
        conv => lhs; rw [hst]
        rw [List.map_append, List.map_cons, hxe, List.map_reverse, List.reverse_reverse]
      have hpre := callee_pre (j := j) hX hF h1 h2 ((2, xx) :: (st.take (pNa P j' - 1)).reverse)
      rw [List.map_cons, hxe] at hpre
      have hrun : vx_RunW w p l e R s m args below meth c H locs cells slots (hnx r1.2 - hnx h) (hus r1.2 - hus h) (F0 m pc ls (((st.take (pNa P j' - 1)).reverse.map vp).reverse ++ .ref (ad xx) :: r9.map vp)) (r9.map vp) (cQc D cl dA NT P B r1 (Value.ref (ad xx) :: (st.take (pNa P j' - 1)).reverse.map vp).toArray) (cXC D cl dA NT P B r1) (fun q => B ≤ q) := by
        have a1 : d' + 10 + 1 ≤ R.frames := by omega
        have a2 : 8 + (pNl P j' + 11) + (100 * d' + 1000) ≤ R.locals := by
          refine Nat.le_trans ?_ hRl
          clear hRl hRc hRs hRf
          omega
        have a3 : ((st.take (pNa P j' - 1)).reverse.map vp).length + 1 = pNa P j' := by
          rw [List.length_map, List.length_reverse, List.length_take]
          omega
        have a4 : ((r9.map vp).map fun v => v.category).sum ≤ 8 := by rw [csum_map]; exact hcs
        have a5 : cells + (hnx r1.2 - hnx h) ≤ R.cells ∧ slots + (hus r1.2 - hus h) ≤ R.slots := by
          have := hm1.1; have := hm1.2; have := hm2.1; have := hm2.2
          omega
        rcases hcall with ⟨⟨rfl, hcv⟩ | ⟨rfl, hcv⟩, hrecv⟩ | ⟨rfl, hci⟩
        · exact hcv p l e R s m args below meth c H locs cells slots ls ((st.take (pNa P j' - 1)).reverse.map vp) (r9.map vp) (ad xx) _ _ _ _ _ _ _ hF hct rfl rfl a1 a2 (cPc_blind hX) (hrecv H h1) hpre h5.1 a3 a4 a5
        · exact hcv p l e R s m args below meth c H locs cells slots ls ((st.take (pNa P j' - 1)).reverse.map vp) (r9.map vp) (ad xx) _ _ _ _ _ _ _ hF hct rfl rfl a1 a2 (cPc_blind hX) (hrecv H h1) hpre h5.1 a3 a4 a5
        · exact hci p l e R s m args below meth c H locs cells slots ls ((st.take (pNa P j' - 1)).reverse.map vp) (r9.map vp) (ad xx) _ _ _ _ _ _ _ hF hct rfl rfl a1 a2 (cPc_blind hX) hpre h5.1 a3 a4 a5
      rw [hstk]
      exact aft_sound hX hF hH hQ hmc hms hk1 hm1 he h2 h3 h4 h5 (fun q hq => h6b q (List.mem_cons_of_mem _ hq)) hrun
  have hcell : ∀ (x : AV) (ci : Nat) (z : vw_C), cl[ci]? = some z → hk h (ad x.2) = (1, ci) → ∀ H, RH D cl dA NT (pFt P) h H → ∃ cellB : Cell, H[ad x.2]? = some cellB ∧ cellB.vm.isStatics = false ∧ s.vm.findClass z.1 = some cellB.cls := by
    intro x ci z hz hkx H h1
    obtain ⟨r', cell, d1, d2, d3, d4, -⟩ := h1.2.1 _ ci hkx
    exact ⟨cell, d2, d4.2.1, by rw [d3]; exact (hK.1 ci z hz).2.1⟩
  unfold exec1 at he
  unfold InsOK at hI
  split at he
  all_goals first | (exfalso; omega) | skip
  · -- 32
    split at he
    · next hq =>
      obtain ⟨hq1, hq2⟩ := hq
      obtain ⟨hcs, hnl, rfl, hH⟩ := hI
      intro H locs cells slots ls h1 h2 h3 h4 h5 h6
      cases hcl : call a (st.take (pNa P a)).reverse h with
      | none => rw [hcl] at he; cases he
      | some r1 =>
        rw [hcl] at he
        obtain ⟨hm1, hct⟩ := hc1 _ _ _ _ hcl
        obtain ⟨d', hd', hct⟩ := hct (fun q hq => h6 q (List.mem_of_mem_take (List.mem_reverse.mp hq)))
        have hm2 : hnx r1.2 ≤ hnx r.2 ∧ hus r1.2 ≤ hus r.2 := aft_mono1 (fun a1 a2 a3 a4 a5 => (hk1 _ _ _ _ a5).1) he
        have hpre := callee_pre (j := j) hX hF h1 h2 (st.take (pNa P a)).reverse
        have hstk : st.map vp = ((st.take (pNa P a)).reverse.map vp).reverse ++ (st.drop (pNa P a)).map vp := by
          rw [List.map_reverse, List.reverse_reverse, ← List.map_append, List.take_append_drop]
        have hrun := hcs p l e R s m args below meth c H locs cells slots ls ((st.take (pNa P a)).reverse.map vp) ((st.drop (pNa P a)).map vp) _ _ _ _ _ _ _ hF hct rfl rfl (show d' + 10 + 1 ≤ R.frames by omega) (show 8 + (pNl P a + 11) + (100 * d' + 1000) ≤ R.locals by
            refine Nat.le_trans ?_ hRl
            clear hRl hRc hRs hRf
            omega) (cPc_blind hX) hpre h5.1
          (by rw [List.length_map, List.length_reverse, List.length_take]; omega) (by rw [csum_map]; exact hq2) (by
            have := hm1.1; have := hm1.2; have := hm2.1; have := hm2.2
            omega)
        rw [hstk]
        exact aft_sound (w := 3) hX hF hH hQ hmc hms hk1 hm1 he h2 h3 h4 h5 (fun q hq => h6 q (List.mem_of_mem_drop hq)) hrun
    · cases he
  · -- 33
    split at he
    · next x r9 hdrop =>
      split at he
      · next hq =>
        split at he
        · next hz =>
          obtain ⟨hcv, hnl, rfl, hH⟩ := hI
          obtain ⟨q1, q2, q3⟩ := hq
          intro H locs cells slots ls h1 h2 h3 h4 h5 h6
          obtain ⟨r', cell, d1, -⟩ := h1.2.1 _ _ hz.2
          exact inst 3 a x r9 r'.1 (Or.inl ⟨Or.inl ⟨rfl, hcv r' d1⟩, hcell x _ r' d1 hz.2⟩) hnl hH hdrop q1 q2 q3 hz.1 he H locs cells slots ls h1 h2 h3 h4 h5 h6
        · cases he
      · cases he
    · cases he
  · -- 34
    split at he
    · next x r9 hdrop =>
      split at he
      · next hq =>
        split at he
        · next hz =>
          obtain ⟨hcv, hnl, rfl, hH⟩ := hI
          obtain ⟨q1, q2, q3⟩ := hq
          exact inst 3 a x r9 "" (Or.inr ⟨rfl, hcv⟩) hnl hH hdrop q1 q2 q3 hz he
        · cases he
      · cases he
    · cases he
  · -- 35
    split at he
    · next x r9 hdrop =>
      split at he
      · next hq =>
        split at he
        · next hz =>
          obtain ⟨hcv, rfl, hH⟩ := hI
          obtain ⟨q1, q2, q3⟩ := hq
          obtain ⟨z1, z2, z3⟩ := hz
          intro H locs cells slots ls h1 h2 h3 h4 h5 h6
          have hkx : hk h (ad x.2) = (1, (hk h (ad x.2)).2) := Prod.ext z2 rfl
          obtain ⟨r', cell, d1, -⟩ := h1.2.1 _ _ hkx
          obtain ⟨y1, y2, y3⟩ := hcv _ r' d1 z3
          rw [← y3] at hdrop q2 he
          exact inst 3 _ x r9 r'.1 (Or.inl ⟨Or.inl ⟨rfl, y1⟩, hcell x _ r' d1 hkx⟩) y2 hH hdrop q1 q2 q3 z1 he H locs cells slots ls h1 h2 h3 h4 h5 h6
        · cases he
      · cases he
    · cases he
  · -- 36
    split at he
    · next x r9 =>
      split at he
      · next hq =>
        split at he
        · next hz =>
          obtain ⟨q1, q2⟩ := hq
          intro H locs cells slots ls h1 h2 h3 h4 h5 h6
          obtain ⟨tx, xx⟩ := x
          obtain rfl : tx = 2 := q1
          have hxe : vp (2, xx) = .ref (ad xx) := by
            have e9 : xx = (ad xx : Int) + 1 := ad_eq hz
            rw [e9, vp_ref]
            unfold ad
            congr 1
          rw [List.map_cons, hxe]
          exact hI p l e R s m args below meth c H locs cells slots ls (r9.map vp) Q (ad xx) hF h5.1 (by omega) (by omega) (by rw [csum_map]; exact q2) ((hk1 _ _ _ _ he).2 H locs cells slots ls h1 h2 h3 h4 h5 (cnt h6).2)
        · cases he
      · cases he
    · cases he
  · -- 37
    split at he
    · next hq =>
      obtain ⟨m9, k9⟩ := hk1 _ _ _ _ he
      have m1 : hnx h + 1 ≤ hnx r.2 := m9.1
      have m2 : hus h + 6 ≤ hus r.2 := m9.2
      intro H locs cells slots ls h1 h2 h3 h4 h5 h6
      refine hI p l e R s m args below meth c H locs cells slots ls (st.map vp) Q h hl hF h2 h1 h5.1 (by omega) (by omega) (by rw [csum_map]; exact hq) (by omega) (by omega) (fun H1 g1 g2 => ?_)
      have := k9 H1 locs (cells + 1) (slots + 6) ls g1 g2 (by rw [hnx_new]; omega) (by rw [hus_new]; omega) h5 (cns (show (0 : Int) ≤ _ by omega) h6)
      rw [List.map_cons, vp_ref, h1.1] at this
      exact this
    · cases he
  · -- 38
    split at he
    · next x r9 =>
      split at he
      · next hq =>
        split at he
        · next hz =>
          obtain ⟨i1, hH⟩ := hI
          obtain ⟨z1, z2⟩ := hz
          intro H locs cells slots ls h1 h2 h3 h4 h5 h6
          obtain ⟨tx, xx⟩ := x
          obtain rfl : tx = 2 := hq
          have e9 : xx = (ad xx : Int) + 1 := ad_eq z1
          have hxe : vp (2, xx) = .ref (ad xx) := by
            rw [e9, vp_ref]
            unfold ad
            congr 1
          rw [List.map_cons, hxe]
          have hkx : hk h (ad xx) = (1, (hk h (ad xx)).2) := Prod.ext z2 rfl
          obtain ⟨r', cell, d1, d2, d3, d4, -⟩ := h1.2.1 _ _ hkx
          refine vx_athrow hx hb i1 ?_
          rw [hQ]
          have he : thr P j pc L ((ad xx : Int) + 1) h k = some r := by rw [← e9]; exact he
          exact ws_thr hF hH (fun a1 a2 a3 a4 a5 => by rw [← hQ]; exact (hk1 _ _ _ _ a5).2) hmc hms h1 h2 h3 h4 h5 hkx d1 d2 d4.2.2 (by rw [d3]; exact (hK.1 _ r' d1).2.1) he
        · cases he
      · cases he
    · cases he
  · -- 39
    split at he
    · next q =>
      split at he
      · next hq =>
        have hr : r = ((0, q), h) := (Option.some.inj he).symm
        intro H locs cells slots ls h1 h2 h3 h4 h5 h6
        have hcq := (cnt h6).1
        obtain ⟨t, x⟩ := q
        have hq : t = a := hq
        have ec : cells = mc := by rw [hmc, hr]; show cells = hnx h - hnx h0; omega
        have es : slots = ms := by rw [hms, hr]; show slots = hus h - hus h0; omega
        subst ec; subst es
        rw [hQ]
        refine vx_ret ?_
        have hq9 : t ≠ 9 → ∀ u : State, u.heap = H → s.WarmedH u.vm → cQc D cl dA NT P B r args s (.returned (some (vp (t, x)))) u := fun ht u hu hW => by
          rw [hr]
          exact ⟨⟨rfl, (by show _ = Outcome.returned (if t = 9 then none else some (vp (t, x))); rw [if_neg ht]), Or.inr hcq, (by rw [hu]; exact h1)⟩, h2.F hu⟩
        rcases hI with ⟨rfl, i1, i2⟩ | ⟨rfl, i1, i2⟩ | ⟨rfl, ⟨ty, i1, i3⟩, i2⟩
        · subst hq
          exact W.iret hx hb (by rw [hret, i1]) (hq9 (by decide)) h2.2.2 i2 hlocks
        · subst hq
          exact W.lret hx hb (by rw [hret, i1]) (hq9 (by decide)) h2.2.2 i2 hlocks
        · subst hq
          refine W.aret hx hb (by rw [hret, i1]) i3 ?_ (hq9 (by decide)) h2.2.2 i2 hlocks
          show (if x = 0 then Value.null else Value.ref (x.toNat - 1)) = .null ∨ _
          by_cases hz : x = 0
          · exact Or.inl (if_pos hz)
          · exact Or.inr ⟨_, if_neg hz⟩
      · cases he
    · cases he
  · -- 40
    split at he
    · next q =>
      split at he
      · next hq =>
        split at he
        · next hz =>
          have hr : r = ((0, q), h) := (Option.some.inj he).symm
          intro H locs cells slots ls h1 h2 h3 h4 h5 h6
          have hcq := (cnt h6).1
          obtain ⟨t, x⟩ := q
          obtain rfl : t = 0 := hq
          have ec : cells = mc := by rw [hmc, hr]; show cells = hnx h - hnx h0; omega
          have es : slots = ms := by rw [hms, hr]; show slots = hus h - hus h0; omega
          subst ec; subst es
          rw [hQ]
          refine vx_ret ?_
          obtain ⟨i1, i2⟩ := hI
          refine W.zret hx hb (by rw [hret, i1]) ?_ (fun u hu hW => ?_) h2.2.2 i2 hlocks
          · have hz : x = 0 ∨ x = 1 := hz
            rcases hz with rfl | rfl <;> rfl
          · rw [hr]
            exact ⟨⟨rfl, rfl, Or.inr hcq, (by rw [hu]; exact h1)⟩, h2.F hu⟩
        · cases he
      · cases he
    · cases he
  · -- 41
    split at he
    · have hr : r = ((0, (9, 0)), h) := (Option.some.inj he).symm
      intro H locs cells slots ls h1 h2 h3 h4 h5 h6
      have ec : cells = mc := by rw [hmc, hr]; show cells = hnx h - hnx h0; omega
      have es : slots = ms := by rw [hms, hr]; show slots = hus h - hus h0; omega
      subst ec; subst es
      rw [hQ]
      refine vx_ret ?_
      obtain ⟨i1, i2⟩ := hI
      refine W.vret hx hb (by rw [hret, i1]) (fun u hu hW => ?_) h2.2.2 i2 hlocks
      rw [hr]
      exact ⟨⟨rfl, rfl, Or.inl rfl, (by rw [hu]; exact h1)⟩, h2.F hu⟩
    · cases he
  · -- 42
    split at he
    · next n dp x sp y r9 =>
      split at he
      · next hq =>
        split at he
        · next hz =>
          intro H locs cells slots ls h1 h2 h3 h4 h5 h6
          obtain ⟨tn, n⟩ := n
          obtain ⟨tdp, dp⟩ := dp
          obtain ⟨tx, x⟩ := x
          obtain ⟨tsp, sp⟩ := sp
          obtain ⟨ty, y⟩ := y
          obtain ⟨q1, q2, q3, q4, q5, q6⟩ := hq
          obtain rfl : tn = 0 := q1
          obtain rfl : tdp = 0 := q2
          obtain rfl : tx = 2 := q3
          obtain rfl : tsp = 0 := q4
          obtain rfl : ty = 2 := q5
          obtain ⟨z1, z2, z3, z4, z5, z6, z7, z8, z9, z10⟩ := hz
          obtain ⟨g1, g2⟩ := cnt h6
          obtain ⟨g3, g4⟩ := cnt g2
          obtain ⟨g5, g6⟩ := cnt g4
          obtain ⟨g7, g8⟩ := cnt g6
          obtain ⟨g9, g10⟩ := cnt g8
          have ex : vp (2, x) = .ref (ad x) := by
            have e9 : x = (ad x : Int) + 1 := ad_eq z1
            rw [e9, vp_ref]
            unfold ad
            congr 1
          have ey : vp (2, y) = .ref (ad y) := by
            have e9 : y = (ad y : Int) + 1 := ad_eq z2
            rw [e9, vp_ref]
            unfold ad
            congr 1
          rw [List.map_cons, List.map_cons, List.map_cons, List.map_cons, List.map_cons, ex, ey]
          exact hI p l e R s m args below meth c H locs cells slots ls (r9.map vp) Q h (ad x) (ad y) sp dp n hF h2 h1 h5.1 (by omega) (by omega) (by rw [csum_map]; exact q6) z3 z4 z5 z6 z7 z8 z9 z10 g7 g3 g1
            (fun H1 locs1 w1 w2 => (hk1 _ _ _ _ he).2 H1 locs1 cells slots ls w1 w2 h3 h4 h5 g10)
        · cases he
      · cases he
    · cases he
  · -- 43
    split at he
    · next x r9 =>
      split at he
      · next hq =>
        split at he
        · next hz =>
          intro H locs cells slots ls h1 h2 h3 h4 h5 h6
          obtain ⟨tx, x⟩ := x
          obtain ⟨q1, q2⟩ := hq
          obtain rfl : tx = 2 := q1
          obtain ⟨z1, z2, z3, z4⟩ := hz
          have ex : vp (2, x) = .ref (ad x) := by
            have e9 : x = (ad x : Int) + 1 := ad_eq z1
            rw [e9, vp_ref]
            unfold ad
            congr 1
          rw [List.map_cons, ex]
          exact hI p l e R s m args below meth c H locs cells slots ls (r9.map vp) Q h (ad x) hl hF h2 h1 h5.1 (by omega) (by omega) (by rw [csum_map]; exact q2) z2 z3 z4 (fun H1 locs1 w1 w2 => (hk1 _ _ _ _ he).2 H1 locs1 cells slots ls w1 w2 h3 h4 h5 (cnt h6).2)
        · cases he
      · cases he
    · cases he
  · -- 44
    split at he
    · next x r9 hdrop =>
      split at he
      · next hq =>
        split at he
        · next hz =>
          obtain ⟨hcv, rfl, hH⟩ := hI
          obtain ⟨q1, q2, q3⟩ := hq
          obtain ⟨z1, z2, z3⟩ := hz
          intro H locs cells slots ls h1 h2 h3 h4 h5 h6
          have hkx : hk h (ad x.2) = (1, (hk h (ad x.2)).2) := Prod.ext z2 rfl
          obtain ⟨r', cell, d1, -⟩ := h1.2.1 _ _ hkx
          obtain ⟨y1, y2, y3⟩ := hcv _ r' d1 z3
          rw [← y3] at hdrop q2 he
          exact inst 5 _ x r9 r'.1 (Or.inl ⟨Or.inr ⟨rfl, y1⟩, hcell x _ r' d1 hkx⟩) y2 hH hdrop q1 q2 q3 z1 he H locs cells slots ls h1 h2 h3 h4 h5 h6
        · cases he
      · cases he
    · cases he
  · -- 45
    split at he
    · next q =>
      split at he
      · next hq =>
        split at he
        · next hz =>
          have hr : r = ((0, q), h) := (Option.some.inj he).symm
          intro H locs cells slots ls h1 h2 h3 h4 h5 h6
          have hcq := (cnt h6).1
          obtain ⟨t, x⟩ := q
          obtain rfl : t = 0 := hq
          have ec : cells = mc := by rw [hmc, hr]; show cells = hnx h - hnx h0; omega
          have es : slots = ms := by rw [hms, hr]; show slots = hus h - hus h0; omega
          subst ec; subst es
          rw [hQ]
          refine vx_ret ?_
          obtain ⟨i1, i2⟩ := hI
          have hz : uop a x = x := hz
          rcases i1 with ⟨rfl, i1⟩ | ⟨rfl, i1⟩
          · refine W.zret hx hb (by rw [hret, i1]) (nar_byte hz) (fun u hu hW => ?_) h2.2.2 i2 hlocks
            rw [hr]
            exact ⟨⟨rfl, rfl, Or.inr hcq, (by rw [hu]; exact h1)⟩, h2.F hu⟩
          · refine W.zret hx hb (by rw [hret, i1]) (nar_char hz) (fun u hu hW => ?_) h2.2.2 i2 hlocks
            rw [hr]
            exact ⟨⟨rfl, rfl, Or.inr hcq, (by rw [hu]; exact h1)⟩, h2.F hu⟩
        · cases he
      · cases he
    · cases he
  · cases he
end EXEC
