/-! L3: numbers with points between them, read (model); finding faces by names -/
section RNM
variable {gv : Nat → Int} {B n d m : Nat} {h t : AH} {u : Nat → Int}
def rnW (B : Nat) : Nat → Nat → Prop := fun c k => mgW B c k ∨ (c = B + 192 ∧ k < 3)
set_option maxHeartbeats 1000000 in
theorem c_readName794 {p K : Nat} (l : LX B n h) (hd : 14 ≤ d) (S : MgP B h m u) (e5 : hv h (B + 149) 5 = (p : Int)) (hp : p ≤ m) (hK : 1 ≤ K ∧ K ≤ 3) :
    Vt 0 (cll PP (ev PP (gsF gv) B) d 794 [(2, rf (B + 149)), (0, (K : Int))] h) (fun x h' => Agr (rnW B) h h' ∧ ((nmO u m p K ∧ x = -1 ∧ MgT B h' u m (nen u m p K) ∧ ∀ j, j < K → hv h' (B + 192) j = nbV u m (nst u m p j)) ∨ (¬ nmO u m p K ∧ x = (p : Int)))) := by
  have m8 := S.2.2.2
  refine Vt.inq (D := 13) hd (Nat.le_of_ble_eq_true rfl) rfl (fun d hd Q KK => ?_)
  refine Ends.eq (b794_0 l (by omega)) ?_
  rw [e5]
  have SS : ∀ {g : AH}, Agr (fun c k => c = B + 192 ∧ k < 3) h g → MgP B g m u ∧ hv g (B + 149) 5 = (p : Int) := fun ag => ⟨S.agr ag (by omega) (fun i _ => by omega), by rw [ag.at _ _ (by omega)]; exact e5⟩
  have W : ∀ {g : AH}, Agr (fun c k => c = B + 192 ∧ k < 3) h g → Agr (rnW B) h g := fun ag => ag.sub (fun c k z => Or.inr z)
  have bad : ∀ (g : AH) (L : List AV), LX B n g → Agr (fun c k => c = B + 192 ∧ k < 3) h g → ¬ nmO u m p K → ev PP (gsF gv) B d 794 128 L [] g = some ((0, (0, hv g (B + 149) 5)), g) → Ends (ev PP (gsF gv) B d 794 128 L [] g) Q := fun g L lg ag no e => by
    rw [e]; exact Ends.sm (KK _ _ ⟨W ag, Or.inr ⟨no, (SS ag).2⟩⟩)
  have run : ∀ (k s : Nat) (g : AH), k < 3 → LX B n g → Agr (fun c k => c = B + 192 ∧ k < 3) h g → (∀ (c : Nat) (g' : AH), c = min (ndg u m s) 5 → (∀ j, j < c → isD (u (s + j)) = true) → LX B n g' → Agr (fun c j => c = B + 192 ∧ j = k) g g' → hv g' (B + 192) k = hor u c s 0 → Ends (ev PP (gsF gv) B d 794 94 [(2, rf (B + 149)), (0, (K : Int)), (0, ((s + c : Nat) : Int)), (0, (k : Int)), (0, (s : Int))] [] g') Q) → ∀ (r x : Nat) (g' : AH), x + r = min (ndg u m s) 5 → LX B n g' → Agr (fun c j => c = B + 192 ∧ j = k) g g' → hv g' (B + 192) k = hor u x s 0 → Ends (ev PP (gsF gv) B d 794 44 [(2, rf (B + 149)), (0, (K : Int)), (0, ((s + x : Nat) : Int)), (0, (k : Int)), (0, (s : Int))] [] g') Q := by
    intro k s g hk lg ag kn r
    have ge : s ≤ en isD u m s := en_ge
    have dg : ∀ j, j < ndg u m s → s + j < m ∧ isD (u (s + j)) = true := fun j hj => isD_chr (en_all' (u := u) (m := m) (p := s) (i := s + j) (by omega) (by unfold ndg at hj; omega))
    have m5 : min (ndg u m s) 5 ≤ 5 := Nat.min_le_right _ _
    induction r with
    | zero =>
      intro x g' e lg' ag' hv'
      have ag2 := ag.tr ag' (fun c j z => ⟨z.1, by omega⟩)
      have fin := kn x g' e (fun j hj => (dg j (by omega)).2) lg' ag' hv'
      refine Ends.eq (b794_44 lg' (by omega)) (Ends.g ((SS ag2).1.q _) ?_)
      rw [(SS ag2).1.by, v685_is]
      refine Ends.b0 (fun _ => fin) (fun w => ?_)
      have w : isD (chr u m (s + x)) = true := by
        cases y : isD (chr u m (s + x))
        · rw [y, if_neg Bool.false_ne_true] at w; exact absurd rfl w
        · rfl
      have zi := isD_chr w
      rw [sub32 (x := ((s + x : Nat) : Int)) (by omega) (by omega)]
      refine Ends.b3 (fun _ => fin) (fun y => ?_)
      have x5 : x = ndg u m s := by omega
      have st := en_D (u := u) (m := m) s
      rw [show en isD u m s = s + x by unfold ndg at x5; omega, w] at st
      exact absurd st.symm Bool.false_ne_true
    | succ r ih =>
      intro x g' e lg' ag' hv'
      have ag2 := ag.tr ag' (fun c j z => ⟨z.1, by omega⟩)
      obtain ⟨zi, zd⟩ := dg x (by omega)
      obtain ⟨b1, b2⟩ := hor_at (u := u) (p := s) (k := x) (by omega) (fun j hj => (dg j (by omega)).2)
      have cr := isD_r zd
      refine Ends.eq (b794_44 lg' (by omega)) (Ends.g ((SS ag2).1.q _) ?_)
      rw [(SS ag2).1.by, v685_is, chr_lt zi, zd, if_pos rfl, sub32 (x := ((s + x : Nat) : Int)) (by omega) (by omega), tn, tn, hv', (SS ag2).1.2.1 _ zi, mul32 (x := 10) (by omega) (by omega), sub32 (x := u (s + x)) (by omega) (by omega), add32 (by omega) (by omega), w_succ (by omega), an0]
      refine Ends.b0 (fun z => absurd z (by decide)) (fun _ => Ends.b3 (fun z => by omega) (fun _ => Ends.g ⟨by omega, by omega⟩ (Ends.g ⟨by omega, by omega⟩ ?_)))
      refine ih (x + 1) _ (by omega) (LX.setS lg' rfl) (ag'.set ⟨rfl, rfl⟩) ?_
      rw [hv_set_at, hor_s]
  have key : ∀ (r k : Nat) (g : AH) (x2 : Int) (u4 : AV), k + (r + 1) = K → LX B n g → Agr (fun c k => c = B + 192 ∧ k < 3) h g → (∀ j, j < k → (nbO u m (nst u m p j) ∧ chr u m (en isD u m (nst u m p j)) = 46) ∧ hv g (B + 192) j = nbV u m (nst u m p j)) → nst u m p k ≤ m → Ends (ev PP (gsF gv) B d 794 34 [(2, rf (B + 149)), (0, (K : Int)), (0, ((nst u m p k : Nat) : Int)), (0, (k : Int)), u4] [] g) Q := by
    intro r
    induction r with
    | zero =>
      intro k g x2 u4 e lg ag gb sl
      have hk3 : k < 3 := by omega
      refine Ends.eq (b794_34 lg (by omega)) (Ends.g ⟨by omega, by omega⟩ ?_)
      rw [tn, an0]
      have lg1 : LX B n (hset g (B + 192) k 0) := LX.setS lg rfl
      have ag1 : Agr (fun c k => c = B + 192 ∧ k < 3) h (hset g (B + 192) k 0) := ag.set ⟨rfl, hk3⟩
      have old : ∀ j, j < k → hv (hset g (B + 192) k 0) (B + 192) j = nbV u m (nst u m p j) := fun j hj => by rw [hv_set_ne (by omega)]; exact (gb j hj).2
      refine run k (nst u m p k) _ hk3 lg1 ag1 (fun c g' ec cd lg' ag' hv' => ?_) (min (ndg u m (nst u m p k)) 5) 0 _ (Nat.zero_add _) lg1 Agr.rf (hv_set_at ..)
      have ag2 := ag1.tr ag' (fun c j z => ⟨z.1, by omega⟩)
      obtain ⟨s, es⟩ : ∃ s, s = nst u m p k := ⟨_, rfl⟩
      rw [← es] at ec cd sl hv' ⊢
      have nb : ¬ nbO u m s → ¬ nmO u m p K := fun z o => z (by rw [es]; exact (o k (by omega)).1)
      refine Ends.eq (b794_94 lg' (by omega)) ?_
      rw [sub32 (x := ((s + c : Nat) : Int)) (by omega) (by omega)]
      refine Ends.b0 (fun z => bad _ _ lg' ag2 (nb (fun y => by have := y.1; omega)) (b794_128 lg' (by omega))) (fun z1 => Ends.b4 (fun z => bad _ _ lg' ag2 (nb (fun y => by have := y.2.1; omega)) (b794_128 lg' (by omega))) (fun z2 => ?_))
      have si : s < m := (isD_chr (en_all' (u := u) (m := m) (p := s) (i := s) (Nat.le_refl _) (by unfold ndg at ec; omega))).1
      have cn : c = ndg u m s := by omega
      have ex : en isD u m s = s + c := by have : s ≤ en isD u m s := en_ge; unfold ndg at cn; omega
      have vb : hor u c s 0 = nbV u m s := by unfold nbV; rw [← cn]
      have good : nbO u m s → Ends (ev PP (gsF gv) B d 794 133 [(2, rf (B + 149)), (0, (K : Int)), (0, ((s + c : Nat) : Int)), (0, (k : Int)), (0, (s : Int))] [] g') Q := fun o => by
        refine Ends.eq (b794_133 lg' (by omega)) ?_
        rw [w_succ (i := k) (by omega)]
        refine Ends.eq (b794_7 lg' (by omega)) (Ends.b3 (fun _ => ?_) (fun z => by omega))
        have l3 : LX B n (hset g' (B + 149) 4 ((s + c : Nat) : Int)) := LX.setF 149 4 lg' (by decide +kernel)
        refine Ends.cv l3 (by decide +kernel) (c_nextM (p := s + c) l3 (by omega) ((SS ag2).1.s (by decide) (by decide)) (hv_set_at ..) (by have : en isD u m s ≤ m := en_le sl; omega)) (fun h4 l4 _ _ _ ⟨g4, R4⟩ => ?_)
        refine Ends.eq (b794_148 l4 (by omega)) (Ends.sm (KK _ _ ⟨((W ag2).set (Or.inl ⟨rfl, by decide, by decide⟩)).tr g4 (fun c k z => Or.inl z), Or.inl ⟨fun j hj => ?_, rfl, ?_, fun j hj => ?_⟩⟩))
        · rcases (by omega : j < k ∨ j = k) with w2 | w2
          · exact ⟨(gb j w2).1.1, fun _ => (gb j w2).1.2⟩
          · rw [w2]; exact ⟨by rw [← es]; exact o, fun z => by omega⟩
        · rw [show nen u m p K = s + c by unfold nen; rw [show K - 1 = k by omega, ← es, ex]]
          exact R4
        · rw [g4.at _ _ (by unfold mgW; omega), hv_set_ne (by omega)]
          rcases (by omega : j < k ∨ j = k) with w2 | w2
          · rw [ag'.at _ _ (by omega)]; exact old j w2
          · rw [w2, hv', vb, es]
      refine Ends.b5 (fun z4 => good ⟨by omega, by omega, Or.inl (by omega)⟩) (fun z4 => Ends.g ⟨by omega, by omega⟩ ?_)
      rw [tn, (SS ag2).1.2.1 _ si]
      refine Ends.b1 (fun z3 => good ⟨by omega, by omega, Or.inr z3⟩) (fun z3 => bad _ _ lg' ag2 (nb (fun y => ?_)) (b794_128 lg' (by omega)))
      rcases y.2.2 with w | w
      · omega
      · exact w z3
    | succ r ih =>
      intro k g x2 u4 e lg ag gb sl
      have hk3 : k < 3 := by omega
      refine Ends.eq (b794_34 lg (by omega)) (Ends.g ⟨by omega, by omega⟩ ?_)
      rw [tn, an0]
      have lg1 : LX B n (hset g (B + 192) k 0) := LX.setS lg rfl
      have ag1 : Agr (fun c k => c = B + 192 ∧ k < 3) h (hset g (B + 192) k 0) := ag.set ⟨rfl, hk3⟩
      have old : ∀ j, j < k → hv (hset g (B + 192) k 0) (B + 192) j = nbV u m (nst u m p j) := fun j hj => by rw [hv_set_ne (by omega)]; exact (gb j hj).2
      refine run k (nst u m p k) _ hk3 lg1 ag1 (fun c g' ec cd lg' ag' hv' => ?_) (min (ndg u m (nst u m p k)) 5) 0 _ (Nat.zero_add _) lg1 Agr.rf (hv_set_at ..)
      have ag2 := ag1.tr ag' (fun c j z => ⟨z.1, by omega⟩)
      obtain ⟨s, es⟩ : ∃ s, s = nst u m p k := ⟨_, rfl⟩
      rw [← es] at ec cd sl hv' ⊢
      have nb : ¬ nbO u m s → ¬ nmO u m p K := fun z o => z (by rw [es]; exact (o k (by omega)).1)
      refine Ends.eq (b794_94 lg' (by omega)) ?_
      rw [sub32 (x := ((s + c : Nat) : Int)) (by omega) (by omega)]
      refine Ends.b0 (fun z => bad _ _ lg' ag2 (nb (fun y => by have := y.1; omega)) (b794_128 lg' (by omega))) (fun z1 => Ends.b4 (fun z => bad _ _ lg' ag2 (nb (fun y => by have := y.2.1; omega)) (b794_128 lg' (by omega))) (fun z2 => ?_))
      have si : s < m := (isD_chr (en_all' (u := u) (m := m) (p := s) (i := s) (Nat.le_refl _) (by unfold ndg at ec; omega))).1
      have cn : c = ndg u m s := by omega
      have ex : en isD u m s = s + c := by have : s ≤ en isD u m s := en_ge; unfold ndg at cn; omega
      have vb : hor u c s 0 = nbV u m s := by unfold nbV; rw [← cn]
      have good : nbO u m s → Ends (ev PP (gsF gv) B d 794 133 [(2, rf (B + 149)), (0, (K : Int)), (0, ((s + c : Nat) : Int)), (0, (k : Int)), (0, (s : Int))] [] g') Q := fun o => by
        refine Ends.eq (b794_133 lg' (by omega)) ?_
        rw [w_succ (i := k) (by omega)]
        refine Ends.eq (b794_7 lg' (by omega)) (Ends.b3 (fun z => by omega) (fun _ => Ends.b5 (fun z => by omega) (fun _ => Ends.g ((SS ag2).1.q _) ?_)))
        rw [(SS ag2).1.by, w_succ (i := s + c) (by omega)]
        refine Ends.b0 (fun w => ?_) (fun w => ?_)
        · obtain ⟨zi, z46⟩ := chr_in w (by decide)
          have nx := ih (k + 1) g' x2 (0, (s : Int)) (by omega) lg' ag2 (fun j hj => ⟨?_, ?_⟩) (by show en isD u m (nst u m p k) + 1 ≤ m; rw [← es, ex]; omega)
          · rw [show nst u m p (k + 1) = s + c + 1 from by show en isD u m (nst u m p k) + 1 = _; rw [← es, ex]] at nx
            exact nx
          · rcases (by omega : j < k ∨ j = k) with w2 | w2
            · exact (gb j w2).1
            · rw [w2]; exact ⟨by rw [← es]; exact o, by rw [← es, ex]; exact w⟩
          · rcases (by omega : j < k ∨ j = k) with w2 | w2
            · rw [ag'.at _ _ (by omega)]; exact old j w2
            · rw [w2, hv', vb, es]
        · refine Ends.sm (KK _ _ ⟨W ag2, Or.inr ⟨fun o3 => w ?_, (SS ag2).2⟩⟩)
          have := (o3 k (by omega)).2 (by omega)
          rw [← es, ex] at this
          exact this
      refine Ends.b5 (fun z4 => good ⟨by omega, by omega, Or.inl (by omega)⟩) (fun z4 => Ends.g ⟨by omega, by omega⟩ ?_)
      rw [tn, (SS ag2).1.2.1 _ si]
      refine Ends.b1 (fun z3 => good ⟨by omega, by omega, Or.inr z3⟩) (fun z3 => bad _ _ lg' ag2 (nb (fun y => ?_)) (b794_128 lg' (by omega)))
      rcases y.2.2 with w | w
      · omega
      · exact w z3
  refine Ends.eq (b794_7 l (by omega)) (Ends.b3 (fun z => by omega) (fun _ => Ends.b5 (fun _ => ?_) (fun z => absurd z (by decide))))
  obtain ⟨r, er⟩ : ∃ r, 0 + (r + 1) = K := ⟨K - 1, by omega⟩
  exact key r 0 h 0 _ er l Agr.rf (fun j hj => absurd hj (Nat.not_lt_zero j)) hp
end RNM
