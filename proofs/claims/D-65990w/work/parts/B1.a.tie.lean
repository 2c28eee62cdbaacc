/-! L3: what joints tie together: the picture -/
section TIE
variable {pl jn : Nat} {ja jb : Nat → Nat} {es : Nat → Int} {A : Nat → Prop}
/-- joint k ties places ja k and jb k (12: nothing): the second is es k behind the first -/
def TiS (jn : Nat) (ja jb : Nat → Nat) (es : Nat → Int) (A : Nat → Prop) (pos : Nat → Int) : Prop := pos 12 = 0 ∧ ∀ k, k < jn → A k → pos (jb k) = pos (ja k) + es k
def TiSat (jn : Nat) (ja jb : Nat → Nat) (es : Nat → Int) (A : Nat → Prop) : Prop := ∃ pos, TiS jn ja jb es A pos
/-- tied together -/
def TCon (jn : Nat) (ja jb : Nat → Nat) (A : Nat → Prop) (x y : Nat) : Prop := ∀ P : Nat → Prop, P x → (∀ k, k < jn → A k → (P (ja k) ↔ P (jb k))) → P y
theorem TCon.rf {x : Nat} : TCon jn ja jb A x x := fun _ h _ => h
theorem TCon.tr {x y z : Nat} (a : TCon jn ja jb A x y) (b : TCon jn ja jb A y z) : TCon jn ja jb A x z := fun P hx hc => b P (a P hx hc) hc
theorem TCon.e1 {k : Nat} (hk : k < jn) (ha : A k) : TCon jn ja jb A (ja k) (jb k) := fun P hx hc => (hc k hk ha).mp hx
theorem TCon.e2 {k : Nat} (hk : k < jn) (ha : A k) : TCon jn ja jb A (jb k) (ja k) := fun P hx hc => (hc k hk ha).mpr hx
theorem TCon.sym {x y : Nat} (a : TCon jn ja jb A x y) : TCon jn ja jb A y x :=
  a (fun z => TCon jn ja jb A z x) TCon.rf (fun k hk ha => ⟨fun q => (TCon.e2 hk ha).tr q, fun q => (TCon.e1 hk ha).tr q⟩)
/-- in any solution those tied together are as far from each other -/
theorem TCon.dif {x y : Nat} {p q : Nat → Int} (a : TCon jn ja jb A x y) (hp : TiS jn ja jb es A p) (hq : TiS jn ja jb es A q) : p y - q y = p x - q x :=
  a (fun z => p z - q z = p x - q x) rfl (fun k hk ha => by
    have e1 := hp.2 k hk ha
    have e2 := hq.2 k hk ha
    constructor <;> intro h <;> omega)
/-- what tying says: who leads (12: nothing else), how far behind; whether it can't hold -/
def TieR (pl jn : Nat) (ja jb : Nat → Nat) (es : Nat → Int) (A : Nat → Prop) (ρ : Nat → Nat) (α : Nat → Int) (w : Bool) : Prop :=
  (∀ x, x < pl → ρ x = 12 ∨ ρ x < pl) ∧ (∀ x, x < pl → TCon jn ja jb A x (ρ x)) ∧ (∀ x, x < pl → TCon jn ja jb A x 12 → ρ x = 12) ∧ (∀ x y, x < pl → y < pl → TCon jn ja jb A x y → ρ x = ρ y ∧ (ρ x = 12 ∨ ρ x ≤ y)) ∧ (w = false ↔ TiSat jn ja jb es A) ∧ (∀ pos, TiS jn ja jb es A pos → ∀ x, x < pl → α x = pos x - pos (ρ x)) ∧ ∀ x, x < pl → -13000 ≤ α x ∧ α x ≤ 13000
theorem TieR.gr {ρ : Nat → Nat} {α : Nat → Int} {w : Bool} (t : TieR pl jn ja jb es A ρ α w) {x : Nat} (hx : x < pl) : ρ x = 12 ↔ TCon jn ja jb A x 12 := ⟨fun e => by have := t.2.1 x hx; rw [e] at this; exact this, t.2.2.1 x hx⟩
theorem TieR.same {ρ : Nat → Nat} {α : Nat → Int} {w : Bool} (t : TieR pl jn ja jb es A ρ α w) (hp : pl ≤ 12) {x y : Nat} (hx : x < pl) (hy : y < pl) : ρ x = ρ y ↔ TCon jn ja jb A x y := ⟨fun e => (t.2.1 x hx).tr (by have := (t.2.1 y hy).sym; rw [← e] at this; exact this), fun c => (t.2.2.2.1 x y hx hy c).1⟩
/-- the outcome is one alone -/
theorem TieR.uniq {ρ σ : Nat → Nat} {α β : Nat → Int} {w v : Bool} (hp : pl ≤ 12) (t : TieR pl jn ja jb es A ρ α w) (u : TieR pl jn ja jb es A σ β v) : w = v ∧ (∀ x, x < pl → ρ x = σ x) ∧ (w = false → ∀ x, x < pl → α x = β x) := by
  have e1 : w = v := by
    have := t.2.2.2.2.1.trans u.2.2.2.2.1.symm
    cases w <;> cases v <;> simp_all
  have e2 : ∀ x, x < pl → ρ x = σ x := fun x hx => by
    by_cases g : TCon jn ja jb A x 12
    · rw [(t.gr hx).mpr g, (u.gr hx).mpr g]
    · have a1 : ρ x ≠ 12 := fun e => g ((t.gr hx).mp e)
      have a2 : σ x ≠ 12 := fun e => g ((u.gr hx).mp e)
      have b1 : ρ x < pl := by rcases t.1 x hx with z | z; exact absurd z a1; exact z
      have b2 : σ x < pl := by rcases u.1 x hx with z | z; exact absurd z a2; exact z
      have c1 := (t.2.2.2.1 x (σ x) hx b2 (u.2.1 x hx)).2
      have c2 := (u.2.2.2.1 x (ρ x) hx b1 (t.2.1 x hx)).2
      omega
  refine ⟨e1, e2, fun e x hx => ?_⟩
  obtain ⟨pos, hpos⟩ := t.2.2.2.2.1.mp e
  rw [t.2.2.2.2.2.1 pos hpos x hx, u.2.2.2.2.2.1 pos hpos x hx, e2 x hx]
/-- the desk's state while it ties: R who is rooted -/
def SpI (pl jn : Nat) (ja jb : Nat → Nat) (es : Nat → Int) (A : Nat → Prop) (O : Nat → Bool) (r0 : Nat) (R : Nat → Bool) (ρ : Nat → Nat) (α : Nat → Int) (w : Bool) : Prop :=
  (∀ x, x < 13 → O x = true → R x = true) ∧ (∀ k, k < jn → A k → O (ja k) = O (jb k)) ∧ (∀ x, x < 13 → R x = true → O x = false → ρ x = r0) ∧ (∀ x, x < 13 → R x = true → ρ x < 13 ∧ TCon jn ja jb A x (ρ x)) ∧ (∀ k, k < jn → A k → O (ja k) = true → ρ (ja k) = ρ (jb k)) ∧ (w = true → ¬ TiSat jn ja jb es A) ∧ (∀ pos, TiS jn ja jb es A pos → ∀ x, x < 13 → R x = true → α x = pos x - pos (ρ x)) ∧ (∀ x, x < 13 → R x = true → -(1000 * (cntN R 13 : Int)) ≤ α x ∧ α x ≤ 1000 * (cntN R 13 : Int)) ∧ (w = false → ∀ k, k < jn → A k → O (ja k) = true → α (jb k) = α (ja k) + es k)
section SPI
variable {O R : Nat → Bool} {r0 : Nat} {ρ : Nat → Nat} {α : Nat → Int} {w : Bool}
/-- the two ends of a joint that are rooted have one root -/
theorem SpI.one (s : SpI pl jn ja jb es A O r0 R ρ α w) {k : Nat} (hk : k < jn) (ha : A k) (h1 : ja k < 13) (h2 : jb k < 13) (r1 : R (ja k) = true) (r2 : R (jb k) = true) : ρ (ja k) = ρ (jb k) := by
  cases e : O (ja k)
  · have e2 := s.2.1 k hk ha
    rw [e] at e2
    rw [s.2.2.1 _ h1 r1 e, s.2.2.1 _ h2 r2 e2.symm]
  · exact s.2.2.2.2.1 k hk ha e
/-- joint k doesn't hold -/
theorem SpI.bad (s : SpI pl jn ja jb es A O r0 R ρ α w) {k : Nat} (hk : k < jn) (ha : A k) (h1 : ja k < 13) (h2 : jb k < 13) (r1 : R (ja k) = true) (r2 : R (jb k) = true) (hne : α (jb k) ≠ α (ja k) + es k) : SpI pl jn ja jb es A O r0 R ρ α true := by
  have o := s.one hk ha h1 h2 r1 r2
  obtain ⟨s1, s2, s3, s4, s5, s6, s7, s8, s9⟩ := s
  refine ⟨s1, s2, s3, s4, s5, fun _ ⟨pos, hp⟩ => ?_, s7, s8, fun z => absurd z (by decide)⟩
  have a1 := s7 pos hp _ h1 r1
  have a2 := s7 pos hp _ h2 r2
  have a3 := hp.2 k hk ha
  rw [← o] at a2
  omega
/-- joint k roots one more: u is rooted, v gets its root -/
theorem SpI.more (s : SpI pl jn ja jb es A O r0 R ρ α w) {k u v : Nat} {x : Int} (hk : k < jn) (ha : A k) (hu : u < 13) (hv : v < 13) (ru : R u = true) (rv : R v = false) (huv : (u = ja k ∧ v = jb k ∧ x = α u + es k) ∨ (u = jb k ∧ v = ja k ∧ x = α u - es k)) (he : -1000 ≤ es k ∧ es k ≤ 1000) :
    SpI pl jn ja jb es A O r0 (fun z => R z || decide (z = v)) (fun z => if z = v then ρ u else ρ z) (fun z => if z = v then x else α z) w := by
  have cn : TCon jn ja jb A v u := by
    rcases huv with ⟨e1, e2, _⟩ | ⟨e1, e2, _⟩
    · rw [e1, e2]; exact TCon.e2 hk ha
    · rw [e1, e2]; exact TCon.e1 hk ha
  obtain ⟨s1, s2, s3, s4, s5, s6, s7, s8, s9⟩ := s
  have ov : O v = false := by
    cases e : O v
    · rfl
    · rw [s1 v hv e] at rv; exact absurd rv (by decide)
  have ou : O u = false := by
    have := s2 k hk ha
    rcases huv with ⟨e1, e2, _⟩ | ⟨e1, e2, _⟩
    · rw [e1, this, ← e2]; exact ov
    · rw [e1, ← this, ← e2]; exact ov
  have ct : cntN (fun z => R z || decide (z = v)) 13 = cntN R 13 + 1 := by rw [cntN_set rv, if_pos hv]
  have nO : ∀ k, k < jn → A k → O (ja k) = true → ja k ≠ v ∧ jb k ≠ v := fun j hj haj e => ⟨fun z => by rw [z, ov] at e; exact absurd e (by decide), fun z => by rw [s2 j hj haj, z, ov] at e; exact absurd e (by decide)⟩
  refine ⟨fun z hz e => by simp [s1 z hz e], s2, fun z hz e eo => ?_, fun z hz e => ?_, fun j hj haj e => ?_, s6, fun pos hp z hz e => ?_, fun z hz e => ?_, fun e j hj haj eo => ?_⟩
  · by_cases y : z = v
    · simp only [y, if_true]; exact s3 u hu ru ou
    · simp only [y, if_false]; simp [y] at e; exact s3 z hz e eo
  · by_cases y : z = v
    · simp only [y, if_true]; exact ⟨(s4 u hu ru).1, cn.tr (s4 u hu ru).2⟩
    · simp only [y, if_false]; simp [y] at e; exact s4 z hz e
  · obtain ⟨n1, n2⟩ := nO j hj haj e
    simp only [n1, n2, if_false]
    exact s5 j hj haj e
  · by_cases y : z = v
    · simp only [y, if_true]
      have a1 := s7 pos hp u hu ru
      have a3 := hp.2 k hk ha
      rcases huv with ⟨e1, e2, e3⟩ | ⟨e1, e2, e3⟩
      · rw [e3, a1, e2, a3, e1]; omega
      · rw [e3, a1, e2, e1, a3]; omega
    · simp only [y, if_false]; simp [y] at e; exact s7 pos hp z hz e
  · rw [ct]
    by_cases y : z = v
    · simp only [y, if_true]
      have := s8 u hu ru
      rcases huv with ⟨e1, e2, e3⟩ | ⟨e1, e2, e3⟩ <;> omega
    · simp only [y, if_false]; simp [y] at e
      have := s8 z hz e
      omega
  · obtain ⟨n1, n2⟩ := nO j hj haj eo
    simp only [n1, n2, if_false]
    exact s9 e j hj haj eo
end SPI
end TIE
