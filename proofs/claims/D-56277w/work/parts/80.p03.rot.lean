/-! ROTATIONS -/
theorem tm_rotL {root : Option Nat} {S : Nat → Prop} {ky : Nat → Int} {L R P : Nat → Option Nat} {lo hi : Nat → Int} {p r : Nat} (h : tm_I root S ky L R P lo hi) (hp : S p) (hr : R p = some r) :
    ∃ L' R' P' root', tm_I root' S ky L' R' P' (up lo r (lo p)) (up hi p (ky r)) ∧ L' = up (match P p with | some q => if L q = some p then up L q (some r) else L | none => L) r (some p) ∧ R' = (match P p with | some q => if L q = some p then up R p (L r) else up (up R p (L r)) q (some r) | none => up R p (L r)) ∧ P' = up (up (match L r with | some y => up P y (some p) | none => P) r (P p)) p (some r) ∧ root' = (match P p with | some _ => root | none => some r) := by
  refine ⟨_, _, _, _, ?_, rfl, rfl, rfl, rfl⟩
  obtain ⟨h1, h2, h3, h4, h5, h6, h7, h8, h9, h10⟩ := h
  obtain ⟨hS, hP, hlo, hhi⟩ := h3 p r hp hr
  have n1 := h1 p hp
  have n2 := h1 r hS
  have e1 : r ≠ p := fun e => by rw [e] at hlo; omega
  have e2 : ∀ q, P p = some q → q ≠ p ∧ q ≠ r ∧ S q := by
    intro q hq
    obtain ⟨a1, a2⟩ := h4 p q hp hq
    refine ⟨fun e => ?_, fun e => ?_, a1⟩
    · subst e
      rcases a2 with a2 | a2
      · have := h2 q q hp a2; omega
      · have := h3 q q hp a2; omega
    · subst e
      rcases a2 with a2 | a2
      · have := h2 q p hS a2; omega
      · have := h3 q p hS a2; omega
  have e3 : ∀ y, L r = some y → y ≠ p ∧ y ≠ r ∧ S y ∧ lo y = ky p ∧ hi y = ky r := by
    intro y hy
    obtain ⟨a1, a2, a3, a4⟩ := h2 r y hS hy
    have n3 := h1 y a1
    exact ⟨fun e => by subst e; omega, fun e => by subst e; omega, a1, by omega, a4⟩
  have e4 : ∀ q, P p = some q → L q = some p → R q ≠ some p := by
    intro q hq hl hr2
    have a1 := e2 q hq
    have b1 := h2 q p a1.2.2 hl
    have b2 := h3 q p a1.2.2 hr2
    have b3 := h1 q a1.2.2
    omega
  rcases hPp : P p with _ | q
  · rcases hLr : L r with _ | y
    · simp only
      refine ⟨?_, ?_, ?_, ?_, ?_, ?_, ?_, ?_, h9, ?_⟩
      · clear h2 h3 h4 h5 h6 h7 h8 h9 h10; grind [up]
      · intro a b ha; have x1 := h2 a b ha; have x2 := h3 a b ha; have x3 := h2 p b hp; have x4 := h2 a p ha; have x5 := h1 a ha; clear h7 h8 h9 h10 h5 h6; grind [up]
      · intro a b ha; have x1 := h2 a b ha; have x2 := h3 a b ha; have x3 := h2 r b hS; have x4 := h3 a p ha; have x5 := h1 a ha; clear h7 h8 h9 h10 h5 h6; grind [up]
      · clear h7 h8 h9 h10 h5; grind [up]
      · clear h7 h8 h9 h10; grind [up]
      · clear h7 h8 h9 h10; grind [up]
      · skip; grind [up]
      · intro a c ha hc; have x1 := h7 r c hS hc; have x2 := h8 a c ha hc; have x3 := h8 r c hS hc; have x5 := h1 a ha; clear h2 h3 h4 h5 h6; grind [up]
      · skip; grind [up]
    · simp only
      refine ⟨?_, ?_, ?_, ?_, ?_, ?_, ?_, ?_, h9, ?_⟩
      · clear h2 h3 h4 h5 h6 h7 h8 h9 h10; grind [up]
      · intro a b ha; have x1 := h2 a b ha; have x2 := h3 a b ha; have x3 := h2 p b hp; have x4 := h2 a p ha; have x5 := h1 a ha; clear h7 h8 h9 h10 h5 h6; grind [up]
      · intro a b ha; have x1 := h2 a b ha; have x2 := h3 a b ha; have x3 := h2 r b hS; have x4 := h3 a p ha; have x5 := h1 a ha; clear h7 h8 h9 h10 h5 h6; grind [up]
      · clear h7 h8 h9 h10 h5; grind [up]
      · clear h7 h8 h9 h10; grind [up]
      · clear h7 h8 h9 h10; grind [up]
      · skip; grind [up]
      · intro a c ha hc; have x1 := h7 r c hS hc; have x2 := h8 a c ha hc; have x3 := h8 r c hS hc; have x5 := h1 a ha; clear h2 h3 h4 h5 h6; grind [up]
      · skip; grind [up]
  · obtain ⟨f1, f2, f3⟩ := e2 q hPp
    by_cases hq : L q = some p
    · simp only [if_pos hq]
      rcases hLr : L r with _ | y
      · simp only
        refine ⟨?_, ?_, ?_, ?_, ?_, ?_, ?_, ?_, h9, ?_⟩
        · clear h2 h3 h4 h5 h6 h7 h8 h9 h10; grind [up]
        · intro a b ha; have x1 := h2 a b ha; have x2 := h3 a b ha; have x3 := h2 p b hp; have x4 := h2 a p ha; have x5 := h1 a ha; clear h7 h8 h9 h10 h5 h6; grind [up]
        · intro a b ha; have x1 := h2 a b ha; have x2 := h3 a b ha; have x3 := h2 r b hS; have x4 := h3 a p ha; have x5 := h1 a ha; clear h7 h8 h9 h10 h5 h6; grind [up]
        · clear h7 h8 h9 h10 h5; grind [up]
        · clear h7 h8 h9 h10; grind [up]
        · clear h7 h8 h9 h10; grind [up]
        · skip; grind [up]
        · intro a c ha hc; have x1 := h7 r c hS hc; have x2 := h8 a c ha hc; have x3 := h8 r c hS hc; have x5 := h1 a ha; clear h2 h3 h4 h5 h6; grind [up]
        · skip; grind [up]
      · simp only
        refine ⟨?_, ?_, ?_, ?_, ?_, ?_, ?_, ?_, h9, ?_⟩
        · clear h2 h3 h4 h5 h6 h7 h8 h9 h10; grind [up]
        · intro a b ha; have x1 := h2 a b ha; have x2 := h3 a b ha; have x3 := h2 p b hp; have x4 := h2 a p ha; have x5 := h1 a ha; clear h7 h8 h9 h10 h5 h6; grind [up]
        · intro a b ha; have x1 := h2 a b ha; have x2 := h3 a b ha; have x3 := h2 r b hS; have x4 := h3 a p ha; have x5 := h1 a ha; clear h7 h8 h9 h10 h5 h6; grind [up]
        · clear h7 h8 h9 h10 h5; grind [up]
        · clear h7 h8 h9 h10; grind [up]
        · clear h7 h8 h9 h10; grind [up]
        · skip; grind [up]
        · intro a c ha hc; have x1 := h7 r c hS hc; have x2 := h8 a c ha hc; have x3 := h8 r c hS hc; have x5 := h1 a ha; clear h2 h3 h4 h5 h6; grind [up]
        · skip; grind [up]
    · simp only [if_neg hq]
      rcases hLr : L r with _ | y
      · simp only
        refine ⟨?_, ?_, ?_, ?_, ?_, ?_, ?_, ?_, h9, ?_⟩
        · clear h2 h3 h4 h5 h6 h7 h8 h9 h10; grind [up]
        · intro a b ha; have x1 := h2 a b ha; have x2 := h3 a b ha; have x3 := h2 p b hp; have x4 := h2 a p ha; have x5 := h1 a ha; clear h7 h8 h9 h10 h5 h6; grind [up]
        · intro a b ha; have x1 := h2 a b ha; have x2 := h3 a b ha; have x3 := h2 r b hS; have x4 := h3 a p ha; have x5 := h1 a ha; clear h7 h8 h9 h10 h5 h6; grind [up]
        · clear h7 h8 h9 h10 h5; grind [up]
        · clear h7 h8 h9 h10; grind [up]
        · clear h7 h8 h9 h10; grind [up]
        · skip; grind [up]
        · intro a c ha hc; have x1 := h7 r c hS hc; have x2 := h8 a c ha hc; have x3 := h8 r c hS hc; have x5 := h1 a ha; clear h2 h3 h4 h5 h6; grind [up]
        · skip; grind [up]
      · simp only
        refine ⟨?_, ?_, ?_, ?_, ?_, ?_, ?_, ?_, h9, ?_⟩
        · clear h2 h3 h4 h5 h6 h7 h8 h9 h10; grind [up]
        · intro a b ha; have x1 := h2 a b ha; have x2 := h3 a b ha; have x3 := h2 p b hp; have x4 := h2 a p ha; have x5 := h1 a ha; clear h7 h8 h9 h10 h5 h6; grind [up]
        · intro a b ha; have x1 := h2 a b ha; have x2 := h3 a b ha; have x3 := h2 r b hS; have x4 := h3 a p ha; have x5 := h1 a ha; clear h7 h8 h9 h10 h5 h6; grind [up]
        · clear h7 h8 h9 h10 h5; grind [up]
        · clear h7 h8 h9 h10; grind [up]
        · clear h7 h8 h9 h10; grind [up]
        · skip; grind [up]
        · intro a c ha hc; have x1 := h7 r c hS hc; have x2 := h8 a c ha hc; have x3 := h8 r c hS hc; have x5 := h1 a ha; clear h2 h3 h4 h5 h6; grind [up]
        · skip; grind [up]
theorem tm_rotR {root : Option Nat} {S : Nat → Prop} {ky : Nat → Int} {L R P : Nat → Option Nat} {lo hi : Nat → Int} {p r : Nat} (h : tm_I root S ky L R P lo hi) (hp : S p) (hr : L p = some r) :
    ∃ L' R' P' root', tm_I root' S ky L' R' P' (up lo p (ky r)) (up hi r (hi p)) ∧ R' = up (match P p with | some q => if R q = some p then up R q (some r) else R | none => R) r (some p) ∧ L' = (match P p with | some q => if R q = some p then up L p (R r) else up (up L p (R r)) q (some r) | none => up L p (R r)) ∧ P' = up (up (match R r with | some y => up P y (some p) | none => P) r (P p)) p (some r) ∧ root' = (match P p with | some _ => root | none => some r) := by
  refine ⟨_, _, _, _, ?_, rfl, rfl, rfl, rfl⟩
  obtain ⟨h1, h2, h3, h4, h5, h6, h7, h8, h9, h10⟩ := h
  obtain ⟨hS, hP, hlo, hhi⟩ := h2 p r hp hr
  have n1 := h1 p hp
  have n2 := h1 r hS
  have e1 : r ≠ p := fun e => by rw [e] at hhi; omega
  have e2 : ∀ q, P p = some q → q ≠ p ∧ q ≠ r ∧ S q := by
    intro q hq
    obtain ⟨a1, a2⟩ := h4 p q hp hq
    refine ⟨fun e => ?_, fun e => ?_, a1⟩
    · subst e
      rcases a2 with a2 | a2
      · have := h2 q q hp a2; omega
      · have := h3 q q hp a2; omega
    · subst e
      rcases a2 with a2 | a2
      · have := h2 q p hS a2; omega
      · have := h3 q p hS a2; omega
  have e3 : ∀ y, R r = some y → y ≠ p ∧ y ≠ r ∧ S y ∧ hi y = ky p ∧ lo y = ky r := by
    intro y hy
    obtain ⟨a1, a2, a3, a4⟩ := h3 r y hS hy
    have n3 := h1 y a1
    exact ⟨fun e => by subst e; omega, fun e => by subst e; omega, a1, by omega, a3⟩
  have e4 : ∀ q, P p = some q → R q = some p → L q ≠ some p := by
    intro q hq hl hr2
    have a1 := e2 q hq
    have b1 := h3 q p a1.2.2 hl
    have b2 := h2 q p a1.2.2 hr2
    have b3 := h1 q a1.2.2
    omega
  rcases hPp : P p with _ | q
  · rcases hLr : R r with _ | y
    · simp only
      refine ⟨?_, ?_, ?_, ?_, ?_, ?_, ?_, ?_, h9, ?_⟩
      · clear h2 h3 h4 h5 h6 h7 h8 h9 h10; grind [up]
      · intro a b ha; have x1 := h2 a b ha; have x2 := h3 a b ha; have x3 := h2 r b hS; have x4 := h2 a p ha; have x5 := h1 a ha; clear h7 h8 h9 h10 h5 h6; grind [up]
      · intro a b ha; have x1 := h2 a b ha; have x2 := h3 a b ha; have x3 := h3 p b hp; have x4 := h3 a p ha; have x5 := h1 a ha; clear h7 h8 h9 h10 h5 h6; grind [up]
      · clear h7 h8 h9 h10 h5; grind [up]
      · clear h7 h8 h9 h10; grind [up]
      · clear h7 h8 h9 h10; grind [up]
      · intro a c ha hc; have x1 := h8 r c hS hc; have x2 := h7 a c ha hc; have x3 := h7 r c hS hc; have x5 := h1 a ha; clear h2 h3 h4 h5 h6; grind [up]
      · skip; grind [up]
      · skip; grind [up]
    · simp only
      refine ⟨?_, ?_, ?_, ?_, ?_, ?_, ?_, ?_, h9, ?_⟩
      · clear h2 h3 h4 h5 h6 h7 h8 h9 h10; grind [up]
      · intro a b ha; have x1 := h2 a b ha; have x2 := h3 a b ha; have x3 := h2 r b hS; have x4 := h2 a p ha; have x5 := h1 a ha; clear h7 h8 h9 h10 h5 h6; grind [up]
      · intro a b ha; have x1 := h2 a b ha; have x2 := h3 a b ha; have x3 := h3 p b hp; have x4 := h3 a p ha; have x5 := h1 a ha; clear h7 h8 h9 h10 h5 h6; grind [up]
      · clear h7 h8 h9 h10 h5; grind [up]
      · clear h7 h8 h9 h10; grind [up]
      · clear h7 h8 h9 h10; grind [up]
      · intro a c ha hc; have x1 := h8 r c hS hc; have x2 := h7 a c ha hc; have x3 := h7 r c hS hc; have x5 := h1 a ha; clear h2 h3 h4 h5 h6; grind [up]
      · skip; grind [up]
      · skip; grind [up]
  · obtain ⟨f1, f2, f3⟩ := e2 q hPp
    by_cases hq : R q = some p
    · simp only [if_pos hq]
      rcases hLr : R r with _ | y
      · simp only
        refine ⟨?_, ?_, ?_, ?_, ?_, ?_, ?_, ?_, h9, ?_⟩
        · clear h2 h3 h4 h5 h6 h7 h8 h9 h10; grind [up]
        · intro a b ha; have x1 := h2 a b ha; have x2 := h3 a b ha; have x3 := h2 r b hS; have x4 := h2 a p ha; have x5 := h1 a ha; clear h7 h8 h9 h10 h5 h6; grind [up]
        · intro a b ha; have x1 := h2 a b ha; have x2 := h3 a b ha; have x3 := h3 p b hp; have x4 := h3 a p ha; have x5 := h1 a ha; clear h7 h8 h9 h10 h5 h6; grind [up]
        · clear h7 h8 h9 h10 h5; grind [up]
        · clear h7 h8 h9 h10; grind [up]
        · clear h7 h8 h9 h10; grind [up]
        · intro a c ha hc; have x1 := h8 r c hS hc; have x2 := h7 a c ha hc; have x3 := h7 r c hS hc; have x5 := h1 a ha; clear h2 h3 h4 h5 h6; grind [up]
        · skip; grind [up]
        · skip; grind [up]
      · simp only
        refine ⟨?_, ?_, ?_, ?_, ?_, ?_, ?_, ?_, h9, ?_⟩
        · clear h2 h3 h4 h5 h6 h7 h8 h9 h10; grind [up]
        · intro a b ha; have x1 := h2 a b ha; have x2 := h3 a b ha; have x3 := h2 r b hS; have x4 := h2 a p ha; have x5 := h1 a ha; clear h7 h8 h9 h10 h5 h6; grind [up]
        · intro a b ha; have x1 := h2 a b ha; have x2 := h3 a b ha; have x3 := h3 p b hp; have x4 := h3 a p ha; have x5 := h1 a ha; clear h7 h8 h9 h10 h5 h6; grind [up]
        · clear h7 h8 h9 h10 h5; grind [up]
        · clear h7 h8 h9 h10; grind [up]
        · clear h7 h8 h9 h10; grind [up]
        · intro a c ha hc; have x1 := h8 r c hS hc; have x2 := h7 a c ha hc; have x3 := h7 r c hS hc; have x5 := h1 a ha; clear h2 h3 h4 h5 h6; grind [up]
        · skip; grind [up]
        · skip; grind [up]
    · simp only [if_neg hq]
      rcases hLr : R r with _ | y
      · simp only
        refine ⟨?_, ?_, ?_, ?_, ?_, ?_, ?_, ?_, h9, ?_⟩
        · clear h2 h3 h4 h5 h6 h7 h8 h9 h10; grind [up]
        · intro a b ha; have x1 := h2 a b ha; have x2 := h3 a b ha; have x3 := h2 r b hS; have x4 := h2 a p ha; have x5 := h1 a ha; clear h7 h8 h9 h10 h5 h6; grind [up]
        · intro a b ha; have x1 := h2 a b ha; have x2 := h3 a b ha; have x3 := h3 p b hp; have x4 := h3 a p ha; have x5 := h1 a ha; clear h7 h8 h9 h10 h5 h6; grind [up]
        · clear h7 h8 h9 h10 h5; grind [up]
        · clear h7 h8 h9 h10; grind [up]
        · clear h7 h8 h9 h10; grind [up]
        · intro a c ha hc; have x1 := h8 r c hS hc; have x2 := h7 a c ha hc; have x3 := h7 r c hS hc; have x5 := h1 a ha; clear h2 h3 h4 h5 h6; grind [up]
        · skip; grind [up]
        · skip; grind [up]
      · simp only
        refine ⟨?_, ?_, ?_, ?_, ?_, ?_, ?_, ?_, h9, ?_⟩
        · clear h2 h3 h4 h5 h6 h7 h8 h9 h10; grind [up]
        · intro a b ha; have x1 := h2 a b ha; have x2 := h3 a b ha; have x3 := h2 r b hS; have x4 := h2 a p ha; have x5 := h1 a ha; clear h7 h8 h9 h10 h5 h6; grind [up]
        · intro a b ha; have x1 := h2 a b ha; have x2 := h3 a b ha; have x3 := h3 p b hp; have x4 := h3 a p ha; have x5 := h1 a ha; clear h7 h8 h9 h10 h5 h6; grind [up]
        · clear h7 h8 h9 h10 h5; grind [up]
        · clear h7 h8 h9 h10; grind [up]
        · clear h7 h8 h9 h10; grind [up]
        · intro a c ha hc; have x1 := h8 r c hS hc; have x2 := h7 a c ha hc; have x3 := h7 r c hS hc; have x5 := h1 a ha; clear h2 h3 h4 h5 h6; grind [up]
        · skip; grind [up]
        · skip; grind [up]
