/-! SPLICING -/
theorem tm_only {root : Option Nat} {S : Nat → Prop} {ky : Nat → Int} {L R P : Nat → Option Nat} {lo hi : Nat → Int} {z : Nat} (h : tm_I root S ky L R P lo hi) (hz : S z) (hP : P z = none) (hL : L z = none) (hR : R z = none) : ∀ a, S a → a = z := by
  have hr := h.2.2.2.2.1 z hz hP
  refine tm_ind h _ (fun a ha hPa => ?_) (fun a b ha hPa hb hM => ?_)
  · have := h.2.2.2.2.1 a ha hPa
    rw [hr] at this
    exact (Option.some.inj this).symm
  · subst hM
    rcases (h.2.2.2.1 a b ha hPa).2 with h1 | h1
    · rw [hL] at h1; cases h1
    · rw [hR] at h1; cases h1
/-- z, which has nothing to its left, taken out -/
theorem tm_splL {root : Option Nat} {S : Nat → Prop} {ky : Nat → Int} {L R P : Nat → Option Nat} {lo hi : Nat → Int} {z : Nat} (h : tm_I root S ky L R P lo hi) (hz : S z) (hL : L z = none) :
    ∃ L' R' P' root', tm_I root' (fun a => S a ∧ a ≠ z) ky L' R' P' (fun x => if lo x = ky z then lo z else lo x) hi ∧ L' = (match P z with | some q => if L q = some z then up L q (R z) else L | none => L) ∧ R' = (match P z with | some q => if L q = some z then R else up R q (R z) | none => R) ∧ P' = (match R z with | some c => up P c (P z) | none => P) ∧ root' = (match P z with | some _ => root | none => R z) := by
  refine ⟨_, _, _, _, ?_, rfl, rfl, rfl, rfl⟩
  have g1 := tm_hiL h
  have e7 := tm_only h hz
  obtain ⟨h1, h2, h3, h4, h5, h6, h7, h8, h9, h10⟩ := h
  have n1 := h1 z hz
  have e2 : ∀ a, S a → hi a ≠ ky z := by
    intro a ha e
    have := h1 a ha
    rcases g1 a ha with g | ⟨b, b1, b2, b3, -⟩
    · omega
    · exact b3 (by rw [h9 b z b1 hz (by omega)]; exact hL)
  have e3 : ∀ q, P z = some q → q ≠ z ∧ S q ∧ (L q = some z → R q ≠ some z) := by
    intro q hq
    obtain ⟨a1, a2⟩ := h4 z q hz hq
    have x1 := h1 q a1
    refine ⟨fun e => ?_, a1, fun hl hr => ?_⟩
    · subst e
      rcases a2 with a2 | a2
      · have := h2 q q hz a2; omega
      · have := h3 q q hz a2; omega
    · have := h2 q z a1 hl
      have := h3 q z a1 hr
      omega
  have e4 : ∀ c, R z = some c → c ≠ z ∧ S c ∧ P c = some z ∧ lo c = ky z ∧ hi c = hi z := by
    intro c hc
    have x1 := h3 z c hz hc
    have x2 := h1 c x1.1
    exact ⟨fun e => by subst e; omega, x1.1, x1.2.1, x1.2.2.1, x1.2.2.2⟩
  have e5 : ∀ a c, S a → S c → L a = some c → R a = some c → False := by
    intro a c ha hc hl hr
    have := h2 a c ha hl
    have := h3 a c ha hr
    have := h1 a ha
    omega
  have e6 : ∀ a, S a → a ≠ z → ky a ≠ ky z := fun a ha hn e => hn (h9 a z ha hz e)
  rcases hPp : P z with _ | q
  · rcases hLr : R z with _ | y
    · simp only
      refine ⟨?_, ?_, ?_, ?_, ?_, ?_, ?_, ?_, fun a c ha hc => h9 a c ha.1 hc.1, ?_⟩
      · intro a ha; have x1 := h1 a ha.1; have x2 := e2 a ha.1; have x3 := e6 a ha.1 ha.2; clear h2 h3 h4 h5 h6 h7 h8 h9 h10; grind
      · intro a b ha; have x1 := h2 a b ha.1; have x2 := h1 a ha.1; have x3 := e2 a ha.1; have x4 := e6 a ha.1 ha.2; clear h7 h8 h9 h10; grind [up]
      · intro a b ha; have x1 := h3 a b ha.1; have x2 := h1 a ha.1; have x3 := e2 a ha.1; have x4 := e6 a ha.1 ha.2; clear h7 h8 h9 h10; grind [up]
      · intro a b ha; have x1 := h4 a b ha.1; clear h7 h8 h9 h10; grind [up]
      · clear h7 h8 h9 h10; grind [up]
      · clear h7 h8 h9; grind [up]
      · intro a c ha hc; have x1 := h7 a c ha.1 hc.1; have x2 := h7 a z ha.1 hz; have x3 := h7 z c hz hc.1; have x4 := h8 z c hz hc.1; have x5 := h1 a ha.1; have x6 := e2 a ha.1; have x7 := e6 a ha.1 ha.2; have x8 := e6 c hc.1 hc.2; clear h9 h10 h5; grind [up]
      · intro a c ha hc; have x1 := h8 a c ha.1 hc.1; have x2 := h8 a z ha.1 hz; have x3 := h7 z c hz hc.1; have x4 := h8 z c hz hc.1; have x5 := h1 a ha.1; have x6 := e2 a ha.1; have x7 := e6 a ha.1 ha.2; have x8 := e6 c hc.1 hc.2; clear h9 h10 h5; grind [up]
      · clear h7 h8 h9; grind [up]
    · simp only
      refine ⟨?_, ?_, ?_, ?_, ?_, ?_, ?_, ?_, fun a c ha hc => h9 a c ha.1 hc.1, ?_⟩
      · intro a ha; have x1 := h1 a ha.1; have x2 := e2 a ha.1; have x3 := e6 a ha.1 ha.2; clear h2 h3 h4 h5 h6 h7 h8 h9 h10; grind
      · intro a b ha; have x1 := h2 a b ha.1; have x2 := h1 a ha.1; have x3 := e2 a ha.1; have x4 := e6 a ha.1 ha.2; clear h7 h8 h9 h10; grind [up]
      · intro a b ha; have x1 := h3 a b ha.1; have x2 := h1 a ha.1; have x3 := e2 a ha.1; have x4 := e6 a ha.1 ha.2; clear h7 h8 h9 h10; grind [up]
      · intro a b ha; have x1 := h4 a b ha.1; clear h7 h8 h9 h10; grind [up]
      · clear h7 h8 h9 h10; grind [up]
      · clear h7 h8 h9; grind [up]
      · intro a c ha hc; have x1 := h7 a c ha.1 hc.1; have x2 := h7 a z ha.1 hz; have x3 := h7 z c hz hc.1; have x4 := h8 z c hz hc.1; have x5 := h1 a ha.1; have x6 := e2 a ha.1; have x7 := e6 a ha.1 ha.2; have x8 := e6 c hc.1 hc.2; clear h9 h10 h5; grind [up]
      · intro a c ha hc; have x1 := h8 a c ha.1 hc.1; have x2 := h8 a z ha.1 hz; have x3 := h7 z c hz hc.1; have x4 := h8 z c hz hc.1; have x5 := h1 a ha.1; have x6 := e2 a ha.1; have x7 := e6 a ha.1 ha.2; have x8 := e6 c hc.1 hc.2; clear h9 h10 h5; grind [up]
      · clear h7 h8 h9; grind [up]
  · obtain ⟨f1, f2, f3⟩ := e3 q hPp
    by_cases hq : L q = some z
    · simp only [if_pos hq]
      rcases hLr : R z with _ | y
      · simp only
        refine ⟨?_, ?_, ?_, ?_, ?_, ?_, ?_, ?_, fun a c ha hc => h9 a c ha.1 hc.1, ?_⟩
        · intro a ha; have x1 := h1 a ha.1; have x2 := e2 a ha.1; have x3 := e6 a ha.1 ha.2; clear h2 h3 h4 h5 h6 h7 h8 h9 h10; grind
        · intro a b ha; have x1 := h2 a b ha.1; have x2 := h1 a ha.1; have x3 := e2 a ha.1; have x4 := e6 a ha.1 ha.2; clear h7 h8 h9 h10; grind [up]
        · intro a b ha; have x1 := h3 a b ha.1; have x2 := h1 a ha.1; have x3 := e2 a ha.1; have x4 := e6 a ha.1 ha.2; clear h7 h8 h9 h10; grind [up]
        · intro a b ha; have x1 := h4 a b ha.1; clear h7 h8 h9 h10; grind [up]
        · clear h7 h8 h9 h10; grind [up]
        · clear h7 h8 h9; grind [up]
        · intro a c ha hc; have x1 := h7 a c ha.1 hc.1; have x2 := h7 a z ha.1 hz; have x3 := h7 z c hz hc.1; have x4 := h8 z c hz hc.1; have x5 := h1 a ha.1; have x6 := e2 a ha.1; have x7 := e6 a ha.1 ha.2; have x8 := e6 c hc.1 hc.2; clear h9 h10 h5; grind [up]
        · intro a c ha hc; have x1 := h8 a c ha.1 hc.1; have x2 := h8 a z ha.1 hz; have x3 := h7 z c hz hc.1; have x4 := h8 z c hz hc.1; have x5 := h1 a ha.1; have x6 := e2 a ha.1; have x7 := e6 a ha.1 ha.2; have x8 := e6 c hc.1 hc.2; clear h9 h10 h5; grind [up]
        · clear h7 h8 h9; grind [up]
      · simp only
        refine ⟨?_, ?_, ?_, ?_, ?_, ?_, ?_, ?_, fun a c ha hc => h9 a c ha.1 hc.1, ?_⟩
        · intro a ha; have x1 := h1 a ha.1; have x2 := e2 a ha.1; have x3 := e6 a ha.1 ha.2; clear h2 h3 h4 h5 h6 h7 h8 h9 h10; grind
        · intro a b ha; have x1 := h2 a b ha.1; have x2 := h1 a ha.1; have x3 := e2 a ha.1; have x4 := e6 a ha.1 ha.2; clear h7 h8 h9 h10; grind [up]
        · intro a b ha; have x1 := h3 a b ha.1; have x2 := h1 a ha.1; have x3 := e2 a ha.1; have x4 := e6 a ha.1 ha.2; clear h7 h8 h9 h10; grind [up]
        · intro a b ha; have x1 := h4 a b ha.1; clear h7 h8 h9 h10; grind [up]
        · clear h7 h8 h9 h10; grind [up]
        · clear h7 h8 h9; grind [up]
        · intro a c ha hc; have x1 := h7 a c ha.1 hc.1; have x2 := h7 a z ha.1 hz; have x3 := h7 z c hz hc.1; have x4 := h8 z c hz hc.1; have x5 := h1 a ha.1; have x6 := e2 a ha.1; have x7 := e6 a ha.1 ha.2; have x8 := e6 c hc.1 hc.2; clear h9 h10 h5; grind [up]
        · intro a c ha hc; have x1 := h8 a c ha.1 hc.1; have x2 := h8 a z ha.1 hz; have x3 := h7 z c hz hc.1; have x4 := h8 z c hz hc.1; have x5 := h1 a ha.1; have x6 := e2 a ha.1; have x7 := e6 a ha.1 ha.2; have x8 := e6 c hc.1 hc.2; clear h9 h10 h5; grind [up]
        · clear h7 h8 h9; grind [up]
    · simp only [if_neg hq]
      rcases hLr : R z with _ | y
      · simp only
        refine ⟨?_, ?_, ?_, ?_, ?_, ?_, ?_, ?_, fun a c ha hc => h9 a c ha.1 hc.1, ?_⟩
        · intro a ha; have x1 := h1 a ha.1; have x2 := e2 a ha.1; have x3 := e6 a ha.1 ha.2; clear h2 h3 h4 h5 h6 h7 h8 h9 h10; grind
        · intro a b ha; have x1 := h2 a b ha.1; have x2 := h1 a ha.1; have x3 := e2 a ha.1; have x4 := e6 a ha.1 ha.2; clear h7 h8 h9 h10; grind [up]
        · intro a b ha; have x1 := h3 a b ha.1; have x2 := h1 a ha.1; have x3 := e2 a ha.1; have x4 := e6 a ha.1 ha.2; clear h7 h8 h9 h10; grind [up]
        · intro a b ha; have x1 := h4 a b ha.1; clear h7 h8 h9 h10; grind [up]
        · clear h7 h8 h9 h10; grind [up]
        · clear h7 h8 h9; grind [up]
        · intro a c ha hc; have x1 := h7 a c ha.1 hc.1; have x2 := h7 a z ha.1 hz; have x3 := h7 z c hz hc.1; have x4 := h8 z c hz hc.1; have x5 := h1 a ha.1; have x6 := e2 a ha.1; have x7 := e6 a ha.1 ha.2; have x8 := e6 c hc.1 hc.2; clear h9 h10 h5; grind [up]
        · intro a c ha hc; have x1 := h8 a c ha.1 hc.1; have x2 := h8 a z ha.1 hz; have x3 := h7 z c hz hc.1; have x4 := h8 z c hz hc.1; have x5 := h1 a ha.1; have x6 := e2 a ha.1; have x7 := e6 a ha.1 ha.2; have x8 := e6 c hc.1 hc.2; clear h9 h10 h5; grind [up]
        · clear h7 h8 h9; grind [up]
      · simp only
        refine ⟨?_, ?_, ?_, ?_, ?_, ?_, ?_, ?_, fun a c ha hc => h9 a c ha.1 hc.1, ?_⟩
        · intro a ha; have x1 := h1 a ha.1; have x2 := e2 a ha.1; have x3 := e6 a ha.1 ha.2; clear h2 h3 h4 h5 h6 h7 h8 h9 h10; grind
        · intro a b ha; have x1 := h2 a b ha.1; have x2 := h1 a ha.1; have x3 := e2 a ha.1; have x4 := e6 a ha.1 ha.2; clear h7 h8 h9 h10; grind [up]
        · intro a b ha; have x1 := h3 a b ha.1; have x2 := h1 a ha.1; have x3 := e2 a ha.1; have x4 := e6 a ha.1 ha.2; clear h7 h8 h9 h10; grind [up]
        · intro a b ha; have x1 := h4 a b ha.1; clear h7 h8 h9 h10; grind [up]
        · clear h7 h8 h9 h10; grind [up]
        · clear h7 h8 h9; grind [up]
        · intro a c ha hc; have x1 := h7 a c ha.1 hc.1; have x2 := h7 a z ha.1 hz; have x3 := h7 z c hz hc.1; have x4 := h8 z c hz hc.1; have x5 := h1 a ha.1; have x6 := e2 a ha.1; have x7 := e6 a ha.1 ha.2; have x8 := e6 c hc.1 hc.2; clear h9 h10 h5; grind [up]
        · intro a c ha hc; have x1 := h8 a c ha.1 hc.1; have x2 := h8 a z ha.1 hz; have x3 := h7 z c hz hc.1; have x4 := h8 z c hz hc.1; have x5 := h1 a ha.1; have x6 := e2 a ha.1; have x7 := e6 a ha.1 ha.2; have x8 := e6 c hc.1 hc.2; clear h9 h10 h5; grind [up]
        · clear h7 h8 h9; grind [up]
/-- z, which has nothing to its right, taken out -/
theorem tm_splR {root : Option Nat} {S : Nat → Prop} {ky : Nat → Int} {L R P : Nat → Option Nat} {lo hi : Nat → Int} {z : Nat} (h : tm_I root S ky L R P lo hi) (hz : S z) (hL : R z = none) :
    ∃ L' R' P' root', tm_I root' (fun a => S a ∧ a ≠ z) ky L' R' P' lo (fun x => if hi x = ky z then hi z else hi x) ∧ L' = (match P z with | some q => if L q = some z then up L q (L z) else L | none => L) ∧ R' = (match P z with | some q => if L q = some z then R else up R q (L z) | none => R) ∧ P' = (match L z with | some c => up P c (P z) | none => P) ∧ root' = (match P z with | some _ => root | none => L z) := by
  refine ⟨_, _, _, _, ?_, rfl, rfl, rfl, rfl⟩
  have g1 := tm_loR h
  have e7 := tm_only h hz
  obtain ⟨h1, h2, h3, h4, h5, h6, h7, h8, h9, h10⟩ := h
  have n1 := h1 z hz
  have e2 : ∀ a, S a → lo a ≠ ky z := by
    intro a ha e
    have := h1 a ha
    rcases g1 a ha with g | ⟨b, b1, b2, b3, -⟩
    · omega
    · exact b3 (by rw [h9 b z b1 hz (by omega)]; exact hL)
  have e3 : ∀ q, P z = some q → q ≠ z ∧ S q ∧ (L q = some z → R q ≠ some z) := by
    intro q hq
    obtain ⟨a1, a2⟩ := h4 z q hz hq
    have x1 := h1 q a1
    refine ⟨fun e => ?_, a1, fun hl hr => ?_⟩
    · subst e
      rcases a2 with a2 | a2
      · have := h2 q q hz a2; omega
      · have := h3 q q hz a2; omega
    · have := h2 q z a1 hl
      have := h3 q z a1 hr
      omega
  have e4 : ∀ c, L z = some c → c ≠ z ∧ S c ∧ P c = some z ∧ lo c = lo z ∧ hi c = ky z := by
    intro c hc
    have x1 := h2 z c hz hc
    have x2 := h1 c x1.1
    exact ⟨fun e => by subst e; omega, x1.1, x1.2.1, x1.2.2.1, x1.2.2.2⟩
  have e5 : ∀ a c, S a → S c → L a = some c → R a = some c → False := by
    intro a c ha hc hl hr
    have := h2 a c ha hl
    have := h3 a c ha hr
    have := h1 a ha
    omega
  have e6 : ∀ a, S a → a ≠ z → ky a ≠ ky z := fun a ha hn e => hn (h9 a z ha hz e)
  rcases hPp : P z with _ | q
  · rcases hLr : L z with _ | y
    · simp only
      refine ⟨?_, ?_, ?_, ?_, ?_, ?_, ?_, ?_, fun a c ha hc => h9 a c ha.1 hc.1, ?_⟩
      · intro a ha; have x1 := h1 a ha.1; have x2 := e2 a ha.1; have x3 := e6 a ha.1 ha.2; clear h2 h3 h4 h5 h6 h7 h8 h9 h10; grind
      · intro a b ha; have x1 := h2 a b ha.1; have x2 := h1 a ha.1; have x3 := e2 a ha.1; have x4 := e6 a ha.1 ha.2; clear h7 h8 h9 h10; grind [up]
      · intro a b ha; have x1 := h3 a b ha.1; have x2 := h1 a ha.1; have x3 := e2 a ha.1; have x4 := e6 a ha.1 ha.2; clear h7 h8 h9 h10; grind [up]
      · intro a b ha; have x1 := h4 a b ha.1; clear h7 h8 h9 h10; grind [up]
      · clear h7 h8 h9 h10; grind [up]
      · clear h7 h8 h9; grind [up]
      · intro a c ha hc; have x1 := h7 a c ha.1 hc.1; have x2 := h7 a z ha.1 hz; have x3 := h7 z c hz hc.1; have x4 := h8 z c hz hc.1; have x5 := h1 a ha.1; have x6 := e2 a ha.1; have x7 := e6 a ha.1 ha.2; have x8 := e6 c hc.1 hc.2; clear h9 h10 h5; grind [up]
      · intro a c ha hc; have x1 := h8 a c ha.1 hc.1; have x2 := h8 a z ha.1 hz; have x3 := h7 z c hz hc.1; have x4 := h8 z c hz hc.1; have x5 := h1 a ha.1; have x6 := e2 a ha.1; have x7 := e6 a ha.1 ha.2; have x8 := e6 c hc.1 hc.2; clear h9 h10 h5; grind [up]
      · clear h7 h8 h9; grind [up]
    · simp only
      refine ⟨?_, ?_, ?_, ?_, ?_, ?_, ?_, ?_, fun a c ha hc => h9 a c ha.1 hc.1, ?_⟩
      · intro a ha; have x1 := h1 a ha.1; have x2 := e2 a ha.1; have x3 := e6 a ha.1 ha.2; clear h2 h3 h4 h5 h6 h7 h8 h9 h10; grind
      · intro a b ha; have x1 := h2 a b ha.1; have x2 := h1 a ha.1; have x3 := e2 a ha.1; have x4 := e6 a ha.1 ha.2; clear h7 h8 h9 h10; grind [up]
      · intro a b ha; have x1 := h3 a b ha.1; have x2 := h1 a ha.1; have x3 := e2 a ha.1; have x4 := e6 a ha.1 ha.2; clear h7 h8 h9 h10; grind [up]
      · intro a b ha; have x1 := h4 a b ha.1; clear h7 h8 h9 h10; grind [up]
      · clear h7 h8 h9 h10; grind [up]
      · clear h7 h8 h9; grind [up]
      · intro a c ha hc; have x1 := h7 a c ha.1 hc.1; have x2 := h7 a z ha.1 hz; have x3 := h7 z c hz hc.1; have x4 := h8 z c hz hc.1; have x5 := h1 a ha.1; have x6 := e2 a ha.1; have x7 := e6 a ha.1 ha.2; have x8 := e6 c hc.1 hc.2; clear h9 h10 h5; grind [up]
      · intro a c ha hc; have x1 := h8 a c ha.1 hc.1; have x2 := h8 a z ha.1 hz; have x3 := h7 z c hz hc.1; have x4 := h8 z c hz hc.1; have x5 := h1 a ha.1; have x6 := e2 a ha.1; have x7 := e6 a ha.1 ha.2; have x8 := e6 c hc.1 hc.2; clear h9 h10 h5; grind [up]
      · clear h7 h8 h9; grind [up]
  · obtain ⟨f1, f2, f3⟩ := e3 q hPp
    by_cases hq : L q = some z
    · simp only [if_pos hq]
      rcases hLr : L z with _ | y
      · simp only
        refine ⟨?_, ?_, ?_, ?_, ?_, ?_, ?_, ?_, fun a c ha hc => h9 a c ha.1 hc.1, ?_⟩
        · intro a ha; have x1 := h1 a ha.1; have x2 := e2 a ha.1; have x3 := e6 a ha.1 ha.2; clear h2 h3 h4 h5 h6 h7 h8 h9 h10; grind
        · intro a b ha; have x1 := h2 a b ha.1; have x2 := h1 a ha.1; have x3 := e2 a ha.1; have x4 := e6 a ha.1 ha.2; clear h7 h8 h9 h10; grind [up]
        · intro a b ha; have x1 := h3 a b ha.1; have x2 := h1 a ha.1; have x3 := e2 a ha.1; have x4 := e6 a ha.1 ha.2; clear h7 h8 h9 h10; grind [up]
        · intro a b ha; have x1 := h4 a b ha.1; clear h7 h8 h9 h10; grind [up]
        · clear h7 h8 h9 h10; grind [up]
        · clear h7 h8 h9; grind [up]
        · intro a c ha hc; have x1 := h7 a c ha.1 hc.1; have x2 := h7 a z ha.1 hz; have x3 := h7 z c hz hc.1; have x4 := h8 z c hz hc.1; have x5 := h1 a ha.1; have x6 := e2 a ha.1; have x7 := e6 a ha.1 ha.2; have x8 := e6 c hc.1 hc.2; clear h9 h10 h5; grind [up]
        · intro a c ha hc; have x1 := h8 a c ha.1 hc.1; have x2 := h8 a z ha.1 hz; have x3 := h7 z c hz hc.1; have x4 := h8 z c hz hc.1; have x5 := h1 a ha.1; have x6 := e2 a ha.1; have x7 := e6 a ha.1 ha.2; have x8 := e6 c hc.1 hc.2; clear h9 h10 h5; grind [up]
        · clear h7 h8 h9; grind [up]
      · simp only
        refine ⟨?_, ?_, ?_, ?_, ?_, ?_, ?_, ?_, fun a c ha hc => h9 a c ha.1 hc.1, ?_⟩
        · intro a ha; have x1 := h1 a ha.1; have x2 := e2 a ha.1; have x3 := e6 a ha.1 ha.2; clear h2 h3 h4 h5 h6 h7 h8 h9 h10; grind
        · intro a b ha; have x1 := h2 a b ha.1; have x2 := h1 a ha.1; have x3 := e2 a ha.1; have x4 := e6 a ha.1 ha.2; clear h7 h8 h9 h10; grind [up]
        · intro a b ha; have x1 := h3 a b ha.1; have x2 := h1 a ha.1; have x3 := e2 a ha.1; have x4 := e6 a ha.1 ha.2; clear h7 h8 h9 h10; grind [up]
        · intro a b ha; have x1 := h4 a b ha.1; clear h7 h8 h9 h10; grind [up]
        · clear h7 h8 h9 h10; grind [up]
        · clear h7 h8 h9; grind [up]
        · intro a c ha hc; have x1 := h7 a c ha.1 hc.1; have x2 := h7 a z ha.1 hz; have x3 := h7 z c hz hc.1; have x4 := h8 z c hz hc.1; have x5 := h1 a ha.1; have x6 := e2 a ha.1; have x7 := e6 a ha.1 ha.2; have x8 := e6 c hc.1 hc.2; clear h9 h10 h5; grind [up]
        · intro a c ha hc; have x1 := h8 a c ha.1 hc.1; have x2 := h8 a z ha.1 hz; have x3 := h7 z c hz hc.1; have x4 := h8 z c hz hc.1; have x5 := h1 a ha.1; have x6 := e2 a ha.1; have x7 := e6 a ha.1 ha.2; have x8 := e6 c hc.1 hc.2; clear h9 h10 h5; grind [up]
        · clear h7 h8 h9; grind [up]
    · simp only [if_neg hq]
      rcases hLr : L z with _ | y
      · simp only
        refine ⟨?_, ?_, ?_, ?_, ?_, ?_, ?_, ?_, fun a c ha hc => h9 a c ha.1 hc.1, ?_⟩
        · intro a ha; have x1 := h1 a ha.1; have x2 := e2 a ha.1; have x3 := e6 a ha.1 ha.2; clear h2 h3 h4 h5 h6 h7 h8 h9 h10; grind
        · intro a b ha; have x1 := h2 a b ha.1; have x2 := h1 a ha.1; have x3 := e2 a ha.1; have x4 := e6 a ha.1 ha.2; clear h7 h8 h9 h10; grind [up]
        · intro a b ha; have x1 := h3 a b ha.1; have x2 := h1 a ha.1; have x3 := e2 a ha.1; have x4 := e6 a ha.1 ha.2; clear h7 h8 h9 h10; grind [up]
        · intro a b ha; have x1 := h4 a b ha.1; clear h7 h8 h9 h10; grind [up]
        · clear h7 h8 h9 h10; grind [up]
        · clear h7 h8 h9; grind [up]
        · intro a c ha hc; have x1 := h7 a c ha.1 hc.1; have x2 := h7 a z ha.1 hz; have x3 := h7 z c hz hc.1; have x4 := h8 z c hz hc.1; have x5 := h1 a ha.1; have x6 := e2 a ha.1; have x7 := e6 a ha.1 ha.2; have x8 := e6 c hc.1 hc.2; clear h9 h10 h5; grind [up]
        · intro a c ha hc; have x1 := h8 a c ha.1 hc.1; have x2 := h8 a z ha.1 hz; have x3 := h7 z c hz hc.1; have x4 := h8 z c hz hc.1; have x5 := h1 a ha.1; have x6 := e2 a ha.1; have x7 := e6 a ha.1 ha.2; have x8 := e6 c hc.1 hc.2; clear h9 h10 h5; grind [up]
        · clear h7 h8 h9; grind [up]
      · simp only
        refine ⟨?_, ?_, ?_, ?_, ?_, ?_, ?_, ?_, fun a c ha hc => h9 a c ha.1 hc.1, ?_⟩
        · intro a ha; have x1 := h1 a ha.1; have x2 := e2 a ha.1; have x3 := e6 a ha.1 ha.2; clear h2 h3 h4 h5 h6 h7 h8 h9 h10; grind
        · intro a b ha; have x1 := h2 a b ha.1; have x2 := h1 a ha.1; have x3 := e2 a ha.1; have x4 := e6 a ha.1 ha.2; clear h7 h8 h9 h10; grind [up]
        · intro a b ha; have x1 := h3 a b ha.1; have x2 := h1 a ha.1; have x3 := e2 a ha.1; have x4 := e6 a ha.1 ha.2; clear h7 h8 h9 h10; grind [up]
        · intro a b ha; have x1 := h4 a b ha.1; clear h7 h8 h9 h10; grind [up]
        · clear h7 h8 h9 h10; grind [up]
        · clear h7 h8 h9; grind [up]
        · intro a c ha hc; have x1 := h7 a c ha.1 hc.1; have x2 := h7 a z ha.1 hz; have x3 := h7 z c hz hc.1; have x4 := h8 z c hz hc.1; have x5 := h1 a ha.1; have x6 := e2 a ha.1; have x7 := e6 a ha.1 ha.2; have x8 := e6 c hc.1 hc.2; clear h9 h10 h5; grind [up]
        · intro a c ha hc; have x1 := h8 a c ha.1 hc.1; have x2 := h8 a z ha.1 hz; have x3 := h7 z c hz hc.1; have x4 := h8 z c hz hc.1; have x5 := h1 a ha.1; have x6 := e2 a ha.1; have x7 := e6 a ha.1 ha.2; have x8 := e6 c hc.1 hc.2; clear h9 h10 h5; grind [up]
        · clear h7 h8 h9; grind [up]
