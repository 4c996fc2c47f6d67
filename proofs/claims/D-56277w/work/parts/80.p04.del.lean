/-! TAKING OUT -/
/-- from the root down -/
theorem tm_ind {root : Option Nat} {S : Nat → Prop} {ky : Nat → Int} {L R P : Nat → Option Nat} {lo hi : Nat → Int} (h : tm_I root S ky L R P lo hi) (M : Nat → Prop) (h0 : ∀ a, S a → P a = none → M a) (hs : ∀ a b, S a → P a = some b → S b → M b → M a) : ∀ a, S a → M a := by
  obtain ⟨h1, h2, h3, h4, h5, h6, h7, h8, h9, h10⟩ := h
  have key : ∀ (n : Nat) (a : Nat), S a → (2002 - (hi a - lo a)).toNat ≤ n → M a := by
    intro n
    induction n with
    | zero =>
      intro a ha hn
      have := h1 a ha
      omega
    | succ n ih =>
      intro a ha hn
      have x1 := h1 a ha
      rcases hP : P a with _ | b
      · exact h0 a ha hP
      · obtain ⟨hb, hl⟩ := h4 a b ha hP
        have x2 := h1 b hb
        refine hs a b ha hP hb (ih b hb ?_)
        rcases hl with hl | hl
        · have := h2 b a hb hl
          omega
        · have := h3 b a hb hl
          omega
  exact fun a ha => key _ a ha (Nat.le_refl _)
theorem tm_hiL {root : Option Nat} {S : Nat → Prop} {ky : Nat → Int} {L R P : Nat → Option Nat} {lo hi : Nat → Int} (h : tm_I root S ky L R P lo hi) : ∀ a, S a → hi a = 2000 ∨ ∃ b, S b ∧ hi a = ky b ∧ L b ≠ none ∧ lo b ≤ lo a := by
  refine tm_ind h _ (fun a ha hP => ?_) (fun a b ha hP hb hM => ?_)
  · exact Or.inl (h.2.2.2.2.2.1 a (h.2.2.2.2.1 a ha hP)).2.2.2
  · have x1 := h.1 b hb
    rcases (h.2.2.2.1 a b ha hP).2 with hl | hl
    · have := h.2.1 b a hb hl
      exact Or.inr ⟨b, hb, this.2.2.2, by rw [hl]; simp, by omega⟩
    · have := h.2.2.1 b a hb hl
      rcases hM with hM | ⟨c, c1, c2, c3, c4⟩
      · exact Or.inl (by omega)
      · exact Or.inr ⟨c, c1, by omega, c3, by omega⟩
theorem tm_loR {root : Option Nat} {S : Nat → Prop} {ky : Nat → Int} {L R P : Nat → Option Nat} {lo hi : Nat → Int} (h : tm_I root S ky L R P lo hi) : ∀ a, S a → lo a = -1 ∨ ∃ b, S b ∧ lo a = ky b ∧ R b ≠ none ∧ hi a ≤ hi b := by
  refine tm_ind h _ (fun a ha hP => ?_) (fun a b ha hP hb hM => ?_)
  · exact Or.inl (h.2.2.2.2.2.1 a (h.2.2.2.2.1 a ha hP)).2.2.1
  · have x1 := h.1 b hb
    rcases (h.2.2.2.1 a b ha hP).2 with hl | hl
    · have := h.2.1 b a hb hl
      rcases hM with hM | ⟨c, c1, c2, c3, c4⟩
      · exact Or.inl (by omega)
      · exact Or.inr ⟨c, c1, by omega, c3, by omega⟩
    · have := h.2.2.1 b a hb hl
      exact Or.inr ⟨b, hb, this.2.2.1, by rw [hl]; simp, by omega⟩
/-- a new leaf to the left of p -/
theorem tm_insL {root : Option Nat} {S : Nat → Prop} {ky : Nat → Int} {L R P : Nat → Option Nat} {lo hi : Nat → Int} {p n : Nat} {k : Int} (h : tm_I root S ky L R P lo hi) (hp : S p) (hn : ¬ S n) (hL : L p = none) (k1 : lo p < k) (k2 : k < ky p) :
    tm_I root (fun a => S a ∨ a = n) (up ky n k) (up (up L n none) p (some n)) (up R n none) (up P n (some p)) (up lo n (lo p)) (up hi n (ky p)) := by
  have g1 := tm_hiL h
  have g2 := tm_loR h
  obtain ⟨h1, h2, h3, h4, h5, h6, h7, h8, h9, h10⟩ := h
  have e1 : p ≠ n := fun e => hn (e ▸ hp)
  have e2 : ∀ a, S a → a ≠ n := fun a ha e => hn (e ▸ ha)
  have n1 := h1 p hp
  have e3 : ∀ a, S a → ky a ≠ k := by
    intro a ha e
    have := h7 p a hp ha hL
    omega
  have e4 : ∀ a, S a → L a = none → ¬ (lo a < k ∧ k < ky a) ∨ (a = p ∧ True) := by
    intro a ha hl
    by_cases ea : a = p
    · exact Or.inr ⟨ea, trivial⟩
    · left
      have x1 := h7 a p ha hp hl
      have x2 := h7 p a hp ha hL
      have x3 := h1 a ha
      have x4 : ky a ≠ ky p := fun e => ea (h9 a p ha hp e)
      rintro ⟨y1, y2⟩
      rcases g2 a ha with g | ⟨b, b1, b2, b3, b4⟩
      · omega
      · have x5 := h7 p b hp b1 hL
        have x6 : ky b = ky p → b = p := h9 b p b1 hp
        by_cases eb : b = p
        · subst eb
          first
            | exact b3 hL
            | omega
        · have : ky b ≠ ky p := fun e => eb (x6 e)
          omega
  have e5 : ∀ a, S a → R a = none → ¬ (ky a < k ∧ k < hi a) ∨ (a = p ∧ False) := by
    intro a ha hl
    by_cases ea : a = p
    · exact Or.inl (by subst ea; omega)
    · left
      have x1 := h8 a p ha hp hl
      have x2 := h7 p a hp ha hL
      have x3 := h1 a ha
      have x4 : ky a ≠ ky p := fun e => ea (h9 a p ha hp e)
      rintro ⟨y1, y2⟩
      rcases g1 a ha with g | ⟨b, b1, b2, b3, b4⟩
      · omega
      · have x5 := h7 p b hp b1 hL
        have x6 : ky b = ky p → b = p := h9 b p b1 hp
        by_cases eb : b = p
        · subst eb
          first
            | exact b3 hL
            | omega
        · have : ky b ≠ ky p := fun e => eb (x6 e)
          omega
  refine ⟨?_, ?_, ?_, ?_, ?_, ?_, ?_, ?_, ?_, ?_⟩
  · clear h2 h3 h4 h5 h6 h7 h8 h9 h10 g1 g2; grind [up]
  · clear h7 h8 h9 h10 g1 g2; grind [up]
  · clear h7 h8 h9 h10 g1 g2; grind [up]
  · clear h7 h8 h9 h10 g1 g2; grind [up]
  · clear h7 h8 h9 h10 g1 g2; grind [up]
  · clear h7 h8 h9 h10 g1 g2; grind [up]
  · intro a c ha hc
    have x1 := h7 a c
    have x2 := h7 p c hp
    have x3 := h8 p c hp
    have x4 := e4 a
    clear h2 h3 h4 h5 h6 h7 h8 h10 g1 g2
    grind [up]
  · intro a c ha hc
    have x1 := h8 a c
    have x2 := h7 p c hp
    have x3 := h8 p c hp
    have x4 := e5 a
    clear h2 h3 h4 h5 h6 h7 h8 h10 g1 g2
    grind [up]
  · intro a c ha hc
    have x1 := h9 a c
    clear h2 h3 h4 h5 h6 h7 h8 h10 g1 g2
    grind [up]
  · intro e a ha
    have := h10 e p
    exact this hp
/-- a new leaf to the right of p -/
theorem tm_insR {root : Option Nat} {S : Nat → Prop} {ky : Nat → Int} {L R P : Nat → Option Nat} {lo hi : Nat → Int} {p n : Nat} {k : Int} (h : tm_I root S ky L R P lo hi) (hp : S p) (hn : ¬ S n) (hL : R p = none) (k1 : ky p < k) (k2 : k < hi p) :
    tm_I root (fun a => S a ∨ a = n) (up ky n k) (up L n none) (up (up R n none) p (some n)) (up P n (some p)) (up lo n (ky p)) (up hi n (hi p)) := by
  have g1 := tm_hiL h
  have g2 := tm_loR h
  obtain ⟨h1, h2, h3, h4, h5, h6, h7, h8, h9, h10⟩ := h
  have e1 : p ≠ n := fun e => hn (e ▸ hp)
  have e2 : ∀ a, S a → a ≠ n := fun a ha e => hn (e ▸ ha)
  have n1 := h1 p hp
  have e3 : ∀ a, S a → ky a ≠ k := by
    intro a ha e
    have := h8 p a hp ha hL
    omega
  have e4 : ∀ a, S a → L a = none → ¬ (lo a < k ∧ k < ky a) ∨ (a = p ∧ False) := by
    intro a ha hl
    by_cases ea : a = p
    · exact Or.inl (by subst ea; omega)
    · left
      have x1 := h7 a p ha hp hl
      have x2 := h8 p a hp ha hL
      have x3 := h1 a ha
      have x4 : ky a ≠ ky p := fun e => ea (h9 a p ha hp e)
      rintro ⟨y1, y2⟩
      rcases g2 a ha with g | ⟨b, b1, b2, b3, b4⟩
      · omega
      · have x5 := h8 p b hp b1 hL
        have x6 : ky b = ky p → b = p := h9 b p b1 hp
        by_cases eb : b = p
        · subst eb
          first
            | exact b3 hL
            | omega
        · have : ky b ≠ ky p := fun e => eb (x6 e)
          omega
  have e5 : ∀ a, S a → R a = none → ¬ (ky a < k ∧ k < hi a) ∨ (a = p ∧ True) := by
    intro a ha hl
    by_cases ea : a = p
    · exact Or.inr ⟨ea, trivial⟩
    · left
      have x1 := h8 a p ha hp hl
      have x2 := h8 p a hp ha hL
      have x3 := h1 a ha
      have x4 : ky a ≠ ky p := fun e => ea (h9 a p ha hp e)
      rintro ⟨y1, y2⟩
      rcases g1 a ha with g | ⟨b, b1, b2, b3, b4⟩
      · omega
      · have x5 := h8 p b hp b1 hL
        have x6 : ky b = ky p → b = p := h9 b p b1 hp
        by_cases eb : b = p
        · subst eb
          first
            | exact b3 hL
            | omega
        · have : ky b ≠ ky p := fun e => eb (x6 e)
          omega
  refine ⟨?_, ?_, ?_, ?_, ?_, ?_, ?_, ?_, ?_, ?_⟩
  · clear h2 h3 h4 h5 h6 h7 h8 h9 h10 g1 g2; grind [up]
  · clear h7 h8 h9 h10 g1 g2; grind [up]
  · clear h7 h8 h9 h10 g1 g2; grind [up]
  · clear h7 h8 h9 h10 g1 g2; grind [up]
  · clear h7 h8 h9 h10 g1 g2; grind [up]
  · clear h7 h8 h9 h10 g1 g2; grind [up]
  · intro a c ha hc
    have x1 := h7 a c
    have x2 := h7 p c hp
    have x3 := h8 p c hp
    have x4 := e4 a
    clear h2 h3 h4 h5 h6 h7 h8 h10 g1 g2
    grind [up]
  · intro a c ha hc
    have x1 := h8 a c
    have x2 := h7 p c hp
    have x3 := h8 p c hp
    have x4 := e5 a
    clear h2 h3 h4 h5 h6 h7 h8 h10 g1 g2
    grind [up]
  · intro a c ha hc
    have x1 := h9 a c
    clear h2 h3 h4 h5 h6 h7 h8 h10 g1 g2
    grind [up]
  · intro e a ha
    have := h10 e p
    exact this hp
/-- the successor's key put into p; the successor's own becomes a phantom -/
theorem tm_copy {root : Option Nat} {S : Nat → Prop} {ky : Nat → Int} {L R P : Nat → Option Nat} {lo hi : Nat → Int} {p s9 : Nat} (h : tm_I root S ky L R P lo hi) (hev : ∀ a, S a → ky a % 2 = 0) (hp : S p) (hs : S s9) (hlo : lo s9 = ky p) (hL : L s9 = none) :
    tm_I root S (up (up ky p (ky s9)) s9 (ky s9 + 1)) L R P (fun z => if lo z = ky p then ky s9 else if lo z = ky s9 then ky s9 + 1 else lo z) (fun z => if hi z = ky p then ky s9 else hi z) := by
  have g1 := tm_hiL h
  have g2 := tm_loR h
  obtain ⟨h1, h2, h3, h4, h5, h6, h7, h8, h9, h10⟩ := h
  have n1 := h1 p hp
  have n2 := h1 s9 hs
  have e1 : s9 ≠ p := fun e => by subst e; omega
  have e2 : ∀ a, S a → hi a ≠ ky s9 := by
    intro a ha e
    rcases g1 a ha with g | ⟨b, b1, b2, b3, -⟩
    · omega
    · exact b3 (by rw [h9 b s9 b1 hs (by omega)]; exact hL)
  have e3 : ∀ c, S c → ¬ (ky p < ky c ∧ ky c < ky s9) := fun c hc => by
    have := h7 s9 c hs hc hL
    rw [hlo] at this
    exact this
  have e4 : hi s9 ≤ hi p := by
    rcases g2 s9 hs with g | ⟨b, b1, b2, -, b4⟩
    · omega
    · have := h9 b p b1 hp (by omega)
      subst this
      exact b4
  have e5 : hi s9 % 2 = 0 := by
    rcases g1 s9 hs with g | ⟨b, b1, b2, -, -⟩
    · omega
    · have := hev b b1
      omega
  have v1 := hev s9 hs
  have v2 := hev p hp
  clear g1 g2
  refine ⟨?_, ?_, ?_, h4, h5, ?_, ?_, ?_, ?_, h10⟩
  · intro a ha
    have y1 := h1 a ha
    have y2 := hev a ha
    have y3 := e2 a ha
    have y4 := e3 a ha
    have y5 := h9 a p ha hp
    have y6 := h9 a s9 ha hs
    clear h1 h2 h3 h4 h5 h6 h7 h8 h9 h10 hev e2 e3
    grind (splits := 30) [up]
  · intro a b ha hb
    have y1 := h2 a b ha hb
    have y5 := h9 a p ha hp
    have y6 := h9 a s9 ha hs
    have y7 := e2 b y1.1
    clear h1 h2 h3 h4 h5 h6 h7 h8 h9 h10 hev e2 e3
    grind (splits := 30) [up]
  · intro a b ha hb
    have y1 := h3 a b ha hb
    have y5 := h9 a p ha hp
    have y6 := h9 a s9 ha hs
    have y7 := e2 b y1.1
    clear h1 h2 h3 h4 h5 h6 h7 h8 h9 h10 hev e2 e3
    grind (splits := 30) [up]
  · intro a ha
    have y1 := h6 a ha
    have y2 := h1 a y1.1
    clear h1 h2 h3 h4 h5 h6 h7 h8 h9 h10 hev e2 e3
    grind
  · intro a c ha hc hl
    have y1 := h7 a c ha hc hl
    have y2 := h7 a s9 ha hs hl
    have y3 := h7 a p ha hp hl
    have z1 := hev a ha
    have z2 := hev c hc
    have z3 := e3 c hc
    have z4 := e3 a ha
    have z5 := h1 a ha
    have z6 := h9 a p ha hp
    have z7 := h9 a s9 ha hs
    have z8 := h9 c p hc hp
    have z9 := h9 c s9 hc hs
    clear h1 h2 h3 h4 h5 h6 h7 h8 h9 h10 hev e2 e3
    grind (splits := 30) [up]
  · intro a c ha hc hl
    have y1 := h8 a c ha hc hl
    have y2 := h8 a s9 ha hs hl
    have y3 := h8 a p ha hp hl
    have z1 := hev a ha
    have z2 := hev c hc
    have z3 := e3 c hc
    have z4 := e3 a ha
    have z5 := h1 a ha
    have z6 := h9 a p ha hp
    have z7 := h9 a s9 ha hs
    have z8 := h9 c p hc hp
    have z9 := h9 c s9 hc hs
    have z0 := e2 a ha
    clear h1 h2 h3 h4 h5 h6 h7 h8 h9 h10 hev e2 e3
    grind (splits := 30) [up]
  · intro a c ha hc
    have z1 := hev a ha
    have z2 := hev c hc
    have z3 := h9 a c ha hc
    have z4 := h9 a s9 ha hs
    have z5 := h9 c s9 hc hs
    have z6 := h9 a p ha hp
    have z7 := h9 c p hc hp
    clear h1 h2 h3 h4 h5 h6 h7 h8 h9 h10 hev e2 e3
    grind (splits := 30) [up]
