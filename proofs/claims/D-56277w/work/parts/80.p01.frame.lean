/-! FRAMES: what a run leaves alone -/
/-- from σ to τ only addresses in M are written, at most k cells of at most l slots are made -/
def fq (M : Nat → Prop) (k l : Nat) (σ τ : hp_S) : Prop := (∀ b, b < hp_n σ → ¬ M b → hp_G τ b = hp_G σ b) ∧ hp_n σ ≤ hp_n τ ∧ hp_n τ ≤ hp_n σ + k ∧ hp_s σ ≤ hp_s τ ∧ hp_s τ ≤ hp_s σ + l ∧ hp_b τ = hp_b σ ∧ hp_e τ = hp_e σ
theorem fq_refl {M : Nat → Prop} {σ : hp_S} : fq M 0 0 σ σ := ⟨fun _ _ _ => rfl, Nat.le_refl _, Nat.le_refl _, Nat.le_refl _, Nat.le_refl _, rfl, rfl⟩
theorem fq_mono {M N : Nat → Prop} {k l k' l' : Nat} {σ τ : hp_S} (h : fq M k l σ τ) (hM : ∀ b, b < hp_n σ → M b → N b) (hk : k ≤ k') (hl : l ≤ l') : fq N k' l' σ τ := by
  obtain ⟨h1, h2, h3, h4, h5, h6, h7⟩ := h
  exact ⟨fun b hb hn => h1 b hb (fun hm => hn (hM b hb hm)), h2, by omega, h4, by omega, h6, h7⟩
theorem fq_trans {M N : Nat → Prop} {k l k' l' : Nat} {σ τ ρ : hp_S} (h : fq M k l σ τ) (h' : fq N k' l' τ ρ) (hN : ∀ b, b < hp_n σ → N b → M b) : fq M (k + k') (l + l') σ ρ := by
  obtain ⟨h1, h2, h3, h4, h5, h6, h7⟩ := h
  obtain ⟨g1, g2, g3, g4, g5, g6, g7⟩ := h'
  refine ⟨fun b hb hn => ?_, by omega, by omega, by omega, by omega, g6.trans h6, g7.trans h7⟩
  rw [g1 b (by omega) (fun hm => hn (hN b hb hm)), h1 b hb hn]
theorem fq_set {M : Nat → Prop} {σ : hp_S} {a : Nat} {o : hp_O} (h : M a) : fq M 0 0 σ (hp_set σ a o) := by
  refine ⟨fun b _ hn => ?_, Nat.le_refl _, Nat.le_refl _, Nat.le_refl _, Nat.le_refl _, rfl, rfl⟩
  rw [hp_G_set, if_neg (fun e => hn (by rw [e]; exact h))]
theorem fq_add {M : Nat → Prop} {σ : hp_S} {o : hp_O} {k : Nat} : fq M 1 k σ (hp_add σ o k) := by
  refine ⟨fun b hb _ => ?_, by rw [hp_n_add]; omega, by rw [hp_n_add]; omega, by rw [hp_s_add]; omega, by rw [hp_s_add]; omega, rfl, rfl⟩
  rw [hp_G_add, if_neg (by omega)]
/-- a function changed at one place -/
def up {α : Type} (f : Nat → α) (a : Nat) (v : α) : Nat → α := fun b => if b = a then v else f b
/-! THE TREE'S ENTRIES: fields as functions of the address -/
abbrev tm_f : Type := (Nat → Option Nat) × (Nat → Option Nat) × (Nat → Option Nat) × (Nat → Option Nat) × (Nat → Option Nat) × (Nat → Int32)
def tm_e (F : tm_f) (a : Nat) : List Value := [va_rf (F.1 a), va_rf (F.2.1 a), va_rf (F.2.2.1 a), va_rf (F.2.2.2.1 a), va_rf (F.2.2.2.2.1 a), .int (F.2.2.2.2.2 a)]
def th (σ : hp_S) (S : Nat → Prop) (F : tm_f) : Prop := ∀ a, S a → hp_G σ a = some (19, tm_e F a) ∧ hp_b σ ≤ a
section TH
variable {σ : hp_S} {S : Nat → Prop} {K V L R P : Nat → Option Nat} {C : Nat → Int32} {a : Nat}
theorem th_K (h : th σ S (K, V, L, R, P, C)) (ha : S a) : hp_fld [(19, 0)] σ (some a) = some (va_rf (K a)) := by simp [hp_fld, (h a ha).1, tm_e, List.lookup]
theorem th_V (h : th σ S (K, V, L, R, P, C)) (ha : S a) : hp_fld [(19, 1)] σ (some a) = some (va_rf (V a)) := by simp [hp_fld, (h a ha).1, tm_e, List.lookup]
theorem th_L (h : th σ S (K, V, L, R, P, C)) (ha : S a) : hp_fld [(19, 2)] σ (some a) = some (va_rf (L a)) := by simp [hp_fld, (h a ha).1, tm_e, List.lookup]
theorem th_R (h : th σ S (K, V, L, R, P, C)) (ha : S a) : hp_fld [(19, 3)] σ (some a) = some (va_rf (R a)) := by simp [hp_fld, (h a ha).1, tm_e, List.lookup]
theorem th_P (h : th σ S (K, V, L, R, P, C)) (ha : S a) : hp_fld [(19, 4)] σ (some a) = some (va_rf (P a)) := by simp [hp_fld, (h a ha).1, tm_e, List.lookup]
theorem th_C (h : th σ S (K, V, L, R, P, C)) (ha : S a) : hp_fld [(19, 5)] σ (some a) = some (.int (C a)) := by simp [hp_fld, (h a ha).1, tm_e, List.lookup]
theorem th_put {F G : tm_f} {k : Nat} {w : Value} (h : th σ S F) (ha : S a) (hk : k < 6) (he : tm_e G a = (tm_e F a).set k w) (ho : ∀ b, b ≠ a → tm_e G b = tm_e F b) : hp_put [(19, k)] σ (some a) w = some (hp_set σ a (19, tm_e G a)) ∧ th (hp_set σ a (19, tm_e G a)) S G := by
  obtain ⟨h1, h2⟩ := h a ha
  constructor
  · have h3 : k < (tm_e F a).length := by simp [tm_e]; omega
    simp [hp_put, h1, List.lookup, h2, h3, he]
  · intro b hb
    rw [hp_G_set, hp_b_set]
    by_cases e : b = a
    · subst e
      exact ⟨by simp, h2⟩
    · rw [if_neg e, ho b e]
      exact h b hb
theorem th_pL {w : Option Nat} (h : th σ S (K, V, L, R, P, C)) (ha : S a) : ∃ τ, hp_put [(19, 2)] σ (some a) (va_rf w) = some τ ∧ th τ S (K, V, up L a w, R, P, C) ∧ fq S 0 0 σ τ ∧ τ = hp_set σ a (19, tm_e (K, V, up L a w, R, P, C) a) := by
  obtain ⟨h1, h2⟩ := th_put (G := (K, V, up L a w, R, P, C)) h ha (k := 2) (w := va_rf w) (by decide) (by simp [tm_e, up]) (fun b hb => by simp [tm_e, up, hb])
  exact ⟨_, h1, h2, fq_set ha, rfl⟩
theorem th_pR {w : Option Nat} (h : th σ S (K, V, L, R, P, C)) (ha : S a) : ∃ τ, hp_put [(19, 3)] σ (some a) (va_rf w) = some τ ∧ th τ S (K, V, L, up R a w, P, C) ∧ fq S 0 0 σ τ ∧ τ = hp_set σ a (19, tm_e (K, V, L, up R a w, P, C) a) := by
  obtain ⟨h1, h2⟩ := th_put (G := (K, V, L, up R a w, P, C)) h ha (k := 3) (w := va_rf w) (by decide) (by simp [tm_e, up]) (fun b hb => by simp [tm_e, up, hb])
  exact ⟨_, h1, h2, fq_set ha, rfl⟩
theorem th_pP {w : Option Nat} (h : th σ S (K, V, L, R, P, C)) (ha : S a) : ∃ τ, hp_put [(19, 4)] σ (some a) (va_rf w) = some τ ∧ th τ S (K, V, L, R, up P a w, C) ∧ fq S 0 0 σ τ ∧ τ = hp_set σ a (19, tm_e (K, V, L, R, up P a w, C) a) := by
  obtain ⟨h1, h2⟩ := th_put (G := (K, V, L, R, up P a w, C)) h ha (k := 4) (w := va_rf w) (by decide) (by simp [tm_e, up]) (fun b hb => by simp [tm_e, up, hb])
  exact ⟨_, h1, h2, fq_set ha, rfl⟩
theorem th_pC {w : Int32} (h : th σ S (K, V, L, R, P, C)) (ha : S a) : ∃ τ, hp_put [(19, 5)] σ (some a) (.int w) = some τ ∧ th τ S (K, V, L, R, P, up C a w) ∧ fq S 0 0 σ τ ∧ τ = hp_set σ a (19, tm_e (K, V, L, R, P, up C a w) a) := by
  obtain ⟨h1, h2⟩ := th_put (G := (K, V, L, R, P, up C a w)) h ha (k := 5) (w := .int w) (by decide) (by simp [tm_e, up]) (fun b hb => by simp [tm_e, up, hb])
  exact ⟨_, h1, h2, fq_set ha, rfl⟩
end TH
/-- the tree as it ought to be, told of each entry alone: between which keys it stands -/
def tm_I (root : Option Nat) (S : Nat → Prop) (ky : Nat → Int) (L R P : Nat → Option Nat) (lo hi : Nat → Int) : Prop :=
  (∀ a, S a → -1 ≤ lo a ∧ lo a < ky a ∧ ky a < hi a ∧ hi a ≤ 2000) ∧
  (∀ a b, S a → L a = some b → S b ∧ P b = some a ∧ lo b = lo a ∧ hi b = ky a) ∧
  (∀ a b, S a → R a = some b → S b ∧ P b = some a ∧ lo b = ky a ∧ hi b = hi a) ∧
  (∀ a b, S a → P a = some b → S b ∧ (L b = some a ∨ R b = some a)) ∧
  (∀ a, S a → P a = none → root = some a) ∧
  (∀ a, root = some a → S a ∧ P a = none ∧ lo a = -1 ∧ hi a = 2000) ∧
  (∀ a c, S a → S c → L a = none → ¬ (lo a < ky c ∧ ky c < ky a)) ∧
  (∀ a c, S a → S c → R a = none → ¬ (ky a < ky c ∧ ky c < hi a)) ∧
  (∀ a c, S a → S c → ky a = ky c → a = c) ∧
  (root = none → ∀ a, ¬ S a)
