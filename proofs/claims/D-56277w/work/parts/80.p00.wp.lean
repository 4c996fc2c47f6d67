/-! THE PLAIN LAW: what a function over abstract heaps comes to (mw_) -/
/-- x comes to an end at σ, and Q holds of it -/
def mw {α : Type} (x : mx_M α) (σ : hp_S) (Q : α ⊕ Nat → hp_S → Prop) : Prop := ∃ (o : α ⊕ Nat) (σ1 : hp_S), x σ = some (o, σ1) ∧ Q o σ1
section MW
variable {α β : Type} {σ : hp_S} {Q : α ⊕ Nat → hp_S → Prop}
theorem mw_pure {v : α} : mw (mx_pure v) σ Q ↔ Q (.inl v) σ := ⟨fun ⟨o, s, h, q⟩ => by cases h; exact q, fun h => ⟨_, _, rfl, h⟩⟩
theorem mw_bind {x : mx_M β} {f : β → mx_M α} : mw (mx_bind x f) σ Q ↔ mw x σ (fun o s => match o with | .inl v => mw (f v) s Q | .inr q => Q (.inr q) s) := by
  constructor
  · rintro ⟨o, s, h, q⟩
    rcases hx : x σ with _ | ⟨o1, s1⟩
    · simp [mx_bind, hx] at h
    · refine ⟨o1, s1, hx, ?_⟩
      cases o1 with
      | inl v => simp [mx_bind, hx] at h; exact ⟨o, s, h, q⟩
      | inr q1 =>
        simp [mx_bind, hx] at h
        obtain ⟨rfl, rfl⟩ := h
        exact q
  · rintro ⟨o1, s1, hx, h⟩
    cases o1 with
    | inl v =>
      obtain ⟨o, s, h1, h2⟩ := h
      exact ⟨o, s, by simp [mx_bind, hx, h1], h2⟩
    | inr q1 => exact ⟨.inr q1, s1, by simp [mx_bind, hx], h⟩
theorem mw_try {x : mx_M β} {f : β → mx_M α} {g : Nat → mx_M α} : mw (mx_try x f g) σ Q ↔ mw x σ (fun o s => match o with | .inl v => mw (f v) s Q | .inr q => mw (g q) s Q) := by
  constructor
  · rintro ⟨o, s, h, q⟩
    rcases hx : x σ with _ | ⟨o1, s1⟩
    · simp [mx_try, hx] at h
    · refine ⟨o1, s1, hx, ?_⟩
      cases o1 with
      | inl v => simp [mx_try, hx] at h; exact ⟨o, s, h, q⟩
      | inr q1 => simp [mx_try, hx] at h; exact ⟨o, s, h, q⟩
  · rintro ⟨o1, s1, hx, h⟩
    cases o1 with
    | inl v =>
      obtain ⟨o, s, h1, h2⟩ := h
      exact ⟨o, s, by simp [mx_try, hx, h1], h2⟩
    | inr q1 =>
      obtain ⟨o, s, h1, h2⟩ := h
      exact ⟨o, s, by simp [mx_try, hx, h1], h2⟩
theorem mw_let {e : β} {f : β → mx_M α} : mw (mx_let e f) σ Q ↔ mw (f e) σ Q := Iff.rfl
theorem mw_if {c : Prop} [Decidable c] {A B : mx_M α} : mw (mx_if c A B) σ Q ↔ ((c → mw A σ Q) ∧ (¬ c → mw B σ Q)) := by
  unfold mw mx_if
  by_cases h : c
  · simp [h]
  · simp [h]
theorem mw_ifT {c : Prop} [Decidable c] {A B : mx_M α} (h : c) : mw (mx_if c A B) σ Q ↔ mw A σ Q := by
  unfold mw mx_if
  simp [h]
theorem mw_ifF {c : Prop} [Decidable c] {A B : mx_M α} (h : ¬ c) : mw (mx_if c A B) σ Q ↔ mw B σ Q := by
  unfold mw mx_if
  simp [h]
theorem mw_ifnullN {A B : mx_M α} : mw (mx_ifnull none A B) σ Q ↔ mw A σ Q := Iff.rfl
theorem mw_ifnullS {a : Nat} {A B : mx_M α} : mw (mx_ifnull (some a) A B) σ Q ↔ mw B σ Q := Iff.rfl
theorem va_rf_inj {x y : Option Nat} : va_rf x = va_rf y ↔ x = y := by
  cases x <;> cases y <;> simp [va_rf]
theorem hp_ref_rf (x : Option Nat) : hp_ref (va_rf x) = some x := by cases x <;> rfl
theorem mw_getI {cs : List (Nat × Nat)} {v : Option Nat} {Q : Int32 ⊕ Nat → hp_S → Prop} : mw (mx_getI cs v) σ Q ↔ ∃ x, hp_fld cs σ v = some (.int x) ∧ Q (.inl x) σ := by
  constructor
  · rintro ⟨o, s, h, q⟩
    unfold mx_getI at h
    split at h
    · rename_i x hx
      cases h
      exact ⟨x, hx, q⟩
    · cases h
  · rintro ⟨x, hx, q⟩
    exact ⟨_, _, by simp [mx_getI, hx], q⟩
theorem mw_getL {cs : List (Nat × Nat)} {v : Option Nat} {Q : Int64 ⊕ Nat → hp_S → Prop} : mw (mx_getL cs v) σ Q ↔ ∃ x, hp_fld cs σ v = some (.long x) ∧ Q (.inl x) σ := by
  constructor
  · rintro ⟨o, s, h, q⟩
    unfold mx_getL at h
    split at h
    · rename_i x hx
      cases h
      exact ⟨x, hx, q⟩
    · cases h
  · rintro ⟨x, hx, q⟩
    exact ⟨_, _, by simp [mx_getL, hx], q⟩
theorem hp_ref_eq {w : Value} {r : Option Nat} : hp_ref w = some r ↔ w = va_rf r := by
  constructor
  · intro h
    cases w <;> first | (cases h; rfl) | (simp [hp_ref] at h)
  · rintro rfl
    exact hp_ref_rf r
theorem mw_getR {cs : List (Nat × Nat)} {v : Option Nat} {Q : Option Nat ⊕ Nat → hp_S → Prop} : mw (mx_getR cs v) σ Q ↔ ∃ x, hp_fld cs σ v = some (va_rf x) ∧ Q (.inl x) σ := by
  constructor
  · rintro ⟨o, s, h, q⟩
    unfold mx_getR at h
    obtain ⟨x, h1, h2⟩ := Option.map_eq_some_iff.mp h
    obtain ⟨w, h3, h4⟩ := Option.bind_eq_some_iff.mp h1
    cases h2
    exact ⟨x, by rw [h3, hp_ref_eq.mp h4], q⟩
  · rintro ⟨x, hx, q⟩
    exact ⟨_, _, by simp [mx_getR, hx, hp_ref_rf], q⟩
theorem mw_put {cs : List (Nat × Nat)} {v : Option Nat} {w : Value} {Q : Unit ⊕ Nat → hp_S → Prop} : mw (mx_put cs v w) σ Q ↔ ∃ s, hp_put cs σ v w = some s ∧ Q (.inl ()) s := by
  constructor
  · rintro ⟨o, s, h, q⟩
    obtain ⟨s9, h1, h2⟩ := Option.map_eq_some_iff.mp h
    obtain ⟨rfl, rfl⟩ := Prod.mk.inj h2
    exact ⟨s9, h1, q⟩
  · rintro ⟨x, hx, q⟩
    exact ⟨_, _, by simp [mx_put, hx], q⟩
theorem mw_putN {ty : FieldType} {cs : List (Nat × Nat)} {v : Option Nat} {x : Int32} {Q : Unit ⊕ Nat → hp_S → Prop} (hn : mx_nar ty x = true) : mw (mx_putN ty cs v x) σ Q ↔ ∃ s, hp_put cs σ v (.int x) = some s ∧ Q (.inl ()) s := by
  have e : mw (mx_putN ty cs v x) σ Q ↔ mw (mx_put cs v (.int x)) σ Q := by
    unfold mw mx_putN mx_put
    rw [if_pos hn]
  rw [e, mw_put]
theorem mw_retN {ty : FieldType} {x : Int32} {Q : Int32 ⊕ Nat → hp_S → Prop} (hn : mx_nar ty x = true) : mw (mx_retN ty x) σ Q ↔ Q (.inl x) σ := by
  unfold mw mx_retN
  rw [if_pos hn]
  constructor
  · rintro ⟨o, s, h, q⟩
    cases h
    exact q
  · intro h
    exact ⟨_, _, rfl, h⟩
theorem mw_new {o : hp_O} {k : Nat} {Q : Nat ⊕ Nat → hp_S → Prop} : mw (mx_new o k) σ Q ↔ Q (.inl (hp_n σ)) (hp_add σ o k) := ⟨fun ⟨o, s, h, q⟩ => by cases h; exact q, fun h => ⟨_, _, rfl, h⟩⟩
theorem mw_is {t : Nat} {v : Option Nat} {x : mx_M α} (h : hp_tag σ v = some t) : mw (mx_is t v x) σ Q ↔ mw x σ Q := by
  unfold mw mx_is
  rw [if_pos h]
theorem mw_deref {a : Nat} {f : Nat → mx_M α} : mw (mx_deref (some a) f) σ Q ↔ mw (f a) σ Q := Iff.rfl
theorem mw_imp {x : mx_M α} {P : α ⊕ Nat → hp_S → Prop} (h : mw x σ P) (hq : ∀ o s, P o s → Q o s) : mw x σ Q := by
  obtain ⟨o, s, h1, h2⟩ := h
  exact ⟨o, s, h1, hq o s h2⟩
end MW
