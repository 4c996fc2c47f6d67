/-! A NEW ENTRY: addEntry -/
section AE
variable {σ0 σ : hp_S} {m d : Nat} {S : Nat → Prop} {K V L R P : Nat → Option Nat} {C : Nat → Int32}
/-- one entry more -/
theorem th_add {F G : tm_f} {q : Nat} (h : th σ S F) (hq : ∀ a, S a → a ≠ q) (ho : ∀ a, S a → tm_e G a = tm_e F a) (hG : hp_G σ q = some (19, tm_e G q)) (hb : hp_b σ ≤ q) : th σ (fun a => S a ∨ a = q) G := by
  rintro a (ha | rfl)
  · rw [ho a ha]
    exact h a ha
  · exact ⟨hG, hb⟩
end AE
