/-! A NEW ENTRY: addEntry, to the right of the last one; addEntryToEmptyMap -/
section AE3
variable {σ : hp_S} {m d p : Nat} {S : Nat → Prop} {K V L R P : Nat → Option Nat} {C : Nat → Int32} {ky lo hi : Nat → Int} {root v1 v2 : Option Nat} {ks vs es nk dm : Value} {n mc : Int32}
/-- what addEntry leaves -/
abbrev ae_Q (σ : hp_S) (m : Nat) (S : Nat → Prop) (K V : Nat → Option Nat) (ky : Nat → Int) (kn : Int) (v1 v2 : Option Nat) (ks vs es nk dm : Value) (n mc : Int32) (Q : Unit ⊕ Nat → hp_S → Prop) : Prop :=
  ∀ τ root' L' R' P' C' lo' hi', tm_I root' (fun a => S a ∨ a = hp_n σ) (up ky (hp_n σ) kn) L' R' P' lo' hi' → (∀ a, (S a ∨ a = hp_n σ) → C' a = 0 ∨ C' a = 1) → fq (fun b => S b ∨ b = m) 1 6 σ τ → hp_n τ = hp_n σ + 1 → hp_G τ m = some (18, mo ks vs root' n mc es nk dm) → th τ (fun a => S a ∨ a = hp_n σ) (up K (hp_n σ) v1, up V (hp_n σ) v2, L', R', P', C') → Q (.inl ()) τ
theorem ae_J32 {S1 : Nat → Prop} {K1 V1 : Nat → Option Nat} {ky1 : Nat → Int} {σ0 : hp_S} {q : Nat} {Q : Unit ⊕ Nat → hp_S → Prop} (hI : tm_I root S1 ky1 L R P lo hi) (hc : ∀ a, S1 a → C a = 0 ∨ C a = 1) (hq : S1 q) (h : ts σ0 σ m (mo ks vs root n mc es nk dm) S1 (K1, V1, L, R, P, C))
    (hQ : ∀ τ root' L' R' P' C' lo' hi', tm_I root' S1 ky1 L' R' P' lo' hi' → (∀ a, S1 a → C' a = 0 ∨ C' a = 1) → ts σ0 τ m (mo ks vs root' (n + 1) (mc + 1) es nk dm) S1 (K1, V1, L', R', P', C') → Q (.inl ()) τ) : mw (fn_J1_addEntry_J32 (d + 2) (some m) (some q)) σ Q := by
  unfold fn_J1_addEntry_J32
  refine mw_bind.mpr ((mw_is (ts_tag h)).mpr (fi_all hI hc hq h ?_))
  intro τ root' L' R' P' C' lo' hi' hI' hc' h'
  refine ms_getI (x9 := n) (by simp [hp_fld, h'.2.1, mo, List.lookup]) ?_
  refine ms_pm h' (k9 := 4) (by simp [mo]) rfl fun τ1 h1 => ?_
  refine ms_getI (x9 := mc) (by simp [hp_fld, h1.2.1, mo, List.lookup]) ?_
  refine ms_pm h1 (k9 := 5) (by simp [mo]) rfl fun τ2 h2 => ?_
  rw [mw_pure]
  exact hQ τ2 root' L' R' P' C' lo' hi' hI' hc' h2
/-- the entry as it is made -/
theorem ae_new {w : Option Nat} (h : ts σ σ m (mo ks vs root n mc es nk dm) S (K, V, L, R, P, C)) (hS : ∀ a, S a → a < hp_n σ) (hm : m < hp_n σ) (hb : hp_b σ ≤ hp_n σ) : ts (hp_add σ (19, [va_rf v1, va_rf v2, .null, .null, va_rf w, .int 1]) 6) (hp_add σ (19, [va_rf v1, va_rf v2, .null, .null, va_rf w, .int 1]) 6) m (mo ks vs root n mc es nk dm) (fun a => S a ∨ a = hp_n σ) (up K (hp_n σ) v1, up V (hp_n σ) v2, up L (hp_n σ) none, up R (hp_n σ) none, up P (hp_n σ) w, up C (hp_n σ) 1) := by
  obtain ⟨-, h2, h3, h4⟩ := h
  refine ⟨fq_refl, by rw [hp_G_add, if_neg (Nat.ne_of_lt hm)]; exact h2, h3, ?_⟩
  refine th_add (F := (K, V, L, R, P, C)) (fun b hb' => ?_) (fun a ha => Nat.ne_of_lt (hS a ha)) (fun a ha => ?_) ?_ hb
  · rw [hp_G_add, if_neg (Nat.ne_of_lt (hS b hb'))]
    exact h4 b hb'
  · have := Nat.ne_of_lt (hS a ha)
    simp [tm_e, up, this]
  · rw [hp_G_add, if_pos rfl]
    simp [tm_e, up, va_rf]
theorem ae_done {τ : hp_S} {w : Option Nat} {o : List Value} {F : tm_f} (hS : ∀ a, S a → a < hp_n σ) (hm : m < hp_n σ) (h : ts (hp_add σ (19, [va_rf v1, va_rf v2, .null, .null, va_rf w, .int 1]) 6) τ m o (fun a => S a ∨ a = hp_n σ) F) : fq (fun b => S b ∨ b = m) 1 6 σ τ ∧ hp_n τ = hp_n σ + 1 := by
  have h1 := h.1
  obtain ⟨g1, g2, g3, g4, g5, g6, g7⟩ := h1
  rw [hp_n_add] at g2 g3
  rw [hp_s_add] at g4 g5
  refine ⟨⟨fun b hb hn => ?_, by omega, by omega, by omega, by omega, g6, g7⟩, by omega⟩
  rw [g1 b (by rw [hp_n_add]; omega) (fun hh => hn (by
    rcases hh with (hh | hh) | hh
    · exact Or.inl hh
    · omega
    · exact Or.inr hh)), hp_G_add, if_neg (Nat.ne_of_lt hb)]
theorem ae_right {Q : Unit ⊕ Nat → hp_S → Prop} {kn : Int} (hI : tm_I root S ky L R P lo hi) (hc : ∀ a, S a → C a = 0 ∨ C a = 1) (hp : S p) (hR : R p = none) (k1 : ky p < kn) (k2 : kn < hi p) (hS : ∀ a, S a → a < hp_n σ) (hm : m < hp_n σ) (hb : hp_b σ ≤ hp_n σ) (h : ts σ σ m (mo ks vs root n mc es nk dm) S (K, V, L, R, P, C)) (hQ : ae_Q σ m S K V ky kn v1 v2 ks vs es nk dm (n + 1) (mc + 1) Q) : mw (fn_J1_addEntry (d + 3) (some m) v1 v2 (some p) 0) σ Q := by
  show mw (fn_J1_addEntry_B0 (d + 2) (some m) v1 v2 (some p) 0) σ Q
  unfold fn_J1_addEntry_B0
  refine mc_newE hb ?_
  rw [mw_ifT rfl]
  have hq : ¬ S (hp_n σ) := fun hh => absurd (hS _ hh) (by omega)
  have h1 := ae_new (v1 := v1) (v2 := v2) (w := some p) h hS hm hb
  refine ms_pR h1 (Or.inl hp) fun τ h2 => ?_
  refine ae_J32 (tm_insR hI hp hq hR k1 k2) (fun a ha => ?_) (Or.inr rfl) h2 ?_
  · rcases ha with ha | ha
    · have := Nat.ne_of_lt (hS a ha)
      simpa [up, this] using hc a ha
    · subst ha
      right
      simp [up]
  · intro τ2 root' L' R' P' C' lo' hi' hI' hc' h3
    obtain ⟨d1, d2⟩ := ae_done hS hm h3
    exact hQ τ2 root' L' R' P' C' lo' hi' hI' hc' d1 d2 h3.2.1 h3.2.2.2
end AE3
