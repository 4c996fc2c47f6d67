/-! AFTER AN INSERTION -/
section FI
variable {σ0 : hp_S} {m : Nat} {S : Nat → Prop} {K V : Nat → Option Nat} {ky : Nat → Int} {d : Nat} {Q : Unit ⊕ Nat → hp_S → Prop} {ks vs es nk dm : Value} {n mc : Int32}
/-- how the loop ends -/
theorem fi_end {σ : hp_S} {root : Option Nat} {L R P : Nat → Option Nat} {C : Nat → Int32} {lo hi : Nat → Int} {k : Nat} {v : Option Nat} (hI : tm_I root S ky L R P lo hi) (hc : ∀ a, S a → C a = 0 ∨ C a = 1) (hne : ∃ a, S a) (hv : ∀ a, v = some a → S a) (hend : v = none ∨ v = root ∨ ∃ a b, v = some a ∧ P a = some b ∧ C b = 1)
    (h : ts σ0 σ m (mo ks vs root n mc es nk dm) S (K, V, L, R, P, C)) (hQ : ∀ τ root' L' R' P' C' lo' hi', tm_I root' S ky L' R' P' lo' hi' → (∀ a, S a → C' a = 0 ∨ C' a = 1) → ts σ0 τ m (mo ks vs root' n mc es nk dm) S (K, V, L', R', P', C') → Q (.inl ()) τ) : mw (fn_J1_fixAfterInsertion_L5 (d + 1) (k + 1) (some m) v) σ Q := by
  have hr : ∃ r, root = some r := by
    rcases hr : root with _ | r
    · obtain ⟨a, ha⟩ := hne
      exact absurd ha (hI.2.2.2.2.2.2.2.2.2 hr a)
    · exact ⟨r, rfl⟩
  obtain ⟨r, hr⟩ := hr
  have hSr := (hI.2.2.2.2.2.1 r hr).1
  have fin : mw (mx_bind (mx_getR [(18, 3)] (some m)) fun v101 => mx_bind (mx_put [(19, 5)] v101 (.int (1 : Int32))) fun _ => mx_pure ()) σ Q := by
    refine ms_root h ?_
    rw [hr]
    refine ms_pC h hSr fun τ hτ => ?_
    rw [mw_pure]
    exact hQ τ root L R P (up C r 1) lo hi hI (fun a ha => uc_ok (v := some r) hc (Or.inr rfl) a ha) hτ
  show mw (fn_J1_fixAfterInsertion_L5_b (d + 1) (fn_J1_fixAfterInsertion_L5 (d + 1) k) (some m) v) σ Q
  unfold fn_J1_fixAfterInsertion_L5_b
  rcases v with _ | a
  · rw [mw_ifnullN]
    exact fin
  · rw [mw_ifnullS]
    refine ms_root h ?_
    by_cases e : some a = root
    · rw [mw_ifT e]
      exact fin
    · rw [mw_ifF e]
      rcases hend with h0 | h0 | ⟨a', b, e1, e2, e3⟩
      · cases h0
      · exact absurd h0 e
      · cases e1
        have ha := hv a rfl
        have hb := (hI.2.2.2.1 a b ha e2).1
        refine ms_P h ha ?_
        rw [e2]
        refine ms_C h hb ?_
        rw [mw_ifF (by rw [e3]; decide)]
        exact fin
end FI
