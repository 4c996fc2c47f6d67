/-! AFTER A DELETION -/
section FD
variable {σ0 : hp_S} {m z : Nat} {lf : Prop} {S : Nat → Prop} {K V : Nat → Option Nat} {ky : Nat → Int} {d : Nat} {Q : Unit ⊕ Nat → hp_S → Prop} {ks vs es nk dm : Value} {n mc : Int32}
abbrev fd_Q (σ0 : hp_S) (m z : Nat) (lf : Prop) (S : Nat → Prop) (K V : Nat → Option Nat) (ky : Nat → Int) (ks vs es nk dm : Value) (n mc : Int32) (Q : Unit ⊕ Nat → hp_S → Prop) : Prop := ∀ τ root' L' R' P' C' lo' hi', tm_I root' S ky L' R' P' lo' hi' → (∀ a, S a → C' a = 0 ∨ C' a = 1) → (lf → L' z = none ∧ R' z = none) → ts σ0 τ m (mo ks vs root' n mc es nk dm) S (K, V, L', R', P', C') → Q (.inl ()) τ
theorem fd_J345 {σ : hp_S} {root : Option Nat} {L R P : Nat → Option Nat} {C : Nat → Int32} {lo hi : Nat → Int} {a : Nat} (hI : tm_I root S ky L R P lo hi) (hc : ∀ a, S a → C a = 0 ∨ C a = 1) (hz : lf → L z = none ∧ R z = none) (ha : S a) (h : ts σ0 σ m (mo ks vs root n mc es nk dm) S (K, V, L, R, P, C)) (hQ : fd_Q σ0 m z lf S K V ky ks vs es nk dm n mc Q) : mw (fn_J1_fixAfterDeletion_J345 (d + 1) (some a)) σ Q := by
  unfold fn_J1_fixAfterDeletion_J345
  refine mc_setColor h (Or.inr rfl) (fun b e => by cases e; exact ha) fun τ hτ => ?_
  rw [mw_pure]
  exact hQ τ root L R P _ lo hi hI (fun b hb => uc_ok (v := some a) hc (Or.inr rfl) b hb) hz hτ
theorem fd_end {σ : hp_S} {root : Option Nat} {L R P : Nat → Option Nat} {C : Nat → Int32} {lo hi : Nat → Int} {k a : Nat} (hI : tm_I root S ky L R P lo hi) (hc : ∀ a, S a → C a = 0 ∨ C a = 1) (hz : lf → L z = none ∧ R z = none) (ha : S a) (hend : some a = root ∨ C a = 0) (h : ts σ0 σ m (mo ks vs root n mc es nk dm) S (K, V, L, R, P, C)) (hQ : fd_Q σ0 m z lf S K V ky ks vs es nk dm n mc Q) : mw (fn_J1_fixAfterDeletion_L0 (d + 1) (k + 1) (some m) (some a)) σ Q := by
  show mw (fn_J1_fixAfterDeletion_L0_b (d + 1) (fn_J1_fixAfterDeletion_L0 (d + 1) k) (some m) (some a)) σ Q
  unfold fn_J1_fixAfterDeletion_L0_b
  refine ms_root h ?_
  by_cases e : some a = root
  · rw [mw_ifT e]
    exact fd_J345 hI hc hz ha h hQ
  · rw [mw_ifF e]
    have h0 : C a = 0 := hend.resolve_left e
    refine mc_colorOf h hc (fun b e => by cases e; exact ha) ?_
    have h1 : ¬ co C (some a) = 1 := by simp [co, h0]
    rw [mw_ifF h1]
    exact fd_J345 hI hc hz ha h hQ
/-- z stands under x: what the places above x are not -/
theorem fd_ne {root : Option Nat} {L R P : Nat → Option Nat} {lo hi : Nat → Int} {a p : Nat} (hI : tm_I root S ky L R P lo hi) (hz : S z) (z1 : lo a ≤ lo z) (z2 : hi z ≤ hi a) (ha : S a) (hp : P a = some p) : z ≠ p ∧ (∀ q, P p = some q → z ≠ q) ∧ (∀ s9, R p = some s9 → L p = some a → z ≠ s9) ∧ (∀ s9, L p = some s9 → R p = some a → z ≠ s9) := by
  obtain ⟨hb, hch⟩ := hI.2.2.2.1 a p ha hp
  have x0 := hI.1 z hz
  have x1 := hI.1 a ha
  have x2 := hI.1 p hb
  have x3 : lo p ≤ lo a ∧ hi a ≤ hi p ∧ (hi a = ky p ∨ lo a = ky p) := by
    rcases hch with h | h
    · have := hI.2.1 p a hb h
      omega
    · have := hI.2.2.1 p a hb h
      omega
  refine ⟨fun e => by subst e; omega, fun q hq e => ?_, fun s9 hs hl e => ?_, fun s9 hs hl e => ?_⟩
  · subst e
    obtain ⟨hq1, hq2⟩ := hI.2.2.2.1 p z hb hq
    rcases hq2 with h | h
    · have := hI.2.1 z p hq1 h
      omega
    · have := hI.2.2.1 z p hq1 h
      omega
  · subst e
    have y1 := hI.2.2.1 p z hb hs
    have y2 := hI.2.1 p a hb hl
    omega
  · subst e
    have y1 := hI.2.1 p z hb hs
    have y2 := hI.2.2.1 p a hb hl
    omega
theorem fd_J143 {σ : hp_S} {root : Option Nat} {L R P : Nat → Option Nat} {C : Nat → Int32} {lo hi : Nat → Int} {k a p s9 : Nat} (hI : tm_I root S ky L R P lo hi) (hc : ∀ a, S a → C a = 0 ∨ C a = 1) (hz : lf → L z = none ∧ R z = none) (hSz : S z) (z1 : lo a ≤ lo z) (z2 : hi z ≤ hi a) (ha : S a) (hp : P a = some p) (hl : L p = some a) (hr : R p = some s9)
    (h : ts σ0 σ m (mo ks vs root n mc es nk dm) S (K, V, L, R, P, C)) (hQ : fd_Q σ0 m z lf S K V ky ks vs es nk dm n mc Q) : mw (fn_J1_fixAfterDeletion_J143 (d + 1) (fn_J1_fixAfterDeletion_L0 (d + 1) (k + 1)) (some m) (some a) (some s9)) σ Q := by
  have hSp := (hI.2.2.2.1 a p ha hp).1
  have hSs := (hI.2.2.1 p s9 hSp hr).1
  obtain ⟨w1, w2, w3, -⟩ := fd_ne hI hSz z1 z2 ha hp
  have hvr : ∀ c, R s9 = some c → S c := fun c e => (hI.2.2.1 s9 c hSs e).1
  unfold fn_J1_fixAfterDeletion_J143 fn_J1_fixAfterDeletion_J183
  refine mc_parentOf h (fun b e => by cases e; exact ha) ?_
  simp only [Option.bind_some, hp]
  refine mc_colorOf h hc (fun b e => by cases e; exact hSp) ?_
  refine mc_setColor h (hc p hSp) (fun b e => by cases e; exact hSs) fun τ1 h1 => ?_
  refine mc_parentOf h1 (fun b e => by cases e; exact ha) ?_
  simp only [Option.bind_some, hp]
  refine mc_setColor h1 (Or.inr rfl) (fun b e => by cases e; exact hSp) fun τ2 h2 => ?_
  refine mc_rightOf h2 (fun b e => by cases e; exact hSs) ?_
  simp only [Option.bind_some]
  refine mc_setColor h2 (Or.inr rfl) hvr fun τ3 h3 => ?_
  refine mc_parentOf h3 (fun b e => by cases e; exact ha) ?_
  simp only [Option.bind_some, hp]
  obtain ⟨L', R', P', root', hI', eL, eR, eP, er⟩ := tm_rotL hI hSp hr
  refine mw_bind.mpr ((mw_is (ts_tag h3)).mpr (fx_rotL hI hSp hr eL eR eP er h3 fun τ4 h4 => ?_))
  refine ms_root h4 ?_
  have hz' : lf → L' z = none ∧ R' z = none := by
    intro hlf
    obtain ⟨g1, g2⟩ := hz hlf
    have n3 := w3 s9 hr hl
    rcases hPp : P p with _ | q
    · rw [eL, eR, hPp]
      simp [up, w1, n3, g1, g2]
    · have n4 := w2 q hPp
      rw [eL, eR, hPp]
      by_cases hq : L q = some p
      · simp [up, w1, n3, n4, g1, g2, hq]
      · simp [up, w1, n3, n4, g1, g2, hq]
  have hroot : ∃ r9, root' = some r9 ∧ S r9 := by
    rcases hr9 : root' with _ | r9
    · exact absurd ha (hI'.2.2.2.2.2.2.2.2.2 hr9 a)
    · exact ⟨r9, rfl, (hI'.2.2.2.2.2.1 r9 hr9).1⟩
  obtain ⟨r9, hr9, hSr⟩ := hroot
  have hcc : ∀ b, S b → uc (uc (uc C (some s9) (co C (some p))) (some p) 1) (R s9) 1 b = 0 ∨ uc (uc (uc C (some s9) (co C (some p))) (some p) 1) (R s9) 1 b = 1 := fun b hb => uc_ok (v := R s9) (fun b hb => uc_ok (v := some p) (fun b hb => uc_ok (v := some s9) hc (hc p hSp) b hb) (Or.inr rfl) b hb) (Or.inr rfl) b hb
  have e9 := hr9
  rw [hr9] at h4 ⊢
  rw [hr9] at hI'
  exact fd_end hI' hcc hz' hSr (Or.inl rfl) h4 hQ
end FD
