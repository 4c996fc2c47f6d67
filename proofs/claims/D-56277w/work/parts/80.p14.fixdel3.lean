/-! AFTER A DELETION: the other side, as in a mirror (printed from the two parts ahead) -/
section FD3
variable {σ0 : hp_S} {m z : Nat} {lf : Prop} {S : Nat → Prop} {K V : Nat → Option Nat} {ky : Nat → Int} {d : Nat} {Q : Unit ⊕ Nat → hp_S → Prop} {ks vs es nk dm : Value} {n mc : Int32}
theorem fd_J302 {σ : hp_S} {root : Option Nat} {L R P : Nat → Option Nat} {C : Nat → Int32} {lo hi : Nat → Int} {k a p s9 : Nat} (hI : tm_I root S ky L R P lo hi) (hc : ∀ a, S a → C a = 0 ∨ C a = 1) (hz : lf → L z = none ∧ R z = none) (hSz : S z) (z1 : lo a ≤ lo z) (z2 : hi z ≤ hi a) (ha : S a) (hp : P a = some p) (hl : R p = some a) (hr : L p = some s9)
    (h : ts σ0 σ m (mo ks vs root n mc es nk dm) S (K, V, L, R, P, C)) (hQ : fd_Q σ0 m z lf S K V ky ks vs es nk dm n mc Q) : mw (fn_J1_fixAfterDeletion_J302 (d + 1) (fn_J1_fixAfterDeletion_L0 (d + 1) (k + 1)) (some m) (some a) (some s9)) σ Q := by
  have hSp := (hI.2.2.2.1 a p ha hp).1
  have hSs := (hI.2.1 p s9 hSp hr).1
  obtain ⟨w1, w2, -, w3⟩ := fd_ne hI hSz z1 z2 ha hp
  have hvr : ∀ c, L s9 = some c → S c := fun c e => (hI.2.1 s9 c hSs e).1
  unfold fn_J1_fixAfterDeletion_J302 fn_J1_fixAfterDeletion_J342
  refine mc_parentOf h (fun b e => by cases e; exact ha) ?_
  simp only [Option.bind_some, hp]
  refine mc_colorOf h hc (fun b e => by cases e; exact hSp) ?_
  refine mc_setColor h (hc p hSp) (fun b e => by cases e; exact hSs) fun τ1 h1 => ?_
  refine mc_parentOf h1 (fun b e => by cases e; exact ha) ?_
  simp only [Option.bind_some, hp]
  refine mc_setColor h1 (Or.inr rfl) (fun b e => by cases e; exact hSp) fun τ2 h2 => ?_
  refine mc_leftOf h2 (fun b e => by cases e; exact hSs) ?_
  simp only [Option.bind_some]
  refine mc_setColor h2 (Or.inr rfl) hvr fun τ3 h3 => ?_
  refine mc_parentOf h3 (fun b e => by cases e; exact ha) ?_
  simp only [Option.bind_some, hp]
  obtain ⟨L', R', P', root', hI', eR, eL, eP, er⟩ := tm_rotR hI hSp hr
  refine mw_bind.mpr ((mw_is (ts_tag h3)).mpr (fx_rotR hI hSp hr eR eL eP er h3 fun τ4 h4 => ?_))
  refine ms_root h4 ?_
  have hz' : lf → L' z = none ∧ R' z = none := by
    intro hlf
    obtain ⟨g1, g2⟩ := hz hlf
    have n3 := w3 s9 hr hl
    rcases hPp : P p with _ | q
    · rw [eR, eL, hPp]
      simp [up, w1, n3, g1, g2]
    · have n4 := w2 q hPp
      rw [eR, eL, hPp]
      by_cases hq : R q = some p
      · simp [up, w1, n3, n4, g1, g2, hq]
      · simp [up, w1, n3, n4, g1, g2, hq]
  have hroot : ∃ r9, root' = some r9 ∧ S r9 := by
    rcases hr9 : root' with _ | r9
    · exact absurd ha (hI'.2.2.2.2.2.2.2.2.2 hr9 a)
    · exact ⟨r9, rfl, (hI'.2.2.2.2.2.1 r9 hr9).1⟩
  obtain ⟨r9, hr9, hSr⟩ := hroot
  have hcc : ∀ b, S b → uc (uc (uc C (some s9) (co C (some p))) (some p) 1) (L s9) 1 b = 0 ∨ uc (uc (uc C (some s9) (co C (some p))) (some p) 1) (L s9) 1 b = 1 := fun b hb => uc_ok (v := L s9) (fun b hb => uc_ok (v := some p) (fun b hb => uc_ok (v := some s9) hc (hc p hSp) b hb) (Or.inr rfl) b hb) (Or.inr rfl) b hb
  have e9 := hr9
  rw [hr9] at h4 ⊢
  rw [hr9] at hI'
  exact fd_end hI' hcc hz' hSr (Or.inl rfl) h4 hQ
theorem fd_J265 {σ : hp_S} {root : Option Nat} {L R P : Nat → Option Nat} {C : Nat → Int32} {lo hi : Nat → Int} {k a p : Nat} {v : Option Nat} (hI : tm_I root S ky L R P lo hi) (hc : ∀ a, S a → C a = 0 ∨ C a = 1) (hz : lf → L z = none ∧ R z = none) (hSz : S z) (z1 : lo a ≤ lo z) (z2 : hi z ≤ hi a) (ha : S a) (hp : P a = some p) (hl : R p = some a) (hr : L p = v) (hor : co C (v.bind R) = 0 ∨ co C (v.bind L) = 0)
    (h : ts σ0 σ m (mo ks vs root n mc es nk dm) S (K, V, L, R, P, C)) (hQ : fd_Q σ0 m z lf S K V ky ks vs es nk dm n mc Q) : mw (fn_J1_fixAfterDeletion_J265 (d + 1) (fn_J1_fixAfterDeletion_L0 (d + 1) (k + 1)) (some m) (some a) v) σ Q := by
  have hSp := (hI.2.2.2.1 a p ha hp).1
  obtain ⟨s9, rfl⟩ : ∃ s9, v = some s9 := by
    cases v with
    | none => rcases hor with g | g <;> exact absurd g (by simp [co])
    | some b => exact ⟨b, rfl⟩
  have y0 := hI.2.1 p s9 hSp hr
  have hSs := y0.1
  obtain ⟨w1, w2, -, w3⟩ := fd_ne hI hSz z1 z2 ha hp
  have hvs : ∀ c, some s9 = some c → S c := fun c e => by cases e; exact hSs
  have hvr : ∀ c, L s9 = some c → S c := fun c e => (hI.2.1 s9 c hSs e).1
  have hvl : ∀ c, R s9 = some c → S c := fun c e => (hI.2.2.1 s9 c hSs e).1
  simp only [Option.bind_some] at hor
  unfold fn_J1_fixAfterDeletion_J265
  refine mc_leftOf h hvs ?_
  simp only [Option.bind_some]
  refine mc_colorOf h hc hvr ?_
  by_cases hx : co C (L s9) = 1
  · rw [mw_ifT hx]
    obtain ⟨u, hu⟩ := co0 (hor.resolve_right (by rw [hx]; decide))
    have y1 := hI.2.2.1 s9 u hSs hu
    have x0 := hI.1 z hSz
    have x1 := hI.1 a ha
    have x2 := hI.1 p hSp
    have x3 := hI.1 s9 hSs
    have x4 := hI.1 u y1.1
    have x5 := hI.2.2.1 p a hSp hl
    have n1 : a ≠ s9 := fun e => by subst e; omega
    have n2 : a ≠ u := fun e => by subst e; omega
    have n3 : p ≠ s9 := fun e => by subst e; omega
    have n4 : p ≠ u := fun e => by subst e; omega
    have n5 : z ≠ s9 := w3 s9 hr hl
    have n6 : z ≠ u := fun e => by subst e; omega
    have n7 : L u ≠ some a := fun e => by
      have := hI.2.1 u a y1.1 e
      omega
    refine mc_rightOf h hvs ?_
    simp only [Option.bind_some]
    refine mc_setColor h (Or.inr rfl) hvl fun τ1 h1 => ?_
    refine mc_setColor h1 (Or.inl rfl) hvs fun τ2 h2 => ?_
    obtain ⟨L', R', P', root', hI', eL, eR, eP, er⟩ := tm_rotL hI hSs hu
    refine mw_bind.mpr ((mw_is (ts_tag h2)).mpr (fx_rotL hI hSs hu eL eR eP er h2 fun τ3 h3 => ?_))
    have q1 : P' a = some p := by
      rw [eP]
      rcases hRu : L u with _ | y
      · simp [up, n1, n2, hp]
      · have : a ≠ y := fun e => n7 (by rw [hRu, e])
        simp [up, n1, n2, hp, this]
    have q2 : R' p = some a := by
      rw [eR, y0.2.1]
      simp [up, n3, hr, hl]
    have q3 : L' p = some u := by
      rw [eL, y0.2.1]
      simp [up, n4, hr]
    refine mc_parentOf h3 (fun b e => by cases e; exact ha) ?_
    simp only [Option.bind_some, q1]
    refine mc_leftOf h3 (fun b e => by cases e; exact hSp) ?_
    simp only [Option.bind_some, q3]
    refine fd_J302 hI' (fun b hb => uc_ok (v := some s9) (fun b hb => uc_ok (v := R s9) hc (Or.inr rfl) b hb) (Or.inl rfl) b hb) (fun hlf => ?_) hSz ?_ ?_ ha q1 q2 q3 h3 hQ
    · obtain ⟨g1, g2⟩ := hz hlf
      rw [eR, eL, y0.2.1]
      simp [up, hr, n5, n6, w1, g1, g2]
    · simp [up, n1, n2, n5, n6, z1]
    · simp [up, n1, n2, n5, n6, z2]
  · rw [mw_ifF hx]
    exact fd_J302 hI hc hz hSz z1 z2 ha hp hl hr h hQ
theorem fd_J230 {σ : hp_S} {root : Option Nat} {L R P : Nat → Option Nat} {C : Nat → Int32} {lo hi : Nat → Int} {k a p : Nat} {v : Option Nat} (hI : tm_I root S ky L R P lo hi) (hc : ∀ a, S a → C a = 0 ∨ C a = 1) (hz : lf → L z = none ∧ R z = none) (hSz : S z) (z1 : lo a ≤ lo z) (z2 : hi z ≤ hi a) (ha : S a) (hp : P a = some p) (hl : R p = some a) (hr : L p = v)
    (h : ts σ0 σ m (mo ks vs root n mc es nk dm) S (K, V, L, R, P, C)) (hQ : fd_Q σ0 m z lf S K V ky ks vs es nk dm n mc Q) (kb : ∀ τ, ts σ0 τ m (mo ks vs root n mc es nk dm) S (K, V, L, R, P, uc C v 0) → mw (fn_J1_fixAfterDeletion_L0 (d + 1) (k + 1) (some m) (some p)) τ Q) : mw (fn_J1_fixAfterDeletion_J230 (d + 1) (fn_J1_fixAfterDeletion_L0 (d + 1) (k + 1)) (some m) (some a) v) σ Q := by
  have hSp := (hI.2.2.2.1 a p ha hp).1
  have hv : ∀ c, v = some c → S c := fun c e => (hI.2.1 p c hSp (hr.trans e)).1
  have hvl : ∀ c, v.bind R = some c → S c := fun c e => by
    obtain ⟨b, hb, hb2⟩ := Option.bind_eq_some_iff.mp e
    exact (hI.2.2.1 b c (hv b hb) hb2).1
  have hvr : ∀ c, v.bind L = some c → S c := fun c e => by
    obtain ⟨b, hb, hb2⟩ := Option.bind_eq_some_iff.mp e
    exact (hI.2.1 b c (hv b hb) hb2).1
  unfold fn_J1_fixAfterDeletion_J230
  refine mc_rightOf h hv ?_
  refine mc_colorOf h hc hvl ?_
  by_cases h1 : co C (v.bind R) = 1
  · rw [mw_ifT h1]
    refine mc_leftOf h hv ?_
    refine mc_colorOf h hc hvr ?_
    by_cases h2 : co C (v.bind L) = 1
    · rw [mw_ifT h2]
      refine mc_setColor h (Or.inl rfl) hv fun τ1 hτ1 => ?_
      refine mc_parentOf hτ1 (fun b e => by cases e; exact ha) ?_
      simp only [Option.bind_some, hp]
      unfold fn_J1_fixAfterDeletion_J342
      exact kb τ1 hτ1
    · rw [mw_ifF h2]
      exact fd_J265 hI hc hz hSz z1 z2 ha hp hl hr (Or.inr ((co01 hc hvr).resolve_right h2)) h hQ
  · rw [mw_ifF h1]
    exact fd_J265 hI hc hz hSz z1 z2 ha hp hl hr (Or.inl ((co01 hc hvl).resolve_right h1)) h hQ
end FD3
