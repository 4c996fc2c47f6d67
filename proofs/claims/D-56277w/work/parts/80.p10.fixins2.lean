/-! AFTER AN INSERTION: the loop -/
section FI2
variable {σ0 : hp_S} {m : Nat} {S : Nat → Prop} {K V : Nat → Option Nat} {ky : Nat → Int} {d : Nat} {Q : Unit ⊕ Nat → hp_S → Prop} {ks vs es nk dm : Value} {n mc : Int32}
/-- what the rest may rely on -/
abbrev fi_Q (σ0 : hp_S) (m : Nat) (S : Nat → Prop) (K V : Nat → Option Nat) (ky : Nat → Int) (ks vs es nk dm : Value) (n mc : Int32) (Q : Unit ⊕ Nat → hp_S → Prop) : Prop := ∀ τ root' L' R' P' C' lo' hi', tm_I root' S ky L' R' P' lo' hi' → (∀ a, S a → C' a = 0 ∨ C' a = 1) → ts σ0 τ m (mo ks vs root' n mc es nk dm) S (K, V, L', R', P', C') → Q (.inl ()) τ
theorem fi_J118 {σ : hp_S} {root : Option Nat} {L R P : Nat → Option Nat} {C : Nat → Int32} {lo hi : Nat → Int} {k a p g : Nat} (hI : tm_I root S ky L R P lo hi) (hc : ∀ a, S a → C a = 0 ∨ C a = 1) (ha : S a) (hp : P a = some p) (hl : L p = some a) (hg : P p = some g) (hlg : L g = some p)
    (h : ts σ0 σ m (mo ks vs root n mc es nk dm) S (K, V, L, R, P, C)) (hQ : fi_Q σ0 m S K V ky ks vs es nk dm n mc Q) : mw (fn_J1_fixAfterInsertion_J118 (d + 1) (fn_J1_fixAfterInsertion_L5 (d + 1) (k + 1)) (some m) (some a)) σ Q := by
  have hSp := (hI.2.2.2.1 a p ha hp).1
  have hSg := (hI.2.2.2.1 p g hSp hg).1
  have x1 := hI.1 a ha
  have x2 := hI.1 p hSp
  have x3 := hI.1 g hSg
  have x4 := hI.2.1 p a hSp hl
  have x5 := hI.2.1 g p hSg hlg
  have n1 : a ≠ p := fun e => by subst e; omega
  have n2 : p ≠ g := fun e => by subst e; omega
  have n3 : a ≠ g := fun e => by subst e; omega
  have n4 : R p ≠ some a := fun e => by
    have := hI.2.2.1 p a hSp e
    omega
  unfold fn_J1_fixAfterInsertion_J118 fn_J1_fixAfterInsertion_J148
  refine mc_parentOf h (fun b e => by cases e; exact ha) ?_
  simp only [Option.bind_some, hp]
  refine mc_setColor h (Or.inr rfl) (fun b e => by cases e; exact hSp) fun τ1 h1 => ?_
  refine mc_parentOf h1 (fun b e => by cases e; exact ha) ?_
  simp only [Option.bind_some, hp]
  refine mc_parentOf h1 (fun b e => by cases e; exact hSp) ?_
  simp only [Option.bind_some, hg]
  refine mc_setColor h1 (Or.inl rfl) (fun b e => by cases e; exact hSg) fun τ2 h2 => ?_
  refine mc_parentOf h2 (fun b e => by cases e; exact ha) ?_
  simp only [Option.bind_some, hp]
  refine mc_parentOf h2 (fun b e => by cases e; exact hSp) ?_
  simp only [Option.bind_some, hg]
  obtain ⟨L', R', P', root', hI', eR, eL, eP, er⟩ := tm_rotR hI hSg hlg
  refine mw_bind.mpr ((mw_is (ts_tag h2)).mpr (fx_rotR hI hSg hlg eR eL eP er h2 fun τ3 h3 => ?_))
  have hP' : P' a = some p := by
    rw [eP]
    rcases hR : R p with _ | y
    · simp [up, n1, n3, hp]
    · have : y ≠ a := fun e => n4 (by rw [hR, e])
      simp [up, n1, n3, hp, Ne.symm this]
  refine fi_end hI' (fun b hb => uc_ok (v := some g) (fun b hb => uc_ok (v := some p) hc (Or.inr rfl) b hb) (Or.inl rfl) b hb) ⟨a, ha⟩ (fun b e => by cases e; exact ha) (Or.inr (Or.inr ⟨a, p, rfl, hP', ?_⟩)) h3 hQ
  simp [uc, up, n2]
theorem fi_J225 {σ : hp_S} {root : Option Nat} {L R P : Nat → Option Nat} {C : Nat → Int32} {lo hi : Nat → Int} {k a p : Nat} (hI : tm_I root S ky L R P lo hi) (hc : ∀ a, S a → C a = 0 ∨ C a = 1) (ha : S a) (hp : P a = some p) (hl : R p = some a) (hg : ∀ g, P p = some g → R g = some p)
    (h : ts σ0 σ m (mo ks vs root n mc es nk dm) S (K, V, L, R, P, C)) (hQ : fi_Q σ0 m S K V ky ks vs es nk dm n mc Q) : mw (fn_J1_fixAfterInsertion_J225 (d + 1) (fn_J1_fixAfterInsertion_L5 (d + 1) (k + 1)) (some m) (some a)) σ Q := by
  have hSp := (hI.2.2.2.1 a p ha hp).1
  have x1 := hI.1 a ha
  have x2 := hI.1 p hSp
  have x4 := hI.2.2.1 p a hSp hl
  have n1 : a ≠ p := fun e => by subst e; omega
  have n4 : L p ≠ some a := fun e => by
    have := hI.2.1 p a hSp e
    omega
  unfold fn_J1_fixAfterInsertion_J225 fn_J1_fixAfterInsertion_J255
  refine mc_parentOf h (fun b e => by cases e; exact ha) ?_
  simp only [Option.bind_some, hp]
  refine mc_setColor h (Or.inr rfl) (fun b e => by cases e; exact hSp) fun τ1 h1 => ?_
  refine mc_parentOf h1 (fun b e => by cases e; exact ha) ?_
  simp only [Option.bind_some, hp]
  refine mc_parentOf h1 (fun b e => by cases e; exact hSp) ?_
  simp only [Option.bind_some]
  rcases hPp : P p with _ | g
  · refine mc_setColor h1 (Or.inl rfl) (fun b e => by cases e) fun τ2 h2 => ?_
    refine mc_parentOf h2 (fun b e => by cases e; exact ha) ?_
    simp only [Option.bind_some, hp]
    refine mc_parentOf h2 (fun b e => by cases e; exact hSp) ?_
    simp only [Option.bind_some, hPp]
    refine mw_bind.mpr ((mw_is (ts_tag h2)).mpr ?_)
    unfold fn_J1_rotateLeft fn_J1_rotateLeft_B0
    rw [mw_ifnullN, mw_pure]
    refine fi_end hI (fun b hb => uc_ok (v := some p) hc (Or.inr rfl) b hb) ⟨a, ha⟩ (fun b e => by cases e; exact ha) (Or.inr (Or.inr ⟨a, p, rfl, hp, ?_⟩)) h2 hQ
    simp [uc, up]
  · have hSg := (hI.2.2.2.1 p g hSp hPp).1
    have hlg := hg g hPp
    have x3 := hI.1 g hSg
    have x5 := hI.2.2.1 g p hSg hlg
    have n2 : p ≠ g := fun e => by subst e; omega
    have n3 : a ≠ g := fun e => by subst e; omega
    refine mc_setColor h1 (Or.inl rfl) (fun b e => by cases e; exact hSg) fun τ2 h2 => ?_
    refine mc_parentOf h2 (fun b e => by cases e; exact ha) ?_
    simp only [Option.bind_some, hp]
    refine mc_parentOf h2 (fun b e => by cases e; exact hSp) ?_
    simp only [Option.bind_some, hPp]
    obtain ⟨L', R', P', root', hI', eL, eR, eP, er⟩ := tm_rotL hI hSg hlg
    refine mw_bind.mpr ((mw_is (ts_tag h2)).mpr (fx_rotL hI hSg hlg eL eR eP er h2 fun τ3 h3 => ?_))
    have hP' : P' a = some p := by
      rw [eP]
      rcases hR : L p with _ | y
      · simp [up, n1, n3, hp]
      · have : y ≠ a := fun e => n4 (by rw [hR, e])
        simp [up, n1, n3, hp, Ne.symm this]
    refine fi_end hI' (fun b hb => uc_ok (v := some g) (fun b hb => uc_ok (v := some p) hc (Or.inr rfl) b hb) (Or.inl rfl) b hb) ⟨a, ha⟩ (fun b e => by cases e; exact ha) (Or.inr (Or.inr ⟨a, p, rfl, hP', ?_⟩)) h3 hQ
    simp [uc, up, n2]
end FI2
