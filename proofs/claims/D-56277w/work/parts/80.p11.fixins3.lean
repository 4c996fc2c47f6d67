/-! AFTER AN INSERTION: all of it -/
section FI3
variable {σ0 : hp_S} {m : Nat} {S : Nat → Prop} {K V : Nat → Option Nat} {ky : Nat → Int} {d : Nat} {Q : Unit ⊕ Nat → hp_S → Prop} {ks vs es nk dm : Value} {n mc : Int32}
theorem fi_loop (hQ : fi_Q σ0 m S K V ky ks vs es nk dm n mc Q) : ∀ (n9 k : Nat) (σ : hp_S) (root : Option Nat) (L R P : Nat → Option Nat) (C : Nat → Int32) (lo hi : Nat → Int) (a : Nat), tm_I root S ky L R P lo hi → (∀ a, S a → C a = 0 ∨ C a = 1) → S a → (2002 - (hi a - lo a)).toNat ≤ n9 → n9 + 2 ≤ k → ts σ0 σ m (mo ks vs root n mc es nk dm) S (K, V, L, R, P, C) → mw (fn_J1_fixAfterInsertion_L5 (d + 1) k (some m) (some a)) σ Q := by
  intro n9
  induction n9 with
  | zero =>
    intro k σ root L R P C lo hi a hI hc ha hn hk h
    have := hI.1 a ha
    omega
  | succ n9 ih =>
    intro k σ root L R P C lo hi a hI hc ha hn hk h
    obtain ⟨k, rfl⟩ : ∃ k', k = k' + 1 + 1 := ⟨k - 2, by omega⟩
    have hva : ∀ b, some a = some b → S b := fun b e => by cases e; exact ha
    by_cases e0 : some a = root
    · exact fi_end hI hc ⟨a, ha⟩ hva (Or.inr (Or.inl e0)) h hQ
    rcases hp : P a with _ | b
    · exact absurd (hI.2.2.2.2.1 a ha hp).symm e0
    obtain ⟨hb, hch⟩ := hI.2.2.2.1 a b ha hp
    have hvb : ∀ c, some b = some c → S c := fun c e => by cases e; exact hb
    rcases hc b hb with hcb | hcb
    · have x1 := hI.1 a ha
      have x2 := hI.1 b hb
      have hvg : ∀ c, P b = some c → S c := fun c e => (hI.2.2.2.1 b c hb e).1
      show mw (fn_J1_fixAfterInsertion_L5_b (d + 1) (fn_J1_fixAfterInsertion_L5 (d + 1) (k + 1)) (some m) (some a)) σ Q
      unfold fn_J1_fixAfterInsertion_L5_b
      rw [mw_ifnullS]
      refine ms_root h ?_
      rw [mw_ifF e0]
      refine ms_P h ha ?_
      rw [hp]
      refine ms_C h hb ?_
      rw [mw_ifT hcb]
      refine mc_parentOf h hva ?_
      simp only [Option.bind_some, hp]
      refine mc_parentOf h hva ?_
      simp only [Option.bind_some, hp]
      refine mc_parentOf h hvb ?_
      simp only [Option.bind_some]
      refine mc_leftOf h hvg ?_
      by_cases hl0 : P a = (P b).bind L
      · rw [mw_ifT hl0]
        have hl : some b = (P b).bind L := by rw [← hp]; exact hl0
        obtain ⟨g, hg, hlg⟩ := Option.bind_eq_some_iff.mp hl.symm
        have hSg := hvg g hg
        have x3 := hI.1 g hSg
        have x4 := hI.2.1 g b hSg hlg
        have hvS : ∀ c, some g = some c → S c := fun c e => by cases e; exact hSg
        have hvu : ∀ c, R g = some c → S c := fun c e => (hI.2.2.1 g c hSg e).1
        refine mc_parentOf h hva ?_
        simp only [Option.bind_some, hp]
        refine mc_parentOf h hvb ?_
        simp only [Option.bind_some, hg]
        refine mc_rightOf h hvS ?_
        simp only [Option.bind_some]
        refine mc_colorOf h hc hvu ?_
        by_cases hu : co C (R g) = 0
        · rw [mw_ifT hu]
          refine mc_parentOf h hva ?_
          simp only [Option.bind_some, hp]
          refine mc_setColor h (Or.inr rfl) hvb fun τ1 h1 => ?_
          refine mc_setColor h1 (Or.inr rfl) hvu fun τ2 h2 => ?_
          refine mc_parentOf h2 hva ?_
          simp only [Option.bind_some, hp]
          refine mc_parentOf h2 hvb ?_
          simp only [Option.bind_some, hg]
          refine mc_setColor h2 (Or.inl rfl) hvS fun τ3 h3 => ?_
          refine mc_parentOf h3 hva ?_
          simp only [Option.bind_some, hp]
          refine mc_parentOf h3 hvb ?_
          simp only [Option.bind_some, hg]
          unfold fn_J1_fixAfterInsertion_J148
          refine ih (k + 1) τ3 root L R P _ lo hi g hI (fun c hS => uc_ok (v := some g) (fun c hS => uc_ok (v := R g) (fun c hS => uc_ok (v := some b) hc (Or.inr rfl) c hS) (Or.inr rfl) c hS) (Or.inl rfl) c hS) hSg ?_ (by omega) h3
          rcases hch with hch | hch
          · have := hI.2.1 b a hb hch
            omega
          · have := hI.2.2.1 b a hb hch
            omega
        · rw [mw_ifF hu]
          refine mc_parentOf h hva ?_
          simp only [Option.bind_some, hp]
          refine mc_rightOf h hvb ?_
          simp only [Option.bind_some]
          by_cases hr : some a = R b
          · rw [mw_ifT hr]
            refine mc_parentOf h hva ?_
            simp only [Option.bind_some, hp]
            obtain ⟨L', R', P', root', hI', eL, eR, eP, er⟩ := tm_rotL hI hb hr.symm
            refine mw_bind.mpr ((mw_is (ts_tag h)).mpr (fx_rotL hI hb hr.symm eL eR eP er h fun τ1 h1 => ?_))
            have x5 := hI.2.2.1 b a hb hr.symm
            have n1 : a ≠ b := fun e => by subst e; omega
            have n2 : g ≠ b := fun e => by subst e; omega
            have n3 : g ≠ a := fun e => by subst e; omega
            have q1 : P' b = some a := by rw [eP]; simp [up]
            have q2 : L' a = some b := by rw [eL]; simp [up]
            have q3 : P' a = some g := by rw [eP]; simp [up, n1, hg]
            have q4 : L' g = some a := by
              rw [eL, hg]
              simp [up, hlg, n3]
            exact fi_J118 hI' hc hb q1 q2 q3 q4 h1 hQ
          · rw [mw_ifF hr]
            have hl2 : L b = some a := by
              rcases hch with hch | hch
              · exact hch
              · exact absurd hch.symm hr
            exact fi_J118 hI hc ha hp hl2 hg hlg h hQ
      · rw [mw_ifF hl0]
        have hl : ¬ some b = (P b).bind L := by rw [← hp]; exact hl0
        have hrg : ∀ g, P b = some g → R g = some b := by
          intro g hg
          rcases (hI.2.2.2.1 b g hb hg).2 with h9 | h9
          · exact absurd (by rw [hg]; exact h9.symm) hl
          · exact h9
        refine mc_parentOf h hva ?_
        simp only [Option.bind_some, hp]
        refine mc_parentOf h hvb ?_
        simp only [Option.bind_some]
        refine mc_leftOf h hvg ?_
        have hvu : ∀ c, (P b).bind L = some c → S c := by
          intro c e
          obtain ⟨g, hg, hlg⟩ := Option.bind_eq_some_iff.mp e
          exact (hI.2.1 g c (hvg g hg) hlg).1
        refine mc_colorOf h hc hvu ?_
        by_cases hu : co C ((P b).bind L) = 0
        · rw [mw_ifT hu]
          rcases hg : P b with _ | g
          · rw [hg] at hu
            exact absurd hu (by simp [co])
          have hSg := hvg g hg
          have x3 := hI.1 g hSg
          have x4 := hI.2.2.1 g b hSg (hrg g hg)
          have hvS : ∀ c, some g = some c → S c := fun c e => by cases e; exact hSg
          rw [hg] at hvu
          simp only [Option.bind_some] at hvu ⊢
          refine mc_parentOf h hva ?_
          simp only [Option.bind_some, hp]
          refine mc_setColor h (Or.inr rfl) hvb fun τ1 h1 => ?_
          refine mc_setColor h1 (Or.inr rfl) hvu fun τ2 h2 => ?_
          refine mc_parentOf h2 hva ?_
          simp only [Option.bind_some, hp]
          refine mc_parentOf h2 hvb ?_
          simp only [Option.bind_some, hg]
          refine mc_setColor h2 (Or.inl rfl) hvS fun τ3 h3 => ?_
          refine mc_parentOf h3 hva ?_
          simp only [Option.bind_some, hp]
          refine mc_parentOf h3 hvb ?_
          simp only [Option.bind_some, hg]
          unfold fn_J1_fixAfterInsertion_J255
          refine ih (k + 1) τ3 root L R P _ lo hi g hI (fun c hS => uc_ok (v := some g) (fun c hS => uc_ok (v := L g) (fun c hS => uc_ok (v := some b) hc (Or.inr rfl) c hS) (Or.inr rfl) c hS) (Or.inl rfl) c hS) hSg ?_ (by omega) h3
          rcases hch with hch | hch
          · have := hI.2.1 b a hb hch
            omega
          · have := hI.2.2.1 b a hb hch
            omega
        · rw [mw_ifF hu]
          refine mc_parentOf h hva ?_
          simp only [Option.bind_some, hp]
          refine mc_leftOf h hvb ?_
          simp only [Option.bind_some]
          by_cases hr : some a = L b
          · rw [mw_ifT hr]
            refine mc_parentOf h hva ?_
            simp only [Option.bind_some, hp]
            obtain ⟨L', R', P', root', hI', eR, eL, eP, er⟩ := tm_rotR hI hb hr.symm
            refine mw_bind.mpr ((mw_is (ts_tag h)).mpr (fx_rotR hI hb hr.symm eR eL eP er h fun τ1 h1 => ?_))
            have x5 := hI.2.1 b a hb hr.symm
            have n1 : a ≠ b := fun e => by subst e; omega
            have q1 : P' b = some a := by rw [eP]; simp [up]
            have q2 : R' a = some b := by rw [eR]; simp [up]
            have q3 : P' a = P b := by rw [eP]; simp [up, n1]
            refine fi_J225 hI' hc hb q1 q2 (fun g hg => ?_) h1 hQ
            rw [q3] at hg
            have hSg := hvg g hg
            have x3 := hI.1 g hSg
            have x6 := hI.2.2.1 g b hSg (hrg g hg)
            have n3 : g ≠ a := fun e => by subst e; omega
            rw [eR, hg]
            simp [up, hrg g hg, n3]
          · rw [mw_ifF hr]
            have hl2 : R b = some a := by
              rcases hch with hch | hch
              · exact absurd hch.symm hr
              · exact hch
            exact fi_J225 hI hc ha hp hl2 hrg h hQ
    · exact fi_end hI hc ⟨a, ha⟩ hva (Or.inr (Or.inr ⟨a, b, rfl, hp, hcb⟩)) h hQ
theorem fi_all {σ : hp_S} {root : Option Nat} {L R P : Nat → Option Nat} {C : Nat → Int32} {lo hi : Nat → Int} {a : Nat} (hI : tm_I root S ky L R P lo hi) (hc : ∀ a, S a → C a = 0 ∨ C a = 1) (ha : S a) (h : ts σ0 σ m (mo ks vs root n mc es nk dm) S (K, V, L, R, P, C)) (hQ : fi_Q σ0 m S K V ky ks vs es nk dm n mc Q) : mw (fn_J1_fixAfterInsertion (d + 2) (some m) (some a)) σ Q := by
  show mw (fn_J1_fixAfterInsertion_B0 (d + 1) (some m) (some a)) σ Q
  unfold fn_J1_fixAfterInsertion_B0
  refine ms_pC h ha fun τ1 h1 => ?_
  have x1 := hI.1 a ha
  exact fi_loop hQ _ _ τ1 root L R P _ lo hi a hI (fun b hb => uc_ok (v := some a) hc (Or.inl rfl) b hb) ha (Nat.le_refl _) (by unfold mx_K; omega) h1
end FI3
