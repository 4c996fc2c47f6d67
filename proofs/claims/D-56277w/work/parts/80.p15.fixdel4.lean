/-! AFTER A DELETION: all of it (printed) -/
section FD4
variable {σ0 : hp_S} {m z : Nat} {lf : Prop} {S : Nat → Prop} {K V : Nat → Option Nat} {ky : Nat → Int} {d : Nat} {Q : Unit ⊕ Nat → hp_S → Prop} {ks vs es nk dm : Value} {n mc : Int32}
theorem fd_loop (hQ : fd_Q σ0 m z lf S K V ky ks vs es nk dm n mc Q) : ∀ (n9 k : Nat) (σ : hp_S) (root : Option Nat) (L R P : Nat → Option Nat) (C : Nat → Int32) (lo hi : Nat → Int) (a : Nat), tm_I root S ky L R P lo hi → (∀ a, S a → C a = 0 ∨ C a = 1) → (lf → L z = none ∧ R z = none) → S z → lo a ≤ lo z → hi z ≤ hi a → S a → (2002 - (hi a - lo a)).toNat ≤ n9 → n9 + 2 ≤ k → ts σ0 σ m (mo ks vs root n mc es nk dm) S (K, V, L, R, P, C) → mw (fn_J1_fixAfterDeletion_L0 (d + 1) k (some m) (some a)) σ Q := by
  intro n9
  induction n9 with
  | zero =>
    intro k σ root L R P C lo hi a hI hc hz hSz z1 z2 ha hn hk h
    have := hI.1 a ha
    omega
  | succ n9 ih =>
    intro k σ root L R P C lo hi a hI hc hz hSz z1 z2 ha hn hk h
    obtain ⟨k, rfl⟩ : ∃ k', k = k' + 1 + 1 := ⟨k - 2, by omega⟩
    have hva : ∀ b, some a = some b → S b := fun b e => by cases e; exact ha
    by_cases e0 : some a = root
    · exact fd_end hI hc hz ha (Or.inl e0) h hQ
    rcases hp : P a with _ | p
    · exact absurd (hI.2.2.2.2.1 a ha hp).symm e0
    obtain ⟨hSp, hch⟩ := hI.2.2.2.1 a p ha hp
    have hvp : ∀ c, some p = some c → S c := fun c e => by cases e; exact hSp
    show mw (fn_J1_fixAfterDeletion_L0_b (d + 1) (fn_J1_fixAfterDeletion_L0 (d + 1) (k + 1)) (some m) (some a)) σ Q
    unfold fn_J1_fixAfterDeletion_L0_b
    refine ms_root h ?_
    rw [mw_ifF e0]
    refine mc_colorOf h hc hva ?_
    by_cases e1 : co C (some a) = 1
    · rw [mw_ifT e1]
      refine mc_parentOf h hva ?_
      simp only [Option.bind_some, hp]
      refine mc_leftOf h hvp ?_
      simp only [Option.bind_some]
      by_cases hl : some a = L p
      · rw [mw_ifT hl]
        have hl2 : L p = some a := hl.symm
        have x1 := hI.1 a ha
        have x2 := hI.1 p hSp
        have x3 := hI.2.1 p a hSp hl2
        refine mc_parentOf h hva ?_
        simp only [Option.bind_some, hp]
        refine mc_rightOf h hvp ?_
        simp only [Option.bind_some]
        have hvs : ∀ c, R p = some c → S c := fun c e => (hI.2.2.1 p c hSp e).1
        refine mc_colorOf h hc hvs ?_
        by_cases hu : co C (R p) = 0
        · rw [mw_ifT hu]
          obtain ⟨s9, hs9⟩ := co0 hu
          have y1 := hI.2.2.1 p s9 hSp hs9
          have x4 := hI.1 s9 y1.1
          have x5 := hI.1 z hSz
          obtain ⟨w1, w2, w3, w4⟩ := fd_ne hI hSz z1 z2 ha hp
          have n1 : a ≠ s9 := fun e => by subst e; omega
          have n2 : a ≠ p := fun e => by subst e; omega
          have n3 : p ≠ s9 := fun e => by subst e; omega
          have n5 : z ≠ s9 := w3 s9 hs9 hl2
          have n7 : L s9 ≠ some a := fun e => by
            have := hI.2.1 s9 a y1.1 e
            omega
          refine mc_setColor h (Or.inr rfl) hvs fun τ1 h1 => ?_
          refine mc_parentOf h1 hva ?_
          simp only [Option.bind_some, hp]
          refine mc_setColor h1 (Or.inl rfl) hvp fun τ2 h2 => ?_
          refine mc_parentOf h2 hva ?_
          simp only [Option.bind_some, hp]
          obtain ⟨L', R', P', root', hI', eL, eR, eP, er⟩ := tm_rotL hI hSp hs9
          refine mw_bind.mpr ((mw_is (ts_tag h2)).mpr (fx_rotL hI hSp hs9 eL eR eP er h2 fun τ3 h3 => ?_))
          have q1 : P' a = some p := by
            rw [eP]
            rcases hLs : L s9 with _ | y
            · simp [up, n1, n2, hp]
            · have : a ≠ y := fun e => n7 (by rw [hLs, e])
              simp [up, n1, n2, hp, this]
          have q2 : L' p = some a := by
            rw [eL]
            rcases hPp : P p with _ | q
            · simp [up, n3, hl2]
            · have hq := (hI.2.2.2.1 p q hSp hPp)
              have n8 : p ≠ q := fun e => by
                subst e
                rcases hq.2 with g | g
                · have := hI.2.1 p p hSp g
                  omega
                · have := hI.2.2.1 p p hSp g
                  omega
              by_cases hqq : L q = some p
              · simp [up, n3, n8, hqq, hl2]
              · simp [up, n3, hqq, hl2]
          refine mc_parentOf h3 hva ?_
          simp only [Option.bind_some, q1]
          refine mc_rightOf h3 hvp ?_
          simp only [Option.bind_some]
          have hc2 : ∀ b, S b → uc (uc C (R p) 1) (some p) 0 b = 0 ∨ uc (uc C (R p) 1) (some p) 0 b = 1 := fun b hb => uc_ok (v := some p) (fun b hb => uc_ok (v := R p) hc (Or.inr rfl) b hb) (Or.inl rfl) b hb
          have hz' : lf → L' z = none ∧ R' z = none := by
            intro hlf
            obtain ⟨g1, g2⟩ := hz hlf
            rcases hPp : P p with _ | q
            · rw [eL, eR, hPp]
              simp [up, w1, n5, g1, g2]
            · have n4 := w2 q hPp
              rw [eL, eR, hPp]
              by_cases hq : L q = some p
              · simp [up, w1, n5, n4, g1, g2, hq]
              · simp [up, w1, n5, n4, g1, g2, hq]
          refine fd_J71 hI' hc2 hz' hSz (by simp [up, n1, n2, n5, w1, z1]) (by simp [up, n1, n2, n5, w1, z2]) ha q1 q2 rfl h3 hQ fun τ4 h4 => ?_
          refine fd_end hI' (fun b hb => uc_ok (v := R' p) hc2 (Or.inl rfl) b hb) hz' hSp (Or.inr ?_) h4 hQ
          rcases hRp : R' p with _ | y
          · simp [uc, up]
          · by_cases e : p = y
            · simp [uc, up, e]
            · simp [uc, up, e]
        · rw [mw_ifF hu]
          refine fd_J71 hI hc hz hSz z1 z2 ha hp hl2 rfl h hQ fun τ1 h1 => ?_
          exact ih (k + 1) τ1 root L R P _ lo hi p hI (fun b hb => uc_ok (v := R p) hc (Or.inl rfl) b hb) hz hSz (by omega) (by omega) hSp (by omega) (by omega) h1
      · rw [mw_ifF hl]
        have hl3 : R p = some a := by
          rcases hch with g | g
          · exact absurd g.symm hl
          · exact g
        have hl2 : R p = some a := hl3
        have x1 := hI.1 a ha
        have x2 := hI.1 p hSp
        have x3 := hI.2.2.1 p a hSp hl2
        refine mc_parentOf h hva ?_
        simp only [Option.bind_some, hp]
        refine mc_leftOf h hvp ?_
        simp only [Option.bind_some]
        have hvs : ∀ c, L p = some c → S c := fun c e => (hI.2.1 p c hSp e).1
        refine mc_colorOf h hc hvs ?_
        by_cases hu : co C (L p) = 0
        · rw [mw_ifT hu]
          obtain ⟨s9, hs9⟩ := co0 hu
          have y1 := hI.2.1 p s9 hSp hs9
          have x4 := hI.1 s9 y1.1
          have x5 := hI.1 z hSz
          obtain ⟨w1, w2, w3, w4⟩ := fd_ne hI hSz z1 z2 ha hp
          have n1 : a ≠ s9 := fun e => by subst e; omega
          have n2 : a ≠ p := fun e => by subst e; omega
          have n3 : p ≠ s9 := fun e => by subst e; omega
          have n5 : z ≠ s9 := w4 s9 hs9 hl2
          have n7 : R s9 ≠ some a := fun e => by
            have := hI.2.2.1 s9 a y1.1 e
            omega
          refine mc_setColor h (Or.inr rfl) hvs fun τ1 h1 => ?_
          refine mc_parentOf h1 hva ?_
          simp only [Option.bind_some, hp]
          refine mc_setColor h1 (Or.inl rfl) hvp fun τ2 h2 => ?_
          refine mc_parentOf h2 hva ?_
          simp only [Option.bind_some, hp]
          obtain ⟨L', R', P', root', hI', eR, eL, eP, er⟩ := tm_rotR hI hSp hs9
          refine mw_bind.mpr ((mw_is (ts_tag h2)).mpr (fx_rotR hI hSp hs9 eR eL eP er h2 fun τ3 h3 => ?_))
          have q1 : P' a = some p := by
            rw [eP]
            rcases hLs : R s9 with _ | y
            · simp [up, n1, n2, hp]
            · have : a ≠ y := fun e => n7 (by rw [hLs, e])
              simp [up, n1, n2, hp, this]
          have q2 : R' p = some a := by
            rw [eR]
            rcases hPp : P p with _ | q
            · simp [up, n3, hl2]
            · have hq := (hI.2.2.2.1 p q hSp hPp)
              have n8 : p ≠ q := fun e => by
                subst e
                rcases hq.2 with g | g
                · have := hI.2.1 p p hSp g
                  omega
                · have := hI.2.2.1 p p hSp g
                  omega
              by_cases hqq : R q = some p
              · simp [up, n3, n8, hqq, hl2]
              · simp [up, n3, hqq, hl2]
          refine mc_parentOf h3 hva ?_
          simp only [Option.bind_some, q1]
          refine mc_leftOf h3 hvp ?_
          simp only [Option.bind_some]
          have hc2 : ∀ b, S b → uc (uc C (L p) 1) (some p) 0 b = 0 ∨ uc (uc C (L p) 1) (some p) 0 b = 1 := fun b hb => uc_ok (v := some p) (fun b hb => uc_ok (v := L p) hc (Or.inr rfl) b hb) (Or.inl rfl) b hb
          have hz' : lf → L' z = none ∧ R' z = none := by
            intro hlf
            obtain ⟨g1, g2⟩ := hz hlf
            rcases hPp : P p with _ | q
            · rw [eL, eR, hPp]
              simp [up, w1, n5, g1, g2]
            · have n4 := w2 q hPp
              rw [eL, eR, hPp]
              by_cases hq : R q = some p
              · simp [up, w1, n5, n4, g1, g2, hq]
              · simp [up, w1, n5, n4, g1, g2, hq]
          refine fd_J230 hI' hc2 hz' hSz (by simp [up, n1, n2, n5, w1, z1]) (by simp [up, n1, n2, n5, w1, z2]) ha q1 q2 rfl h3 hQ fun τ4 h4 => ?_
          refine fd_end hI' (fun b hb => uc_ok (v := L' p) hc2 (Or.inl rfl) b hb) hz' hSp (Or.inr ?_) h4 hQ
          rcases hRp : L' p with _ | y
          · simp [uc, up]
          · by_cases e : p = y
            · simp [uc, up, e]
            · simp [uc, up, e]
        · rw [mw_ifF hu]
          refine fd_J230 hI hc hz hSz z1 z2 ha hp hl2 rfl h hQ fun τ1 h1 => ?_
          exact ih (k + 1) τ1 root L R P _ lo hi p hI (fun b hb => uc_ok (v := L p) hc (Or.inl rfl) b hb) hz hSz (by omega) (by omega) hSp (by omega) (by omega) h1
    · rw [mw_ifF e1]
      exact fd_J345 hI hc hz ha h hQ
theorem fd_all {σ : hp_S} {root : Option Nat} {L R P : Nat → Option Nat} {C : Nat → Int32} {lo hi : Nat → Int} (hI : tm_I root S ky L R P lo hi) (hc : ∀ a, S a → C a = 0 ∨ C a = 1) (hz : lf → L z = none ∧ R z = none) (hSz : S z) (h : ts σ0 σ m (mo ks vs root n mc es nk dm) S (K, V, L, R, P, C)) (hQ : fd_Q σ0 m z lf S K V ky ks vs es nk dm n mc Q) : mw (fn_J1_fixAfterDeletion (d + 2) (some m) (some z)) σ Q := by
  show mw (fn_J1_fixAfterDeletion_L0 (d + 1) mx_K (some m) (some z)) σ Q
  have x1 := hI.1 z hSz
  exact fd_loop hQ _ _ σ root L R P C lo hi z hI hc hz hSz (Int.le_refl _) (Int.le_refl _) hSz (Nat.le_refl _) (by unfold mx_K; omega) h
end FD4
