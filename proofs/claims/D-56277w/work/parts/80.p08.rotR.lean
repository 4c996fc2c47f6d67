/-! ROTATION TO THE RIGHT, BY THE MACHINE -/
section ROT
variable {σ0 σ : hp_S} {m : Nat} {S : Nat → Prop} {K V L R P L' R' P' : Nat → Option Nat} {C : Nat → Int32} {ky lo hi : Nat → Int} {root root' : Option Nat} {p r d : Nat} {Q : Unit ⊕ Nat → hp_S → Prop} {ks vs es nk dm : Value} {n mc : Int32}
theorem fx_rotR (hI : tm_I root S ky L R P lo hi) (hp : S p) (hr : L p = some r) (eR : R' = up (match P p with | some q => if R q = some p then up R q (some r) else R | none => R) r (some p)) (eL : L' = (match P p with | some q => if R q = some p then up L p (R r) else up (up L p (R r)) q (some r) | none => up L p (R r))) (eP : P' = up (up (match R r with | some y => up P y (some p) | none => P) r (P p)) p (some r)) (er : root' = (match P p with | some _ => root | none => some r))
    (h : ts σ0 σ m (mo ks vs root n mc es nk dm) S (K, V, L, R, P, C)) (hQ : ∀ τ, ts σ0 τ m (mo ks vs root' n mc es nk dm) S (K, V, L', R', P', C) → Q (.inl ()) τ) : mw (fn_J1_rotateRight (d + 1) (some m) (some p)) σ Q := by
  obtain ⟨h1, h2, h3, h4, h5, h6, h7, h8, h9, h10⟩ := hI
  obtain ⟨hS, hP, hlo, hhi⟩ := h2 p r hp hr
  have n1 := h1 p hp
  have e1 : r ≠ p := fun e => by subst e; omega
  have tail : ∀ (τ : hp_S) (P1 : Nat → Option Nat), P1 p = P p → P' = up (up P1 r (P p)) p (some r) → ts σ0 τ m (mo ks vs root n mc es nk dm) S (K, V, up L p (R r), R, P1, C) → mw (fn_J1_rotateRight_J32 d (some m) (some p) (some r)) τ Q := by
    intro τ P1 hP1 eP1 hτ
    unfold fn_J1_rotateRight_J32 fn_J1_rotateRight_J85
    refine ms_P hτ hp ?_
    rw [hP1]
    refine ms_pP hτ hS fun τ1 hτ1 => ?_
    refine ms_P hτ1 hp ?_
    have e2 : up P1 r (P p) p = P p := by simp [up, Ne.symm e1, hP1]
    rw [e2]
    rcases hPp : P p with _ | q
    · rw [mw_ifnullN]
      refine ms_proot hτ1 fun τ2 hτ2 => ?_
      refine ms_pR hτ2 hS fun τ3 hτ3 => ?_
      refine ms_pP hτ3 hp fun τ4 hτ4 => ?_
      rw [mw_pure]
      refine hQ τ4 ?_
      rw [eL, eR, eP1, er]
      simpa only [hPp] using hτ4
    · rw [mw_ifnullS]
      have hq := (h4 p q hp hPp).1
      refine ms_P hτ1 hp ?_
      rw [e2, hPp]
      refine ms_R hτ1 hq ?_
      by_cases hl : R q = some p
      · rw [mw_ifT hl]
        refine ms_P hτ1 hp ?_
        rw [e2, hPp]
        refine ms_pR hτ1 hq fun τ2 hτ2 => ?_
        refine ms_pR hτ2 hS fun τ3 hτ3 => ?_
        refine ms_pP hτ3 hp fun τ4 hτ4 => ?_
        rw [mw_pure]
        refine hQ τ4 ?_
        rw [eL, eR, eP1, er]
        simpa only [hPp, if_pos hl] using hτ4
      · rw [mw_ifF hl]
        refine ms_P hτ1 hp ?_
        rw [e2, hPp]
        refine ms_pL hτ1 hq fun τ2 hτ2 => ?_
        refine ms_pR hτ2 hS fun τ3 hτ3 => ?_
        refine ms_pP hτ3 hp fun τ4 hτ4 => ?_
        rw [mw_pure]
        refine hQ τ4 ?_
        rw [eL, eR, eP1, er]
        simpa only [hPp, if_neg hl] using hτ4
  unfold fn_J1_rotateRight fn_J1_rotateRight_B0
  rw [mw_ifnullS]
  refine ms_L h hp ?_
  rw [hr]
  refine ms_R h hS ?_
  refine ms_pL h hp fun τ1 hτ1 => ?_
  refine ms_R hτ1 hS ?_
  rcases hLr : R r with _ | y
  · rw [mw_ifnullN]
    refine tail τ1 P rfl (by rw [eP, hLr]) ?_
    rw [hLr] at hτ1 ⊢
    exact hτ1
  · rw [mw_ifnullS]
    obtain ⟨a1, a2, a3, a4⟩ := h3 r y hS hLr
    have n3 := h1 y a1
    refine ms_R hτ1 hS ?_
    rw [hLr]
    refine ms_pP hτ1 a1 fun τ2 hτ2 => ?_
    refine tail τ2 (up P y (some p)) ?_ (by rw [eP, hLr]) ?_
    · have e5 : p ≠ y := fun e => by subst e; omega
      simp [up, e5]
    · rw [hLr] at hτ2 ⊢
      exact hτ2
end ROT
