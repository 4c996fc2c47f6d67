/-! THE NEXT ENTRY -/
section SU
variable {σ0 σ : hp_S} {m d : Nat} {S : Nat → Prop} {K V L R P : Nat → Option Nat} {C : Nat → Int32} {ky lo hi : Nat → Int} {root : Option Nat} {o : List Value} {Q : Option Nat ⊕ Nat → hp_S → Prop}
/-- down to the left -/
theorem sx_down (hI : tm_I root S ky L R P lo hi) (h : ts σ0 σ m o S (K, V, L, R, P, C)) : ∀ (n9 k : Nat) (x9 : Nat), S x9 → (hi x9 - lo x9).toNat ≤ n9 → n9 + 1 ≤ k → (∀ b, S b → lo b = lo x9 → ky b ≤ ky x9 → L b = none → Q (.inl (some b)) σ) → mw (fn_J1_successor_L18 d k (some x9)) σ Q := by
  intro n9
  induction n9 with
  | zero =>
    intro k x9 hx hm hk q1
    have := hI.1 x9 hx
    omega
  | succ n9 ih =>
    intro k x9 hx hm hk q1
    obtain ⟨k, rfl⟩ : ∃ k', k = k' + 1 := ⟨k - 1, by omega⟩
    have x1 := hI.1 x9 hx
    show mw (fn_J1_successor_L18_b d (fn_J1_successor_L18 d k) (some x9)) σ Q
    unfold fn_J1_successor_L18_b
    refine ms_L h hx ?_
    rcases hL : L x9 with _ | y
    · rw [mw_ifnullN, mw_pure]
      exact q1 x9 hx rfl (Int.le_refl _) hL
    · rw [mw_ifnullS]
      refine ms_L h hx ?_
      rw [hL]
      have y1 := hI.2.1 x9 y hx hL
      have y2 := hI.1 y y1.1
      exact ih k y y1.1 (by omega) (by omega) (fun b hb h1 h2 h3 => q1 b hb (by omega) (by omega) h3)
/-- up, as long as one comes from the right -/
theorem sx_up (hI : tm_I root S ky L R P lo hi) (h : ts σ0 σ m o S (K, V, L, R, P, C)) (t : Int) (q2 : t = 2000 → Q (.inl none) σ) (q1 : ∀ b, S b → t = ky b → Q (.inl (some b)) σ) : ∀ (n9 k : Nat) (x9 : Nat), S x9 → hi x9 = t → (2002 - (hi x9 - lo x9)).toNat ≤ n9 → n9 + 1 ≤ k → mw (fn_J1_successor_L42 d k (P x9) (some x9)) σ Q := by
  intro n9
  induction n9 with
  | zero =>
    intro k x9 hx ht hm hk
    have := hI.1 x9 hx
    omega
  | succ n9 ih =>
    intro k x9 hx ht hm hk
    obtain ⟨k, rfl⟩ : ∃ k', k = k' + 1 := ⟨k - 1, by omega⟩
    have x1 := hI.1 x9 hx
    show mw (fn_J1_successor_L42_b d (fn_J1_successor_L42 d k) (P x9) (some x9)) σ Q
    unfold fn_J1_successor_L42_b
    rcases hP : P x9 with _ | p
    · rw [mw_ifnullN, mw_pure]
      have y1 := hI.2.2.2.2.2.1 x9 (hI.2.2.2.2.1 x9 hx hP)
      exact q2 (by omega)
    · rw [mw_ifnullS]
      obtain ⟨hp, hch⟩ := hI.2.2.2.1 x9 p hx hP
      have x2 := hI.1 p hp
      refine ms_R h hp ?_
      by_cases e : some x9 = R p
      · rw [mw_ifT e]
        refine ms_P h hp ?_
        have y1 := hI.2.2.1 p x9 hp e.symm
        exact ih k p hp (by omega) (by omega) (by omega)
      · rw [mw_ifF e, mw_pure]
        rcases hch with g | g
        · have y1 := hI.2.1 p x9 hp g
          exact q1 p hp (by omega)
        · exact absurd g.symm e
/-- the entry with the next key, or none -/
theorem sx_all (hI : tm_I root S ky L R P lo hi) (h : ts σ0 σ m o S (K, V, L, R, P, C)) {a : Nat} (ha : S a) (q1 : ∀ b, S b → ky a < ky b → (∀ c, S c → ¬ (ky a < ky c ∧ ky c < ky b)) → (R a ≠ none → lo b = ky a ∧ L b = none) → Q (.inl (some b)) σ) (q2 : (∀ c, S c → ¬ ky a < ky c) → R a = none → Q (.inl none) σ) : mw (fn_J1_successor (d + 1) (some a)) σ Q := by
  show mw (fn_J1_successor_B0 d (some a)) σ Q
  unfold fn_J1_successor_B0
  have x1 := hI.1 a ha
  rw [mw_ifnullS]
  refine ms_R h ha ?_
  rcases hR : R a with _ | y
  · rw [mw_ifnullN]
    refine ms_P h ha ?_
    refine sx_up hI h (hi a) (fun e => q2 (fun c hc hlt => ?_) hR) (fun b hb e => q1 b hb (by omega) (fun c hc hlt => ?_) (fun hn => absurd hR hn)) _ mx_K a ha rfl (Nat.le_refl _) (by unfold mx_K; omega)
    · have y1 := hI.2.2.2.2.2.2.2.1 a c ha hc hR
      have y2 := hI.1 c hc
      omega
    · have y1 := hI.2.2.2.2.2.2.2.1 a c ha hc hR
      omega
  · rw [mw_ifnullS]
    refine ms_R h ha ?_
    rw [hR]
    have y1 := hI.2.2.1 a y ha hR
    have y2 := hI.1 y y1.1
    refine sx_down hI h _ mx_K y y1.1 (Nat.le_refl _) (by unfold mx_K; omega) (fun b hb h1 h2 h3 => ?_)
    have z1 := hI.1 b hb
    refine q1 b hb (by omega) (fun c hc hlt => ?_) (fun _ => ⟨by omega, h3⟩)
    have z2 := hI.2.2.2.2.2.2.1 b c hb hc h3
    omega
end SU
