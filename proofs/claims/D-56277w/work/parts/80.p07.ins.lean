/-! THE NULL-SAFE READERS OF ENTRIES -/
def co (C : Nat → Int32) (v : Option Nat) : Int32 := match v with
  | none => 1
  | some a => C a
def uc (C : Nat → Int32) (v : Option Nat) (c : Int32) : Nat → Int32 := match v with
  | none => C
  | some a => up C a c
section NS
variable {α : Type} {σ0 σ : hp_S} {m d : Nat} {o : List Value} {S : Nat → Prop} {K V L R P : Nat → Option Nat} {C : Nat → Int32} {v : Option Nat} {Q : α ⊕ Nat → hp_S → Prop}
theorem mc_parentOf {f : Option Nat → mx_M α} (h : ts σ0 σ m o S (K, V, L, R, P, C)) (hv : ∀ a, v = some a → S a) (k : mw (f (v.bind P)) σ Q) : mw (mx_bind (fn_J1_parentOf (d + 1) v) f) σ Q := by
  unfold fn_J1_parentOf fn_J1_parentOf_B0
  cases v with
  | none => exact mw_bind.mpr (mw_ifnullN.mpr (mw_pure.mpr k))
  | some a => exact mw_bind.mpr (mw_ifnullS.mpr (ms_P h (hv a rfl) (mw_pure.mpr k)))
theorem mc_leftOf {f : Option Nat → mx_M α} (h : ts σ0 σ m o S (K, V, L, R, P, C)) (hv : ∀ a, v = some a → S a) (k : mw (f (v.bind L)) σ Q) : mw (mx_bind (fn_J1_leftOf (d + 1) v) f) σ Q := by
  unfold fn_J1_leftOf fn_J1_leftOf_B0
  cases v with
  | none => exact mw_bind.mpr (mw_ifnullN.mpr (mw_pure.mpr k))
  | some a => exact mw_bind.mpr (mw_ifnullS.mpr (ms_L h (hv a rfl) (mw_pure.mpr k)))
theorem mc_rightOf {f : Option Nat → mx_M α} (h : ts σ0 σ m o S (K, V, L, R, P, C)) (hv : ∀ a, v = some a → S a) (k : mw (f (v.bind R)) σ Q) : mw (mx_bind (fn_J1_rightOf (d + 1) v) f) σ Q := by
  unfold fn_J1_rightOf fn_J1_rightOf_B0
  cases v with
  | none => exact mw_bind.mpr (mw_ifnullN.mpr (mw_pure.mpr k))
  | some a => exact mw_bind.mpr (mw_ifnullS.mpr (ms_R h (hv a rfl) (mw_pure.mpr k)))
theorem mx_nar01 {c : Int32} (h : c = 0 ∨ c = 1) : mx_nar .boolean c = true := by rcases h with h | h <;> subst h <;> rfl
theorem mc_colorOf {f : Int32 → mx_M α} (h : ts σ0 σ m o S (K, V, L, R, P, C)) (hc : ∀ a, S a → C a = 0 ∨ C a = 1) (hv : ∀ a, v = some a → S a) (k : mw (f (co C v)) σ Q) : mw (mx_bind (fn_J1_colorOf (d + 1) v) f) σ Q := by
  unfold fn_J1_colorOf fn_J1_colorOf_B0
  cases v with
  | none => exact mw_bind.mpr (mw_ifnullN.mpr (mw_pure.mpr k))
  | some a => exact mw_bind.mpr (mw_ifnullS.mpr (ms_C h (hv a rfl) ((mw_retN (mx_nar01 (hc a (hv a rfl)))).mpr k)))
theorem mc_setColor {c : Int32} {f : Unit → mx_M α} (h : ts σ0 σ m o S (K, V, L, R, P, C)) (hc : c = 0 ∨ c = 1) (hv : ∀ a, v = some a → S a) (k : ∀ τ, ts σ0 τ m o S (K, V, L, R, P, uc C v c) → mw (f ()) τ Q) : mw (mx_bind (fn_J1_setColor (d + 1) v c) f) σ Q := by
  unfold fn_J1_setColor fn_J1_setColor_B0
  cases v with
  | none => exact mw_bind.mpr (mw_ifnullN.mpr (mw_pure.mpr (k σ h)))
  | some a =>
    refine mw_bind.mpr (mw_ifnullS.mpr (mw_bind.mpr ((mw_putN (mx_nar01 hc)).mpr ?_)))
    obtain ⟨τ, e1, e2, -, e4⟩ := th_pC (w := c) h.2.2.2 (hv a rfl)
    exact ⟨τ, e1, mw_pure.mpr (k τ (ts_go h (hv a rfl) e2 e4))⟩
theorem uc_ok {S : Nat → Prop} {C : Nat → Int32} {v : Option Nat} {c : Int32} (h : ∀ a, S a → C a = 0 ∨ C a = 1) (hc : c = 0 ∨ c = 1) : ∀ a, S a → uc C v c a = 0 ∨ uc C v c a = 1 := by
  intro a ha
  cases v with
  | none => exact h a ha
  | some b =>
    by_cases e : a = b
    · simpa [uc, up, e] using hc
    · simpa [uc, up, e] using h a ha
end NS
