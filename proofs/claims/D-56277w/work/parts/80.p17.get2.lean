/-! THE MAP: getEntry, containsKey, get -/
section GE3
variable {σ0 σ : hp_S} {m d : Nat} {S : Nat → Prop} {K V L R P : Nat → Option Nat} {C : Nat → Int32} {ky kv lo hi : Nat → Int} {root : Option Nat} {ks vs es nk dm : Value} {n mc : Int32} {v : Option Nat} {i : Int}
/-- the map as the readers take it -/
def tm_K (σ : hp_S) (S : Nat → Prop) (K : Nat → Option Nat) (ky kv : Nat → Int) : Prop := ∀ a, S a → ky a = 2 * kv a ∧ 0 ≤ kv a ∧ kv a < 1000 ∧ bx σ (K a) (kv a)
theorem ge_all {Q : Option Nat ⊕ Nat → hp_S → Prop} (hI : tm_I root S ky L R P lo hi) (hk : tm_K σ S K ky kv) (hv : bx σ v i) (hi0 : 0 ≤ i) (hi1 : i < 1000) (h : ts σ0 σ m (mo ks vs root n mc es nk dm) S (K, V, L, R, P, C)) (q1 : ∀ a, S a → kv a = i → Q (.inl (some a)) σ) (q2 : (∀ a, S a → kv a ≠ i) → Q (.inl none) σ) : mw (fn_J1_getEntry (d + 4) (some m) v) σ Q := by
  show mw (fn_J1_getEntry_B0 (d + 3) (some m) v) σ Q
  unfold fn_J1_getEntry_B0
  refine ms_get (x9 := none) (by simp [hp_fld, h.2.1, mo, List.lookup, va_rf]) ?_
  rw [mw_ifnullN]
  have hv0 := hv
  obtain ⟨b, e, hb⟩ := hv0
  subst e
  have ht := bx_tag hv
  refine mw_bind.mpr ?_
  show mw (fn_J37_requireNonNull_B0 (d + 2) (some b)) σ _
  unfold fn_J37_requireNonNull_B0
  rw [mw_ifnullS, mw_pure]
  refine mw_cast1 ht (by decide) ?_
  refine ms_root h ?_
  refine ge_loop hI hk hv hi0 hi1 h q1 q2 2001 mx_K root (fun a ha => ?_) (fun hr c hc => ?_) (by unfold mx_K; omega)
  · obtain ⟨x1, x2, x3, x4⟩ := hI.2.2.2.2.2.1 a ha
    exact ⟨x1, by omega, by omega, by omega⟩
  · exact absurd hc (hI.2.2.2.2.2.2.2.2.2 hr c)
theorem mc_containsKey {α : Type} {f : Int32 → mx_M α} {Q : α ⊕ Nat → hp_S → Prop} (hI : tm_I root S ky L R P lo hi) (hk : tm_K σ S K ky kv) (hv : bx σ v i) (hi0 : 0 ≤ i) (hi1 : i < 1000) (h : ts σ0 σ m (mo ks vs root n mc es nk dm) S (K, V, L, R, P, C)) (q1 : (∃ a, S a ∧ kv a = i) → mw (f 1) σ Q) (q2 : (∀ a, S a → kv a ≠ i) → mw (f 0) σ Q) : mw (mx_bind (mx_is 18 (some m) (fn_J1_containsKey (d + 5) (some m) v)) f) σ Q := by
  refine mw_bind.mpr ((mw_is (ts_tag h)).mpr ?_)
  show mw (fn_J1_containsKey_B0 (d + 4) (some m) v) σ _
  unfold fn_J1_containsKey_B0
  refine mw_bind.mpr ((mw_is (ts_tag h)).mpr ?_)
  refine ge_all hI hk hv hi0 hi1 h (fun a ha hka => ?_) (fun hn => ?_)
  · exact mw_ifnullS.mpr (mw_pure.mpr (q1 ⟨a, ha, hka⟩))
  · exact mw_ifnullN.mpr (mw_pure.mpr (q2 hn))
theorem mc_get {α : Type} {f : Option Nat → mx_M α} {Q : α ⊕ Nat → hp_S → Prop} (hI : tm_I root S ky L R P lo hi) (hk : tm_K σ S K ky kv) (hv : bx σ v i) (hi0 : 0 ≤ i) (hi1 : i < 1000) (h : ts σ0 σ m (mo ks vs root n mc es nk dm) S (K, V, L, R, P, C)) (q1 : ∀ a, S a → kv a = i → mw (f (V a)) σ Q) (q2 : (∀ a, S a → kv a ≠ i) → mw (f none) σ Q) : mw (mx_bind (mx_is 18 (some m) (fn_J1_get (d + 5) (some m) v)) f) σ Q := by
  refine mw_bind.mpr ((mw_is (ts_tag h)).mpr ?_)
  show mw (fn_J1_get_B0 (d + 4) (some m) v) σ _
  unfold fn_J1_get_B0
  refine mw_bind.mpr ((mw_is (ts_tag h)).mpr ?_)
  refine ge_all hI hk hv hi0 hi1 h (fun a ha hka => ?_) (fun hn => ?_)
  · exact mw_ifnullS.mpr (ms_V h ha (mw_pure.mpr (q1 a ha hka)))
  · exact mw_ifnullN.mpr (mw_pure.mpr (q2 hn))
end GE3
