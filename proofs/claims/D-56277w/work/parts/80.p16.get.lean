/-! LOOKING UP: boxed numbers, getEntry -/
def bx (σ : hp_S) (v : Option Nat) (i : Int) : Prop := ∃ b, v = some b ∧ hp_G σ b = some (31, [.int (i3 i)])
def cm (i j : Int) : Int32 := if j ≤ i then (if i = j then 0 else 1) else -1
section GE
variable {α : Type} {σ0 σ : hp_S} {m d : Nat} {Q : α ⊕ Nat → hp_S → Prop}
theorem mw_cast1 {ts : List Nat} {a t : Nat} {f : Unit → mx_M α} (h : hp_tag σ (some a) = some t) (ht : ts.contains t = true) (k : mw (f ()) σ Q) : mw (mx_bind (mx_cast ts (some a)) f) σ Q := by
  refine mw_bind.mpr ⟨.inl (), σ, ?_, k⟩
  simp only [mx_cast, h, Option.bind_some, ht, if_true]
theorem bx_tag {v : Option Nat} {i : Int} (h : bx σ v i) : hp_tag σ v = some 31 := by
  obtain ⟨b, rfl, h⟩ := h
  simp [hp_tag, h]
theorem bx_get {v : Option Nat} {i : Int} {f : Int32 → mx_M α} (h : bx σ v i) (k : mw (f (i3 i)) σ Q) : mw (mx_bind (mx_getI [(31, 0)] v) f) σ Q := by
  obtain ⟨b, rfl, h⟩ := h
  exact ms_getI (by simp [hp_fld, h, List.lookup]) k
theorem mc_compareTo {v w : Option Nat} {i j : Int} {f : Int32 → mx_M α} (hv : bx σ v i) (hw : bx σ w j) (ri : rg i) (rj : rg j) (k : mw (f (cm i j)) σ Q) : mw (mx_bind (mx_is 31 v (fn_J27_compareTo (d + 3) v w)) f) σ Q := by
  refine mw_bind.mpr ((mw_is (bx_tag hv)).mpr ?_)
  show mw (fn_J27_compareTo_B0 (d + 2) v w) σ _
  unfold fn_J27_compareTo_B0
  have ht := bx_tag hw
  obtain ⟨b, e, hb⟩ := id hw
  rw [e] at ht ⊢
  refine mw_cast1 ht (by decide) ?_
  refine mw_bind.mpr ((mw_is (bx_tag hv)).mpr ?_)
  show mw (fn_J27_compareTo_2_B0 (d + 1) v (some b)) σ _
  unfold fn_J27_compareTo_2_B0
  refine bx_get hv (bx_get (e ▸ hw) ?_)
  show mw (mx_bind (fn_J27_compare_B0 d (i3 i) (i3 j)) _) σ _
  unfold fn_J27_compare_B0
  refine mw_bind.mpr ?_
  unfold cm at k
  by_cases h1 : j ≤ i
  · rw [mw_ifT ((i3_le rj ri).mpr h1)]
    rw [if_pos h1] at k
    by_cases h2 : i = j
    · rw [mw_ifT ((i3_eq ri rj).mpr h2), mw_pure]
      rw [if_pos h2] at k
      exact mw_pure.mpr (mw_pure.mpr k)
    · rw [mw_ifF (fun e => h2 ((i3_eq ri rj).mp e)), mw_pure]
      rw [if_neg h2] at k
      exact mw_pure.mpr (mw_pure.mpr k)
  · rw [mw_ifF (fun e => h1 ((i3_le rj ri).mp e)), mw_pure]
    rw [if_neg h1] at k
    exact mw_pure.mpr (mw_pure.mpr k)
end GE
section GE2
variable {σ0 σ : hp_S} {m d : Nat} {S : Nat → Prop} {K V L R P : Nat → Option Nat} {C : Nat → Int32} {ky kv lo hi : Nat → Int} {root : Option Nat} {Q : Option Nat ⊕ Nat → hp_S → Prop} {ks vs es nk dm : Value} {n mc : Int32} {v : Option Nat} {i : Int}
theorem ge_loop (hI : tm_I root S ky L R P lo hi) (hk : ∀ a, S a → ky a = 2 * kv a ∧ 0 ≤ kv a ∧ kv a < 1000 ∧ bx σ (K a) (kv a)) (hv : bx σ v i) (hi0 : 0 ≤ i) (hi1 : i < 1000) (h : ts σ0 σ m (mo ks vs root n mc es nk dm) S (K, V, L, R, P, C)) (q1 : ∀ a, S a → kv a = i → Q (.inl (some a)) σ) (q2 : (∀ a, S a → kv a ≠ i) → Q (.inl none) σ) : ∀ (n9 k : Nat) (x9 : Option Nat), (∀ a, x9 = some a → S a ∧ lo a < 2 * i ∧ 2 * i < hi a ∧ (hi a - lo a).toNat ≤ n9) → (x9 = none → ∀ a, S a → kv a ≠ i) → n9 + 1 ≤ k → mw (fn_J1_getEntry_L28 (d + 3) k v x9) σ Q := by
  intro n9
  induction n9 with
  | zero =>
    intro k x9 hx hx0 hk9
    obtain ⟨k, rfl⟩ : ∃ k', k = k' + 1 := ⟨k - 1, by omega⟩
    show mw (fn_J1_getEntry_L28_b (d + 3) (fn_J1_getEntry_L28 (d + 3) k) v x9) σ Q
    unfold fn_J1_getEntry_L28_b
    rcases x9 with _ | a
    · rw [mw_ifnullN, mw_pure]
      exact q2 (hx0 rfl)
    · obtain ⟨a1, a2, a3, a4⟩ := hx a rfl
      omega
  | succ n9 ih =>
    intro k x9 hx hx0 hk9
    obtain ⟨k, rfl⟩ : ∃ k', k = k' + 1 := ⟨k - 1, by omega⟩
    show mw (fn_J1_getEntry_L28_b (d + 3) (fn_J1_getEntry_L28 (d + 3) k) v x9) σ Q
    unfold fn_J1_getEntry_L28_b
    rcases x9 with _ | a
    · rw [mw_ifnullN, mw_pure]
      exact q2 (hx0 rfl)
    · obtain ⟨a1, a2, a3, a4⟩ := hx a rfl
      obtain ⟨b1, b2, b3, b4⟩ := hk a a1
      have x1 := hI.1 a a1
      rw [mw_ifnullS]
      refine ms_K h a1 ?_
      refine mc_compareTo hv b4 (by constructor <;> omega) (by constructor <;> omega) ?_
      unfold cm
      by_cases h1 : kv a ≤ i
      · rw [if_pos h1]
        by_cases h2 : i = kv a
        · rw [if_pos h2, mw_ifT (by decide), mw_ifT (by decide), mw_pure]
          exact q1 a a1 h2.symm
        · rw [if_neg h2, mw_ifT (by decide), mw_ifF (by decide)]
          refine ms_R h a1 ?_
          unfold fn_J1_getEntry_J72
          refine ih k (R a) (fun b hb => ?_) (fun hb c hc => ?_) (by omega)
          · have y1 := hI.2.2.1 a b a1 hb
            exact ⟨y1.1, by omega, by omega, by omega⟩
          · have y1 := hI.2.2.2.2.2.2.2.1 a c a1 hc hb
            have y2 := (hk c hc).1
            omega
      · rw [if_neg h1, mw_ifF (by decide)]
        refine ms_L h a1 ?_
        unfold fn_J1_getEntry_J72
        refine ih k (L a) (fun b hb => ?_) (fun hb c hc => ?_) (by omega)
        · have y1 := hI.2.1 a b a1 hb
          exact ⟨y1.1, by omega, by omega, by omega⟩
        · have y1 := hI.2.2.2.2.2.2.1 a c a1 hc hb
          have y2 := (hk c hc).1
          omega
end GE2
