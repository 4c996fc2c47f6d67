/-! A NEW ENTRY: made, laid beside p, the tree put right -/
section AE2
variable {σ : hp_S} {m d p : Nat} {S : Nat → Prop} {K V L R P : Nat → Option Nat} {C : Nat → Int32} {ky lo hi : Nat → Int} {root v1 v2 : Option Nat} {ks vs es nk dm : Value} {n mc : Int32}
theorem hp_set2 (σ : hp_S) (a : Nat) (x y : hp_O) : hp_set (hp_set σ a x) a y = hp_set σ a y := by
  unfold hp_set
  congr 1
  funext b
  by_cases e : b = a <;> simp [e]
theorem hp_setAdd (σ : hp_S) (x y : hp_O) (k : Nat) : hp_set (hp_add σ x k) (hp_n σ) y = hp_add σ y k := by
  unfold hp_set hp_add hp_n
  congr 1
  funext b
  by_cases e : b = σ.2.1 <;> simp [e]
/-- the entry made -/
theorem mc_newE {α : Type} {f : Nat → mx_M α} {Q : α ⊕ Nat → hp_S → Prop} (hb : hp_b σ ≤ hp_n σ) (k : mw (f (hp_n σ)) (hp_add σ (19, [va_rf v1, va_rf v2, .null, .null, va_rf (some p), .int 1]) 6) Q) : mw (mx_bind (mx_new (19, [.null, .null, .null, .null, .null, .int 0]) 6) fun a101 => mx_bind (mx_deref (some a101) fun _ => fn_J41_init (d + 1) (some a101) v1 v2 (some p)) fun _ => f a101) σ Q := by
  refine mw_bind.mpr (mw_new.mpr ?_)
  refine mw_bind.mpr ?_
  rw [mw_deref]
  show mw (fn_J41_init_B0 d (some (hp_n σ)) v1 v2 (some p)) _ _
  unfold fn_J41_init_B0
  rw [mw_deref]
  have hp1 : ∀ (k9 : Nat) (w : Value) (fs : List Value), k9 < fs.length → hp_put [(19, k9)] (hp_add σ (19, fs) 6) (some (hp_n σ)) w = some (hp_add σ (19, fs.set k9 w) 6) := by
    intro k9 w fs hk
    simp [hp_put, hp_G_add, List.lookup, hp_b_add, hb, hk, hp_setAdd]
  refine ms_put (hp1 5 _ _ (by decide)) ?_
  refine ms_put (hp1 0 _ _ (by simp)) ?_
  refine ms_put (hp1 1 _ _ (by simp)) ?_
  refine ms_put (hp1 4 _ _ (by simp)) ?_
  rw [mw_pure]
  exact k
end AE2
