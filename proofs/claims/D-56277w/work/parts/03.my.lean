/-! MORE OPERATIONS -/
/-- Throwable.fillInStackTrace: nothing changes, where the stack trace stands as the constructor has set it -/
def mx_fill (v : Option Nat) : mx_M Unit := fun σ => v.bind fun a => (hp_G σ a).bind fun o => if hp_b σ ≤ a ∧ [13, 14, 15].contains o.1 = true ∧ o.2[1]? = some (hp_e σ 2) ∧ hp_e σ 2 ≠ .null ∧ o.2[4]? = some .null ∧ o.2.length = 7 then some (.inl (), σ) else none
/-- Throwable.getCause -/
def mx_cause (v : Option Nat) : mx_M (Option Nat) := fun σ => v.bind fun a => (hp_G σ a).bind fun o => if hp_b σ ≤ a ∧ o.1 = 14 then ((o.2[0]?).bind hp_ref).map fun c => (.inl (if c = v then none else c), σ) else none
/-- there is room for k more frames -/
def mx_ge {α : Type} (k d : Nat) (x : mx_M α) : mx_M α := fun σ => if k ≤ d then x σ else none
