/-! ABSTRACT HEAPS (hp_) AND THE FUNCTIONS OVER THEM (mx_): an object or array is its tag and the list of what it holds -/
abbrev hp_O : Type := Nat × List Value
/-- heap, next address, slots used, first address that may be written, constants -/
abbrev hp_S : Type := (Nat → Option hp_O) × Nat × Nat × Nat × (Nat → Value)
def hp_G (σ : hp_S) : Nat → Option hp_O := σ.1
def hp_n (σ : hp_S) : Nat := σ.2.1
def hp_s (σ : hp_S) : Nat := σ.2.2.1
def hp_b (σ : hp_S) : Nat := σ.2.2.2.1
def hp_e (σ : hp_S) : Nat → Value := σ.2.2.2.2
def hp_set (σ : hp_S) (a : Nat) (o : hp_O) : hp_S := (fun b => if b = a then some o else σ.1 b, σ.2)
/-- a new cell of the object o; it counts k slots -/
def hp_add (σ : hp_S) (o : hp_O) (k : Nat) : hp_S := (fun b => if b = σ.2.1 then some o else σ.1 b, σ.2.1 + 1, σ.2.2.1 + k, σ.2.2.2)
theorem hp_G_set (σ : hp_S) (a : Nat) (o : hp_O) (b : Nat) : hp_G (hp_set σ a o) b = if b = a then some o else hp_G σ b := rfl
theorem hp_n_set (σ : hp_S) (a : Nat) (o : hp_O) : hp_n (hp_set σ a o) = hp_n σ := rfl
theorem hp_s_set (σ : hp_S) (a : Nat) (o : hp_O) : hp_s (hp_set σ a o) = hp_s σ := rfl
theorem hp_b_set (σ : hp_S) (a : Nat) (o : hp_O) : hp_b (hp_set σ a o) = hp_b σ := rfl
theorem hp_e_set (σ : hp_S) (a : Nat) (o : hp_O) : hp_e (hp_set σ a o) = hp_e σ := rfl
theorem hp_G_add (σ : hp_S) (o : hp_O) (k : Nat) (b : Nat) : hp_G (hp_add σ o k) b = if b = hp_n σ then some o else hp_G σ b := rfl
theorem hp_n_add (σ : hp_S) (o : hp_O) (k : Nat) : hp_n (hp_add σ o k) = hp_n σ + 1 := rfl
theorem hp_s_add (σ : hp_S) (o : hp_O) (k : Nat) : hp_s (hp_add σ o k) = hp_s σ + k := rfl
theorem hp_b_add (σ : hp_S) (o : hp_O) (k : Nat) : hp_b (hp_add σ o k) = hp_b σ := rfl
theorem hp_e_add (σ : hp_S) (o : hp_O) (k : Nat) : hp_e (hp_add σ o k) = hp_e σ := rfl
abbrev mx_M (α : Type) : Type := hp_S → Option ((α ⊕ Nat) × hp_S)
def mx_pure {α : Type} (v : α) : mx_M α := fun σ => some (.inl v, σ)
def mx_fail {α : Type} : mx_M α := fun _ => none
def mx_bind {α β : Type} (x : mx_M α) (f : α → mx_M β) : mx_M β := fun σ => match x σ with
  | some (.inl v, σ1) => f v σ1
  | some (.inr q, σ1) => some (.inr q, σ1)
  | none => none
/-- a call inside a handler's reach -/
def mx_try {α β : Type} (x : mx_M α) (f : α → mx_M β) (h : Nat → mx_M β) : mx_M β := fun σ => match x σ with
  | some (.inl v, σ1) => f v σ1
  | some (.inr q, σ1) => h q σ1
  | none => none
def mx_let {α β : Type} (e : α) (f : α → mx_M β) : mx_M β := f e
def mx_if {α : Type} (c : Prop) [Decidable c] (A B : mx_M α) : mx_M α := fun σ => if c then A σ else B σ
def mx_ifnull {α : Type} (v : Option Nat) (A B : mx_M α) : mx_M α := fun σ => match v with
  | none => A σ
  | some _ => B σ
/-- the field that the tag's entry in cs names -/
def hp_fld (cs : List (Nat × Nat)) (σ : hp_S) (v : Option Nat) : Option Value := v.bind fun a => (hp_G σ a).bind fun o => (cs.lookup o.1).bind fun k => o.2[k]?
def hp_put (cs : List (Nat × Nat)) (σ : hp_S) (v : Option Nat) (w : Value) : Option hp_S := v.bind fun a => (hp_G σ a).bind fun o => (cs.lookup o.1).bind fun k => if hp_b σ ≤ a ∧ k < o.2.length then some (hp_set σ a (o.1, o.2.set k w)) else none
def mx_getI (cs : List (Nat × Nat)) (v : Option Nat) : mx_M Int32 := fun σ => match hp_fld cs σ v with
  | some (.int x) => some (.inl x, σ)
  | _ => none
def mx_getL (cs : List (Nat × Nat)) (v : Option Nat) : mx_M Int64 := fun σ => match hp_fld cs σ v with
  | some (.long x) => some (.inl x, σ)
  | _ => none
def hp_ref : Value → Option (Option Nat)
  | .null => some none
  | .ref a => some (some a)
  | _ => none
def mx_getR (cs : List (Nat × Nat)) (v : Option Nat) : mx_M (Option Nat) := fun σ => ((hp_fld cs σ v).bind hp_ref).map fun r => (.inl r, σ)
def mx_put (cs : List (Nat × Nat)) (v : Option Nat) (w : Value) : mx_M Unit := fun σ => (hp_put cs σ v w).map fun σ1 => (.inl (), σ1)
/-- x is a value of the narrow kind ty as it stands -/
def mx_nar (ty : FieldType) (x : Int32) : Bool := match narrow ty (.int x) with
  | .int y => y = x
  | _ => false
def mx_putN (ty : FieldType) (cs : List (Nat × Nat)) (v : Option Nat) (x : Int32) : mx_M Unit := fun σ => if mx_nar ty x = true then (hp_put cs σ v (.int x)).map fun σ1 => (.inl (), σ1) else none
def mx_retN (ty : FieldType) (x : Int32) : mx_M Int32 := fun σ => if mx_nar ty x = true then some (.inl x, σ) else none
/-- an array: its place, what it holds -/
def hp_arr (t : Nat) (σ : hp_S) (v : Option Nat) : Option (Nat × List Value) := v.bind fun a => (hp_G σ a).bind fun o => if o.1 = t then some (a, o.2) else none
def hp_elt (t : Nat) (σ : hp_S) (v : Option Nat) (i : Int32) : Option Value := (hp_arr t σ v).bind fun p => if i < 0 then none else p.2[i.toNatClampNeg]?
def hp_sta (t : Nat) (σ : hp_S) (v : Option Nat) (i : Int32) (w : Value) : Option hp_S := (hp_arr t σ v).bind fun p => if i < 0 then none else if hp_b σ ≤ p.1 ∧ i.toNatClampNeg < p.2.length then some (hp_set σ p.1 (t, p.2.set i.toNatClampNeg w)) else none
def mx_aldI (t : Nat) (v : Option Nat) (i : Int32) : mx_M Int32 := fun σ => match hp_elt t σ v i with
  | some (.int x) => some (.inl x, σ)
  | _ => none
def mx_aldL (t : Nat) (v : Option Nat) (i : Int32) : mx_M Int64 := fun σ => match hp_elt t σ v i with
  | some (.long x) => some (.inl x, σ)
  | _ => none
def mx_aldD (t : Nat) (v : Option Nat) (i : Int32) : mx_M UInt64 := fun σ => match hp_elt t σ v i with
  | some (.double x) => some (.inl x, σ)
  | _ => none
def mx_aldR (t : Nat) (v : Option Nat) (i : Int32) : mx_M (Option Nat) := fun σ => ((hp_elt t σ v i).bind hp_ref).map fun r => (.inl r, σ)
def mx_ast (t : Nat) (v : Option Nat) (i : Int32) (w : Value) : mx_M Unit := fun σ => (hp_sta t σ v i w).map fun σ1 => (.inl (), σ1)
def mx_alen (v : Option Nat) : mx_M Int32 := fun σ => (v.bind fun a => (hp_G σ a).bind fun o => if 100 ≤ o.1 ∧ o.1 < 105 then some (Int32.ofNat o.2.length) else none).map fun n => (.inl n, σ)
def mx_new (o : hp_O) (k : Nat) : mx_M Nat := fun σ => some (.inl (hp_n σ), hp_add σ o k)
def mx_newa (t : Nat) (w : Value) (n : Int32) : mx_M Nat := fun σ => if n < 0 then none else if n.toNatClampNeg * 8 ≤ 536870912 then some (.inl (hp_n σ), hp_add σ (t, List.replicate n.toNatClampNeg w) n.toNatClampNeg) else none
def hp_tag (σ : hp_S) (v : Option Nat) : Option Nat := v.bind fun a => (hp_G σ a).map fun o => o.1
def mx_cast (ts : List Nat) (v : Option Nat) : mx_M Unit := fun σ => match v with
  | none => some (.inl (), σ)
  | some a => (hp_tag σ (some a)).bind fun t => if ts.contains t = true then some (.inl (), σ) else none
def mx_inst (yes no : List Nat) (v : Option Nat) : mx_M Int32 := fun σ => match v with
  | none => some (.inl 0, σ)
  | some a => (hp_tag σ (some a)).bind fun t => if yes.contains t = true then some (.inl 1, σ) else if no.contains t = true then some (.inl 0, σ) else none
/-- the receiver has the tag t -/
def mx_is {α : Type} (t : Nat) (v : Option Nat) (x : mx_M α) : mx_M α := fun σ => if hp_tag σ v = some t then x σ else none
/-- one of several receivers -/
def mx_or {α : Type} (t : Nat) (v : Option Nat) (x y : mx_M α) : mx_M α := fun σ => if hp_tag σ v = some t then x σ else y σ
/-- caught here, if q's tag is among ts -/
def mx_in {α : Type} (ts : List Nat) (q : Nat) (x y : mx_M α) : mx_M α := fun σ => match hp_tag σ (some q) with
  | some t => if hp_b σ ≤ q then (if ts.contains t = true then x σ else y σ) else none
  | none => none
/-- q leaves the method -/
def mx_thr {α : Type} (ts : List Nat) (q : Nat) : mx_M α := fun σ => match hp_tag σ (some q) with
  | some t => if hp_b σ ≤ q ∧ ts.contains t = true then some (.inr q, σ) else none
  | none => none
def mx_con (i : Nat) : mx_M (Option Nat) := fun σ => (hp_ref (hp_e σ i)).map fun r => (.inl r, σ)
def mx_div (x y : Int32) : mx_M Int32 := fun σ => if y = 0 then none else some (.inl (x / y), σ)
def mx_rem (x y : Int32) : mx_M Int32 := fun σ => if y = 0 then none else some (.inl (x - x / y * y), σ)
def mx_sw {α : Type} (x : Int32) (cs : List (Int32 × mx_M α)) (D : mx_M α) : mx_M α := fun σ => match cs.lookup x with
  | some A => A σ
  | none => D σ
/-- array elements from sp on into another array (or the same) from dp on -/
def hp_cpy (f g : List Value) (sp dp n : Nat) : List Value := g.take dp ++ (f.drop sp).take n ++ g.drop (dp + n)
/-- the Class object of v's class: constants 1000 + tag -/
def mx_cls (ts : List Nat) (v : Option Nat) : mx_M (Option Nat) := fun σ => (hp_tag σ v).bind fun t => if ts.contains t = true then (hp_ref (hp_e σ (1000 + t))).map fun r => (.inl r, σ) else none
def mx_fdiv (x y : UInt32) : mx_M UInt32 := fun σ => if FP.fdiv x y &&& 0x7fffffff ≤ 0x7f800000 then some (.inl (FP.fdiv x y), σ) else none
def mx_ddiv (x y : UInt64) : mx_M UInt64 := fun σ => if FP.ddiv x y &&& 0x7fffffffffffffff ≤ 0x7ff0000000000000 then some (.inl (FP.ddiv x y), σ) else none
def mx_f2d (x : UInt32) : mx_M UInt64 := fun σ => if FP.f2d x &&& 0x7fffffffffffffff ≤ 0x7ff0000000000000 then some (.inl (FP.f2d x), σ) else none
/-- null, or an object (no array) that is known -/
def hp_okR (σ : hp_S) (w : Option Nat) : Bool := match w with
  | none => true
  | some b => match hp_tag σ (some b) with
    | some t => decide (t < 100)
    | none => false
def hp_okV (σ : hp_S) (w : Value) : Bool := match hp_ref w with
  | some r => hp_okR σ r
  | none => false
def mx_astR (v : Option Nat) (i : Int32) (w : Option Nat) : mx_M Unit := fun σ => if hp_okR σ w = true then (hp_sta 104 σ v i (va_rf w)).map fun σ1 => (.inl (), σ1) else none
def mx_deref {α : Type} (v : Option Nat) (f : Nat → mx_M α) : mx_M α := fun σ => match v with
  | none => none
  | some q => f q σ
/-- array elements copied, each of which fits -/
def mx_copyP (t : Nat) (ok : hp_S → Value → Bool) (u : Option Nat) (sp : Int32) (v : Option Nat) (dp n : Int32) : mx_M Unit := fun σ => (hp_arr t σ u).bind fun f => (hp_arr t σ v).bind fun g =>
  if sp < 0 ∨ dp < 0 ∨ n < 0 then none else if hp_b σ ≤ g.1 ∧ sp.toNatClampNeg + n.toNatClampNeg ≤ f.2.length ∧ dp.toNatClampNeg + n.toNatClampNeg ≤ g.2.length ∧ ((f.2.drop sp.toNatClampNeg).take n.toNatClampNeg).all (ok σ) = true then some (.inl (), hp_set σ g.1 (t, hp_cpy f.2 g.2 sp.toNatClampNeg dp.toNatClampNeg n.toNatClampNeg)) else none
def mx_cloneP (t : Nat) (ok : Value → Bool) (v : Option Nat) : mx_M Nat := fun σ => (hp_arr t σ v).bind fun f => if f.2.all ok = true then some (.inl (hp_n σ), hp_add σ (t, f.2) f.2.length) else none
/-- how often a loop may turn -/
def mx_K : Nat := 1000000
