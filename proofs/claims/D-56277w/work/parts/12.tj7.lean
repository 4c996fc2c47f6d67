/-! ROWS: Object's constructor, native methods, switches -/
section TJ7
variable {α β : Type} {E : tj_E} {X : tj_X} {own ini : String} {cc : ByteArray} {nL : Nat} {ret : Option FieldType} {d : Nat} {hh : List (Nat × Nat × Nat × Nat)} {n0 s0 : Nat} {emb : α → Option Value} {σ : hp_S} {pc : Nat} {L : List (Option Value)} {st rest : List Value} {pr : mx_M α} {H : Heap} {locs : List Loc} {ls : Array Slot} {cells slots : Nat} {Q : State → Prop}
theorem tj_objInit {v : Option Nat} {idx : Nat} {f : Nat → mx_M α} (q1 : Cond.methodLink own idx Lib.objectInit ∈ lw_all) (q2 : Cond.instanceMethod Lib.objectInit ∈ lw_all) (q3 : Cond.code Lib.objectInit ⟨#[0xb1]⟩ 1 none ∈ lw_all) (hW : (st.map fun v => v.category).sum ≤ 8) (hd : decode cc pc = .ok (.invokespecial idx, 3)) (k : ∀ a : Nat, v = some a → tj_T E X own ini cc nL ret (d + 1) hh n0 s0 emb σ (pc + 3) L st (f a)) : tj_T E X own ini cc nL ret (d + 1) hh n0 s0 emb σ pc L (va_rf v :: st) (mx_deref v f) := by
  intro o σe hx
  cases v with
  | none => cases hx
  | some a0 =>
    obtain ⟨h1, h2⟩ := k a0 rfl o σe hx
    refine ⟨h1, fun B H locs ls a b c d e f g => W.objInit B.ex B.co B.ow (B.ts _ q1) (B.ts _ q2) (B.ts _ q3) rfl (by rw [B.ml]; exact c.1) rfl hd (Nat.le_trans (Nat.succ_le_succ (Nat.zero_le _)) B.fr) ?_ (h2 B H locs ls a b c d e f g)⟩
    have h3 := lv_room (pc := pc) (m := xm X) (ls := ls) (rest := va_rf (some a0) :: st) hW
    have h4 := B.lo
    have h5 : 2 * (F0 (xm X) pc ls (va_rf (some a0) :: st)).monitorRoom + (st.map fun v => v.category).sum ≤ 8 := h3
    omega
end TJ7
