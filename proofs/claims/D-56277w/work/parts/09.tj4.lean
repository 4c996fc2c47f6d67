/-! ROWS: arrays, new cells, constants, casts, ends -/
section TJ4
variable {α β : Type} {E : tj_E} {X : tj_X} {own ini : String} {cc : ByteArray} {nL : Nat} {ret : Option FieldType} {d : Nat} {hh : List (Nat × Nat × Nat × Nat)} {n0 s0 : Nat} {emb : α → Option Value} {σ : hp_S} {pc : Nat} {L : List (Option Value)} {st : List Value} {pr : mx_M α} {H : Heap} {locs : List Loc} {ls : Array Slot} {cells slots : Nat} {Q : State → Prop}
theorem hp_arr_some {t : Nat} {v : Option Nat} {p : Nat × List Value} (h : hp_arr t σ v = some p) : v = some p.1 ∧ hp_G σ p.1 = some (t, p.2) := by
  unfold hp_arr at h
  cases v with
  | none => cases h
  | some a =>
    simp only [Option.bind_some] at h
    cases hG : hp_G σ a with
    | none => rw [hG] at h; cases h
    | some o =>
      rw [hG] at h
      simp only [Option.bind_some] at h
      split at h
      · rename_i e
        cases h
        subst e
        exact ⟨rfl, hG⟩
      · cases h
theorem hp_elt_some {t : Nat} {v : Option Nat} {i : Int32} {w : Value} (h : hp_elt t σ v i = some w) : ∃ (a : Nat) (vs : List Value), v = some a ∧ hp_G σ a = some (t, vs) ∧ ¬ i < 0 ∧ vs[i.toNatClampNeg]? = some w := by
  unfold hp_elt at h
  obtain ⟨p, h1, h2⟩ := Option.bind_eq_some_iff.mp h
  obtain ⟨e, hG⟩ := hp_arr_some h1
  split at h2
  · cases h2
  · rename_i hi
    exact ⟨p.1, p.2, e, hG, hi, h2⟩
theorem hp_sta_some {t : Nat} {v : Option Nat} {i : Int32} {w : Value} {σ1 : hp_S} (h : hp_sta t σ v i w = some σ1) : ∃ (a : Nat) (vs : List Value), v = some a ∧ hp_G σ a = some (t, vs) ∧ ¬ i < 0 ∧ hp_b σ ≤ a ∧ i.toNatClampNeg < vs.length ∧ σ1 = hp_set σ a (t, vs.set i.toNatClampNeg w) := by
  unfold hp_sta at h
  obtain ⟨p, h1, h2⟩ := Option.bind_eq_some_iff.mp h
  obtain ⟨e, hG⟩ := hp_arr_some h1
  split at h2
  · cases h2
  · rename_i hi
    split at h2
    · rename_i hc
      cases h2
      exact ⟨p.1, p.2, e, hG, hi, hc.1, hc.2, rfl⟩
    · cases h2
theorem tj_isA {t : Nat} {ty : FieldType} {cell : Cell} {s : State} (hA : ArrOfT s (tj_a E t) ty) (ht : 100 ≤ t) (h1 : cell.cls = tj_cls E t) (h2 : cell.vm.isStatics = false) : s.isArrayOf cell ty := by
  obtain ⟨-, k, hk, c, hc⟩ := hA 0 (fun _ => .null)
  have e : tj_cls E t = tj_a E t := by unfold tj_cls; rw [if_neg (by omega)]
  exact ⟨(fun q h => by rw [h] at h2; cases h2), k, (by rw [h1, e]; exact hk), c, hc⟩
/-- the array in the heap -/
theorem tj_arr {t : Nat} {ty : FieldType} {a : Nat} {vs : List Value} (hA : ArrOfT (xs X) (tj_a E t) ty) (ht : 100 ≤ t) (hR : tj_R E σ H) (hG : hp_G σ a = some (t, vs)) : ∃ cell : Cell, H[a]? = some cell ∧ (xs X).isArrayOf cell ty ∧ cell.vm ≠ .unknown ∧ cell.vm.isStatics = false ∧ (tj_b E ≤ a → cell.vm = .none) ∧ cell.cls = tj_cls E t ∧ (∀ (k : Nat) (v : Value), vs[k]? = some v → cell.slots[k]? = some v) ∧ cell.slots.size = vs.length := by
  obtain ⟨cell, q1, q2, q3, q4, q5, q6, q7, q8⟩ := hR.2.2.2.2.2 a _ hG
  refine ⟨cell, q1, tj_isA hA ht q5 q3, q2, q3, q4, q5, fun k v hk => ?_, q7 ht⟩
  have := q6 k v hk
  rw [show tj_sl E (t, vs).1 k = k by show tj_sl E t k = k; unfold tj_sl; rw [if_neg (by omega)]] at this
  exact this
theorem tj_inB {n : Nat} {i : Int32} (h1 : ¬ i < 0) (h2 : i.toNatClampNeg < n) : ¬ (i < 0 ∨ n ≤ i.toNatClampNeg) := fun h => h.elim h1 (fun h => by omega)
/-- what is known of the array classes -/
theorem tj_ak (B : tj_C E X own ini cc nL ret d hh) (i : Nat) {t : Nat} {ty : FieldType} (h : (cl_arr (tj_a E))[i]? = some (tj_a E t, ty)) : ArrOfT (xs X) (tj_a E t) ty ∧ va_RA (xs X) (tj_a E t) ty := B.ev.1.2 i _ h
theorem mx_aldI_some {t : Nat} {v : Option Nat} {i : Int32} {r : (Int32 ⊕ Nat) × hp_S} (h : mx_aldI t v i σ = some r) : ∃ x, r = (.inl x, σ) ∧ hp_elt t σ v i = some (.int x) := by
  unfold mx_aldI at h
  split at h
  · rename_i x hx
    cases h
    exact ⟨x, rfl, hx⟩
  · cases h
theorem tj_iald {v : Option Nat} {i : Int32} {f : Int32 → mx_M α} (hd : decode cc pc = .ok (.iaload, 1)) (k : ∀ x : Int32, tj_T E X own ini cc nL ret d hh n0 s0 emb σ (pc + 1) L (.int x :: st) (f x)) : tj_T E X own ini cc nL ret d hh n0 s0 emb σ pc L (.int i :: va_rf v :: st) (mx_bind (mx_aldI 100 v i) f) := by
  refine tj_rd (P := fun x => hp_elt 100 σ v i = some (.int x)) (fun r h => mx_aldI_some h) (fun x hx B H locs c s Q ls hR hl w => ?_) k
  obtain ⟨a, vs, e, hG, hi, hv⟩ := hp_elt_some hx
  subst e
  obtain ⟨cell, q1, q2, q3, -, -, -, q6, q7⟩ := tj_arr (X := X) (tj_ak B 0 rfl).1 (by decide) hR hG
  exact W.iald B.ex B.co q1 q2 q3 (by rw [q7]; exact tj_inB hi (List.getElem?_eq_some_iff.mp hv).1) (q6 _ _ hv) rfl rfl hd w
theorem tj_bald {v : Option Nat} {i : Int32} {f : Int32 → mx_M α} (hd : decode cc pc = .ok (.baload, 1)) (k : ∀ x : Int32, tj_T E X own ini cc nL ret d hh n0 s0 emb σ (pc + 1) L (.int x :: st) (f x)) : tj_T E X own ini cc nL ret d hh n0 s0 emb σ pc L (.int i :: va_rf v :: st) (mx_bind (mx_aldI 101 v i) f) := by
  refine tj_rd (P := fun x => hp_elt 101 σ v i = some (.int x)) (fun r h => mx_aldI_some h) (fun x hx B H locs c s Q ls hR hl w => ?_) k
  obtain ⟨a, vs, e, hG, hi, hv⟩ := hp_elt_some hx
  subst e
  obtain ⟨cell, q1, q2, q3, -, -, -, q6, q7⟩ := tj_arr (X := X) (tj_ak B 1 rfl).1 (by decide) hR hG
  exact W.bald B.ex B.co q1 q2 q3 (by rw [q7]; exact tj_inB hi (List.getElem?_eq_some_iff.mp hv).1) (q6 _ _ hv) rfl rfl hd w
theorem tj_lald {v : Option Nat} {i : Int32} {f : Int64 → mx_M α} (hd : decode cc pc = .ok (.laload, 1)) (k : ∀ x : Int64, tj_T E X own ini cc nL ret d hh n0 s0 emb σ (pc + 1) L (.long x :: st) (f x)) : tj_T E X own ini cc nL ret d hh n0 s0 emb σ pc L (.int i :: va_rf v :: st) (mx_bind (mx_aldL 102 v i) f) := by
  refine tj_rd (P := fun x => hp_elt 102 σ v i = some (.long x)) (fun r h => ?_) (fun x hx B H locs c s Q ls hR hl w => ?_) k
  · unfold mx_aldL at h
    split at h
    · rename_i x hx
      cases h
      exact ⟨x, rfl, hx⟩
    · cases h
  · obtain ⟨a, vs, e, hG, hi, hv⟩ := hp_elt_some hx
    subst e
    obtain ⟨cell, q1, q2, q3, -, -, -, q6, q7⟩ := tj_arr (X := X) (tj_ak B 2 rfl).1 (by decide) hR hG
    exact W.lald B.ex B.co q1 q2 q3 (by rw [q7]; exact tj_inB hi (List.getElem?_eq_some_iff.mp hv).1) (q6 _ _ hv) rfl rfl hd w
theorem tj_dald {v : Option Nat} {i : Int32} {f : UInt64 → mx_M α} (hd : decode cc pc = .ok (.daload, 1)) (k : ∀ x : UInt64, tj_T E X own ini cc nL ret d hh n0 s0 emb σ (pc + 1) L (.double x :: st) (f x)) : tj_T E X own ini cc nL ret d hh n0 s0 emb σ pc L (.int i :: va_rf v :: st) (mx_bind (mx_aldD 103 v i) f) := by
  refine tj_rd (P := fun x => hp_elt 103 σ v i = some (.double x)) (fun r h => ?_) (fun x hx B H locs c s Q ls hR hl w => ?_) k
  · unfold mx_aldD at h
    split at h
    · rename_i x hx
      cases h
      exact ⟨x, rfl, hx⟩
    · cases h
  · obtain ⟨a, vs, e, hG, hi, hv⟩ := hp_elt_some hx
    subst e
    obtain ⟨cell, q1, q2, q3, -, -, -, q6, q7⟩ := tj_arr (X := X) (tj_ak B 3 rfl).1 (by decide) hR hG
    exact W.dald B.ex B.co q1 q2 q3 (by rw [q7]; exact tj_inB hi (List.getElem?_eq_some_iff.mp hv).1) (q6 _ _ hv) rfl rfl hd w
theorem mx_aldR_some {t : Nat} {v : Option Nat} {i : Int32} {r : (Option Nat ⊕ Nat) × hp_S} (h : mx_aldR t v i σ = some r) : ∃ x, r = (.inl x, σ) ∧ hp_elt t σ v i = some (va_rf x) := by
  unfold mx_aldR at h
  obtain ⟨x, h1, h2⟩ := Option.map_eq_some_iff.mp h
  obtain ⟨w, h3, h4⟩ := Option.bind_eq_some_iff.mp h1
  exact ⟨x, h2.symm, by rw [h3, hp_ref_some h4]⟩
theorem tj_aald {v : Option Nat} {i : Int32} {f : Option Nat → mx_M α} (hd : decode cc pc = .ok (.aaload, 1)) (k : ∀ x : Option Nat, tj_T E X own ini cc nL ret d hh n0 s0 emb σ (pc + 1) L (va_rf x :: st) (f x)) : tj_T E X own ini cc nL ret d hh n0 s0 emb σ pc L (.int i :: va_rf v :: st) (mx_bind (mx_aldR 104 v i) f) := by
  refine tj_rd (P := fun x => hp_elt 104 σ v i = some (va_rf x)) (fun r h => mx_aldR_some h) (fun x hx B H locs c s Q ls hR hl w => ?_) k
  obtain ⟨a, vs, e, hG, hi, hv⟩ := hp_elt_some hx
  subst e
  obtain ⟨cell, q1, q2, q3, -, -, -, q6, q7⟩ := tj_arr (X := X) (tj_ak B 4 rfl).1 (by decide) hR hG
  exact W.aald B.ex B.co q1 q2 rfl q3 (by rw [q7]; exact tj_inB hi (List.getElem?_eq_some_iff.mp hv).1) (q6 _ _ hv) rfl rfl hd w
/-- out of the cache of small Integers -/
theorem tj_aaldI {v : Option Nat} {i : Int32} {f : Option Nat → mx_M α} (hd : decode cc pc = .ok (.aaload, 1)) (k : ∀ x : Option Nat, tj_T E X own ini cc nL ret d hh n0 s0 emb σ (pc + 1) L (va_rf x :: st) (f x)) : tj_T E X own ini cc nL ret d hh n0 s0 emb σ pc L (.int i :: va_rf v :: st) (mx_bind (mx_aldR 105 v i) f) := by
  refine tj_rd (P := fun x => hp_elt 105 σ v i = some (va_rf x)) (fun r h => mx_aldR_some h) (fun x hx B H locs c s Q ls hR hl w => ?_) k
  obtain ⟨a, vs, e, hG, hi, hv⟩ := hp_elt_some hx
  subst e
  obtain ⟨cell, q1, q2, q3, -, -, -, q6, q7⟩ := tj_arr (X := X) B.ev.2.2.2.2.1 (by decide) hR hG
  exact W.aald B.ex B.co q1 q2 rfl q3 (by rw [q7]; exact tj_inB hi (List.getElem?_eq_some_iff.mp hv).1) (q6 _ _ hv) rfl rfl hd w
theorem tj_alen {v : Option Nat} {f : Int32 → mx_M α} (hd : decode cc pc = .ok (.arraylength, 1)) (k : ∀ x : Int32, tj_T E X own ini cc nL ret d hh n0 s0 emb σ (pc + 1) L (.int x :: st) (f x)) : tj_T E X own ini cc nL ret d hh n0 s0 emb σ pc L (va_rf v :: st) (mx_bind (mx_alen v) f) := by
  refine tj_rd (P := fun x => ∃ (a t : Nat) (vs : List Value), v = some a ∧ hp_G σ a = some (t, vs) ∧ 100 ≤ t ∧ t < 105 ∧ x = Int32.ofNat vs.length) (fun r h => ?_) (fun x hx B H locs c s Q ls hR hl w => ?_) k
  · unfold mx_alen at h
    obtain ⟨x, h1, h2⟩ := Option.map_eq_some_iff.mp h
    obtain ⟨a, h3, h4⟩ := Option.bind_eq_some_iff.mp h1
    obtain ⟨o, h5, h6⟩ := Option.bind_eq_some_iff.mp h4
    split at h6
    · rename_i hc
      cases h6
      exact ⟨_, h2.symm, a, o.1, o.2, h3, h5, hc.1, hc.2, rfl⟩
    · cases h6
  · obtain ⟨a, t, vs, e, hG, ht, ht2, e2⟩ := hx
    subst e
    have key : ∃ ty, ArrOfT (xs X) (tj_a E t) ty := by
      rcases (by omega : t = 100 ∨ t = 101 ∨ t = 102 ∨ t = 103 ∨ t = 104) with e | e | e | e | e <;> subst e
      · exact ⟨_, (tj_ak B 0 rfl).1⟩
      · exact ⟨_, (tj_ak B 1 rfl).1⟩
      · exact ⟨_, (tj_ak B 2 rfl).1⟩
      · exact ⟨_, (tj_ak B 3 rfl).1⟩
      · exact ⟨_, (tj_ak B 4 rfl).1⟩
    obtain ⟨ty, hty⟩ := key
    obtain ⟨cell, q1, q2, q3, -, -, -, q6, q7⟩ := tj_arr (X := X) hty ht hR hG
    exact W.alen B.ex B.co q1 q2 (by rw [q7, e2]) rfl rfl hd w
theorem tj_staAt {t : Nat} {a : Nat} {vs : List Value} {i : Nat} {w : Value} {cell : Cell} {H' : Heap} (ht : 100 ≤ t) (q2 : cell.vm ≠ .unknown) (q3 : cell.vm.isStatics = false) (q4 : tj_b E ≤ a → cell.vm = .none) (q5 : cell.cls = tj_cls E t) (q6 : ∀ (k : Nat) (v : Value), vs[k]? = some v → cell.slots[k]? = some v) (q7 : cell.slots.size = vs.length) (hl : i < vs.length) (e1 : H'[a]? = some (cell.setSlot i w)) : tj_at E a (t, vs.set i w) H' := by
  refine ⟨_, e1, q2, q3, q4, q5, fun j v hj => ?_, fun _ => ?_, fun h => absurd h (by show ¬ t < 100; omega)⟩
  · rw [show tj_sl E (t, vs.set i w).1 j = j by show tj_sl E t j = j; unfold tj_sl; rw [if_neg (by omega)]]
    by_cases e : j = i
    · subst e
      rw [show (t, vs.set j w).2 = vs.set j w from rfl, List.getElem?_set_self hl] at hj
      cases hj
      show (cell.slots.setIfInBounds j w)[j]? = some w
      simp [q7, hl]
    · rw [show (t, vs.set i w).2 = vs.set i w from rfl, List.getElem?_set_ne (Ne.symm e)] at hj
      rw [slot_ne cell w (Ne.symm e)]
      exact q6 j v hj
  · show (cell.setSlot i w).slots.size = (vs.set i w).length
    rw [k2_slotsz, q7, List.length_set]
theorem mx_ast_some {t : Nat} {v : Option Nat} {i : Int32} {w : Value} {r : (Unit ⊕ Nat) × hp_S} (h : mx_ast t v i w σ = some r) : ∃ σ1, r = (.inl (), σ1) ∧ hp_n σ1 = hp_n σ ∧ hp_s σ1 = hp_s σ ∧ hp_sta t σ v i w = some σ1 := by
  unfold mx_ast at h
  obtain ⟨σ1, h1, h2⟩ := Option.map_eq_some_iff.mp h
  obtain ⟨a, vs, -, -, -, -, -, e⟩ := hp_sta_some h1
  exact ⟨σ1, h2.symm, by rw [e]; rfl, by rw [e]; rfl, h1⟩
theorem tj_iast {v : Option Nat} {i x : Int32} {f : Unit → mx_M α} (hd : decode cc pc = .ok (.iastore, 1)) (k : ∀ σ1 : hp_S, tj_T E X own ini cc nL ret d hh n0 s0 emb σ1 (pc + 1) L st (f ())) : tj_T E X own ini cc nL ret d hh n0 s0 emb σ pc L (.int x :: .int i :: va_rf v :: st) (mx_bind (mx_ast 100 v i (.int x)) f) := by
  refine tj_wr (P := fun σ1 => hp_sta 100 σ v i (.int x) = some σ1) (fun r h => mx_ast_some h) (fun σ1 hx B H locs c s Q ls hR hlo hl kk => ?_) k
  obtain ⟨a, vs, e, hG, hi, hbs, hlt, e2⟩ := hp_sta_some hx
  subst e
  subst e2
  have hba : tj_b E ≤ a := by rw [← hR.2.1]; exact hbs
  obtain ⟨cell, q1, q2, q3, q3', q4, q5, q6, q7⟩ := tj_arr (X := X) (tj_ak B 0 rfl).1 (by decide) hR hG
  exact W.iast B.ex B.co q1 q2 q3 (by rw [q7]; exact tj_inB hi hlt) rfl rfl hd fun H' e1 z o => kk H' _ (hR.put (cell := cell) hba z o (tj_staAt (by decide) q3 q3' q4 q5 q6 q7 hlt e1)) (t_lc hlo hba)
theorem tj_bast {v : Option Nat} {i x : Int32} {f : Unit → mx_M α} (hd : decode cc pc = .ok (.bastore, 1)) (k : ∀ σ1 : hp_S, tj_T E X own ini cc nL ret d hh n0 s0 emb σ1 (pc + 1) L st (f ())) : tj_T E X own ini cc nL ret d hh n0 s0 emb σ pc L (.int x :: .int i :: va_rf v :: st) (mx_bind (mx_ast 101 v i (.int x.toInt8.toInt32)) f) := by
  refine tj_wr (P := fun σ1 => hp_sta 101 σ v i (.int x.toInt8.toInt32) = some σ1) (fun r h => mx_ast_some h) (fun σ1 hx B H locs c s Q ls hR hlo hl kk => ?_) k
  obtain ⟨a, vs, e, hG, hi, hbs, hlt, e2⟩ := hp_sta_some hx
  subst e
  subst e2
  have hba : tj_b E ≤ a := by rw [← hR.2.1]; exact hbs
  obtain ⟨cell, q1, q2, q3, q3', q4, q5, q6, q7⟩ := tj_arr (X := X) (tj_ak B 1 rfl).1 (by decide) hR hG
  exact W.bast B.ex B.co q1 q2 q3 (by rw [q7]; exact tj_inB hi hlt) rfl rfl hd fun H' e1 z o => kk H' _ (hR.put (cell := cell) hba z o (tj_staAt (by decide) q3 q3' q4 q5 q6 q7 hlt e1)) (t_lc hlo hba)
theorem tj_last {v : Option Nat} {i : Int32} {x : Int64} {f : Unit → mx_M α} (hd : decode cc pc = .ok (.lastore, 1)) (k : ∀ σ1 : hp_S, tj_T E X own ini cc nL ret d hh n0 s0 emb σ1 (pc + 1) L st (f ())) : tj_T E X own ini cc nL ret d hh n0 s0 emb σ pc L (.long x :: .int i :: va_rf v :: st) (mx_bind (mx_ast 102 v i (.long x)) f) := by
  refine tj_wr (P := fun σ1 => hp_sta 102 σ v i (.long x) = some σ1) (fun r h => mx_ast_some h) (fun σ1 hx B H locs c s Q ls hR hlo hl kk => ?_) k
  obtain ⟨a, vs, e, hG, hi, hbs, hlt, e2⟩ := hp_sta_some hx
  subst e
  subst e2
  have hba : tj_b E ≤ a := by rw [← hR.2.1]; exact hbs
  obtain ⟨cell, q1, q2, q3, q3', q4, q5, q6, q7⟩ := tj_arr (X := X) (tj_ak B 2 rfl).1 (by decide) hR hG
  exact W.last B.ex B.co q1 q2 q3 (by rw [q7]; exact tj_inB hi hlt) rfl rfl hd fun H' e1 z o => kk H' _ (hR.put (cell := cell) hba z o (tj_staAt (by decide) q3 q3' q4 q5 q6 q7 hlt e1)) (t_lc hlo hba)
theorem tj_dast {v : Option Nat} {i : Int32} {x : UInt64} {f : Unit → mx_M α} (hd : decode cc pc = .ok (.dastore, 1)) (k : ∀ σ1 : hp_S, tj_T E X own ini cc nL ret d hh n0 s0 emb σ1 (pc + 1) L st (f ())) : tj_T E X own ini cc nL ret d hh n0 s0 emb σ pc L (.double x :: .int i :: va_rf v :: st) (mx_bind (mx_ast 103 v i (.double x)) f) := by
  refine tj_wr (P := fun σ1 => hp_sta 103 σ v i (.double x) = some σ1) (fun r h => mx_ast_some h) (fun σ1 hx B H locs c s Q ls hR hlo hl kk => ?_) k
  obtain ⟨a, vs, e, hG, hi, hbs, hlt, e2⟩ := hp_sta_some hx
  subst e
  subst e2
  have hba : tj_b E ≤ a := by rw [← hR.2.1]; exact hbs
  obtain ⟨cell, q1, q2, q3, q3', q4, q5, q6, q7⟩ := tj_arr (X := X) (tj_ak B 3 rfl).1 (by decide) hR hG
  exact W.dast B.ex B.co q1 q2 q3 (by rw [q7]; exact tj_inB hi hlt) rfl rfl hd fun H' e1 z o => kk H' _ (hR.put (cell := cell) hba z o (tj_staAt (by decide) q3 q3' q4 q5 q6 q7 hlt e1)) (t_lc hlo hba)
theorem hp_tag_some {v : Option Nat} {t : Nat} (h : hp_tag σ v = some t) : ∃ (a : Nat) (fs : List Value), v = some a ∧ hp_G σ a = some (t, fs) := by
  unfold hp_tag at h
  obtain ⟨a, h1, h2⟩ := Option.bind_eq_some_iff.mp h
  obtain ⟨o, h3, h4⟩ := Option.map_eq_some_iff.mp h2
  subst h4
  exact ⟨a, o.2, h1, h3⟩
/-- every class of the table may stand in an Object[] -/
theorem tj_anyO (B : tj_C E X own ini cc nL ret d hh) {b t : Nat} {fs : List Value} (hR : tj_R E σ H) (hG : hp_G σ b = some (t, fs)) (ht : t < 100) : va_Any "java/lang/Object" (xs X) H b := by
  obtain ⟨cell, q1, q2, q3, q4, q5, q6, -, q8⟩ := hR.2.2.2.2.2 b _ hG
  obtain ⟨q, hq, -⟩ := q8 ht
  have hK := (B.ev.1.1 t q hq).2
  have e : cell.cls = E.1.1 t := by rw [q5]; unfold tj_cls; rw [if_pos ht]
  obtain ⟨hfc, kC, hkC, -⟩ := hK
  refine ⟨cell, q1, q3, ⟨kC, by rw [e]; exact hkC⟩, fun comp hc => ?_⟩
  have hca : va_Nw (.castable q.1 "java/lang/Object") (xs X) := B.ev.2.1 _ (cl_obj q (List.mem_of_getElem? hq)) rfl
  obtain ⟨c0, t1, f1, f2, f3⟩ := Cond.castable_spec (va_Nw.use (A := xa X) rfl hca)
  cases hfc.symm.trans f1
  cases hc.symm.trans f2
  rw [e]
  exact f3
theorem tj_aast {v w : Option Nat} {i : Int32} {f : Unit → mx_M α} (hd : decode cc pc = .ok (.aastore, 1)) (k : ∀ σ1 : hp_S, tj_T E X own ini cc nL ret d hh n0 s0 emb σ1 (pc + 1) L st (f ())) : tj_T E X own ini cc nL ret d hh n0 s0 emb σ pc L (va_rf w :: .int i :: va_rf v :: st) (mx_bind (mx_astR v i w) f) := by
  refine tj_wr (P := fun σ1 => hp_okR σ w = true ∧ hp_sta 104 σ v i (va_rf w) = some σ1) (fun r h => ?_) (fun σ1 hx B H locs c s Q ls hR hlo hl kk => ?_) k
  · unfold mx_astR at h
    split at h
    · rename_i ho
      obtain ⟨σ1, h1, h2, h3, h4⟩ := mx_ast_some (show mx_ast 104 v i (va_rf w) σ = some r from h)
      exact ⟨σ1, h1, h2, h3, ho, h4⟩
    · cases h
  · obtain ⟨ho, hx⟩ := hx
    obtain ⟨a, vs, e, hG, hi, hbs, hlt, e2⟩ := hp_sta_some hx
    subst e
    subst e2
    have hba : tj_b E ≤ a := by rw [← hR.2.1]; exact hbs
    obtain ⟨hA, hRA⟩ := tj_ak B 4 (t := 104) rfl
    obtain ⟨cell, q1, q2, q3, q3', q4, q5, q6, q7⟩ := tj_arr (X := X) hA (by decide) hR hG
    have fin : ∀ H' : Heap, H'[a]? = some (cell.setSlot i.toNatClampNeg (va_rf w)) → H'.size = H.size → (∀ q, q ≠ a → H'[q]? = H[q]?) → tj_W X H' (locs ++ [⟨a, i.toNatClampNeg⟩]) c s Q (F0 (xm X) (pc + 1) ls st) := fun H' e1 z o => kk H' _ (hR.put (cell := cell) hba z o (tj_staAt (by decide) q3 q3' q4 q5 q6 q7 hlt e1)) (t_lc hlo hba)
    cases w with
    | none => exact va_WaastN B.ex B.co q1 q2 q3 (by rw [q7]; exact tj_inB hi hlt) rfl rfl hd fin
    | some b =>
      unfold hp_okR at ho
      split at ho
      · rename_i h0; cases h0
      · rename_i b0 e0
        cases e0
        split at ho
        · rename_i t ht
          obtain ⟨b', fs, e9, hGb⟩ := hp_tag_some ht
          cases e9
          obtain ⟨cellV, g1, g3, ⟨kC, hkC⟩, hasg⟩ := tj_anyO B hR hGb (of_decide_eq_true ho)
          obtain ⟨kA, comp, k1, k2, k3, -⟩ := hRA
          obtain ⟨kE, hkE, -⟩ := Vm.findClass_spec k3
          have e5 : cell.cls = tj_a E 104 := by rw [q5]; rfl
          exact W.aast B.ex B.co q1 (fun q h => by rw [h] at q3'; cases q3') q3 (by rw [e5]; exact k1) k2 rfl hkE ⟨hi, by rw [q7]; exact hlt⟩ g1 (fun q h => by rw [h] at g3; cases g3) hkC (hasg _ k3) rfl rfl hd fin
        · cases ho
theorem tj_R.add (hR : tj_R E σ H) {o : hp_O} {k : Nat} {H' : Heap} (hz : H'.size = H.size + 1) (ho : ∀ q : Nat, q < H.size → H'[q]? = H[q]?) (hat : tj_at E (hp_n σ) o H') : tj_R E (hp_add σ o k) H' := by
  obtain ⟨h1, h2, h3, h4, h5, h6⟩ := hR
  refine ⟨by rw [hz, h1]; rfl, h2, h3, Nat.le_succ_of_le h4, fun q hq => by rw [ho q (by omega)]; exact h5 q hq, fun b o' hb' => ?_⟩
  rw [hp_G_add] at hb'
  by_cases e : b = hp_n σ
  · rw [if_pos e] at hb'
    cases hb'
    rw [e]
    exact hat
  · rw [if_neg e] at hb'
    obtain ⟨c9, g1, g2⟩ := h6 b o' hb'
    exact ⟨c9, by rw [ho b (Array.getElem?_eq_some_iff.mp g1).1]; exact g1, g2⟩
/-- a step that makes a cell -/
theorem tj_mk {m : mx_M Nat} {f : Nat → mx_M α} {o : hp_O} {sz : Nat} {st' : List Value} {pc' : Nat} (hm : ∀ r, m σ = some r → r = (.inl (hp_n σ), hp_add σ o sz)) (h : (∃ r, m σ = some r) → tj_C E X own ini cc nL ret d hh → ∀ (H : Heap) (locs : List Loc) (c s : Nat) (Q : State → Prop) (ls : Array Slot), tj_R E σ H → tj_lo E locs → tj_ls ls nL L → c + 1 ≤ (xR X).cells → s + sz ≤ (xR X).slots → (∀ (H' : Heap), tj_R E (hp_add σ o sz) H' → tj_W X H' locs (c + 1) (s + sz) Q (F0 (xm X) pc' ls (va_rf (some (hp_n σ)) :: st'))) → tj_W X H locs c s Q (F0 (xm X) pc ls st)) (k : ∀ (a : Nat) (σ1 : hp_S), tj_T E X own ini cc nL ret d hh n0 s0 emb σ1 pc' L (va_rf (some a) :: st') (f a)) : tj_T E X own ini cc nL ret d hh n0 s0 emb σ pc L st (mx_bind m f) := by
  intro oo σe hx
  rcases mx_bind_some hx with ⟨v, σ1, g1, g2⟩ | ⟨q, σ1, g1, g2⟩
  · have e := hm _ g1
    cases e
    obtain ⟨h1, h2⟩ := k (hp_n σ) (hp_add σ o sz) oo σe g2
    rw [hp_n_add, hp_s_add] at h1
    refine ⟨⟨by omega, by omega⟩, fun B H locs ls a b c d e f g => ?_⟩
    refine h ⟨_, g1⟩ B H locs _ _ _ ls a b c (by omega) (by omega) (fun H' r1 => ?_)
    have := h2 B H' locs ls r1 b c (by rw [hp_n_add]; omega) (by rw [hp_s_add]; omega) f g
    rw [hp_n_add, hp_s_add, show hp_n σ + 1 - n0 = hp_n σ - n0 + 1 by omega, show hp_s σ + sz - s0 = hp_s σ - s0 + sz by omega] at this
    exact this
  · cases hm _ g1
/-- what 'new' of a class asks: the words, the fields as they begin -/
def nw_ok (own : String) (idx t : Nat) (fs : List Value) (n : Nat) : Prop := ∃ (C : String) (T : u_T) (N : Nat), cl_ok t C T N ∧ Cond.classLink own idx C ∈ lw_all ∧ Cond.instantiable C n ∈ lw_all ∧ Cond.initialized C ∈ lw_all ∧ fs.length ≤ N ∧ ∀ (j : Nat) (v : Value), fs[j]? = some v → ∃ ty, parseFieldDescriptor (T j).2.2.1 = some ty ∧ defaultValue ty = v
theorem tj_new {idx t n : Nat} {fs : List Value} {f : Nat → mx_M α} (hw : nw_ok own idx t fs n) (hd : decode cc pc = .ok (.new idx, 3)) (k : ∀ (a : Nat) (σ1 : hp_S), tj_T E X own ini cc nL ret d hh n0 s0 emb σ1 (pc + 3) L (va_rf (some a) :: st) (f a)) : tj_T E X own ini cc nL ret d hh n0 s0 emb σ pc L st (mx_bind (mx_new (t, fs) n) f) := by
  refine tj_mk (o := (t, fs)) (sz := n) (fun r h => by cases h; rfl) (fun _ B H locs c s Q ls hR hlo hl hc hs kk => ?_) k
  obtain ⟨C, T, N, hcl, w1, w2, w3, hlen, hfs⟩ := hw
  obtain ⟨hS, hfc, kC, hkC, hkind⟩ := tj_kn B hcl
  refine W.newcK B.ex B.co B.ow (B.ts _ w1) (B.ts _ w2) (B.ts _ w3) rfl hd hc hs hfc hR.1 fun H' kC2 hk2 e1 e2 e3 => kk H' (hR.add (by rw [e2, hR.1]) (fun q hq => e3 q (by rw [← hR.1]; exact hq)) ?_)
  refine ⟨_, e1, (fun h => by cases h), rfl, (fun _ => rfl), rfl, (fun j v hj => ?_), (fun h => absurd hcl.1 (by show ¬ t < 100; exact Nat.not_lt.mpr h)), (fun _ => ⟨_, hcl.2.1, hlen⟩)⟩
  obtain ⟨ty, h1, h2⟩ := hfs j v hj
  have hjN : j < N := Nat.lt_of_lt_of_le (List.getElem?_eq_some_iff.mp hj).1 hlen
  obtain ⟨cf, kf, fi, fd, hi, he⟩ := hS j hjN
  have h3 := (u_facts hfc hk2 (u_lays B.ts hcl.2.2.1 hjN) hi).2.2
  rw [(State.fieldFound?_type hi h1).2] at h3
  show (blank (tj_cls E t) kC2).slots[tj_sl E t j]? = some v
  rw [← he, ← h2]
  exact k2_blank h3
theorem tj_arrAt {t : Nat} {N : Nat} {w : Value} {a : Nat} {cell : Cell} {H' : Heap} (ht : 100 ≤ t) (e1 : H'[a]? = some cell) (h1 : cell.cls = tj_a E t) (h2 : cell.vm = .none) (h3 : cell.slots.size = N) (h4 : ∀ j : Nat, j < N → cell.slots[j]? = some w) : tj_at E a (t, List.replicate N w) H' := by
  refine ⟨cell, e1, (by rw [h2]; exact fun h => by cases h), (by rw [h2]; rfl), (fun _ => h2), (by rw [h1]; show tj_a E t = tj_cls E t; unfold tj_cls; rw [if_neg (by omega)]), (fun j v hj => ?_), (fun _ => by rw [h3]; exact (List.length_replicate).symm), (fun h => absurd h (by show ¬ t < 100; omega))⟩
  rw [show tj_sl E (t, List.replicate N w).1 j = j by show tj_sl E t j = j; unfold tj_sl; rw [if_neg (by omega)]]
  have hjN : j < N := by
    have := (List.getElem?_eq_some_iff.mp hj).1
    simpa using this
  rw [show (t, List.replicate N w).2 = List.replicate N w from rfl, List.getElem?_replicate, if_pos hjN] at hj
  cases hj
  exact h4 j hjN
theorem mx_newa_some {t : Nat} {w : Value} {n : Int32} {r : (Nat ⊕ Nat) × hp_S} (h : mx_newa t w n σ = some r) : ¬ n < 0 ∧ n.toNatClampNeg * 8 ≤ 536870912 ∧ r = (.inl (hp_n σ), hp_add σ (t, List.replicate n.toNatClampNeg w) n.toNatClampNeg) := by
  unfold mx_newa at h
  split at h
  · cases h
  · rename_i h0
    split at h
    · rename_i h1
      cases h
      exact ⟨h0, h1, rfl⟩
    · cases h
theorem tj_newaP (i : Nat) {t : Nat} {ty : FieldType} {aty : ArrayType} {n : Int32} {w : Value} {f : Nat → mx_M α} (ht : 100 ≤ t) (hty : newarray.typeOf aty = ty) (hi : (cl_arr (tj_a E))[i]? = some (tj_a E t, ty)) (hprim : ∀ C, ty ≠ .object C) (hw : defaultValue ty = w) (hcb : componentBytes ty ≤ 8) (hq : Cond.arrayClass ty ∈ lw_all) (hd : decode cc pc = .ok (.newarray aty, 2)) (k : ∀ (a : Nat) (σ1 : hp_S), tj_T E X own ini cc nL ret d hh n0 s0 emb σ1 (pc + 2) L (va_rf (some a) :: st) (f a)) : tj_T E X own ini cc nL ret d hh n0 s0 emb σ pc L (.int n :: st) (mx_bind (mx_newa t w n) f) := by
  refine tj_mk (o := (t, List.replicate n.toNatClampNeg w)) (sz := n.toNatClampNeg) (fun r h => (mx_newa_some h).2.2) (fun hex B H locs c s Q ls hR hlo hl hc hs kk => ?_) k
  obtain ⟨r, hr⟩ := hex
  obtain ⟨h0, h1, -⟩ := mx_newa_some hr
  subst hty
  have hbb : n.toNatClampNeg * componentBytes (newarray.typeOf aty) ≤ 536870912 := Nat.le_trans (Nat.mul_le_mul_left _ hcb) h1
  refine va_newaK B.ex B.co (B.ts _ hq) rfl hd rfl h0 rfl hbb hc hs hR.1 fun H' cA e1 e2 e3 e4 e5 => kk H' (hR.add (by rw [e2, hR.1]) (fun q hq => e3 q (by rw [← hR.1]; exact hq)) ?_)
  have hRA := (tj_ak B i hi).2
  have hf : (xs X).vm.findClass ("[" ++ (newarray.typeOf aty).toString) = some (tj_a E t) := by
    revert hRA
    unfold va_RA
    generalize newarray.typeOf aty = ty at hprim ⊢
    cases ty <;> first
      | (intro h; exact h)
      | (exact absurd rfl (hprim _))
  have e6 : cA = tj_a E t := Option.some.inj (e5.symm.trans hf)
  refine tj_arrAt ht e1 e6 rfl (by rw [arrV_size]) (fun j hj => ?_)
  rw [arrV_read _ _ hj, hw]
theorem tj_newI {n : Int32} {f : Nat → mx_M α} (hq : Cond.arrayClass .int ∈ lw_all) (hd : decode cc pc = .ok (.newarray .int, 2)) (k : ∀ (a : Nat) (σ1 : hp_S), tj_T E X own ini cc nL ret d hh n0 s0 emb σ1 (pc + 2) L (va_rf (some a) :: st) (f a)) : tj_T E X own ini cc nL ret d hh n0 s0 emb σ pc L (.int n :: st) (mx_bind (mx_newa 100 (.int 0) n) f) := tj_newaP (ty := .int) 0 (by decide) rfl rfl (fun C h => by cases h) rfl (by decide) hq hd k
theorem tj_newB {n : Int32} {f : Nat → mx_M α} (hq : Cond.arrayClass .byte ∈ lw_all) (hd : decode cc pc = .ok (.newarray .byte, 2)) (k : ∀ (a : Nat) (σ1 : hp_S), tj_T E X own ini cc nL ret d hh n0 s0 emb σ1 (pc + 2) L (va_rf (some a) :: st) (f a)) : tj_T E X own ini cc nL ret d hh n0 s0 emb σ pc L (.int n :: st) (mx_bind (mx_newa 101 (.int 0) n) f) := tj_newaP (ty := .byte) 1 (by decide) rfl rfl (fun C h => by cases h) rfl (by decide) hq hd k
theorem tj_newL {n : Int32} {f : Nat → mx_M α} (hq : Cond.arrayClass .long ∈ lw_all) (hd : decode cc pc = .ok (.newarray .long, 2)) (k : ∀ (a : Nat) (σ1 : hp_S), tj_T E X own ini cc nL ret d hh n0 s0 emb σ1 (pc + 2) L (va_rf (some a) :: st) (f a)) : tj_T E X own ini cc nL ret d hh n0 s0 emb σ pc L (.int n :: st) (mx_bind (mx_newa 102 (.long 0) n) f) := tj_newaP (ty := .long) 2 (by decide) rfl rfl (fun C h => by cases h) rfl (by decide) hq hd k
theorem tj_newD {n : Int32} {f : Nat → mx_M α} (hq : Cond.arrayClass .double ∈ lw_all) (hd : decode cc pc = .ok (.newarray .double, 2)) (k : ∀ (a : Nat) (σ1 : hp_S), tj_T E X own ini cc nL ret d hh n0 s0 emb σ1 (pc + 2) L (va_rf (some a) :: st) (f a)) : tj_T E X own ini cc nL ret d hh n0 s0 emb σ pc L (.int n :: st) (mx_bind (mx_newa 103 (.double 0) n) f) := tj_newaP (ty := .double) 3 (by decide) rfl rfl (fun C h => by cases h) rfl (by decide) hq hd k
theorem tj_newO {n : Int32} {idx : Nat} {f : Nat → mx_M α} (hq : Cond.classLink own idx "java/lang/Object" ∈ lw_all) (hd : decode cc pc = .ok (.anewarray idx, 3)) (k : ∀ (a : Nat) (σ1 : hp_S), tj_T E X own ini cc nL ret d hh n0 s0 emb σ1 (pc + 3) L (va_rf (some a) :: st) (f a)) : tj_T E X own ini cc nL ret d hh n0 s0 emb σ pc L (.int n :: st) (mx_bind (mx_newa 104 .null n) f) := by
  refine tj_mk (o := (104, List.replicate n.toNatClampNeg .null)) (sz := n.toNatClampNeg) (fun r h => (mx_newa_some h).2.2) (fun hex B H locs c s Q ls hR hlo hl hc hs kk => ?_) k
  obtain ⟨r, hr⟩ := hex
  obtain ⟨h0, h1, -⟩ := mx_newa_some hr
  obtain ⟨-, kA, comp, r1, r2, r3, r4⟩ := tj_ak B 4 (t := 104) rfl
  refine W.anew B.ex B.co B.ow (B.ts _ hq) (va_AO.use B.ev.2.2.2.1) rfl hd rfl h0 (by omega) hc hs fun cA kA2 comp2 g1 g2 g3 g4 => ?_
  rw [hR.1]
  have e6 : cA = tj_a E 104 := Option.some.inj (g1.symm.trans r4)
  refine kk _ (hR.add (by rw [Array.size_push]) (fun q hq => by rw [Array.getElem?_push, if_neg (Nat.ne_of_lt hq)]) ?_)
  refine tj_arrAt (cell := { cls := cA, slots := Array.replicate n.toNatClampNeg .null, vm := .none }) (by decide) (by rw [← hR.1]; simp) e6 rfl (by simp) (fun j hj => ?_)
  simp [hj]
end TJ4
