/-! ROWS: fields, arrays, new cells, constants, casts -/
section TJ3
variable {α β : Type} {E : tj_E} {X : tj_X} {own ini : String} {cc : ByteArray} {nL : Nat} {ret : Option FieldType} {d : Nat} {hh : List (Nat × Nat × Nat × Nat)} {n0 s0 : Nat} {emb : α → Option Value} {σ : hp_S} {pc : Nat} {L : List (Option Value)} {st : List Value} {pr : mx_M α} {H : Heap} {locs : List Loc} {ls : Array Slot} {cells slots : Nat} {Q : State → Prop}
theorem tj_kn (B : tj_C E X own ini cc nL ret d hh) {t : Nat} {C : String} {T : u_T} {N : Nat} (h : cl_ok t C T N) : u_Kn (xs X) C T N (tj_cls E t) (tj_sl E t) := by
  obtain ⟨h1, h2, -⟩ := h
  have h3 := B.ev.1.1 t (C, T, N) h2
  have e1 : tj_cls E t = E.1.1 t := by unfold tj_cls; rw [if_pos h1]
  have e2 : tj_sl E t = E.1.2 t := by funext k; unfold tj_sl; rw [if_pos h1]
  rw [e1, e2]
  exact h3
/-- a field by the pool entry idx of own: the object of tag t has it at k -/
def fd_ok (own : String) (idx t k : Nat) (fin : Nat) (ty : FieldType) : Prop := ∃ (C : String) (T : u_T) (N : Nat) (ref : String), cl_ok t C T N ∧ k < N ∧ (Cond.fieldLink own idx ref (T k).2.1 (T k).2.2.1 ∈ lw_all ∨ ∃ host, Cond.fieldLinkNest own idx ref (T k).2.1 (T k).2.2.1 host ∈ lw_tbl) ∧ (ref = (T k).1 ∨ Cond.sameField ref (T k).1 (T k).2.1 (T k).2.2.1 ∈ lw_all) ∧ parseFieldDescriptor (T k).2.2.1 = some ty ∧ (fin ≤ 1 → (T k).2.2.2 = (fin == 1)) ∧ (fin = 1 → (T k).1 = own)
theorem fd_nil {own : String} {idx : Nat} {fin : Nat} {ty : FieldType} : ∀ t k, ([] : List (Nat × Nat)).lookup t = some k → fd_ok own idx t k fin ty := fun t k h => by cases h
theorem fd_cons {own : String} {idx t0 k0 : Nat} {fin : Nat} {ty : FieldType} {cs : List (Nat × Nat)} (h : fd_ok own idx t0 k0 fin ty) (hs : ∀ t k, cs.lookup t = some k → fd_ok own idx t k fin ty) : ∀ t k, ((t0, k0) :: cs).lookup t = some k → fd_ok own idx t k fin ty := by
  intro t k hk
  rw [List.lookup_cons] at hk
  by_cases e : t = t0
  · subst e
    rw [beq_self_eq_true] at hk
    cases hk
    exact h
  · rw [beq_eq_false_iff_ne.mpr e] at hk
    exact hs t k hk
theorem tj_getW (B : tj_C E X own ini cc nL ret d hh) {idx t k : Nat} {fin : Nat} {ty : FieldType} (hf : fd_ok own idx t k fin ty) {a : Nat} {fs : List Value} {w : Value} (hR : tj_R E σ H) (hG : hp_G σ a = some (t, fs)) (hk : fs[k]? = some w) (hd : decode cc pc = .ok (.getfield idx, 3)) (kk : tj_W X H locs cells slots Q (F0 (xm X) (pc + 3) ls (w :: st))) : tj_W X H locs cells slots Q (F0 (xm X) pc ls (.ref a :: st)) := by
  obtain ⟨C, T, N, ref, hcl, hkN, hlink, hsame, hty, -, -⟩ := hf
  obtain ⟨hS, hfc, kC, hkC, hkind⟩ := tj_kn B hcl
  obtain ⟨cell, q1, q2, q3, q4, q5, q6, -⟩ := hR.2.2.2.2.2 a _ hG
  obtain ⟨cf, kf, fi, f, hi, hsl⟩ := hS k hkN
  have hi2 : (xs X).fieldFound? ref (T k).2.1 (T k).2.2.1 = some (cf, kf, fi, f) := by
    rcases hsame with h | h
    · rw [h]; exact hi
    · exact u_same (B.ts _ h) _ hi
  have hst := (u_facts hfc hkC (u_lays B.ts hcl.2.2.1 hkN) hi).1
  have hsv : cell.slots[f.slot]? = some w := by rw [hsl]; exact q6 k w hk
  rcases hlink with h | ⟨host, h⟩
  · exact W.getf B.ex B.co B.ow (B.ts _ h) hi2 hst q1 q2 hsv rfl rfl hd kk
  · exact va_Wgetf B.ex B.co B.ow (va_Nw.use rfl (B.ev.2.1 _ h rfl)) hi2 hst q1 q2 hsv rfl rfl hd kk
theorem tj_ap (B : tj_C E X own ini cc nL ret d hh) {t : Nat} {C : String} {T : u_T} {N : Nat} (h : cl_ok t C T N) : ∀ x y, x < N → y < N → x ≠ y → tj_sl E t x ≠ tj_sl E t y := by
  obtain ⟨ty, hty⟩ := h.2.2.2.1
  obtain ⟨hS, -⟩ := tj_kn B h
  intro x y hx hy hne
  obtain ⟨_, _, _, fa, hia, ea⟩ := hS x hx
  obtain ⟨_, _, _, fb, hib, eb⟩ := hS y hy
  rw [← ea, ← eb]
  refine u_apart (u_lays B.ts h.2.2.1 hx) (u_lays B.ts h.2.2.1 hy) hia hib ?_
  rw [(State.fieldFound?_type hia (hty x hx)).1, (State.fieldFound?_type hib (hty y hy)).1]
  exact h.2.2.2.2 x hx y hy hne
theorem tj_R.put (hR : tj_R E σ H) {a : Nat} {o : hp_O} {cell : Cell} {H' : Heap} (hb : tj_b E ≤ a) (hz : H'.size = H.size) (ho : ∀ q : Nat, q ≠ a → H'[q]? = H[q]?) (hat : tj_at E a o H') : tj_R E (hp_set σ a o) H' := by
  obtain ⟨h1, h2, h3, h4, h5, h6⟩ := hR
  refine ⟨by rw [hz]; exact h1, h2, h3, h4, fun q hq => by rw [ho q (by omega)]; exact h5 q hq, fun b o' hb' => ?_⟩
  rw [hp_G_set] at hb'
  by_cases e : b = a
  · subst e
    rw [if_pos rfl] at hb'
    cases hb'
    exact hat
  · rw [if_neg e] at hb'
    obtain ⟨c9, g1, g2⟩ := h6 b o' hb'
    exact ⟨c9, by rw [ho b e]; exact g1, g2⟩
theorem tj_putAt (B : tj_C E X own ini cc nL ret d hh) {t k : Nat} {C : String} {T : u_T} {N : Nat} (hcl : cl_ok t C T N) (hkN : k < N) {a : Nat} {fs : List Value} {w : Value} {cell : Cell} {H' : Heap} (q2 : cell.vm ≠ .unknown) (q3 : cell.vm.isStatics = false) (q4 : tj_b E ≤ a → cell.vm = .none) (q5 : cell.cls = tj_cls E t) (q6 : ∀ (k : Nat) (v : Value), fs[k]? = some v → cell.slots[tj_sl E t k]? = some v) (q8 : t < 100 → ∃ q : vw_C, cl_tab[t]? = some q ∧ fs.length ≤ q.2.2) (hl : k < fs.length) (e1 : H'[a]? = some (cell.setSlot (tj_sl E t k) w)) : tj_at E a (t, fs.set k w) H' := by
  refine ⟨_, e1, q2, q3, q4, q5, fun j v hj => ?_, fun h => absurd hcl.1 (by omega), fun h => ?_⟩
  · obtain ⟨q, g1, g2⟩ := q8 hcl.1
    cases g1.symm.trans hcl.2.1
    by_cases e : j = k
    · subst e
      rw [List.getElem?_set_self hl] at hj
      cases hj
      have hlt : tj_sl E t j < cell.slots.size := (Array.getElem?_eq_some_iff.mp (q6 j fs[j] (List.getElem?_eq_getElem hl))).1
      show (cell.slots.setIfInBounds (tj_sl E t j) w)[tj_sl E t j]? = some w
      simp [hlt]
    · rw [List.getElem?_set_ne (Ne.symm e)] at hj
      have hjl : j < fs.length := (List.getElem?_eq_some_iff.mp hj).1
      have hne := tj_ap B hcl k j hkN (Nat.lt_of_lt_of_le hjl g2) (Ne.symm e)
      rw [slot_ne cell w hne]
      exact q6 j v hj
  · obtain ⟨q, g1, g2⟩ := q8 h
    exact ⟨q, g1, by simpa using g2⟩
theorem tj_putW (B : tj_C E X own ini cc nL ret d hh) {idx t k : Nat} {ty : FieldType} (hf : fd_ok own idx t k 0 ty) {a : Nat} {fs : List Value} {w : Value} (hR : tj_R E σ H) (hlo : tj_lo E locs) (hG : hp_G σ a = some (t, fs)) (hbs : hp_b σ ≤ a) (hl : k < fs.length) (hn : narrow ty w = w) (hft : fits ty w = true) (hd : decode cc pc = .ok (.putfield idx, 3))
    (kk : ∀ (H' : Heap) (locs' : List Loc), tj_R E (hp_set σ a (t, fs.set k w)) H' → tj_lo E locs' → tj_W X H' locs' cells slots Q (F0 (xm X) (pc + 3) ls st)) : tj_W X H locs cells slots Q (F0 (xm X) pc ls (w :: .ref a :: st)) := by
  obtain ⟨C, T, N, ref, hcl, hkN, hlink, hsame, hty, hfin, -⟩ := hf
  have hfin : (T k).2.2.2 = false := hfin (by decide)
  obtain ⟨hS, hfc, kC, hkC, hkind⟩ := tj_kn B hcl
  obtain ⟨cell, q1, q2, q3, q4, q5, q6, -, q8⟩ := hR.2.2.2.2.2 a _ hG
  obtain ⟨cf, kf, fi, f, hi, hsl⟩ := hS k hkN
  have hi2 : (xs X).fieldFound? ref (T k).2.1 (T k).2.2.1 = some (cf, kf, fi, f) := by
    rcases hsame with h | h
    · rw [h]; exact hi
    · exact u_same (B.ts _ h) _ hi
  have hst := (u_facts hfc hkC (u_lays B.ts hcl.2.2.1 hkN) hi).1
  have hba : tj_b E ≤ a := by rw [← hR.2.1]; exact hbs
  have hlay := B.ts _ (hcl.2.2.1 _ (u_in_lay hkN))
  unfold u_lay at hlay
  rw [if_neg (by rw [hfin]; decide)] at hlay
  have h6 := u_store hfc hkC hkind hlay hi hty hn hft
  have hslt : f.slot < cell.slots.size := by rw [hsl]; exact k2_hasslot (q6 k fs[k] (List.getElem?_eq_getElem hl))
  have fin : ∀ H' : Heap, H'[a]? = some (cell.setSlot f.slot w) → H'.size = H.size → (∀ q, q ≠ a → H'[q]? = H[q]?) → tj_W X H' (locs ++ [⟨a, f.slot⟩]) cells slots Q (F0 (xm X) (pc + 3) ls st) := by
    intro H' e1 e2 e3
    refine kk H' _ (hR.put (cell := cell) hba e2 e3 ?_) (t_lc hlo hba)
    rw [hsl] at e1
    exact tj_putAt B hcl hkN q2 q3 q4 q5 q6 q8 hl e1
  rcases hlink with h | ⟨host, h⟩
  · exact W.putK B.ex B.co (f := f) ⟨B.ow, B.ts _ h, ⟨_, _, _, hi2⟩, hst⟩ (by rw [q5]; exact h6) q1 (q4 hba) hslt rfl rfl hd fin
  · exact va_WputK B.ex B.co B.ow (va_Nw.use rfl (B.ev.2.1 _ h rfl)) hi2 hst (by rw [q5]; exact h6) q1 (q4 hba) hslt rfl rfl hd fin
theorem tj_putFW (B : tj_C E X own "<init>" cc nL ret d hh) {idx t k : Nat} {ty : FieldType} (hf : fd_ok own idx t k 1 ty) {a : Nat} {fs : List Value} {w : Value} (hR : tj_R E σ H) (hlo : tj_lo E locs) (hG : hp_G σ a = some (t, fs)) (hbs : hp_b σ ≤ a) (hl : k < fs.length) (hn : narrow ty w = w) (hft : fits ty w = true) (hd : decode cc pc = .ok (.putfield idx, 3))
    (kk : ∀ (H' : Heap) (locs' : List Loc), tj_R E (hp_set σ a (t, fs.set k w)) H' → tj_lo E locs' → tj_W X H' locs' cells slots Q (F0 (xm X) (pc + 3) ls st)) : tj_W X H locs cells slots Q (F0 (xm X) pc ls (w :: .ref a :: st)) := by
  obtain ⟨C, T, N, ref, hcl, hkN, hlink, hsame, hty, hfin, hdecl⟩ := hf
  have hfin : (T k).2.2.2 = true := hfin (by decide)
  obtain ⟨hS, hfc, kC, hkC, hkind⟩ := tj_kn B hcl
  obtain ⟨cell, q1, q2, q3, q4, q5, q6, -, q8⟩ := hR.2.2.2.2.2 a _ hG
  obtain ⟨cf, kf, fi, f, hi, hsl⟩ := hS k hkN
  have hi2 : (xs X).fieldFound? ref (T k).2.1 (T k).2.2.1 = some (cf, kf, fi, f) := by
    rcases hsame with h | h
    · rw [h]; exact hi
    · exact u_same (B.ts _ h) _ hi
  have hst := (u_facts hfc hkC (u_lays B.ts hcl.2.2.1 hkN) hi).1
  have hba : tj_b E ≤ a := by rw [← hR.2.1]; exact hbs
  have hlay := B.ts _ (hcl.2.2.1 _ (u_in_lay hkN))
  unfold u_lay at hlay
  rw [if_pos hfin] at hlay
  have hcf : (xm X).cls = cf := by
    obtain ⟨_, _, c', _, _, _, -, -, hf', -, -, -, hown2, -⟩ := Cond.laysFinal_spec hlay
    have e1 : c' = cf := by have := hi.symm.trans hf'; simp at this; exact this.1.symm
    rw [hdecl rfl] at hown2
    rw [← e1]; exact Option.some.inj (B.ow.symm.trans hown2)
  have h6 := u_fits hfc hkC hkind (Or.inr hlay) hi hty hn hft
  have hslt : f.slot < cell.slots.size := by rw [hsl]; exact k2_hasslot (q6 k fs[k] (List.getElem?_eq_getElem hl))
  rcases hlink with h | ⟨host, h⟩
  · refine W.putFinK B.ex B.co B.ow (B.ts _ h) hi2 hst hcf B.nm (by rw [q5]; exact h6) q1 (q4 hba) hslt rfl rfl hd fun H' e1 e2 e3 => ?_
    refine kk H' _ (hR.put (cell := cell) hba e2 e3 ?_) (t_lc hlo hba)
    rw [hsl] at e1
    exact tj_putAt B hcl hkN q2 q3 q4 q5 q6 q8 hl e1
  · refine va_Wputf B.ex B.co B.ow (va_Nw.use rfl (B.ev.2.1 _ h rfl)) hi2 hst (Or.inr ⟨hcf, B.nm⟩) q1 q2 hslt h6.1 (by rw [q5, q4 hba]; exact h6.2) rfl rfl hd ?_
    have hlt : a < H.size := (Array.getElem?_eq_some_iff.mp q1).1
    refine kk _ _ (hR.put (cell := cell) hba (by simp) (fun q hq => by simp [Array.getElem?_setIfInBounds, Ne.symm hq]) ?_) (t_lc hlo hba)
    exact tj_putAt B hcl hkN q2 q3 q4 q5 q6 q8 hl (by rw [hsl]; simp [hlt])
/-- what a read of a field means -/
theorem hp_fld_some {cs : List (Nat × Nat)} {v : Option Nat} {w : Value} (h : hp_fld cs σ v = some w) : ∃ (a t k : Nat) (fs : List Value), v = some a ∧ hp_G σ a = some (t, fs) ∧ cs.lookup t = some k ∧ fs[k]? = some w := by
  unfold hp_fld at h
  cases v with
  | none => cases h
  | some a =>
    simp only [Option.bind_some] at h
    cases hG : hp_G σ a with
    | none => rw [hG] at h; cases h
    | some o =>
      rw [hG] at h
      simp only [Option.bind_some] at h
      cases hk : cs.lookup o.1 with
      | none => rw [hk] at h; cases h
      | some k =>
        rw [hk] at h
        exact ⟨a, o.1, k, o.2, rfl, hG, hk, h⟩
theorem hp_put_some {cs : List (Nat × Nat)} {v : Option Nat} {w : Value} {σ1 : hp_S} (h : hp_put cs σ v w = some σ1) : ∃ (a t k : Nat) (fs : List Value), v = some a ∧ hp_G σ a = some (t, fs) ∧ cs.lookup t = some k ∧ hp_b σ ≤ a ∧ k < fs.length ∧ σ1 = hp_set σ a (t, fs.set k w) := by
  unfold hp_put at h
  cases v with
  | none => cases h
  | some a =>
    simp only [Option.bind_some] at h
    cases hG : hp_G σ a with
    | none => rw [hG] at h; cases h
    | some o =>
      rw [hG] at h
      simp only [Option.bind_some] at h
      cases hk : cs.lookup o.1 with
      | none => rw [hk] at h; cases h
      | some k =>
        rw [hk] at h
        simp only [Option.bind_some] at h
        split at h
        · rename_i hc
          cases h
          exact ⟨a, o.1, k, o.2, rfl, hG, hk, hc.1, hc.2, rfl⟩
        · cases h
theorem mx_getI_some {cs : List (Nat × Nat)} {v : Option Nat} {r : (Int32 ⊕ Nat) × hp_S} (h : mx_getI cs v σ = some r) : ∃ x, hp_fld cs σ v = some (.int x) ∧ r = (.inl x, σ) := by
  unfold mx_getI at h
  split at h
  · rename_i x hx
    cases h
    exact ⟨x, hx, rfl⟩
  · cases h
theorem mx_getL_some {cs : List (Nat × Nat)} {v : Option Nat} {r : (Int64 ⊕ Nat) × hp_S} (h : mx_getL cs v σ = some r) : ∃ x, hp_fld cs σ v = some (.long x) ∧ r = (.inl x, σ) := by
  unfold mx_getL at h
  split at h
  · rename_i x hx
    cases h
    exact ⟨x, hx, rfl⟩
  · cases h
theorem hp_ref_some {w : Value} {r : Option Nat} (h : hp_ref w = some r) : w = va_rf r := by
  cases w <;> first | (cases h; rfl) | (simp [hp_ref] at h)
theorem mx_getR_some {cs : List (Nat × Nat)} {v : Option Nat} {r : (Option Nat ⊕ Nat) × hp_S} (h : mx_getR cs v σ = some r) : ∃ x, hp_fld cs σ v = some (va_rf x) ∧ r = (.inl x, σ) := by
  unfold mx_getR at h
  obtain ⟨x, h1, h2⟩ := Option.map_eq_some_iff.mp h
  obtain ⟨w, h3, h4⟩ := Option.bind_eq_some_iff.mp h1
  exact ⟨x, by rw [h3, hp_ref_some h4], h2.symm⟩
theorem mx_bind_some {m : mx_M β} {f : β → mx_M α} {r : (α ⊕ Nat) × hp_S} (h : mx_bind m f σ = some r) : (∃ v σ1, m σ = some (.inl v, σ1) ∧ f v σ1 = some r) ∨ ∃ q σ1, m σ = some (.inr q, σ1) ∧ r = (.inr q, σ1) := by
  unfold mx_bind at h
  split at h
  · rename_i v σ1 h1
    exact Or.inl ⟨v, σ1, h1, h⟩
  · rename_i q σ1 h1
    cases h
    exact Or.inr ⟨q, σ1, h1, rfl⟩
  · cases h
/-- a step that only reads: m answers v in the same state -/
theorem tj_rd {m : mx_M β} {f : β → mx_M α} {P : β → Prop} {st' : β → List Value} {pc' : Nat} (hm : ∀ r, m σ = some r → ∃ v, r = (.inl v, σ) ∧ P v) (h : ∀ (v : β), P v → tj_C E X own ini cc nL ret d hh → ∀ (H : Heap) (locs : List Loc) (c s : Nat) (Q : State → Prop) (ls : Array Slot), tj_R E σ H → tj_ls ls nL L → tj_W X H locs c s Q (F0 (xm X) pc' ls (st' v)) → tj_W X H locs c s Q (F0 (xm X) pc ls st)) (k : ∀ v, tj_T E X own ini cc nL ret d hh n0 s0 emb σ pc' L (st' v) (f v)) : tj_T E X own ini cc nL ret d hh n0 s0 emb σ pc L st (mx_bind m f) := by
  intro o σe hx
  rcases mx_bind_some hx with ⟨v, σ1, g1, g2⟩ | ⟨q, σ1, g1, g2⟩
  · obtain ⟨v', e, hp⟩ := hm _ g1
    cases e
    obtain ⟨h1, h2⟩ := k v o σe g2
    exact ⟨h1, fun B H locs ls a b c d e f g => h v hp B H locs _ _ _ ls a c (h2 B H locs ls a b c d e f g)⟩
  · obtain ⟨v', e, -⟩ := hm _ g1
    cases e
/-- a step that changes the heap by a known function -/
theorem tj_wr {m : mx_M Unit} {f : Unit → mx_M α} {P : hp_S → Prop} {st' : List Value} {pc' : Nat} (hm : ∀ r, m σ = some r → ∃ σ1, r = (.inl (), σ1) ∧ hp_n σ1 = hp_n σ ∧ hp_s σ1 = hp_s σ ∧ P σ1) (h : ∀ (σ1 : hp_S), P σ1 → tj_C E X own ini cc nL ret d hh → ∀ (H : Heap) (locs : List Loc) (c s : Nat) (Q : State → Prop) (ls : Array Slot), tj_R E σ H → tj_lo E locs → tj_ls ls nL L → (∀ (H' : Heap) (locs' : List Loc), tj_R E σ1 H' → tj_lo E locs' → tj_W X H' locs' c s Q (F0 (xm X) pc' ls st')) → tj_W X H locs c s Q (F0 (xm X) pc ls st)) (k : ∀ σ1, tj_T E X own ini cc nL ret d hh n0 s0 emb σ1 pc' L st' (f ())) : tj_T E X own ini cc nL ret d hh n0 s0 emb σ pc L st (mx_bind m f) := by
  intro o σe hx
  rcases mx_bind_some hx with ⟨v, σ1, g1, g2⟩ | ⟨q, σ1, g1, g2⟩
  · obtain ⟨σ2, e, en, es, hp⟩ := hm _ g1
    cases e
    obtain ⟨h1, h2⟩ := k σ1 o σe g2
    rw [en, es] at h1
    refine ⟨h1, fun B H locs ls a b c d e f g => h σ1 hp B H locs _ _ _ ls a b c (fun H' locs' r1 r2 => ?_)⟩
    have := h2 B H' locs' ls r1 r2 c (by rw [en]; exact d) (by rw [es]; exact e) f g
    rw [en, es] at this
    exact this
  · obtain ⟨σ2, e, -⟩ := hm _ g1
    cases e
theorem tj_getI {idx : Nat} {cs : List (Nat × Nat)} {fin : Nat} {ty : FieldType} {v : Option Nat} {f : Int32 → mx_M α} (hf : ∀ t k, cs.lookup t = some k → fd_ok own idx t k fin ty) (hd : decode cc pc = .ok (.getfield idx, 3)) (k : ∀ x : Int32, tj_T E X own ini cc nL ret d hh n0 s0 emb σ (pc + 3) L (.int x :: st) (f x)) : tj_T E X own ini cc nL ret d hh n0 s0 emb σ pc L (va_rf v :: st) (mx_bind (mx_getI cs v) f) := by
  refine tj_rd (P := fun x => hp_fld cs σ v = some (.int x)) (fun r h => ?_) (fun x hx B H locs c s Q ls hR hl w => ?_) k
  · obtain ⟨x, h1, h2⟩ := mx_getI_some h
    exact ⟨x, h2, h1⟩
  · obtain ⟨a, t, k0, fs, e, hG, hk, hw⟩ := hp_fld_some hx
    subst e
    exact tj_getW B (hf t k0 hk) hR hG hw hd w
theorem tj_getL {idx : Nat} {cs : List (Nat × Nat)} {fin : Nat} {ty : FieldType} {v : Option Nat} {f : Int64 → mx_M α} (hf : ∀ t k, cs.lookup t = some k → fd_ok own idx t k fin ty) (hd : decode cc pc = .ok (.getfield idx, 3)) (k : ∀ x : Int64, tj_T E X own ini cc nL ret d hh n0 s0 emb σ (pc + 3) L (.long x :: st) (f x)) : tj_T E X own ini cc nL ret d hh n0 s0 emb σ pc L (va_rf v :: st) (mx_bind (mx_getL cs v) f) := by
  refine tj_rd (P := fun x => hp_fld cs σ v = some (.long x)) (fun r h => ?_) (fun x hx B H locs c s Q ls hR hl w => ?_) k
  · obtain ⟨x, h1, h2⟩ := mx_getL_some h
    exact ⟨x, h2, h1⟩
  · obtain ⟨a, t, k0, fs, e, hG, hk, hw⟩ := hp_fld_some hx
    subst e
    exact tj_getW B (hf t k0 hk) hR hG hw hd w
theorem tj_getR {idx : Nat} {cs : List (Nat × Nat)} {fin : Nat} {ty : FieldType} {v : Option Nat} {f : Option Nat → mx_M α} (hf : ∀ t k, cs.lookup t = some k → fd_ok own idx t k fin ty) (hd : decode cc pc = .ok (.getfield idx, 3)) (k : ∀ x : Option Nat, tj_T E X own ini cc nL ret d hh n0 s0 emb σ (pc + 3) L (va_rf x :: st) (f x)) : tj_T E X own ini cc nL ret d hh n0 s0 emb σ pc L (va_rf v :: st) (mx_bind (mx_getR cs v) f) := by
  refine tj_rd (P := fun x => hp_fld cs σ v = some (va_rf x)) (fun r h => ?_) (fun x hx B H locs c s Q ls hR hl w => ?_) k
  · obtain ⟨x, h1, h2⟩ := mx_getR_some h
    exact ⟨x, h2, h1⟩
  · obtain ⟨a, t, k0, fs, e, hG, hk, hw⟩ := hp_fld_some hx
    subst e
    exact tj_getW B (hf t k0 hk) hR hG hw hd w
theorem mx_put_some {cs : List (Nat × Nat)} {v : Option Nat} {w : Value} {r : (Unit ⊕ Nat) × hp_S} (h : mx_put cs v w σ = some r) : ∃ σ1, r = (.inl (), σ1) ∧ hp_n σ1 = hp_n σ ∧ hp_s σ1 = hp_s σ ∧ hp_put cs σ v w = some σ1 := by
  unfold mx_put at h
  obtain ⟨σ1, h1, h2⟩ := Option.map_eq_some_iff.mp h
  obtain ⟨a, t, k, fs, -, -, -, -, -, e⟩ := hp_put_some h1
  exact ⟨σ1, h2.symm, by rw [e]; rfl, by rw [e]; rfl, h1⟩
theorem tj_put {idx : Nat} {cs : List (Nat × Nat)} {ty : FieldType} {v : Option Nat} {w : Value} {f : Unit → mx_M α} (hf : ∀ t k, cs.lookup t = some k → fd_ok own idx t k 0 ty) (hn : narrow ty w = w) (hft : fits ty w = true) (hd : decode cc pc = .ok (.putfield idx, 3)) (k : ∀ σ1 : hp_S, tj_T E X own ini cc nL ret d hh n0 s0 emb σ1 (pc + 3) L st (f ())) : tj_T E X own ini cc nL ret d hh n0 s0 emb σ pc L (w :: va_rf v :: st) (mx_bind (mx_put cs v w) f) := by
  refine tj_wr (P := fun σ1 => hp_put cs σ v w = some σ1) (fun r h => mx_put_some h) (fun σ1 hx B H locs c s Q ls hR hlo hl kk => ?_) k
  obtain ⟨a, t, k0, fs, e, hG, hk, hbs, hkl, e2⟩ := hp_put_some hx
  subst e
  subst e2
  exact tj_putW B (hf t k0 hk) hR hlo hG hbs hkl hn hft hd kk
theorem tj_putF {idx : Nat} {cs : List (Nat × Nat)} {ty : FieldType} {v : Option Nat} {w : Value} {f : Unit → mx_M α} (hf : ∀ t k, cs.lookup t = some k → fd_ok own idx t k 1 ty) (hn : narrow ty w = w) (hft : fits ty w = true) (hd : decode cc pc = .ok (.putfield idx, 3)) (k : ∀ σ1 : hp_S, tj_T E X own "<init>" cc nL ret d hh n0 s0 emb σ1 (pc + 3) L st (f ())) : tj_T E X own "<init>" cc nL ret d hh n0 s0 emb σ pc L (w :: va_rf v :: st) (mx_bind (mx_put cs v w) f) := by
  refine tj_wr (P := fun σ1 => hp_put cs σ v w = some σ1) (fun r h => mx_put_some h) (fun σ1 hx B H locs c s Q ls hR hlo hl kk => ?_) k
  obtain ⟨a, t, k0, fs, e, hG, hk, hbs, hkl, e2⟩ := hp_put_some hx
  subst e
  subst e2
  exact tj_putFW B (hf t k0 hk) hR hlo hG hbs hkl hn hft hd kk
theorem mx_nar_ok {ty : FieldType} {x : Int32} (h : mx_nar ty x = true) : narrow ty (.int x) = .int x := by
  unfold mx_nar at h
  split at h
  · rename_i y hy
    rw [hy, of_decide_eq_true h]
  · cases h
theorem tj_putN {idx : Nat} {cs : List (Nat × Nat)} {ty : FieldType} {v : Option Nat} {x : Int32} {f : Unit → mx_M α} (hf : ∀ t k, cs.lookup t = some k → fd_ok own idx t k 0 ty) (hft : ∀ x : Int32, narrow ty (.int x) = .int x → fits ty (.int x) = true) (hd : decode cc pc = .ok (.putfield idx, 3)) (k : ∀ σ1 : hp_S, tj_T E X own ini cc nL ret d hh n0 s0 emb σ1 (pc + 3) L st (f ())) : tj_T E X own ini cc nL ret d hh n0 s0 emb σ pc L (.int x :: va_rf v :: st) (mx_bind (mx_putN ty cs v x) f) := by
  refine tj_wr (P := fun σ1 => mx_nar ty x = true ∧ hp_put cs σ v (.int x) = some σ1) (fun r h => ?_) (fun σ1 hx B H locs c s Q ls hR hlo hl kk => ?_) k
  · unfold mx_putN at h
    split at h
    · rename_i hn
      obtain ⟨σ1, h1, h2, h3, h4⟩ := mx_put_some (show mx_put cs v (.int x) σ = some r from h)
      exact ⟨σ1, h1, h2, h3, hn, h4⟩
    · cases h
  · obtain ⟨hn, hx⟩ := hx
    obtain ⟨a, t, k0, fs, e, hG, hk, hbs, hkl, e2⟩ := hp_put_some hx
    subst e
    subst e2
    exact tj_putW B (hf t k0 hk) hR hlo hG hbs hkl (mx_nar_ok hn) (hft x (mx_nar_ok hn)) hd kk
theorem tj_putFN {idx : Nat} {cs : List (Nat × Nat)} {ty : FieldType} {v : Option Nat} {x : Int32} {f : Unit → mx_M α} (hf : ∀ t k, cs.lookup t = some k → fd_ok own idx t k 1 ty) (hft : ∀ x : Int32, narrow ty (.int x) = .int x → fits ty (.int x) = true) (hd : decode cc pc = .ok (.putfield idx, 3)) (k : ∀ σ1 : hp_S, tj_T E X own "<init>" cc nL ret d hh n0 s0 emb σ1 (pc + 3) L st (f ())) : tj_T E X own "<init>" cc nL ret d hh n0 s0 emb σ pc L (.int x :: va_rf v :: st) (mx_bind (mx_putN ty cs v x) f) := by
  refine tj_wr (P := fun σ1 => mx_nar ty x = true ∧ hp_put cs σ v (.int x) = some σ1) (fun r h => ?_) (fun σ1 hx B H locs c s Q ls hR hlo hl kk => ?_) k
  · unfold mx_putN at h
    split at h
    · rename_i hn
      obtain ⟨σ1, h1, h2, h3, h4⟩ := mx_put_some (show mx_put cs v (.int x) σ = some r from h)
      exact ⟨σ1, h1, h2, h3, hn, h4⟩
    · cases h
  · obtain ⟨hn, hx⟩ := hx
    obtain ⟨a, t, k0, fs, e, hG, hk, hbs, hkl, e2⟩ := hp_put_some hx
    subst e
    subst e2
    exact tj_putFW B (hf t k0 hk) hR hlo hG hbs hkl (mx_nar_ok hn) (hft x (mx_nar_ok hn)) hd kk
end TJ3
