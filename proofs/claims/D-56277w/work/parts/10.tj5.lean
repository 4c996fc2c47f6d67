/-! ROWS: constants, casts, ends, throws; contracts and calls -/
section TJ5
variable {α β : Type} {E : tj_E} {X : tj_X} {own ini : String} {cc : ByteArray} {nL : Nat} {ret : Option FieldType} {d : Nat} {hh : List (Nat × Nat × Nat × Nat)} {n0 s0 : Nat} {emb : α → Option Value} {σ : hp_S} {pc : Nat} {L : List (Option Value)} {st : List Value} {pr : mx_M α} {H : Heap} {locs : List Loc} {ls : Array Slot} {cells slots : Nat} {Q : State → Prop}
/-- the class of the tag t may be cast to nm -/
def ca_ok (t : Nat) (nm : String) : Prop := (t < 100 ∧ ∃ (T : u_T) (N : Nat), cl_tab[t]? = some (nm, T, N)) ∨ (t < 100 ∧ ∃ (C : String) (T : u_T) (N : Nat), cl_tab[t]? = some (C, T, N) ∧ Cond.castable C nm ∈ lw_tbl) ∨ ∃ (i : Nat) (ty : FieldType), 100 ≤ t ∧ (∀ a : Nat → ClassId, (cl_arr a)[i]? = some (a t, ty)) ∧ nm = "[" ++ ty.toString
theorem tj_ca (B : tj_C E X own ini cc nL ret d hh) {t : Nat} {nm : String} (h : ca_ok t nm) : ∃ cT : ClassId, (xs X).vm.findClass nm = some cT ∧ (xs X).vm.assignable (tj_cls E t) cT = true := by
  rcases h with ⟨ht, T, N, h⟩ | ⟨ht, C, T, N, h, hw⟩ | ⟨i, ty, ht, hi, e⟩
  · have hK := (B.ev.1.1 t _ h).2
    refine ⟨_, hK.1, ?_⟩
    unfold tj_cls
    rw [if_pos ht]
    exact va_asg _ _
  · have hK := (B.ev.1.1 t _ h).2
    obtain ⟨c0, t1, f1, f2, f3⟩ := Cond.castable_spec (va_Nw.use (A := xa X) rfl (B.ev.2.1 _ hw rfl))
    cases hK.1.symm.trans f1
    refine ⟨_, f2, ?_⟩
    unfold tj_cls
    rw [if_pos ht]
    exact f3
  · have hRA := (tj_ak B i (hi _)).2
    have hf : (xs X).vm.findClass ("[" ++ ty.toString) = some (tj_a E t) := by
      revert hRA
      unfold va_RA
      cases ty <;> first
        | (intro h; exact h)
        | (rintro ⟨kA, comp, -, -, -, h⟩; exact h)
    refine ⟨_, by rw [e]; exact hf, ?_⟩
    unfold tj_cls
    rw [if_neg (by omega)]
    exact va_asg _ _
theorem tj_rcell (hR : tj_R E σ H) {a t : Nat} {fs : List Value} (hG : hp_G σ a = some (t, fs)) : ∃ cell : Cell, H[a]? = some cell ∧ cell.vm.isStatics = false ∧ cell.cls = tj_cls E t := by
  obtain ⟨cell, q1, q2, q3, q4, q5, -⟩ := hR.2.2.2.2.2 a _ hG
  exact ⟨cell, q1, q3, q5⟩
theorem tj_cast {ts : List Nat} {v : Option Nat} {idx : Nat} {nm : String} {f : Unit → mx_M α} (hq : Cond.classLink own idx nm ∈ lw_all) (hts : ∀ t ∈ ts, ca_ok t nm) (hd : decode cc pc = .ok (.checkcast idx, 3)) (k : tj_T E X own ini cc nL ret d hh n0 s0 emb σ (pc + 3) L (va_rf v :: st) (f ())) : tj_T E X own ini cc nL ret d hh n0 s0 emb σ pc L (va_rf v :: st) (mx_bind (mx_cast ts v) f) := by
  refine tj_rd (P := fun _ => ∀ a, v = some a → ∃ t fs, hp_G σ a = some (t, fs) ∧ t ∈ ts) (st' := fun _ => va_rf v :: st) (fun r h => ?_) (fun x hx B H locs c s Q ls hR hl w => ?_) (fun _ => k)
  · unfold mx_cast at h
    split at h
    · cases h
      exact ⟨(), rfl, fun a e => by cases e⟩
    · rename_i a
      obtain ⟨t, h1, h2⟩ := Option.bind_eq_some_iff.mp h
      split at h2
      · rename_i hc
        cases h2
        obtain ⟨a', fs, e, hG⟩ := hp_tag_some h1
        cases e
        exact ⟨(), rfl, fun a e => by cases e; exact ⟨t, fs, hG, List.contains_iff_mem.mp hc⟩⟩
      · cases h2
  · cases v with
    | none => exact lv_castN B.ex B.co hd w
    | some a =>
      obtain ⟨t, fs, hG, ht⟩ := hx a rfl
      obtain ⟨cell, g1, g2, g3⟩ := tj_rcell hR hG
      obtain ⟨cT, f1, f2⟩ := tj_ca B (hts t ht)
      intro T hT Y
      obtain ⟨vm', Y', st9⟩ := Y.checkcastYes B.ex B.ow (B.ts _ hq) (by rw [hT]; exact g1) g2 f1 (by rw [g3]; exact f2) (g := F0 (xm X) pc ls (.ref a :: st)) rfl rfl (by rw [B.co]; exact hd)
      obtain ⟨t9, a1, b1⟩ := w (T.setVm vm') hT Y'
      exact ⟨t9, st9 t9 a1, b1⟩
def nc_ok (t : Nat) (nm : String) : Prop := t < 100 ∧ ∃ (C : String) (T : u_T) (N : Nat), cl_tab[t]? = some (C, T, N) ∧ (C, nm) ∈ ev_nL
theorem tj_nc (B : tj_C E X own ini cc nL ret d hh) {t : Nat} {nm : String} (h : nc_ok t nm) : ∃ cT : ClassId, (xs X).vm.findClass nm = some cT ∧ (xs X).vm.assignable (tj_cls E t) cT = false := by
  obtain ⟨ht, C, T, N, h, hw⟩ := h
  have hK := (B.ev.1.1 t _ h).2
  obtain ⟨c, tt, h1, h2, h3⟩ := B.ev.2.2.2.2.2.2.2.2.2.1 _ hw
  cases hK.1.symm.trans h1
  refine ⟨_, h2, ?_⟩
  unfold tj_cls
  rw [if_pos ht]
  exact h3
theorem tj_inst {ts us : List Nat} {v : Option Nat} {idx : Nat} {nm : String} {f : Int32 → mx_M α} (hq : Cond.classLink own idx nm ∈ lw_all) (hts : ∀ t ∈ ts, ca_ok t nm) (hus : ∀ t ∈ us, nc_ok t nm) (hd : decode cc pc = .ok (.instanceof idx, 3)) (k : ∀ x : Int32, tj_T E X own ini cc nL ret d hh n0 s0 emb σ (pc + 3) L (.int x :: st) (f x)) : tj_T E X own ini cc nL ret d hh n0 s0 emb σ pc L (va_rf v :: st) (mx_bind (mx_inst ts us v) f) := by
  refine tj_rd (P := fun x => (v = none ∧ x = 0) ∨ ∃ a t fs, v = some a ∧ hp_G σ a = some (t, fs) ∧ ((t ∈ ts ∧ x = 1) ∨ (t ∈ us ∧ x = 0))) (fun r h => ?_) (fun x hx B H locs c s Q ls hR hl w => ?_) k
  · unfold mx_inst at h
    split at h
    · cases h
      exact ⟨0, rfl, Or.inl ⟨rfl, rfl⟩⟩
    · rename_i a
      obtain ⟨t, h1, h2⟩ := Option.bind_eq_some_iff.mp h
      obtain ⟨a', fs, e, hG⟩ := hp_tag_some h1
      cases e
      split at h2
      · rename_i hc
        cases h2
        exact ⟨1, rfl, Or.inr ⟨a, t, fs, rfl, hG, Or.inl ⟨List.contains_iff_mem.mp hc, rfl⟩⟩⟩
      · split at h2
        · rename_i hc
          cases h2
          exact ⟨0, rfl, Or.inr ⟨a, t, fs, rfl, hG, Or.inr ⟨List.contains_iff_mem.mp hc, rfl⟩⟩⟩
        · cases h2
  · rcases hx with ⟨e1, e2⟩ | ⟨a, t, fs, e, hG, ⟨ht, e2⟩ | ⟨ht, e2⟩⟩
    · subst e1; subst e2
      exact lv_instN B.ex B.co hd w
    · subst e; subst e2
      obtain ⟨cell, g1, g2, g3⟩ := tj_rcell hR hG
      obtain ⟨cT, f1, f2⟩ := tj_ca B (hts t ht)
      intro T hT Y
      obtain ⟨vm', Y', st9⟩ := Y.instanceofYes B.ex B.ow (B.ts _ hq) (by rw [hT]; exact g1) g2 f1 (by rw [g3]; exact f2) (g := F0 (xm X) pc ls (.ref a :: st)) rfl rfl (by rw [B.co]; exact hd)
      obtain ⟨t9, a1, b1⟩ := w (T.setVm vm') hT Y'
      exact ⟨t9, st9 t9 a1, b1⟩
    · subst e; subst e2
      obtain ⟨cell, g1, g2, g3⟩ := tj_rcell hR hG
      obtain ⟨ht0, C, T0, N, h, hw⟩ := hus t ht
      have hK := (B.ev.1.1 t _ h).2
      exact va_instNo B.ex B.co B.ow (B.ts _ hq) (B.ev.2.2.2.2.2.2.2.2.2.1 _ hw) ⟨cell, g1, g2, by rw [g3]; unfold tj_cls; rw [if_pos ht0]; exact hK.1⟩ hd w
theorem mx_con_some {i : Nat} {r : (Option Nat ⊕ Nat) × hp_S} (h : mx_con i σ = some r) : ∃ x, r = (.inl x, σ) ∧ hp_e σ i = va_rf x := by
  unfold mx_con at h
  obtain ⟨x, h1, h2⟩ := Option.map_eq_some_iff.mp h
  exact ⟨x, h2.symm, hp_ref_some h1⟩
theorem tj_getZ (B : tj_C E X own ini cc nL ret d hh) {C n dd : String} {v : Value} {idx : Nat} (hZ : va_Z C n dd v (fun q => tj_b E ≤ q) (xs X) (tj_H E)) (hq : Cond.fieldLink own idx C n dd ∈ lw_all) (hR : tj_R E σ H) (hd : decode cc pc = .ok (.getstatic idx, 3)) (kk : tj_W X H locs cells slots Q (F0 (xm X) (pc + 3) ls (v :: st))) : tj_W X H locs cells slots Q (F0 (xm X) pc ls st) := by
  obtain ⟨cf, kf, fi, f, a, cell, h1, h2, h3, h4, h5, h6, h7, h8⟩ := hZ
  exact W.gets B.ex B.co B.ow (B.ts _ hq) h1 h2 h3 h4 (by rw [hR.2.2.2.2.1 a (Nat.not_le.mp h8)]; exact h5) (fun e => by rw [e] at h6; cases h6) h7 rfl hd kk
theorem tj_gets {C n dd : String} {i idx : Nat} {f : Option Nat → mx_M α} (hz : (C, n, dd, i) ∈ ev_sL) (hq : Cond.fieldLink own idx C n dd ∈ lw_all) (hd : decode cc pc = .ok (.getstatic idx, 3)) (k : ∀ x : Option Nat, tj_T E X own ini cc nL ret d hh n0 s0 emb σ (pc + 3) L (va_rf x :: st) (f x)) : tj_T E X own ini cc nL ret d hh n0 s0 emb σ pc L st (mx_bind (mx_con i) f) := by
  refine tj_rd (P := fun x => hp_e σ i = va_rf x) (fun r h => mx_con_some h) (fun x hx B H locs c s Q ls hR hl w => ?_) k
  have hZ := B.ev.2.2.2.2.2.1 _ hz
  rw [show E.2.2.2.2 (C, n, dd, i).2.2.2 = va_rf x by rw [← hx, hR.2.2.1]] at hZ
  exact tj_getZ B hZ hq hR hd w
theorem tj_getsI {C n dd : String} {v : Int32} {idx : Nat} (hz : (C, n, dd, v) ∈ ev_jL) (hq : Cond.fieldLink own idx C n dd ∈ lw_all) (hd : decode cc pc = .ok (.getstatic idx, 3)) (k : tj_T E X own ini cc nL ret d hh n0 s0 emb σ (pc + 3) L (.int v :: st) pr) : tj_T E X own ini cc nL ret d hh n0 s0 emb σ pc L st pr := by
  intro o σe hx
  obtain ⟨h1, h2⟩ := k o σe hx
  exact ⟨h1, fun B H locs ls a b c d e f g => tj_getZ B (B.ev.2.2.2.2.2.2.1 _ hz) hq a hd (h2 B H locs ls a b c d e f g)⟩
theorem tj_ldcS {tx : String} {i idx : Nat} {f : Option Nat → mx_M α} (hz : (own, idx, tx, i) ∈ ev_tL) (hd : decode cc pc = .ok (.ldc idx, 2)) (k : ∀ x : Option Nat, tj_T E X own ini cc nL ret d hh n0 s0 emb σ (pc + 2) L (va_rf x :: st) (f x)) : tj_T E X own ini cc nL ret d hh n0 s0 emb σ pc L st (mx_bind (mx_con i) f) := by
  refine tj_rd (P := fun x => hp_e σ i = va_rf x) (fun r h => mx_con_some h) (fun x hx B H locs c s Q ls hR hl w => ?_) k
  obtain ⟨a, e, hZ⟩ := B.ev.2.2.2.2.2.2.2.1 _ hz
  have e2 : va_rf x = .ref a := by rw [← hx, hR.2.2.1]; exact e
  rw [e2] at w
  exact va_ldcS B.ex B.co B.ow hZ hd w
theorem tj_ldcM {C : String} {i idx : Nat} {f : Option Nat → mx_M α} (hz : (C, i) ∈ ev_mL) (hq : Cond.classLink own idx C ∈ lw_all) (hd : decode cc pc = .ok (.ldc idx, 2)) (k : ∀ x : Option Nat, tj_T E X own ini cc nL ret d hh n0 s0 emb σ (pc + 2) L (va_rf x :: st) (f x)) : tj_T E X own ini cc nL ret d hh n0 s0 emb σ pc L st (mx_bind (mx_con i) f) := by
  refine tj_rd (P := fun x => hp_e σ i = va_rf x) (fun r h => mx_con_some h) (fun x hx B H locs c s Q ls hR hl w => ?_) k
  obtain ⟨a, e, hZ⟩ := B.ev.2.2.2.2.2.2.2.2.1 _ hz
  have e2 : va_rf x = .ref a := by rw [← hx, hR.2.2.1]; exact e
  rw [e2] at w
  exact va_ldcM B.ex B.co B.ow (B.ts _ hq) hZ hd w
/-! ends -/
abbrev em_i : Int32 → Option Value := fun r => some (.int r)
abbrev em_l : Int64 → Option Value := fun r => some (.long r)
abbrev em_f : UInt32 → Option Value := fun r => some (.float r)
abbrev em_d : UInt64 → Option Value := fun r => some (.double r)
abbrev em_r : Option Nat → Option Value := fun r => some (va_rf r)
abbrev em_v : Unit → Option Value := fun _ => none
theorem tj_end {v : α} (h : tj_C E X own ini cc nL ret d hh → ∀ (H : Heap) (locs : List Loc) (ls : Array Slot) (c s : Nat), tj_R E σ H → tj_lo E locs → tj_W X H locs c s (MQ (xb X) (tj_Qc E emb (.inl v) σ) (xa X) (xs X) c s (tj_fr E)) (F0 (xm X) pc ls st)) : tj_T E X own ini cc nL ret d hh n0 s0 emb σ pc L st (mx_pure v) := by
  intro o σe hx
  cases hx
  exact ⟨⟨Nat.le_refl _, Nat.le_refl _⟩, fun B H locs ls a b c d e f g => vx_ret (h B H locs ls _ _ a b)⟩
theorem tj_iret {x : Int32} (hd : decode cc pc = .ok (.ireturn, 1)) : tj_T E X own ini cc nL (some .int) d hh n0 s0 em_i σ pc L [.int x] (mx_pure x) :=
  tj_end fun B H locs ls c s hR hlo => W.iret B.ex B.co B.rt (fun t ht _ => ⟨x, rfl, rfl, by rw [ht]; exact hR⟩) hlo hd B.lk
theorem tj_lret {x : Int64} (hd : decode cc pc = .ok (.lreturn, 1)) : tj_T E X own ini cc nL (some .long) d hh n0 s0 em_l σ pc L [.long x] (mx_pure x) :=
  tj_end fun B H locs ls c s hR hlo => W.lret B.ex B.co B.rt (fun t ht _ => ⟨x, rfl, rfl, by rw [ht]; exact hR⟩) hlo hd B.lk
theorem tj_dret {x : UInt64} (hd : decode cc pc = .ok (.dreturn, 1)) : tj_T E X own ini cc nL (some .double) d hh n0 s0 em_d σ pc L [.double x] (mx_pure x) :=
  tj_end fun B H locs ls c s hR hlo => W.dret B.ex B.co B.rt (fun t ht _ => ⟨x, rfl, rfl, by rw [ht]; exact hR⟩) hlo hd B.lk
theorem tj_fret {x : UInt32} (hd : decode cc pc = .ok (.freturn, 1)) : tj_T E X own ini cc nL (some .float) d hh n0 s0 em_f σ pc L [.float x] (mx_pure x) :=
  tj_end fun B H locs ls c s hR hlo => W.fret B.ex B.co B.rt (fun t ht _ => ⟨x, rfl, rfl, by rw [ht]; exact hR⟩) hlo hd B.lk
theorem tj_vret (hd : decode cc pc = .ok (.return_, 1)) : tj_T E X own ini cc nL none d hh n0 s0 em_v σ pc L [] (mx_pure ()) :=
  tj_end fun B H locs ls c s hR hlo => W.vret B.ex B.co B.rt (fun t ht _ => ⟨(), rfl, rfl, by rw [ht]; exact hR⟩) hlo hd B.lk
theorem tj_aret {rt : FieldType} {v : Option Nat} (hrt : (∃ n, rt = .object n) ∨ ∃ t, rt = .array t) (hd : decode cc pc = .ok (.areturn, 1)) : tj_T E X own ini cc nL (some rt) d hh n0 s0 em_r σ pc L [va_rf v] (mx_pure v) :=
  tj_end fun B H locs ls c s hR hlo => W.aret B.ex B.co B.rt hrt (by cases v with | none => exact Or.inl rfl | some a => exact Or.inr ⟨a, rfl⟩) (fun t ht _ => ⟨v, rfl, rfl, by rw [ht]; exact hR⟩) hlo hd B.lk
theorem tj_zpure {rt : FieldType} {x : Int32} (hn : narrow rt (.int x) = .int x) (hd : decode cc pc = .ok (.ireturn, 1)) : tj_T E X own ini cc nL (some rt) d hh n0 s0 em_i σ pc L [.int x] (mx_pure x) :=
  tj_end fun B H locs ls c s hR hlo => W.zret B.ex B.co B.rt hn (fun t ht _ => ⟨x, rfl, rfl, by rw [ht]; exact hR⟩) hlo hd B.lk
theorem tj_zret {rt : FieldType} {x : Int32} (hd : decode cc pc = .ok (.ireturn, 1)) : tj_T E X own ini cc nL (some rt) d hh n0 s0 em_i σ pc L [.int x] (mx_retN rt x) := by
  intro o σe hx
  unfold mx_retN at hx
  split at hx
  · rename_i hn
    cases hx
    exact ⟨⟨Nat.le_refl _, Nat.le_refl _⟩, fun B H locs ls a b c d e f g => vx_ret (W.zret B.ex B.co B.rt (mx_nar_ok hn) (fun t ht _ => ⟨x, rfl, rfl, by rw [ht]; exact a⟩) b hd B.lk)⟩
  · cases hx
/-! throws -/
theorem tj_athrow {v : Option Nat} {f : Nat → mx_M α} (hd : decode cc pc = .ok (.athrow, 1)) (k : ∀ q : Nat, tj_Tx E X own ini cc nL ret d hh n0 s0 emb σ pc L st q (f q)) : tj_T E X own ini cc nL ret d hh n0 s0 emb σ pc L (va_rf v :: st) (mx_deref v f) := by
  intro o σe hx
  cases v with
  | none => cases hx
  | some q =>
    obtain ⟨h1, h2⟩ := k q o σe hx
    exact ⟨h1, fun B H locs ls a b c d e f g => vx_athrow B.ex B.co hd (h2 B H locs ls a b c d e f g)⟩
theorem tj_xcell (B : tj_C E X own ini cc nL ret d hh) (hR : tj_R E σ H) {q t : Nat} {fs : List Value} (hG : hp_G σ q = some (t, fs)) (hb : hp_b σ ≤ q) (ht : t < 100) : ∃ (ce : Cell) (C : String) (T : u_T) (N : Nat), H[q]? = some ce ∧ ce.vm = .none ∧ (xs X).vm.findClass C = some ce.cls ∧ cl_tab[t]? = some (C, T, N) := by
  obtain ⟨cell, q1, q2, q3, q4, q5, q6, -, q8⟩ := hR.2.2.2.2.2 q _ hG
  obtain ⟨⟨C, T, N⟩, h1, -⟩ := q8 ht
  have hK := (B.ev.1.1 t _ h1).2
  refine ⟨cell, C, T, N, q1, q4 (by rw [← hR.2.1]; exact hb), ?_, h1⟩
  rw [q5]
  show _ = some (tj_cls E t)
  unfold tj_cls
  rw [if_pos ht]
  exact hK.1
theorem tj_xout {ts : List Nat} {q : Nat} (hts : ∀ t ∈ ts, t < 100) (hout : ∀ x ∈ tableOf hh, covers x pc = false) : tj_Tx E X own ini cc nL ret d hh n0 s0 emb σ pc L st q (mx_thr ts q) := by
  intro o σe hx
  unfold mx_thr at hx
  split at hx
  · rename_i t ht
    split at hx
    · rename_i hc
      cases hx
      obtain ⟨a, fs, e, hG⟩ := hp_tag_some ht
      cases e
      refine ⟨⟨Nat.le_refl _, Nat.le_refl _⟩, fun B H locs ls a b c d e f g => ?_⟩
      have h100 := hts t (List.contains_iff_mem.mp hc.2)
      obtain ⟨ce, C, T, N, g1, g2, g3, g4⟩ := tj_xcell B a hG hc.1 h100
      exact vx_out (by rw [B.tb]; exact hout) B.lk g1 g2 g3 (fun t9 ht9 _ => ⟨rfl, by rw [ht9]; exact a, t, T, N, ht, h100, g4⟩) b (Nat.le_refl _) (Nat.le_refl _)
    · cases hx
  · cases hx
theorem tj_xin {ts : List Nat} {q : Nat} {prA prB : mx_M α} (pre : List ExceptionTableEntry) (x : ExceptionTableEntry) (suf : List ExceptionTableEntry) (nm : String) (hts : ∀ t ∈ ts, ca_ok t nm ∧ t < 100) (hsp : tableOf hh = pre ++ x :: suf) (hcov : covers x pc = true) (h0 : x.catchType ≠ 0) (hq : Cond.classLink own x.catchType nm ∈ lw_all)
    (hpass : ∀ z ∈ pre, covers z pc = false ∨ (z.catchType ≠ 0 ∧ ∃ n9 : String, Cond.classLink own z.catchType n9 ∈ lw_all ∧ ∀ t ∈ ts, nc_ok t n9)) (kA : tj_T E X own ini cc nL ret d hh n0 s0 emb σ x.handlerPc L [va_rf (some q)] prA) (kB : tj_Tx E X own ini cc nL ret d hh n0 s0 emb σ pc L st q prB) : tj_Tx E X own ini cc nL ret d hh n0 s0 emb σ pc L st q (mx_in ts q prA prB) := by
  intro o σe hx
  unfold mx_in at hx
  split at hx
  · rename_i t ht
    split at hx
    · rename_i hb
      split at hx
      · rename_i hc
        obtain ⟨h1, h2⟩ := kA o σe hx
        refine ⟨h1, fun B H locs ls a b c d e f g => ?_⟩
        have htm := List.contains_iff_mem.mp hc
        obtain ⟨a0, fs, e0, hG⟩ := hp_tag_some ht
        cases e0
        obtain ⟨ce, C, T, N, g1, g2, g3, g4⟩ := tj_xcell B a hG hb (hts t htm).2
        have kk := h2 B H locs ls a b c d e f g
        have hce : ce.cls = tj_cls E t := by
          obtain ⟨cell, r1, r2, r3⟩ := tj_rcell a hG
          cases g1.symm.trans r1
          exact r3
        intro T9 hT Y
        have hpl : (xe X).platform.magicAccessors = ({} : Platform).magicAccessors := by rw [Y.admits.platform]
        obtain ⟨cT, f1, f2⟩ := tj_ca B (hts t htm).1
        obtain ⟨c5, hc5, hcl5⟩ := Cond.classLink_spec B.ow (B.ts _ hq) (xe X).platform hpl
        cases Option.some.inj (f1.symm.trans hc5)
        obtain ⟨vm', Y', st9⟩ := Y.thenCaughtThrough q (g := F0 (xm X) pc ls st) rfl (Steps.refl _) (by rw [hT]; exact g1) (by rw [g2]; rfl) (by obtain ⟨k9, h9, -⟩ := Vm.findClass_spec g3; exact ⟨k9, h9⟩) pre x suf (by rw [B.tb]; exact hsp)
          (fun z hz => by
            rcases hpass z hz with h | ⟨hz0, n9, hl1, hn1⟩
            · exact Or.inl h
            · obtain ⟨c6, hc6, hcl6⟩ := Cond.classLink_spec B.ow (B.ts _ hl1) (xe X).platform hpl
              obtain ⟨c7, r1, r2⟩ := tj_nc B (hn1 t htm)
              cases Option.some.inj (r1.symm.trans hc6)
              exact Or.inr ⟨hz0, _, hcl6, by rw [hce]; exact r2⟩) hcov (Or.inr ⟨h0, cT, hcl5, by rw [hce]; exact f2⟩)
        obtain ⟨t9, a1, b1⟩ := kk (T9.setVm vm') hT Y'
        exact ⟨t9, st9.trans a1, b1⟩
      · exact kB o σe hx
    · cases hx
  · cases hx
/-- a row of the table that takes anything -/
theorem tj_xany {ts : List Nat} {q : Nat} {prA prB : mx_M α} (pre : List ExceptionTableEntry) (x : ExceptionTableEntry) (suf : List ExceptionTableEntry) (hts : ∀ t ∈ ts, t < 100) (hsp : tableOf hh = pre ++ x :: suf) (hcov : covers x pc = true) (h0 : x.catchType = 0)
    (hpass : ∀ z ∈ pre, covers z pc = false ∨ (z.catchType ≠ 0 ∧ ∃ n9 : String, Cond.classLink own z.catchType n9 ∈ lw_all ∧ ∀ t ∈ ts, nc_ok t n9)) (kA : tj_T E X own ini cc nL ret d hh n0 s0 emb σ x.handlerPc L [va_rf (some q)] prA) (kB : tj_Tx E X own ini cc nL ret d hh n0 s0 emb σ pc L st q prB) : tj_Tx E X own ini cc nL ret d hh n0 s0 emb σ pc L st q (mx_in ts q prA prB) := by
  intro o σe hx
  unfold mx_in at hx
  split at hx
  · rename_i t ht
    split at hx
    · rename_i hb
      split at hx
      · rename_i hc
        obtain ⟨h1, h2⟩ := kA o σe hx
        refine ⟨h1, fun B H locs ls a b c d e f g => ?_⟩
        have htm := List.contains_iff_mem.mp hc
        obtain ⟨a0, fs, e0, hG⟩ := hp_tag_some ht
        cases e0
        obtain ⟨ce, C, T, N, g1, g2, g3, g4⟩ := tj_xcell B a hG hb (hts t htm)
        have kk := h2 B H locs ls a b c d e f g
        have hce : ce.cls = tj_cls E t := by
          obtain ⟨cell, r1, r2, r3⟩ := tj_rcell a hG
          cases g1.symm.trans r1
          exact r3
        intro T9 hT Y
        have hpl : (xe X).platform.magicAccessors = ({} : Platform).magicAccessors := by rw [Y.admits.platform]
        obtain ⟨vm', Y', st9⟩ := Y.thenCaughtThrough q (g := F0 (xm X) pc ls st) rfl (Steps.refl _) (by rw [hT]; exact g1) (by rw [g2]; rfl) (by obtain ⟨k9, h9, -⟩ := Vm.findClass_spec g3; exact ⟨k9, h9⟩) pre x suf (by rw [B.tb]; exact hsp)
          (fun z hz => by
            rcases hpass z hz with h | ⟨hz0, n9, hl1, hn1⟩
            · exact Or.inl h
            · obtain ⟨c6, hc6, hcl6⟩ := Cond.classLink_spec B.ow (B.ts _ hl1) (xe X).platform hpl
              obtain ⟨c7, r1, r2⟩ := tj_nc B (hn1 t htm)
              cases Option.some.inj (r1.symm.trans hc6)
              exact Or.inr ⟨hz0, _, hcl6, by rw [hce]; exact r2⟩) hcov (Or.inl h0)
        obtain ⟨t9, a1, b1⟩ := kk (T9.setVm vm') hT Y'
        exact ⟨t9, st9.trans a1, b1⟩
      · exact kB o σe hx
    · cases hx
  · cases hx
end TJ5
