/-! ROWS: System.arraycopy, clone, getClass, Throwable's native and synchronized methods, standard exceptions made -/
section TJ9
variable {α β : Type} {E : tj_E} {X : tj_X} {own ini : String} {cc : ByteArray} {nL : Nat} {ret : Option FieldType} {d : Nat} {hh : List (Nat × Nat × Nat × Nat)} {n0 s0 : Nat} {emb : α → Option Value} {σ : hp_S} {pc : Nat} {L : List (Option Value)} {st rest : List Value} {H : Heap} {locs : List Loc} {ls : Array Slot} {cells slots : Nat} {Q : State → Prop}
theorem hp_cpy_at {f g : List Value} {sp dp n : Nat} (h1 : sp + n ≤ f.length) (h2 : dp + n ≤ g.length) (k : Nat) : (hp_cpy f g sp dp n)[k]? = if dp ≤ k ∧ k < dp + n then f[sp + (k - dp)]? else g[k]? := by
  unfold hp_cpy
  have e1 : (g.take dp).length = dp := by rw [List.length_take]; omega
  have e2 : ((f.drop sp).take n).length = n := by rw [List.length_take, List.length_drop]; omega
  by_cases ha : k < dp
  · rw [if_neg (by omega), List.getElem?_append_left (by rw [List.length_append, e1]; omega), List.getElem?_append_left (by rw [e1]; exact ha), List.getElem?_take, if_pos ha]
  · by_cases hb : k < dp + n
    · rw [if_pos ⟨by omega, hb⟩, List.getElem?_append_left (by rw [List.length_append, e1, e2]; exact hb), List.getElem?_append_right (by rw [e1]; omega), e1, List.getElem?_take, if_pos (by omega), List.getElem?_drop]
    · rw [if_neg (by omega), List.getElem?_append_right (by rw [List.length_append, e1, e2]; omega), List.length_append, e1, e2, List.getElem?_drop]
      congr 1
      omega
theorem hp_cpy_len {f g : List Value} {sp dp n : Nat} (h1 : sp + n ≤ f.length) (h2 : dp + n ≤ g.length) : (hp_cpy f g sp dp n).length = g.length := by
  unfold hp_cpy
  simp only [List.length_append, List.length_take, List.length_drop]
  omega
theorem tj_stretch {cs : Cell} {f : List Value} {sp n : Nat} (hcs : ∀ (k : Nat) (v : Value), f[k]? = some v → cs.slots[k]? = some v) (h1 : sp + n ≤ f.length) (i : Nat) (hi : i < n) : f[sp + i]? = some (cs.slots.getD (sp + i) .null) := by
  have hl : sp + i < f.length := by omega
  have e := hcs (sp + i) _ (List.getElem?_eq_getElem hl)
  rw [Array.getD_eq_getD_getElem?, e]
  exact List.getElem?_eq_getElem hl
theorem tj_copied {cs cd : Cell} {f g : List Value} {sp dp n : Nat} (hcs : ∀ (k : Nat) (v : Value), f[k]? = some v → cs.slots[k]? = some v) (hd : cd.slots.size = g.length) (hcd : ∀ (k : Nat) (v : Value), g[k]? = some v → cd.slots[k]? = some v) (h1 : sp + n ≤ f.length) (h2 : dp + n ≤ g.length) (k : Nat) (v : Value) (hk : (hp_cpy f g sp dp n)[k]? = some v) : (cd.storeRun dp (cs.stretch sp n)).slots[k]? = some v := by
  have e3 : (cs.stretch sp n).length = n := by unfold Cell.stretch; simp
  rw [Cell.storeRun_get _ _ _ _ (by rw [e3, hd]; exact h2), e3]
  rw [hp_cpy_at h1 h2] at hk
  by_cases hc : dp ≤ k ∧ k < dp + n
  · rw [if_pos hc] at hk ⊢
    unfold Cell.stretch
    rw [List.getElem?_map, List.getElem?_range (by omega)]
    rw [tj_stretch hcs h1 (k - dp) (by omega)] at hk
    exact hk
  · rw [if_neg hc] at hk ⊢
    exact hcd k v hk
theorem tj_nnI {z : Int32} (hz : ¬ z < 0) : z.toInt = (z.toNatClampNeg : Int) := by
  have hz0 : (0 : Int) ≤ z.toInt := by
    have := Int32.not_lt.mp hz
    simpa using Int32.le_iff_toInt_le.mp this
  show z.toInt = ((z.toInt.toNat : Nat) : Int)
  omega
theorem tj_kind {t : Nat} {ty : FieldType} (hA : ArrOfT (xs X) (tj_a E t) ty) : ∃ (k : Class) (comp : ClassId), (xs X).vm.classes[tj_a E t]? = some k ∧ k.kind = .array comp ty := by
  obtain ⟨-, k, hk, comp, hkk⟩ := hA 0 (fun _ => .null)
  exact ⟨k, comp, hk, hkk⟩
theorem tj_copyW (B : tj_C E X own ini cc nL ret (d + 1) hh) (i9 : Nat) {t : Nat} {ty : FieldType} (ht : 100 ≤ t) (hi9 : (cl_arr (tj_a E))[i9]? = some (tj_a E t, ty)) {a0 a : Nat} {fs gs : List Value} {sp dp n : Int32} {idx : Nat} (q1 : Cond.methodLink own idx arraycopyName ∈ lw_all) (hR : tj_R E σ H) (hlo : tj_lo E locs) (hl : ls.size = nL) (hG0 : hp_G σ a0 = some (t, fs)) (hG1 : hp_G σ a = some (t, gs)) (hbs : hp_b σ ≤ a) (h1 : ¬ sp < 0) (h2 : ¬ dp < 0) (h3 : ¬ n < 0) (h4 : sp.toNatClampNeg + n.toNatClampNeg ≤ fs.length) (h5 : dp.toNatClampNeg + n.toNatClampNeg ≤ gs.length)
    (hv : ∀ (w : Value), w ∈ (fs.drop sp.toNatClampNeg).take n.toNatClampNeg → fits ty w = true ∧ ∀ (comp : ClassId) (k : Class), (xs X).vm.classes[tj_a E t]? = some k → k.kind = .array comp ty → ∀ (T : State) (vm' : Vm), T.heap = H → (xs X).vm.Alike vm' → (T.setVm vm').takes comp w) (hW : (st.map fun v => v.category).sum ≤ 8) (hd : decode cc pc = .ok (.invokestatic idx, 3))
    (kk : ∀ (H' : Heap) (locs' : List Loc), tj_R E (hp_set σ a (t, hp_cpy fs gs sp.toNatClampNeg dp.toNatClampNeg n.toNatClampNeg)) H' → tj_lo E locs' → tj_W X H' locs' cells slots Q (F0 (xm X) (pc + 3) ls st)) : tj_W X H locs cells slots Q (F0 (xm X) pc ls (.int n :: .int dp :: .ref a :: .int sp :: .ref a0 :: st)) := by
  obtain ⟨hA, -⟩ := tj_ak B i9 hi9
  obtain ⟨cs, p1, p2, p3, p3', p4, p5, p6, p7⟩ := tj_arr (X := X) hA ht hR hG0
  obtain ⟨cd, r1, r2, r3, r3', r4, r5, r6, r7⟩ := tj_arr (X := X) hA ht hR hG1
  obtain ⟨k0, comp, hk0, hkk0⟩ := tj_kind (X := X) hA
  have hba : tj_b E ≤ a := by rw [← hR.2.1]; exact hbs
  have e4 : cs.cls = tj_a E t := by rw [p5]; unfold tj_cls; rw [if_neg (by omega)]
  have e5 : cd.cls = tj_a E t := by rw [r5]; unfold tj_cls; rw [if_neg (by omega)]
  have hmem : ∀ i, i < n.toNatClampNeg → cs.slots.getD (sp.toNatClampNeg + i) .null ∈ (fs.drop sp.toNatClampNeg).take n.toNatClampNeg := by
    intro i hi
    have := tj_stretch p6 h4 i hi
    refine List.mem_of_getElem? (i := i) ?_
    rw [List.getElem?_take, if_pos hi, List.getElem?_drop]
    exact this
  intro T hT Y
  obtain ⟨vm', Y', step⟩ := Y.arraycopy B.ex B.ow (B.ts _ q1) (B.ts _ q653) (B.ts _ q652) (B.ts _ q124) (src := a0) (dst := a) (cs := cs) (cd := cd) (srcPos := sp) (destPos := dp) (n := n) (by rw [hT]; exact p1) (by rw [hT]; exact r1)
    (fun q h => by rw [h] at p3'; cases p3') (fun q h => by rw [h] at r3'; cases r3') p3 r3 (by rw [e4]; exact hk0) (by rw [e5]; exact hk0) hkk0 hkk0 (by cases ty <;> simp [refKind]) h1 h2 h3
    (by rw [tj_nnI h1, tj_nnI h3, p7]; omega) (by rw [tj_nnI h2, tj_nnI h3, r7]; omega)
    (fun vm₁ hal i hi => ⟨(hv _ (hmem i hi)).1, (hv _ (hmem i hi)).2 comp k0 hk0 hkk0 T vm₁ hT hal⟩)
    (g := F0 (xm X) pc ls (.int n :: .int dp :: .ref a :: .int sp :: .ref a0 :: st)) rfl (by rw [B.ml]; exact hl) (rest := st) rfl (by rw [B.co]; exact hd) (Nat.le_trans (Nat.succ_le_succ (Nat.zero_le _)) B.fr) (by
      have hlo2 := B.lo
      have hw : nativeFrameWords "java/lang/System" "arraycopy" 5 ≤ 16 := by decide
      show 2 * 0 + _ + _ ≤ _
      omega)
  have hlt : a < H.size := (Array.getElem?_eq_some_iff.mp r1).1
  obtain ⟨f1, f2, f3, -, -⟩ := Cell.storeRun_facts cd dp.toNatClampNeg (cs.stretch sp.toNatClampNeg n.toNatClampNeg)
  have hheap : ((T.setVm vm').setCell a (copied cs cd sp dp n)).heap = H.setIfInBounds a (copied cs cd sp dp n) := by rw [← hT]; rfl
  have hlen := hp_cpy_len (sp := sp.toNatClampNeg) (dp := dp.toNatClampNeg) (n := n.toNatClampNeg) h4 h5
  have hat : tj_at E a (t, hp_cpy fs gs sp.toNatClampNeg dp.toNatClampNeg n.toNatClampNeg) (H.setIfInBounds a (copied cs cd sp dp n)) := by
    refine ⟨copied cs cd sp dp n, by simp [hlt], ?_, ?_, ?_, ?_, fun k v hk => ?_, fun _ => ?_, fun h => absurd h (by simp only; omega)⟩
    · show (cd.storeRun _ _).vm ≠ _
      rw [f2]; exact r3
    · show (cd.storeRun _ _).vm.isStatics = false
      rw [f2]; exact r3'
    · intro hb
      show (cd.storeRun _ _).vm = _
      rw [f2]; exact r4 hb
    · show (cd.storeRun _ _).cls = _
      rw [f1]; exact r5
    · have e6 : tj_sl E t k = k := by unfold tj_sl; rw [if_neg (by omega)]
      show (cd.storeRun _ _).slots[tj_sl E t k]? = _
      rw [e6]
      exact tj_copied p6 r7 r6 h4 h5 k v hk
    · show (cd.storeRun _ _).slots.size = _
      rw [f3, r7, hlen]
  obtain ⟨t9, a1, b1⟩ := kk _ _ (hR.put (cell := cd) hba (by simp) (fun q hq => by simp [Array.getElem?_setIfInBounds, Ne.symm hq]) hat) (tj_lapp hlo fun q hq => by
      obtain ⟨z, -, hz⟩ := List.mem_map.mp hq
      rw [← hz]
      exact hba) _ hheap Y'
  exact ⟨t9, step t9 a1, b1⟩
theorem mx_copyP_some {t : Nat} {ok : hp_S → Value → Bool} {u v : Option Nat} {sp dp n : Int32} {r : (Unit ⊕ Nat) × hp_S} (h : mx_copyP t ok u sp v dp n σ = some r) : ∃ (a0 a : Nat) (fs gs : List Value), u = some a0 ∧ v = some a ∧ hp_G σ a0 = some (t, fs) ∧ hp_G σ a = some (t, gs) ∧ hp_b σ ≤ a ∧ ¬ sp < 0 ∧ ¬ dp < 0 ∧ ¬ n < 0 ∧ sp.toNatClampNeg + n.toNatClampNeg ≤ fs.length ∧ dp.toNatClampNeg + n.toNatClampNeg ≤ gs.length ∧ (∀ w ∈ (fs.drop sp.toNatClampNeg).take n.toNatClampNeg, ok σ w = true) ∧ r = (.inl (), hp_set σ a (t, hp_cpy fs gs sp.toNatClampNeg dp.toNatClampNeg n.toNatClampNeg)) := by
  unfold mx_copyP at h
  obtain ⟨⟨a0, fs⟩, h1, h⟩ := Option.bind_eq_some_iff.mp h
  obtain ⟨⟨a, gs⟩, h2, h⟩ := Option.bind_eq_some_iff.mp h
  obtain ⟨e1, g1⟩ := hp_arr_some h1
  obtain ⟨e2, g2⟩ := hp_arr_some h2
  split at h
  · cases h
  · rename_i hn
    split at h
    · rename_i hc
      cases h
      exact ⟨a0, a, fs, gs, e1, e2, g1, g2, hc.1, fun q => hn (Or.inl q), fun q => hn (Or.inr (Or.inl q)), fun q => hn (Or.inr (Or.inr q)), hc.2.1, hc.2.2.1, List.all_eq_true.mp hc.2.2.2, rfl⟩
    · cases h
theorem tj_copy104 {u v : Option Nat} {sp dp n : Int32} {idx : Nat} {f : Unit → mx_M α} (q1 : Cond.methodLink own idx arraycopyName ∈ lw_all) (hW : (st.map fun v => v.category).sum ≤ 8) (hd : decode cc pc = .ok (.invokestatic idx, 3)) (k : ∀ σ1 : hp_S, tj_T E X own ini cc nL ret (d + 1) hh n0 s0 emb σ1 (pc + 3) L st (f ())) : tj_T E X own ini cc nL ret (d + 1) hh n0 s0 emb σ pc L (.int n :: .int dp :: va_rf v :: .int sp :: va_rf u :: st) (mx_bind (mx_copyP 104 hp_okV u sp v dp n) f) := by
  refine tj_wr (P := fun σ1 => ∃ (a0 a : Nat) (fs gs : List Value), u = some a0 ∧ v = some a ∧ hp_G σ a0 = some (104, fs) ∧ hp_G σ a = some (104, gs) ∧ hp_b σ ≤ a ∧ ¬ sp < 0 ∧ ¬ dp < 0 ∧ ¬ n < 0 ∧ sp.toNatClampNeg + n.toNatClampNeg ≤ fs.length ∧ dp.toNatClampNeg + n.toNatClampNeg ≤ gs.length ∧ (∀ w ∈ (fs.drop sp.toNatClampNeg).take n.toNatClampNeg, hp_okV σ w = true) ∧ σ1 = hp_set σ a (104, hp_cpy fs gs sp.toNatClampNeg dp.toNatClampNeg n.toNatClampNeg)) (fun r h => ?_) (fun σ1 hx B H locs c s Q ls hR hlo hl kk => ?_) k
  · obtain ⟨a0, a, fs, gs, g1, g2, g3, g4, g5, g6, g7, g8, g9, g10, g11, g12⟩ := mx_copyP_some h
    exact ⟨_, g12, rfl, rfl, a0, a, fs, gs, g1, g2, g3, g4, g5, g6, g7, g8, g9, g10, g11, rfl⟩
  · obtain ⟨a0, a, fs, gs, g1, g2, g3, g4, g5, g6, g7, g8, g9, g10, g11, g12⟩ := hx
    subst g1; subst g2; subst g12
    refine tj_copyW B 4 (by decide) rfl q1 hR hlo hl.1 g3 g4 g5 g6 g7 g8 g9 g10 (fun w hw => ?_) hW hd kk
    have ho := g11 w hw
    unfold hp_okV at ho
    split at ho
    · rename_i r hr
      have hw2 := hp_ref_some hr
      subst hw2
      refine ⟨by cases r <;> rfl, fun comp k9 hk9 hkk9 T vm' hT hal => ?_⟩
      cases r with
      | none => trivial
      | some b =>
        unfold hp_okR at ho
        split at ho
        · rename_i h0; cases h0
        · rename_i b0 e0
          cases e0
          split at ho
          · rename_i t ht
            obtain ⟨b', fs', e9, hGb⟩ := hp_tag_some ht
            cases e9
            obtain ⟨cellV, v1, v3, ⟨kC, hkC⟩, hasg⟩ := tj_anyO B hR hGb (of_decide_eq_true ho)
            obtain ⟨hA, kA, comp2, k1, k2, k3, -⟩ := tj_ak B 4 (t := 104) rfl
            cases hk9.symm.trans k1
            cases hkk9.symm.trans k2
            obtain ⟨kE, hkE, -⟩ := Vm.findClass_spec k3
            obtain ⟨kC', hkC', -⟩ := hal.2.2 _ _ hkC
            obtain ⟨kE', hkE', -⟩ := hal.2.2 _ _ hkE
            refine ⟨cellV, (show T.heap[b]? = some cellV by rw [hT]; exact v1), (fun q h => by rw [h] at v3; cases v3), ⟨kC', hkC'⟩, ⟨kE', hkE'⟩, ?_⟩
            show vm'.assignable _ _ = true
            rw [hal.assignable]
            exact hasg _ k3
          · cases ho
    · cases ho
theorem tj_copy102 {u v : Option Nat} {sp dp n : Int32} {idx : Nat} {f : Unit → mx_M α} (q1 : Cond.methodLink own idx arraycopyName ∈ lw_all) (hW : (st.map fun v => v.category).sum ≤ 8) (hd : decode cc pc = .ok (.invokestatic idx, 3)) (k : ∀ σ1 : hp_S, tj_T E X own ini cc nL ret (d + 1) hh n0 s0 emb σ1 (pc + 3) L st (f ())) : tj_T E X own ini cc nL ret (d + 1) hh n0 s0 emb σ pc L (.int n :: .int dp :: va_rf v :: .int sp :: va_rf u :: st) (mx_bind (mx_copyP 102 (fun _ w => fits .long w) u sp v dp n) f) := by
  refine tj_wr (P := fun σ1 => ∃ (a0 a : Nat) (fs gs : List Value), u = some a0 ∧ v = some a ∧ hp_G σ a0 = some (102, fs) ∧ hp_G σ a = some (102, gs) ∧ hp_b σ ≤ a ∧ ¬ sp < 0 ∧ ¬ dp < 0 ∧ ¬ n < 0 ∧ sp.toNatClampNeg + n.toNatClampNeg ≤ fs.length ∧ dp.toNatClampNeg + n.toNatClampNeg ≤ gs.length ∧ (∀ w ∈ (fs.drop sp.toNatClampNeg).take n.toNatClampNeg, fits .long w = true) ∧ σ1 = hp_set σ a (102, hp_cpy fs gs sp.toNatClampNeg dp.toNatClampNeg n.toNatClampNeg)) (fun r h => ?_) (fun σ1 hx B H locs c s Q ls hR hlo hl kk => ?_) k
  · obtain ⟨a0, a, fs, gs, g1, g2, g3, g4, g5, g6, g7, g8, g9, g10, g11, g12⟩ := mx_copyP_some h
    exact ⟨_, g12, rfl, rfl, a0, a, fs, gs, g1, g2, g3, g4, g5, g6, g7, g8, g9, g10, g11, rfl⟩
  · obtain ⟨a0, a, fs, gs, g1, g2, g3, g4, g5, g6, g7, g8, g9, g10, g11, g12⟩ := hx
    subst g1; subst g2; subst g12
    refine tj_copyW B 2 (by decide) rfl q1 hR hlo hl.1 g3 g4 g5 g6 g7 g8 g9 g10 (fun w hw => ?_) hW hd kk
    have ho := g11 w hw
    exact ⟨ho, fun comp k9 _ _ T vm' _ _ => by
      cases w with
      | ref z => simp [fits] at ho
      | _ => trivial⟩
theorem tj_copy101 {u v : Option Nat} {sp dp n : Int32} {idx : Nat} {f : Unit → mx_M α} (q1 : Cond.methodLink own idx arraycopyName ∈ lw_all) (hW : (st.map fun v => v.category).sum ≤ 8) (hd : decode cc pc = .ok (.invokestatic idx, 3)) (k : ∀ σ1 : hp_S, tj_T E X own ini cc nL ret (d + 1) hh n0 s0 emb σ1 (pc + 3) L st (f ())) : tj_T E X own ini cc nL ret (d + 1) hh n0 s0 emb σ pc L (.int n :: .int dp :: va_rf v :: .int sp :: va_rf u :: st) (mx_bind (mx_copyP 101 (fun _ w => fits .byte w) u sp v dp n) f) := by
  refine tj_wr (P := fun σ1 => ∃ (a0 a : Nat) (fs gs : List Value), u = some a0 ∧ v = some a ∧ hp_G σ a0 = some (101, fs) ∧ hp_G σ a = some (101, gs) ∧ hp_b σ ≤ a ∧ ¬ sp < 0 ∧ ¬ dp < 0 ∧ ¬ n < 0 ∧ sp.toNatClampNeg + n.toNatClampNeg ≤ fs.length ∧ dp.toNatClampNeg + n.toNatClampNeg ≤ gs.length ∧ (∀ w ∈ (fs.drop sp.toNatClampNeg).take n.toNatClampNeg, fits .byte w = true) ∧ σ1 = hp_set σ a (101, hp_cpy fs gs sp.toNatClampNeg dp.toNatClampNeg n.toNatClampNeg)) (fun r h => ?_) (fun σ1 hx B H locs c s Q ls hR hlo hl kk => ?_) k
  · obtain ⟨a0, a, fs, gs, g1, g2, g3, g4, g5, g6, g7, g8, g9, g10, g11, g12⟩ := mx_copyP_some h
    exact ⟨_, g12, rfl, rfl, a0, a, fs, gs, g1, g2, g3, g4, g5, g6, g7, g8, g9, g10, g11, rfl⟩
  · obtain ⟨a0, a, fs, gs, g1, g2, g3, g4, g5, g6, g7, g8, g9, g10, g11, g12⟩ := hx
    subst g1; subst g2; subst g12
    refine tj_copyW B 1 (by decide) rfl q1 hR hlo hl.1 g3 g4 g5 g6 g7 g8 g9 g10 (fun w hw => ?_) hW hd kk
    have ho := g11 w hw
    exact ⟨ho, fun comp k9 _ _ T vm' _ _ => by
      cases w with
      | ref z => simp [fits] at ho
      | _ => trivial⟩
theorem mx_cloneP_some {t : Nat} {ok : Value → Bool} {v : Option Nat} {r : (Nat ⊕ Nat) × hp_S} (h : mx_cloneP t ok v σ = some r) : ∃ (a : Nat) (vs : List Value), v = some a ∧ hp_G σ a = some (t, vs) ∧ (∀ w ∈ vs, ok w = true) ∧ r = (.inl (hp_n σ), hp_add σ (t, vs) vs.length) := by
  unfold mx_cloneP at h
  obtain ⟨⟨a, vs⟩, h1, h⟩ := Option.bind_eq_some_iff.mp h
  obtain ⟨e1, g1⟩ := hp_arr_some h1
  split at h
  · rename_i hc
    cases h
    exact ⟨a, vs, e1, g1, List.all_eq_true.mp hc, rfl⟩
  · cases h
theorem tj_cloneW (B : tj_C E X own ini cc nL ret (d + 1) hh) (i9 : Nat) {t : Nat} {ty : FieldType} {ad : String} (ht : 100 ≤ t) (hi9 : (cl_arr (tj_a E))[i9]? = some (tj_a E t, ty)) (had : "[" ++ ty.toString = ad) {a : Nat} {vs : List Value} {idx : Nat} (q1 : Cond.methodLink own idx ⟨ad, "clone", "()Ljava/lang/Object;"⟩ ∈ lw_all) (hsame : (Cond.sameMethod ad "java/lang/Object" "clone" "()Ljava/lang/Object;").before (xa X) (xs X) = true) (hsel : (Cond.selects ad ⟨ad, "clone", "()Ljava/lang/Object;"⟩ ⟨"java/lang/Object", "clone", "()Ljava/lang/Object;"⟩).before (xa X) (xs X) = true) (hcl : va_Nw (.castable ad "java/lang/Cloneable") (xs X))
    (hR : tj_R E σ H) (hlo : tj_lo E locs) (hl : ls.size = nL) (hG : hp_G σ a = some (t, vs)) (hft : ∀ w ∈ vs, fits ty w = true) (hW : (st.map fun v => v.category).sum ≤ 8) (hd : decode cc pc = .ok (.invokevirtual idx, 3)) (hc : cells + 1 ≤ (xR X).cells) (hs : slots + vs.length ≤ (xR X).slots)
    (kk : ∀ (H' : Heap), tj_R E (hp_add σ (t, vs) vs.length) H' → tj_W X H' locs (cells + 1) (slots + vs.length) Q (F0 (xm X) (pc + 3) ls (.ref (hp_n σ) :: st))) : tj_W X H locs cells slots Q (F0 (xm X) pc ls (.ref a :: st)) := by
  obtain ⟨hA, hRA⟩ := tj_ak B i9 hi9
  obtain ⟨cell, p1, p2, p3, p3', p4, p5, p6, p7⟩ := tj_arr (X := X) hA ht hR hG
  have e4 : cell.cls = tj_a E t := by rw [p5]; unfold tj_cls; rw [if_neg (by omega)]
  have hnm : (xs X).vm.findClass ad = some (tj_a E t) := by
    rw [← had]
    revert hRA
    unfold va_RA
    cases ty <;> first
      | (intro h; exact h)
      | (rintro ⟨kA, comp, -, -, -, h⟩; exact h)
  obtain ⟨c0, t0', f1, f2, f3⟩ := Cond.castable_spec (va_Nw.use (A := xa X) rfl hcl)
  cases hnm.symm.trans f1
  intro T hT Y
  obtain ⟨-, kA, hkA, comp, hkind⟩ := State.isArrayOf_alike Y.warmed.alike (hA 0 (fun _ => .null))
  obtain ⟨-, kS, hkS, compS, hkindS⟩ := hA 0 (fun _ => .null)
  obtain ⟨vm', Y', st9⟩ := Y.cloneArray B.ex B.ow (B.ts _ q1) hsame (B.ts _ q643) (B.ts _ q644) hsel (a := a) (cell := cell) (by rw [hT]; exact p1) (fun k h => by rw [h] at p3'; cases p3') p3 (by rw [e4]; exact hnm) f2 (by rw [e4]; exact f3)
    (fun i v hv => by
      rw [e4]
      have hk' : T.vm.classes[tj_a E t]? = some kA := hkA
      have hil : i < vs.length := by rw [← p7]; exact (Array.getElem?_eq_some_iff.mp hv).1
      have hv2 := p6 i _ (List.getElem?_eq_getElem hil)
      have e9 : vs[i] = v := Option.some.inj (hv2.symm.trans hv)
      have hf := hft vs[i] (List.getElem_mem hil)
      rw [e9] at hf
      simpa [State.fitsSlot, State.slotType?, hk', hkind] using hf)
    (g := F0 (xm X) pc ls (.ref a :: st)) rfl (by rw [B.ml]; exact hl) rfl (by rw [B.co]; exact hd) (Nat.le_trans (Nat.succ_le_succ (Nat.zero_le _)) B.fr) (by
      have hlo2 := B.lo
      show 2 * 0 + _ + 14 ≤ _
      omega) hc (by rw [p7]; exact hs) (hloader := by rw [e4]; exact Vm.clonesLoader_of_array hkS hkindS)
  rw [p7] at Y'
  have hn : H.size = hp_n σ := hR.1
  have hat : tj_at E (hp_n σ) (t, vs) (H.push { cls := cell.cls, slots := cell.slots }) := by
    refine ⟨{ cls := cell.cls, slots := cell.slots }, by rw [← hn, Array.getElem?_push_size], (fun h => by cases h), rfl, (fun _ => rfl), p5, (fun k v hk => ?_), (fun _ => p7), (fun h => absurd h (by show ¬ t < 100; omega))⟩
    have e6 : tj_sl E t k = k := by unfold tj_sl; rw [if_neg (by omega)]
    show cell.slots[tj_sl E t k]? = _
    rw [e6]
    exact p6 k v hk
  obtain ⟨t9, a1, b1⟩ := kk (H.push { cls := cell.cls, slots := cell.slots }) (hR.add (Array.size_push _) (fun q hq => by rw [Array.getElem?_push, if_neg (Nat.ne_of_lt hq)]) hat) _ (by rw [← hT]; rfl) Y'
  refine ⟨t9, st9 t9 ?_, b1⟩
  rw [show T.heap.size = hp_n σ by rw [hT]; exact hn]
  exact a1
theorem tj_clone102 {v : Option Nat} {idx : Nat} {f : Nat → mx_M α} (q1 : Cond.methodLink own idx ⟨"[J", "clone", "()Ljava/lang/Object;"⟩ ∈ lw_all) (hW : (st.map fun v => v.category).sum ≤ 8) (hd : decode cc pc = .ok (.invokevirtual idx, 3)) (k : ∀ (a : Nat) (σ1 : hp_S), tj_T E X own ini cc nL ret (d + 1) hh n0 s0 emb σ1 (pc + 3) L (va_rf (some a) :: st) (f a)) : tj_T E X own ini cc nL ret (d + 1) hh n0 s0 emb σ pc L (va_rf v :: st) (mx_bind (mx_cloneP 102 (fun w => fits .long w) v) f) := by
  intro o σe hx
  rcases mx_bind_some hx with ⟨a9, σ1, g1, g2⟩ | ⟨q, σ1, g1, g2⟩
  · obtain ⟨a, vs, e, hG, hft, e2⟩ := mx_cloneP_some g1
    obtain ⟨e3, e4⟩ := Prod.mk.inj e2
    cases e3
    subst e4
    subst e
    obtain ⟨⟨h1, h1'⟩, h2⟩ := k (hp_n σ) _ o σe g2
    rw [hp_n_add] at h1
    rw [hp_s_add] at h1'
    refine ⟨⟨by omega, by omega⟩, fun B H locs ls hR hlo hl n1 n2 c1 c2 => ?_⟩
    refine tj_cloneW B 2 (by decide) rfl (by rfl) q1 (B.ts _ q2977) (B.ts _ q2978) (B.ev.2.1 _ q2979 rfl) hR hlo hl.1 hG hft hW hd (by omega) (by omega) (fun H' hR' => ?_)
    have h3 := h2 B H' locs ls hR' hlo hl (by rw [hp_n_add]; omega) (by rw [hp_s_add]; omega) c1 c2
    rw [hp_n_add, hp_s_add, show hp_n σ + 1 - n0 = hp_n σ - n0 + 1 by omega, show hp_s σ + vs.length - s0 = hp_s σ - s0 + vs.length by omega] at h3
    exact h3
  · obtain ⟨a, vs, e, hG, hft, e2⟩ := mx_cloneP_some g1
    cases e2
theorem tj_clone101 {v : Option Nat} {idx : Nat} {f : Nat → mx_M α} (q1 : Cond.methodLink own idx ⟨"[B", "clone", "()Ljava/lang/Object;"⟩ ∈ lw_all) (hW : (st.map fun v => v.category).sum ≤ 8) (hd : decode cc pc = .ok (.invokevirtual idx, 3)) (k : ∀ (a : Nat) (σ1 : hp_S), tj_T E X own ini cc nL ret (d + 1) hh n0 s0 emb σ1 (pc + 3) L (va_rf (some a) :: st) (f a)) : tj_T E X own ini cc nL ret (d + 1) hh n0 s0 emb σ pc L (va_rf v :: st) (mx_bind (mx_cloneP 101 (fun w => fits .byte w) v) f) := by
  intro o σe hx
  rcases mx_bind_some hx with ⟨a9, σ1, g1, g2⟩ | ⟨q, σ1, g1, g2⟩
  · obtain ⟨a, vs, e, hG, hft, e2⟩ := mx_cloneP_some g1
    obtain ⟨e3, e4⟩ := Prod.mk.inj e2
    cases e3
    subst e4
    subst e
    obtain ⟨⟨h1, h1'⟩, h2⟩ := k (hp_n σ) _ o σe g2
    rw [hp_n_add] at h1
    rw [hp_s_add] at h1'
    refine ⟨⟨by omega, by omega⟩, fun B H locs ls hR hlo hl n1 n2 c1 c2 => ?_⟩
    refine tj_cloneW B 1 (by decide) rfl (by rfl) q1 (B.ts _ q642) (B.ts _ q645) (B.ev.2.1 _ q646 rfl) hR hlo hl.1 hG hft hW hd (by omega) (by omega) (fun H' hR' => ?_)
    have h3 := h2 B H' locs ls hR' hlo hl (by rw [hp_n_add]; omega) (by rw [hp_s_add]; omega) c1 c2
    rw [hp_n_add, hp_s_add, show hp_n σ + 1 - n0 = hp_n σ - n0 + 1 by omega, show hp_s σ + vs.length - s0 = hp_s σ - s0 + vs.length by omega] at h3
    exact h3
  · obtain ⟨a, vs, e, hG, hft, e2⟩ := mx_cloneP_some g1
    cases e2
theorem mx_cls_some {ts : List Nat} {v : Option Nat} {r : (Option Nat ⊕ Nat) × hp_S} (h : mx_cls ts v σ = some r) : ∃ (a t : Nat) (fs : List Value) (c : Option Nat), v = some a ∧ hp_G σ a = some (t, fs) ∧ t ∈ ts ∧ hp_e σ (1000 + t) = va_rf c ∧ r = (.inl c, σ) := by
  unfold mx_cls at h
  obtain ⟨t, h1, h⟩ := Option.bind_eq_some_iff.mp h
  obtain ⟨a, fs, e, hG⟩ := hp_tag_some h1
  split at h
  · rename_i hc
    obtain ⟨c, h2, h3⟩ := Option.map_eq_some_iff.mp h
    exact ⟨a, t, fs, c, e, hG, List.contains_iff_mem.mp hc, hp_ref_some h2, h3.symm⟩
  · cases h
theorem tj_getClass {v : Option Nat} {idx : Nat} {f : Option Nat → mx_M α} (q1 : Cond.methodLink own idx ⟨"java/lang/Object", "getClass", "()Ljava/lang/Class;"⟩ ∈ lw_all) (hW : (st.map fun v => v.category).sum ≤ 8) (hd : decode cc pc = .ok (.invokevirtual idx, 3)) (k : ∀ a : Option Nat, tj_T E X own ini cc nL ret (d + 1) hh n0 s0 emb σ (pc + 3) L (va_rf a :: st) (f a)) : tj_T E X own ini cc nL ret (d + 1) hh n0 s0 emb σ pc L (va_rf v :: st) (mx_bind (mx_cls [104] v) f) := by
  refine tj_rd (P := fun c => ∃ (a : Nat) (fs : List Value), v = some a ∧ hp_G σ a = some (104, fs) ∧ hp_e σ 1104 = va_rf c) (fun r h => ?_) (fun x hx B H locs c s Q ls hR hl w => ?_) k
  · obtain ⟨a, t, fs, c, e, hG, ht, he, e2⟩ := mx_cls_some h
    have ht2 : t = 104 := by simpa using ht
    subst ht2
    exact ⟨c, e2, a, fs, e, hG, he⟩
  · obtain ⟨a, fs, e, hG, he⟩ := hx
    subst e
    obtain ⟨mi, e1, hM⟩ := B.ev.2.2.2.2.2.2.2.2.1 ("[Ljava/lang/Object;", 1104) (ev_m 3 rfl)
    obtain ⟨hA, kA, comp, -, -, -, hfc⟩ := tj_ak B 4 (t := 104) rfl
    obtain ⟨cell, g1, g2, g3⟩ := tj_rcell hR hG
    have e2 : va_rf x = .ref mi := by rw [← he, hR.2.2.1]; exact e1
    rw [e2] at w
    exact va_getC B.ex B.co (by rw [B.ml]; exact hl.1.symm) B.ow (B.ts _ q1) (va_Nw.use rfl (B.ev.2.1 _ q2638 rfl)) (B.ts _ q4416) (B.ts _ q1182) (B.ts _ q1237) hM ⟨cell, g1, g2, by rw [g3]; exact hfc⟩ (Nat.le_trans (Nat.succ_le_succ (Nat.zero_le _)) B.fr) (by have hlo2 := B.lo; omega) hd w
theorem tj_selFace {A : Array Value} {s : State} {C xc n ds : String} (hx : xc ≠ "java/lang/invoke/MethodHandle" ∧ xc ≠ "java/lang/invoke/VarHandle") (hface : (Cond.interfaceMethod xc "java/lang/Object" n ds).before A s = true) (hsel : (Cond.selects C ⟨"java/lang/Object", n, ds⟩ ⟨"java/lang/Object", n, ds⟩).before A s = true) : (Cond.selects C ⟨xc, n, ds⟩ ⟨"java/lang/Object", n, ds⟩).before A s = true := by
  obtain ⟨cL, kL, r1, hcL, hkL, hiL, hfoundL, hn1⟩ := Cond.interfaceMethod_spec hface
  obtain ⟨c2, r2, m2, q1, q2, q3, q4, kP, hkP, hkPi⟩ := Cond.selects_spec hsel
  cases hn1.symm.trans q3
  cases (State.methodFound?_of_named hn1 (by simp only; decide)).symm.trans q2
  simp only [Cond.before, Cond.holds, Cond.value, q1, hfoundL, hn1, q4, hkP]
  simp
  exact hkPi
theorem tj_getClassF {v : Option Nat} {idx cnt : Nat} {f : Option Nat → mx_M α} (q1 : Cond.methodLink own idx ⟨"java/util/Collection", "getClass", "()Ljava/lang/Class;"⟩ ∈ lw_all) (hW : (st.map fun v => v.category).sum ≤ 8) (hd : decode cc pc = .ok (.invokeinterface idx cnt, 5)) (k : ∀ a : Option Nat, tj_T E X own ini cc nL ret (d + 1) hh n0 s0 emb σ (pc + 5) L (va_rf a :: st) (f a)) : tj_T E X own ini cc nL ret (d + 1) hh n0 s0 emb σ pc L (va_rf v :: st) (mx_bind (mx_cls [20, 21] v) f) := by
  refine tj_rd (P := fun c => ∃ (a t : Nat) (fs : List Value), v = some a ∧ hp_G σ a = some (t, fs) ∧ (t = 20 ∨ t = 21) ∧ hp_e σ (1000 + t) = va_rf c) (fun r h => ?_) (fun x hx B H locs c s Q ls hR hl w => ?_) k
  · obtain ⟨a, t, fs, c, e, hG, ht, he, e2⟩ := mx_cls_some h
    exact ⟨c, e2, a, t, fs, e, hG, by simpa using ht, he⟩
  · obtain ⟨a, t, fs, e, hG, ht, he⟩ := hx
    subst e
    obtain ⟨cell, g1, g2, g3⟩ := tj_rcell hR hG
    have key : ∀ (C : String) (T0 : u_T) (N : Nat) (mi : Nat), cl_tab[t]? = some (C, T0, N) → (Cond.selects C ⟨"java/lang/Object", "getClass", "()Ljava/lang/Class;"⟩ ⟨"java/lang/Object", "getClass", "()Ljava/lang/Class;"⟩).before (xa X) (xs X) = true → va_Nw (.unhidden C "getClass" "()Ljava/lang/Class;") (xs X) → va_Nw (.castable C "java/util/Collection") (xs X) → va_Mi C mi (xs X) → tj_e E (1000 + t) = .ref mi → tj_W X H locs c s Q (F0 (xm X) pc ls (.ref a :: st)) := by
      intro C T0 N mi hcl hsel0 hun hca hM e1
      have hfc := (tj_at100 B hcl).1
      have ht100 : t < 100 := by rcases ht with h | h <;> omega
      have hcc : cell.cls = E.1.1 t := by rw [g3]; unfold tj_cls; rw [if_pos ht100]
      obtain ⟨c0, k0, m1, m2, m3⟩ := hM
      cases hfc.symm.trans m1
      have e2 : va_rf x = .ref mi := by rw [← he, hR.2.2.1]; exact e1
      rw [e2] at w
      have hface : (Cond.interfaceMethod "java/util/Collection" "java/lang/Object" "getClass" "()Ljava/lang/Class;").before (xa X) (xs X) = true := va_Nw.use rfl B.ev.2.2.2.2.2.2.2.2.2.2.2.1
      have hsel := tj_selFace (by decide) hface hsel0
      intro T hT Y
      obtain ⟨vm', Y', st9⟩ := Y.getClassOfI (xi := ⟨"java/util/Collection", "getClass", "()Ljava/lang/Class;"⟩) B.ex B.ow (B.ts _ q1) (va_Nw.use rfl (B.ev.2.1 _ q2638 rfl)) hface hsel (B.ts _ q1182) (va_Nw.use rfl (B.ev.2.1 _ q2640 rfl)) (va_Nw.use rfl hun) (va_Nw.use rfl hca) (B.ts _ q1237) (by decide) (by decide) rfl rfl hfc m2 ⟨cell, by rw [hT]; exact g1, hcc, g2⟩ m3 (g := F0 (xm X) pc ls (.ref a :: st)) rfl (by rw [B.ml]; exact hl.1) rfl (by rw [B.co]; exact hd) (Nat.le_trans (Nat.succ_le_succ (Nat.zero_le _)) B.fr) (by
        have hlo2 := B.lo
        have hw : nativeFrameWords "java/lang/Object" "getClass" 1 = 3 := by decide
        show 2 * 0 + _ + _ ≤ _
        omega)
      obtain ⟨t9, a1, b1⟩ := w (T.setVm vm') hT Y'
      exact ⟨t9, st9 t9 a1, b1⟩
    rcases ht with ht | ht
    · subst ht
      obtain ⟨mi, e1, hM⟩ := B.ev.2.2.2.2.2.2.2.2.1 ("java/util/TreeMap$Values", 1020) (ev_m 1 rfl)
      exact key _ _ _ mi rfl (B.ts _ q1235) (B.ev.2.1 _ q2648 rfl) (B.ev.2.1 _ q1017 rfl) hM e1
    · subst ht
      obtain ⟨mi, e1, hM⟩ := B.ev.2.2.2.2.2.2.2.2.1 ("java/util/TreeMap$KeySet", 1021) (ev_m 2 rfl)
      exact key _ _ _ mi rfl (B.ts _ q1233) (B.ev.2.1 _ q2647 rfl) (B.ev.2.1 _ q990 rfl) hM e1
theorem tj_fill {v : Option Nat} {idx : Nat} {f : Unit → mx_M α} (q1 : Cond.methodLink own idx ⟨"java/lang/Throwable", "fillInStackTrace", "()Ljava/lang/Throwable;"⟩ ∈ lw_all) (hW : (st.map fun v => v.category).sum ≤ 8) (hd : decode cc pc = .ok (.invokevirtual idx, 3)) (k : tj_T E X own ini cc nL ret (d + 1) hh n0 s0 emb σ (pc + 3) L (va_rf v :: st) (f ())) : tj_T E X own ini cc nL ret (d + 1) hh n0 s0 emb σ pc L (va_rf v :: st) (mx_bind (mx_ge 1 d (mx_fill v)) f) := by
  sorry
theorem tj_cause {v : Option Nat} {idx : Nat} {f : Option Nat → mx_M α} (q1 : Cond.methodLink own idx ⟨"LionGate$CommandFailure", "getCause", "()Ljava/lang/Throwable;"⟩ ∈ lw_all) (hW : (st.map fun v => v.category).sum ≤ 8) (hd : decode cc pc = .ok (.invokevirtual idx, 3)) (k : ∀ c : Option Nat, tj_T E X own ini cc nL ret (d + 1) hh n0 s0 emb σ (pc + 3) L (va_rf c :: st) (f c)) : tj_T E X own ini cc nL ret (d + 1) hh n0 s0 emb σ pc L (va_rf v :: st) (mx_bind (mx_cause v) f) := by
  sorry
end TJ9
