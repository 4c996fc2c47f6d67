/-! ROWS: a standard exception made; Throwable's synchronized methods (begun from kit/laws/EXCEPTIONS: vx_back9, vx_make0) -/
section
variable {p : Program} {l : Launch} {e : Env} {R : Room} {s : State} {m : MethodId} {args : Array Value} {below : List Frame} {meth : Method} {c : Code} {H : Heap} {locs : List Loc} {cells slots : Nat}
/-- a frame seen from a rebased start, seen from the first start again -/
theorem vx_back9 {T S : State} {R' : Room} {k n : Nat} (X : Stand p l e R s m args below meth c T locs cells slots) (Y : Stand p l e R' ((T.setVm s.vm).setFrames (.invoking m args :: below)) m args below meth c T [] 0 0) (Z : Stand p l e R' ((T.setVm s.vm).setFrames (.invoking m args :: below)) m args below meth c S [] k n) :
    Stand p l e R s m args below meth c S locs (cells + k) (slots + n) := by
  have hW0 : s.WarmedH ((T.setVm s.vm).setFrames (.invoking m args :: below)).vm := State.WarmedH.refl s
  refine { admits := X.admits, cas := X.cas, clock := X.clock, frames := X.frames, room := X.room, hears := X.hears, method := X.method, code := X.code, here := Z.here, tail := Z.tail, warmed := State.WarmedH.trans hW0 Z.warmed, limits := Z.limits.trans (Y.limits.symm.trans X.limits), bytes := Z.bytes.trans (Y.bytes.symm.trans X.bytes), same := ?_ }
  obtain ⟨e1, e2⟩ := Z.same
  rw [State.setFrames_setFrames] at e1
  have h2 : (T.setVm s.vm).sameButNew (S.setVm s.vm) [] k n := ⟨e1, e2⟩
  have h3 := X.same.trans h2
  rw [List.append_nil] at h3
  exact h3
end
theorem ev_w_tab {w : Cond} (h : ev_w w = true) : w.onTables = true := by
  cases w <;> first
    | rfl
    | (simp [ev_w] at h)
theorem ex_split {L : List Cond} (G N : List Nat) (h1 : L.filter goodWord = G.filterMap (fun i => lw_tbl[i]?)) (h2 : L.filter (fun w => !goodWord w) = N.filterMap (fun i => lw_tbl[i]?)) (h3 : (L.filter (fun w => !goodWord w)).all ev_w = true) : ∀ w ∈ L, w ∈ lw_all ∨ (w ∈ lw_tbl ∧ ev_w w = true) := by
  intro w hw
  by_cases g : goodWord w = true
  · left
    have hm : w ∈ L.filter goodWord := List.mem_filter.mpr ⟨hw, g⟩
    rw [h1] at hm
    obtain ⟨i, -, hi⟩ := List.mem_filterMap.mp hm
    exact lw_w i hi g
  · right
    have hm : w ∈ L.filter (fun w => !goodWord w) := List.mem_filter.mpr ⟨hw, by cases hg : goodWord w; rfl; exact absurd hg g⟩
    refine ⟨?_, List.all_eq_true.mp h3 w hm⟩
    rw [h2] at hm
    obtain ⟨i, -, hi⟩ := List.mem_filterMap.mp hm
    exact List.mem_of_getElem? hi
/-- a standard exception made: new, dup, its constructor without arguments -/
def ex_ok (own : String) (ic im t : Nat) : Prop := ∃ (cls : String) (T : u_T) (names : List String), cl_tab[t]? = some (cls, T, 0) ∧ Cond.classLink own ic cls ∈ lw_all ∧ Bundle.fit cls = true ∧ (∀ n ∈ names, Bundle.fit n = true) ∧ names.length ≤ 3 ∧ Cond.initialized cls ∈ lw_all ∧ ∀ w ∈ vx_at0 own im cls names, w ∈ lw_all ∨ (w ∈ lw_tbl ∧ ev_w w = true)
section TJA
variable {α β : Type} {E : tj_E} {X : tj_X} {own ini : String} {cc : ByteArray} {nL : Nat} {ret : Option FieldType} {d : Nat} {hh : List (Nat × Nat × Nat × Nat)} {n0 s0 : Nat} {emb : α → Option Value} {σ : hp_S} {pc : Nat} {L : List (Option Value)} {st rest : List Value} {H : Heap} {locs : List Loc} {ls : Array Slot} {cells slots : Nat} {Q : State → Prop}
/-- a word of the law's list, at another state of the same tables -/
theorem tj_at9 (B : tj_C E X own ini cc nL ret d hh) {U : State} (hW : (xs X).WarmedH U.vm) {w : Cond} (h : w ∈ lw_all ∨ (w ∈ lw_tbl ∧ ev_w w = true)) : w.before (xa X) U = true := by
  rcases h with h | ⟨h, h2⟩
  · exact word_at hW (lw_self w h).2 (B.ts w h)
  · exact va_Nw.use (ev_w_tab h2) (ev_w_warm hW w h2 (B.ev.2.1 w h h2))
theorem tj_keptZ {C n dd : String} {v : Value} {U : State} (hR : tj_R E σ H) (h : va_Z C n dd v (fun q => tj_b E ≤ q) U (tj_H E)) : va_Z C n dd v (fun q => tj_b E ≤ q) U H := h.kept (fun q _ hq => hR.2.2.2.2.1 q (Nat.not_le.mp hq))
theorem tj_keptL {C n dd : String} {U : State} (hR : tj_R E σ H) (h : vx_L C n dd (fun q => tj_b E ≤ q) U (tj_H E)) : vx_L C n dd (fun q => tj_b E ≤ q) U H := h.kept (fun q _ hq => hR.2.2.2.2.1 q (Nat.not_le.mp hq))
theorem tj_mk0W (B : tj_C E X own ini cc nL ret (d + 1) hh) (hd6 : 6 ≤ d) {t ic im : Nat} (hx : ex_ok own ic im t) (hR : tj_R E σ H) (hlo : tj_lo E locs) (hl : ls.size = nL) (hW : (st.map fun v => v.category).sum ≤ 8) (d0 : decode cc pc = .ok (.new ic, 3)) (d3 : decode cc (pc + 3) = .ok (.dup, 1)) (d4 : decode cc (pc + 4) = .ok (.invokespecial im, 3)) (hRcells : cells + 1 ≤ (xR X).cells) (hRslots : slots + 6 ≤ (xR X).slots)
    (kk : ∀ (H' : Heap), tj_R E (hp_add σ (t, []) 6) H' → tj_W X H' locs (cells + 1) (slots + 6) Q (F0 (xm X) (pc + 7) ls (.ref (hp_n σ) :: st))) : tj_W X H locs cells slots Q (F0 (xm X) pc ls st) := by
  obtain ⟨cls, T0, names, htab, hk, hcls, hnames, hlen, hini, hat⟩ := hx
  have hcK := tj_at100 B htab
  have ht100 : t < 100 := by
    have h1 : t < cl_tab.length := (List.getElem?_eq_some_iff.mp htab).1
    have h2 : cl_tab.length = 40 := rfl
    omega
  intro T hT Y0
  subst hT
  have htr : (xe X).platform.stackTraces = false := (show (xe X).platform.stackTraces = (xl X).stackTraces by rw [Y0.admits.platform]).trans (by rw [Launch.stackTraces, B.fl]; rfl)
  have hlo9 := B.lo
  have hfr9 := B.fr
  have Y := vx_rebase Y0 (R' := { frames := (xR X).frames, locals := (xR X).locals, cells := 1, slots := 6 }) (Nat.le_refl _) (Nat.le_refl _) hRcells hRslots
  obtain ⟨s', hA'⟩ : ∃ z, z = (T.setVm (xs X).vm).setFrames (.invoking (xm X) (xa X) :: (xb X)) := ⟨_, rfl⟩
  rw [← hA'] at Y
  have hvm : s'.vm = (xs X).vm := by rw [hA']; rfl
  have hhp : s'.heap = T.heap := by rw [hA']; rfl
  have hW0 : (xs X).WarmedH s'.vm := by rw [hvm]; exact State.WarmedH.refl (xs X)
  have hat' : ∀ w ∈ vx_at0 own im cls names, w.before (xa X) s' = true := fun w hw => tj_at9 B hW0 (hat w hw)
  have hk' : (Cond.classLink own ic cls).before (xa X) s' = true := tj_at9 B hW0 (Or.inl hk)
  have hini' : (Cond.initialized cls).before (xa X) s' = true := tj_at9 B hW0 (Or.inl hini)
  have hEv := (ev_E0.warm hW0 B.ev.2)
  have hU' : va_Z Bundle.tN "UNASSIGNED_STACK" Bundle.steD (tj_e E 2) (fun q => tj_b E ≤ q) s' s'.heap := by rw [hhp]; exact tj_keptZ hR (hEv.2.2.2.2.1 (Bundle.tN, "UNASSIGNED_STACK", Bundle.steD, 2) (ev_s 2 rfl))
  have hN' : va_Z Bundle.tN "SUPPRESSED_SENTINEL" Bundle.listD (tj_e E 3) (fun q => tj_b E ≤ q) s' s'.heap := by rw [hhp]; exact tj_keptZ hR (hEv.2.2.2.2.1 (Bundle.tN, "SUPPRESSED_SENTINEL", Bundle.listD, 3) (ev_s 3 rfl))
  have hUL : vx_L Bundle.tN "UNASSIGNED_STACK" Bundle.steD (fun q => tj_b E ≤ q) s' s'.heap := by rw [hhp]; exact tj_keptL hR hEv.2.2.2.2.2.2.2.2.2.2.2.1
  have hNL : vx_L Bundle.tN "SUPPRESSED_SENTINEL" Bundle.listD (fun q => tj_b E ≤ q) s' s'.heap := by rw [hhp]; exact tj_keptL hR hEv.2.2.2.2.2.2.2.2.2.2.2.2.1
  have h : ∀ w ∈ Bundle.ownAtoms0 own im cls names, w.before (xa X) s' = true := vx_own hat' (vx_isRef hU' hEv.2.2.2.2.2.2.2.2.2.2.2.2.2.1) (vx_isRef hN' hEv.2.2.2.2.2.2.2.2.2.2.2.2.2.2.1) hUL.word hNL.word
  have hown' : s'.vm.findClass own = some (xm X).cls := by rw [hvm]; exact B.ow
  have hins : (Cond.instantiable cls 6).before (xa X) s' = true := h _ (by simp [Bundle.ownAtoms0])
  obtain ⟨vm₁, cX, kX, hfX, hkX, -, -, X₁, st1⟩ := Y.newCold B.ex (own := own) (C := cls) (index := ic) (n := 6) hown' hk' hins hini'
    (g := F0 (xm X) pc ls st) rfl (by rw [B.co]; exact d0) (Nat.le_refl _) (Nat.le_refl _)
  generalize hT1 : (T.setVm vm₁).pushCell { cls := cX, slots := kX.instanceTypes.map defaultValue, vm := .none } = T1 at X₁ st1
  have hcat : (Value.ref T.heap.size).category = 1 := rfl
  have hcellA : T1.heap[T.heap.size]? = some (freshCell cX kX) := by rw [← hT1]; exact State.heap_pushCell_size _ _
  have d3' : decode (xc X).code (pc + 3) = .ok (.dup, 1) := by rw [B.co]; exact d3
  obtain ⟨V, ce, Lc, Z, hL, hlt, hcl9, hvm9, st9⟩ := vx_ctorMade0 X₁ B.ex htr (own := own) (cls := cls) (names := names) (ic := im) hown' hcls hnames h (fun x hx => nomatch hx) hfX hkX hcellA (by rw [hhp]; exact Nat.le_refl _)
    (g := { method := xm X, pc := pc + 4, locals := ls, stack := .ref T.heap.size :: .ref T.heap.size :: st, locked := none }) rfl (by rw [B.ml]; exact hl) (rest := st) rfl
    (by rw [B.co]; exact d4) (by show names.length + 3 < (xR X).frames; omega) (by simp only [List.map_cons, List.sum_cons, hcat]; show 2 * 0 + _ + _ ≤ (xR X).locals; omega)
  have Z0 := Stand.forget (locs := []) Z (fun y hy => by rw [hL y hy, hhp]; exact Nat.le_refl _)
  obtain ⟨f1, f2⟩ := vx_frame Z0.same
  rw [hhp] at f1 f2
  have hcid : ce.cls = tj_cls E t := by
    rw [hcl9]
    rw [hvm] at hfX
    unfold tj_cls
    rw [if_pos ht100]
    exact Option.some.inj (hfX.symm.trans hcK.1)
  have hh9 : (V.setCell T.heap.size ce).heap[T.heap.size]? = some ce := heapAt_setCell_self (s := V) ce hlt
  subst hA'
  have X5 := vx_back9 Y0 Y Z0
  have hsz : (V.setCell T.heap.size ce).heap.size = T.heap.size + 1 := by
    have h8 := Z0.same.2.2.1
    have h9 : (V.setCell T.heap.size ce).heap.size = V.heap.size := by simp [State.setCell]
    have h10 : (V.setCell T.heap.size ce).heap.size ≤ T.heap.size + 1 := h8
    have h11 : T.heap.size + 1 ≤ (V.setCell T.heap.size ce).heap.size := by rw [h9]; exact hlt
    exact Nat.le_antisymm h10 h11
  have hn : T.heap.size = hp_n σ := hR.1
  obtain ⟨t9, a1, b1⟩ := kk (V.setCell T.heap.size ce).heap (hR.add hsz (fun q hq => f2 q hq (fun z hz => nomatch hz)) ⟨ce, by rw [← hn]; exact hh9, (by rw [hvm9]; exact (fun h => by cases h)), (by rw [hvm9]; rfl), (fun _ => hvm9), hcid, (fun j v hj => by simp at hj), (fun h9 => absurd h9 (by show ¬ 100 ≤ t; omega)), (fun _ => ⟨_, htab, Nat.zero_le _⟩)⟩) _ rfl X5
  refine ⟨t9, st1 _ ?_, b1⟩
  show Steps (xp X).tables (xe X) (xb X) (T1.setTop { method := xm X, pc := pc + 3, locals := ls, stack := .ref T.heap.size :: st, locked := none }) _
  jvm_step X₁.here [X₁.here.top, B.ex, d3', Value.category]
  refine st9 _ ?_
  rw [← hn] at a1
  exact a1
theorem tj_mk0 {t ic im : Nat} {f : Nat → mx_M α} (hx : ex_ok own ic im t) (hW : (st.map fun v => v.category).sum ≤ 8) (h1 : decode cc pc = .ok (.new ic, 3)) (h2 : decode cc (pc + 3) = .ok (.dup, 1)) (h3 : decode cc (pc + 4) = .ok (.invokespecial im, 3)) (k : ∀ (a : Nat) (σ1 : hp_S), tj_T E X own ini cc nL ret (d + 1) hh n0 s0 emb σ1 (pc + 7) L (va_rf (some a) :: st) (f a)) : tj_T E X own ini cc nL ret (d + 1) hh n0 s0 emb σ pc L st (mx_bind (mx_ge 6 d (mx_new (t, []) 6)) f) := by
  have key : ∀ r, mx_ge 6 d (mx_new (t, []) 6) σ = some r → 6 ≤ d ∧ r = (.inl (hp_n σ), hp_add σ (t, []) 6) := by
    intro r h
    unfold mx_ge at h
    split at h
    · rename_i hc
      cases h
      exact ⟨hc, rfl⟩
    · cases h
  refine tj_mk (o := (t, [])) (sz := 6) (fun r h => (key r h).2) (fun hr B H locs c s Q ls hR hlo hl hc hs kk => ?_) k
  obtain ⟨r, hr⟩ := hr
  exact tj_mk0W B (key r hr).1 hx hR hlo hl.1 hW h1 h2 h3 hc hs kk
end TJA
