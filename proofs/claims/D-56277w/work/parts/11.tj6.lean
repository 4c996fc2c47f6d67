/-! CONTRACTS (ct_) AND CALLS -/
def tj_rm (d c s : Nat) : Room := { frames := d, cells := c, slots := s, locals := 64 * d }
def tj_Pc (E : tj_E) (as : List Value) (σ : hp_S) : Array Value → State → Prop := fun v U => v = as.toArray ∧ tj_R E σ U.heap ∧ ev_E E U
/-- method y, called with as, does what x does: whatever x comes to, y comes to -/
def ct_ {α : Type} (y : MethodName) (ws : List Cond) (d : Nat) (emb : α → Option Value) (as : List Value) (x : mx_M α) : Prop := ∀ (X : tj_X) (E : tj_E) (σ : hp_S) (o : α ⊕ Nat) (σe : hp_S), x σ = some (o, σe) → (hp_n σ ≤ hp_n σe ∧ hp_s σ ≤ hp_s σe) ∧ ∀ (l : Launch), l.flags = flags0 →
  vx_Met l y ws (tj_rm d (hp_n σe - hp_n σ) (hp_s σe - hp_s σ)) (tj_Pc E as σ) (tj_Qc E emb o σe) (tj_XC E o σe) (hp_n σe - hp_n σ) (hp_s σe - hp_s σ) (tj_fr E)
theorem tj_blind {E : tj_E} {as : List Value} {σ : hp_S} : FrameBlind (tj_Pc E as σ) := fun a U g mk h => ⟨h.1, h.2.1, ev_E.warm (State.WarmedH.refl U) h.2.2⟩
theorem ct_fail {α : Type} {y : MethodName} {ws : List Cond} {d : Nat} {emb : α → Option Value} {as : List Value} : ct_ y ws d emb as (mx_fail : mx_M α) := fun X E σ o σe h => by cases h
def tj_non : List (Option Value) → Prop
  | [] => True
  | none :: L => tj_non L
  | some _ :: _ => False
/-- the locals with which a method begins (kinds: true is a value of two slots) -/
def tj_ent : List (Bool × Value) → List (Option Value) → Prop
  | [], L => tj_non L
  | (false, v) :: vs, some w :: L => w = v ∧ v.category = 1 ∧ tj_ent vs L
  | (true, v) :: vs, some w :: none :: L => w = v ∧ v.category = 2 ∧ tj_ent vs L
  | _, _ => False
theorem tj_non_at : ∀ (L : List (Option Value)), tj_non L → ∀ (i : Nat) (v : Value), L[i]? = some (some v) → False
  | [], _, i, v, h => by simp at h
  | none :: L, hn, i, v, h => by
    cases i with
    | zero => simp at h
    | succ i => exact tj_non_at L hn i v (by simpa using h)
  | some _ :: _, hn, _, _, _ => hn
theorem tj_ent_at : ∀ (vs : List (Bool × Value)) (L : List (Option Value)) (j : Nat), tj_ent vs L → (lg_sl (vs.map Prod.snd)).length ≤ L.length ∧ ∀ (i : Nat) (v : Value), L[i]? = some (some v) → (j + i, v) ∈ lv_args j (vs.map Prod.snd)
  | [], L, j, h => ⟨by simp [lg_sl], fun i v hi => False.elim (tj_non_at L h i v hi)⟩
  | (false, v) :: vs, some w :: L, j, h => by
    obtain ⟨h1, h2, h3⟩ := h
    obtain ⟨g1, g2⟩ := tj_ent_at vs L (j + 1) h3
    refine ⟨?_, fun i u hi => ?_⟩
    · have : lg_sl (((false, v) :: vs).map Prod.snd) = Slot.val v :: lg_sl (vs.map Prod.snd) := by simp [lg_sl, h2]
      rw [this]
      simp only [List.length_cons]
      omega
    · show _ ∈ lv_args j (v :: vs.map Prod.snd)
      rw [lv_args, h2]
      cases i with
      | zero =>
        simp at hi
        subst hi
        rw [h1]
        exact List.mem_cons_self
      | succ i =>
        have := g2 i u (by simpa using hi)
        rw [show j + 1 + i = j + (i + 1) by omega] at this
        exact List.mem_cons_of_mem _ this
  | (true, v) :: vs, some w :: none :: L, j, h => by
    obtain ⟨h1, h2, h3⟩ := h
    obtain ⟨g1, g2⟩ := tj_ent_at vs L (j + 2) h3
    refine ⟨?_, fun i u hi => ?_⟩
    · have : lg_sl (((true, v) :: vs).map Prod.snd) = Slot.val v :: Slot.second :: lg_sl (vs.map Prod.snd) := by simp [lg_sl, h2]
      rw [this]
      simp only [List.length_cons]
      omega
    · show _ ∈ lv_args j (v :: vs.map Prod.snd)
      rw [lv_args, h2]
      cases i with
      | zero =>
        simp at hi
        subst hi
        rw [h1]
        exact List.mem_cons_self
      | succ i =>
        cases i with
        | zero => simp at hi
        | succ i =>
          have := g2 i u (by simpa using hi)
          rw [show j + 2 + i = j + (i + 1 + 1) by omega] at this
          exact List.mem_cons_of_mem _ this
  | (false, _) :: _, [], _, h => False.elim h
  | (false, _) :: _, none :: _, _, h => False.elim h
  | (true, _) :: _, [], _, h => False.elim h
  | (true, _) :: _, none :: _, _, h => False.elim h
  | (true, _) :: _, [some _], _, h => False.elim h
  | (true, _) :: _, some _ :: some _ :: _, _, h => False.elim h
section CT
variable {α β : Type} {y : MethodName} {cc : ByteArray} {nL : Nat} {ret : Option FieldType} {d : Nat} {emb : α → Option Value} {x : mx_M α}
theorem tj_ent_ls {vs : List (Bool × Value)} {L : List (Option Value)} (h : tj_ent vs L) (hL : L.length = nL) : tj_ls ((lg_sl (vs.map Prod.snd) ++ List.replicate (nL - (lg_sl (vs.map Prod.snd)).length) Slot.unset).toArray) nL L := by
  obtain ⟨h1, h2⟩ := tj_ent_at vs L 0 h
  have h3 := lv_entry (vs.map Prod.snd) (n := nL) (by rw [← hL]; exact h1)
  exact ⟨h3.1, h3.2.1, hL, fun i v hi => h3.2.2 (i, v) (by simpa using h2 i v hi)⟩
/-- a contract out of a walk of the body -/
theorem ct_of (vs : List (Bool × Value)) (L : List (Option Value)) (hy : plainName y.cls = true) (hL : L.length = nL) (he : tj_ent vs L)
    (body : ∀ (E : tj_E) (X : tj_X) (n0 s0 : Nat) (σ : hp_S), tj_T E X y.cls y.name cc nL ret d [] n0 s0 emb σ 0 L [] x) : ct_ y (ws_ y cc nL ret) d emb (vs.map Prod.snd) x := by
  intro X0 E σ o σe hx
  obtain ⟨hm, -⟩ := body E X0 (hp_n σ) (hp_s σ) σ o σe hx
  refine ⟨hm, fun l hl => ?_⟩
  refine vx_ofW (cc := cc) (maxL := nL) (ret := ret) hy rfl ?_
  intro p e s m args below meth c s₁ B hml ht hv
  obtain ⟨rfl, hR, hE⟩ := hv
  have hts0 := atoms_spec (ws := ws_ y cc nL ret) B.pre
  have hts : ∀ w ∈ lw_all, w.before _ s = true := fun w h => hts0 w (List.mem_cons_of_mem _ h)
  have hxt : c.exceptionTable.toList = tableOf [] := by
    cases hc : c.exceptionTable.toList with
    | nil => rfl
    | cons a t => exact absurd (by rw [hc]; exact List.mem_cons_self) (ht a)
  have hB : tj_C E (p, l, e, (headSpec (ws_ y cc nL ret) (tj_rm d (hp_n σe - hp_n σ) (hp_s σe - hp_s σ))).room, s, m, (vs.map Prod.snd).toArray, below, meth, c) y.cls y.name cc nL ret d [] := ⟨B.exec, B.bytes, B.returns, hml, findClass_of_methodNamed B.named, B.notSynchronized, hts, hE, hxt, Nat.le_refl _, Nat.le_refl _, hl, (name_of_methodNamed B.named B.method).1⟩
  have h3 := (body E _ (hp_n σ) (hp_s σ) σ o σe hx).2 hB s.heap [] _ hR (fun q h => by cases h) (tj_ent_ls he hL) (Nat.le_refl _) (Nat.le_refl _) (Nat.le_refl _) (Nat.le_refl _)
  rw [Nat.sub_self, Nat.sub_self] at h3
  rw [lg_entry_eq]
  exact h3
/-- .. of a body with handlers -/
theorem ct_ofH {hh : List (Nat × Nat × Nat × Nat)} (vs : List (Bool × Value)) (L : List (Option Value)) (hy : plainName y.cls = true) (hL : L.length = nL) (he : tj_ent vs L)
    (body : ∀ (E : tj_E) (X : tj_X) (n0 s0 : Nat) (σ : hp_S), tj_T E X y.cls y.name cc nL ret d hh n0 s0 emb σ 0 L [] x) : ct_ y (wsW_ y cc nL ret hh) d emb (vs.map Prod.snd) x := by
  intro X0 E σ o σe hx
  obtain ⟨hm, -⟩ := body E X0 (hp_n σ) (hp_s σ) σ o σe hx
  refine ⟨hm, fun l hl => ?_⟩
  refine vx_ofWH (cc := cc) (maxL := nL) (ret := ret) hy rfl ?_
  intro p e s m args below meth c s₁ B hml hv
  obtain ⟨rfl, hR, hE⟩ := hv
  have hts0 := atoms_spec (ws := wsW_ y cc nL ret hh) B.pre
  have hts : ∀ w ∈ lw_all, w.before _ s = true := fun w h => hts0 w (List.mem_cons_of_mem _ h)
  have hxt : c.exceptionTable.toList = tableOf hh := vx_table (x := y) B (hts0 _ List.mem_cons_self)
  have hB : tj_C E (p, l, e, (headSpec (wsW_ y cc nL ret hh) (tj_rm d (hp_n σe - hp_n σ) (hp_s σe - hp_s σ))).room, s, m, (vs.map Prod.snd).toArray, below, meth, c) y.cls y.name cc nL ret d hh := ⟨B.exec, B.bytes, B.returns, hml, findClass_of_methodNamed B.named, B.notSynchronized, hts, hE, hxt, Nat.le_refl _, Nat.le_refl _, hl, (name_of_methodNamed B.named B.method).1⟩
  have h3 := (body E _ (hp_n σ) (hp_s σ) σ o σe hx).2 hB s.heap [] _ hR (fun q h => by cases h) (tj_ent_ls he hL) (Nat.le_refl _) (Nat.le_refl _) (Nat.le_refl _) (Nat.le_refl _)
  rw [Nat.sub_self, Nat.sub_self] at h3
  rw [lg_entry_eq]
  exact h3
end CT
/-! calls -/
section CALL
variable {α β : Type} {E : tj_E} {X : tj_X} {own ini : String} {cc : ByteArray} {nL : Nat} {ret : Option FieldType} {d : Nat} {hh : List (Nat × Nat × Nat × Nat)} {n0 s0 : Nat} {emb : α → Option Value} {σ : hp_S} {pc : Nat} {L : List (Option Value)} {st rest : List Value} {H : Heap} {locs : List Loc} {ls : Array Slot} {cells slots : Nat} {Q : State → Prop}
variable {em : β → Option Value} {x : mx_M β} {f : β → mx_M α} {h : Nat → mx_M α}
/-- a call run: it comes back with σ1, returning or throwing as o says -/
def tj_Rn (E : tj_E) (X : tj_X) (H : Heap) (locs : List Loc) (c s mc ms : Nat) (g : JFrame) (rest : List Value) (len : Nat) (em : β → Option Value) (o : β ⊕ Nat) (σ1 : hp_S) : Prop :=
  ∀ T : State, T.heap = H → Stand (xp X) (xl X) (xe X) (xR X) (xs X) (xm X) (xa X) (xb X) (xh X) (xc X) T locs c s → ∃ (T' : State) (locs' : List Loc), Stand (xp X) (xl X) (xe X) (xR X) (xs X) (xm X) (xa X) (xb X) (xh X) (xc X) T' locs' (c + mc) (s + ms) ∧ tj_lo E locs' ∧ tj_R E σ1 T'.heap ∧
    ((∃ r, o = .inl r ∧ ∀ target, Steps (xp X).tables (xe X) (xb X) (T'.setTop { g with pc := g.pc + len, stack := (em r).toList ++ rest }) target → Steps (xp X).tables (xe X) (xb X) (T.setTop g) target) ∨
     (∃ q, o = .inr q ∧ (∃ (C : String) (ce : Cell) (tt : Nat) (T0 : u_T) (N : Nat), T'.heap[q]? = some ce ∧ ce.vm = .none ∧ (xs X).vm.findClass C = some ce.cls ∧ hp_tag σ1 (some q) = some tt ∧ tt < 100 ∧ cl_tab[tt]? = some (C, T0, N)) ∧ Steps (xp X).tables (xe X) (xb X) (T.setTop g) ((T'.setTop { g with stack := rest }).pushFrame (.throwing q))))
theorem tj_lapp {a b : List Loc} (h1 : tj_lo E a) (h2 : ∀ q ∈ b, tj_fr E q.base) : tj_lo E (a ++ b) := by
  intro q hq
  rcases List.mem_append.mp hq with h | h
  · exact h1 q h
  · exact h2 q h
theorem tj_rn3 {mc ms : Nat} {g : JFrame} {o : β ⊕ Nat} {σ1 : hp_S} {a : Array Value} (hlo : tj_lo E locs) (hr : vx_Run (xp X) (xl X) (xe X) (xR X) (xs X) (xm X) (xa X) (xb X) (xh X) (xc X) H locs cells slots mc ms g rest (tj_Qc E em o σ1 a) (tj_XC E o σ1) (tj_fr E)) : tj_Rn E X H locs cells slots mc ms g rest 3 em o σ1 := by
  intro T hT Y
  rcases hr T hT Y with ⟨v, st0, t, T', Ls, h1, h2, h3, h4, h5, ⟨r, e1, e2, e3⟩, h7⟩ | ⟨q, st0, t, T', Ls, C, ce, h1, h2, h3, h4, h5, ⟨e1, e2, tt, T0, N, e3, e4, e5⟩, r1, r2, r3, h7⟩
  · refine ⟨T', _, h2, tj_lapp hlo h3, by rw [h4]; exact e3, Or.inl ⟨r, e1, ?_⟩⟩
    cases e2
    exact h7
  · exact ⟨T', _, h2, tj_lapp hlo h3, by rw [h4]; exact e2, Or.inr ⟨q, e1, ⟨C, ce, tt, T0, N, by rw [h4]; exact r1, r2, r3, e3, e4, e5⟩, h7⟩⟩
theorem tj_rn5 {mc ms : Nat} {g : JFrame} {o : β ⊕ Nat} {σ1 : hp_S} {a : Array Value} (hlo : tj_lo E locs) (hr : vx_Run5 (xp X) (xl X) (xe X) (xR X) (xs X) (xm X) (xa X) (xb X) (xh X) (xc X) H locs cells slots mc ms g rest (tj_Qc E em o σ1 a) (tj_XC E o σ1) (tj_fr E)) : tj_Rn E X H locs cells slots mc ms g rest 5 em o σ1 := by
  intro T hT Y
  rcases hr T hT Y with ⟨v, st0, t, T', Ls, h1, h2, h3, h4, h5, ⟨r, e1, e2, e3⟩, h7⟩ | ⟨q, st0, t, T', Ls, C, ce, h1, h2, h3, h4, h5, ⟨e1, e2, tt, T0, N, e3, e4, e5⟩, r1, r2, r3, h7⟩
  · refine ⟨T', _, h2, tj_lapp hlo h3, by rw [h4]; exact e3, Or.inl ⟨r, e1, ?_⟩⟩
    cases e2
    exact h7
  · exact ⟨T', _, h2, tj_lapp hlo h3, by rw [h4]; exact e2, Or.inr ⟨q, e1, ⟨C, ce, tt, T0, N, by rw [h4]; exact r1, r2, r3, e3, e4, e5⟩, h7⟩⟩
theorem mx_try_some {r : (α ⊕ Nat) × hp_S} (hx : mx_try x f h σ = some r) : (∃ v σ1, x σ = some (.inl v, σ1) ∧ f v σ1 = some r) ∨ ∃ q σ1, x σ = some (.inr q, σ1) ∧ h q σ1 = some r := by
  unfold mx_try at hx
  split at hx
  · rename_i v σ1 h1
    exact Or.inl ⟨v, σ1, h1, hx⟩
  · rename_i q σ1 h1
    exact Or.inr ⟨q, σ1, h1, hx⟩
  · cases hx
/-- a call in a handler's reach, or not -/
theorem tj_run {st' : β → List Value} (len : Nat) (hs : ∀ v, st' v = (em v).toList ++ rest) (hm : ∀ o σ1, x σ = some (o, σ1) → hp_n σ ≤ hp_n σ1 ∧ hp_s σ ≤ hp_s σ1)
    (hr : ∀ o σ1, x σ = some (o, σ1) → tj_C E X own ini cc nL ret d hh → ∀ (H : Heap) (locs : List Loc) (c s : Nat) (ls : Array Slot), tj_R E σ H → tj_lo E locs → tj_ls ls nL L → c + (hp_n σ1 - hp_n σ) ≤ (xR X).cells → s + (hp_s σ1 - hp_s σ) ≤ (xR X).slots → tj_Rn E X H locs c s (hp_n σ1 - hp_n σ) (hp_s σ1 - hp_s σ) (F0 (xm X) pc ls st) rest len em o σ1)
    (k : ∀ (v : β) (σ1 : hp_S), tj_T E X own ini cc nL ret d hh n0 s0 emb σ1 (pc + len) L (st' v) (f v)) (kx : ∀ (q : Nat) (σ1 : hp_S), tj_Tx E X own ini cc nL ret d hh n0 s0 emb σ1 pc L rest q (h q)) : tj_T E X own ini cc nL ret d hh n0 s0 emb σ pc L st (mx_try x f h) := by
  intro o σe hx
  rcases mx_try_some hx with ⟨v, σ1, g1, g2⟩ | ⟨q, σ1, g1, g2⟩
  · obtain ⟨m1, m2⟩ := hm _ _ g1
    obtain ⟨⟨h1, h1'⟩, h2⟩ := k v σ1 o σe g2
    refine ⟨⟨Nat.le_trans m1 h1, Nat.le_trans m2 h1'⟩, fun B H locs ls a b c d e f g => ?_⟩
    intro T hT Y
    obtain ⟨T', locs', Y', r1, r2, r3⟩ := hr _ _ g1 B H locs _ _ ls a b c (by omega) (by omega) T hT Y
    rcases r3 with ⟨r, e1, e2⟩ | ⟨q, e1, -, -⟩
    · cases e1
      have h3 := h2 B T'.heap locs' ls r2 r1 c (by omega) (by omega) f g
      rw [show hp_n σ1 - n0 = hp_n σ - n0 + (hp_n σ1 - hp_n σ) by omega, show hp_s σ1 - s0 = hp_s σ - s0 + (hp_s σ1 - hp_s σ) by omega] at h3
      obtain ⟨t9, a1, b1⟩ := h3 T' rfl Y'
      refine ⟨t9, e2 t9 ?_, b1⟩
      rw [hs v] at a1
      exact a1
    · cases e1
  · obtain ⟨m1, m2⟩ := hm _ _ g1
    obtain ⟨⟨h1, h1'⟩, h2⟩ := kx q σ1 o σe g2
    refine ⟨⟨Nat.le_trans m1 h1, Nat.le_trans m2 h1'⟩, fun B H locs ls a b c d e f g => ?_⟩
    intro T hT Y
    obtain ⟨T', locs', Y', r1, r2, r3⟩ := hr _ _ g1 B H locs _ _ ls a b c (by omega) (by omega) T hT Y
    rcases r3 with ⟨r, e1, -⟩ | ⟨q', e1, -, e2⟩
    · cases e1
    · cases e1
      have h3 := h2 B T'.heap locs' ls r2 r1 c (by omega) (by omega) f g
      rw [show hp_n σ1 - n0 = hp_n σ - n0 + (hp_n σ1 - hp_n σ) by omega, show hp_s σ1 - s0 = hp_s σ - s0 + (hp_s σ1 - hp_s σ) by omega] at h3
      obtain ⟨t9, a1, b1⟩ := h3 T' rfl Y'
      exact ⟨t9, e2.trans a1, b1⟩
/-- a call that no handler covers -/
theorem tj_runB {st' : β → List Value} (len : Nat) (hs : ∀ v, st' v = (em v).toList ++ rest) (hm : ∀ o σ1, x σ = some (o, σ1) → hp_n σ ≤ hp_n σ1 ∧ hp_s σ ≤ hp_s σ1)
    (hr : ∀ o σ1, x σ = some (o, σ1) → tj_C E X own ini cc nL ret d hh → ∀ (H : Heap) (locs : List Loc) (c s : Nat) (ls : Array Slot), tj_R E σ H → tj_lo E locs → tj_ls ls nL L → c + (hp_n σ1 - hp_n σ) ≤ (xR X).cells → s + (hp_s σ1 - hp_s σ) ≤ (xR X).slots → tj_Rn E X H locs c s (hp_n σ1 - hp_n σ) (hp_s σ1 - hp_s σ) (F0 (xm X) pc ls st) rest len em o σ1)
    (k : ∀ (v : β) (σ1 : hp_S), tj_T E X own ini cc nL ret d hh n0 s0 emb σ1 (pc + len) L (st' v) (f v)) (hout : ∀ x ∈ tableOf hh, covers x pc = false) : tj_T E X own ini cc nL ret d hh n0 s0 emb σ pc L st (mx_bind x f) := by
  intro o σe hx
  rcases mx_bind_some hx with ⟨v, σ1, g1, g2⟩ | ⟨q, σ1, g1, g2⟩
  · obtain ⟨m1, m2⟩ := hm _ _ g1
    obtain ⟨⟨h1, h1'⟩, h2⟩ := k v σ1 o σe g2
    refine ⟨⟨Nat.le_trans m1 h1, Nat.le_trans m2 h1'⟩, fun B H locs ls a b c d e f g => ?_⟩
    intro T hT Y
    obtain ⟨T', locs', Y', r1, r2, r3⟩ := hr _ _ g1 B H locs _ _ ls a b c (by omega) (by omega) T hT Y
    rcases r3 with ⟨r, e1, e2⟩ | ⟨q, e1, -, -⟩
    · cases e1
      have h3 := h2 B T'.heap locs' ls r2 r1 c (by omega) (by omega) f g
      rw [show hp_n σ1 - n0 = hp_n σ - n0 + (hp_n σ1 - hp_n σ) by omega, show hp_s σ1 - s0 = hp_s σ - s0 + (hp_s σ1 - hp_s σ) by omega] at h3
      obtain ⟨t9, a1, b1⟩ := h3 T' rfl Y'
      refine ⟨t9, e2 t9 ?_, b1⟩
      rw [hs v] at a1
      exact a1
    · cases e1
  · cases g2
    obtain ⟨m1, m2⟩ := hm _ _ g1
    refine ⟨⟨m1, m2⟩, fun B H locs ls a b c d e f g => ?_⟩
    intro T hT Y
    obtain ⟨T', locs', Y', r1, r2, r3⟩ := hr _ _ g1 B H locs _ _ ls a b c (by omega) (by omega) T hT Y
    rcases r3 with ⟨r, e1, -⟩ | ⟨q', e1, ⟨C, ce, tt, T0, N, z1, z2, z3, z4, z5, z6⟩, e2⟩
    · cases e1
    · cases e1
      have h3 : tj_Wx X T'.heap locs' (hp_n σ - n0 + (hp_n σe - hp_n σ)) (hp_s σ - s0 + (hp_s σe - hp_s σ)) (tj_Z E X n0 s0 emb (.inr q) σe) (F0 (xm X) pc ls rest) q :=
        vx_out (by rw [B.tb]; exact hout) B.lk z1 z2 z3 (fun t9 ht9 _ => ⟨rfl, by rw [ht9]; exact r2, tt, T0, N, z4, z5, z6⟩) r1 (by omega) (by omega)
      obtain ⟨t9, a1, b1⟩ := h3 T' rfl Y'
      exact ⟨t9, e2.trans a1, b1⟩
/-- what the call of a method asks of its name and descriptor -/
def md_ok (c : String) (desc : String) (n : Nat) : Prop := c ≠ "java/lang/invoke/MethodHandle" ∧ c ≠ "java/lang/invoke/VarHandle" ∧ (parseMethodDescriptor desc).map (fun d => d.parameters.length) = some n
theorem tj_fix (B : tj_C E X own ini cc nL ret d hh) : CallFix (xp X) (xm X) (xc X) cc nL (xs X) (xa X) lw_all own := ⟨B.ex, B.co, B.ml, B.ow, B.ts⟩
theorem tj_preS (B : tj_C E X own ini cc nL ret d hh) {as : List Value} (hR : tj_R E σ H) : PreS (xs X) H (tj_Pc E as σ) as := ⟨tj_blind, fun U hU hW => ⟨rfl, by rw [hU]; exact hR, ev_E.warm hW B.ev⟩⟩
theorem tj_preV (B : tj_C E X own ini cc nL ret d hh) {a t : Nat} {fs : List Value} {C : String} {T : u_T} {N : Nat} {as : List Value} (hR : tj_R E σ H) (hG : hp_G σ a = some (t, fs)) (ht : t < 100) (hc : cl_tab[t]? = some (C, T, N)) : PreV (xs X) H C a (tj_Pc E (.ref a :: as) σ) as := by
  refine ⟨tj_blind, ?_, fun U hU hW => ⟨rfl, by rw [hU]; exact hR, ev_E.warm hW B.ev⟩⟩
  obtain ⟨cell, q1, q2, q3⟩ := tj_rcell hR hG
  refine ⟨cell, q1, q2, ?_⟩
  rw [q3]
  unfold tj_cls
  rw [if_pos ht]
  exact (B.ev.1.1 t _ hc).2.1
theorem tj_room (B : tj_C E X own ini cc nL ret (d + 1) hh) {maxL c s : Nat} (hL : maxL ≤ 45) : (tj_rm d c s).frames + 1 ≤ (xR X).frames ∧ 8 + (maxL + 11) + (tj_rm d c s).locals ≤ (xR X).locals := ⟨B.fr, Nat.le_trans (by show 8 + (maxL + 11) + 64 * d ≤ 64 * (d + 1); omega) B.lo⟩
theorem tj_tryS {y : MethodName} {bytes : ByteArray} {maxL n idx : Nat} {rt : Option FieldType} {as : List Value} {st' : β → List Value} (hC : ct_ y (ws_ y bytes maxL rt) d em as x) (q1 : Cond.methodLink own idx y ∈ lw_all) (q2 : Cond.static y ∈ lw_all) (q3 : Cond.initialized y.cls ∈ lw_all) (q4 : Cond.code y bytes maxL rt ∈ lw_all) (hy : md_ok y.cls y.desc n) (hn : as.length = n) (hL : maxL ≤ 45) (hst : st = as.reverse ++ rest) (hW : (rest.map fun v => v.category).sum ≤ 8) (hd : decode cc pc = .ok (.invokestatic idx, 3)) (hs : ∀ v, st' v = (em v).toList ++ rest) (k : ∀ (v : β) (σ1 : hp_S), tj_T E X own ini cc nL ret (d + 1) hh n0 s0 emb σ1 (pc + 3) L (st' v) (f v)) (kx : ∀ (q : Nat) (σ1 : hp_S), tj_Tx E X own ini cc nL ret (d + 1) hh n0 s0 emb σ1 pc L rest q (h q)) : tj_T E X own ini cc nL ret (d + 1) hh n0 s0 emb σ pc L st (mx_try x f h) := by
  refine tj_run 3 hs (fun o σ1 hx => (hC X E σ o σ1 hx).1) (fun o σ1 hx B H locs c s ls hR hlo hl hc hs => ?_) k kx
  exact tj_rn3 hlo (vx_runS (tj_fix B) ((hC X E σ o σ1 hx).2 (xl X) B.fl) (va_cwS n B.ts (lw_S q1 q2 q3 q4) rfl rfl rfl hy (tj_room B hL)) (tj_preS B hR) rfl hn (by rw [hl.1]) hst (lv_room hW) hd ⟨hc, hs⟩)
theorem tj_callS {y : MethodName} {bytes : ByteArray} {maxL n idx : Nat} {rt : Option FieldType} {as : List Value} {st' : β → List Value} (hC : ct_ y (ws_ y bytes maxL rt) d em as x) (q1 : Cond.methodLink own idx y ∈ lw_all) (q2 : Cond.static y ∈ lw_all) (q3 : Cond.initialized y.cls ∈ lw_all) (q4 : Cond.code y bytes maxL rt ∈ lw_all) (hy : md_ok y.cls y.desc n) (hn : as.length = n) (hL : maxL ≤ 45) (hst : st = as.reverse ++ rest) (hW : (rest.map fun v => v.category).sum ≤ 8) (hd : decode cc pc = .ok (.invokestatic idx, 3)) (hs : ∀ v, st' v = (em v).toList ++ rest) (k : ∀ (v : β) (σ1 : hp_S), tj_T E X own ini cc nL ret (d + 1) hh n0 s0 emb σ1 (pc + 3) L (st' v) (f v)) (hout : ∀ x ∈ tableOf hh, covers x pc = false) : tj_T E X own ini cc nL ret (d + 1) hh n0 s0 emb σ pc L st (mx_bind x f) := by
  refine tj_runB 3 hs (fun o σ1 hx => (hC X E σ o σ1 hx).1) (fun o σ1 hx B H locs c s ls hR hlo hl hc hs => ?_) k hout
  exact tj_rn3 hlo (vx_runS (tj_fix B) ((hC X E σ o σ1 hx).2 (xl X) B.fl) (va_cwS n B.ts (lw_S q1 q2 q3 q4) rfl rfl rfl hy (tj_room B hL)) (tj_preS B hR) rfl hn (by rw [hl.1]) hst (lv_room hW) hd ⟨hc, hs⟩)
theorem tj_trySX {y : MethodName} {bytes : ByteArray} {maxL n idx : Nat} {rt : Option FieldType} {as : List Value} {st' : β → List Value} {h9 : List (Nat × Nat × Nat × Nat)} (hC : ct_ y (wsW_ y bytes maxL rt h9) d em as x) (q1 : Cond.methodLink own idx y ∈ lw_all) (q2 : Cond.static y ∈ lw_all) (q3 : Cond.initialized y.cls ∈ lw_all) (q4 : Cond.codeWith y bytes maxL rt h9 ∈ lw_all) (hy : md_ok y.cls y.desc n) (hn : as.length = n) (hL : maxL ≤ 45) (hst : st = as.reverse ++ rest) (hW : (rest.map fun v => v.category).sum ≤ 8) (hd : decode cc pc = .ok (.invokestatic idx, 3)) (hs : ∀ v, st' v = (em v).toList ++ rest) (k : ∀ (v : β) (σ1 : hp_S), tj_T E X own ini cc nL ret (d + 1) hh n0 s0 emb σ1 (pc + 3) L (st' v) (f v)) (kx : ∀ (q : Nat) (σ1 : hp_S), tj_Tx E X own ini cc nL ret (d + 1) hh n0 s0 emb σ1 pc L rest q (h q)) : tj_T E X own ini cc nL ret (d + 1) hh n0 s0 emb σ pc L st (mx_try x f h) := by
  refine tj_run 3 hs (fun o σ1 hx => (hC X E σ o σ1 hx).1) (fun o σ1 hx B H locs c s ls hR hlo hl hc hs => ?_) k kx
  exact tj_rn3 hlo (vx_runSX (tj_fix B) ((hC X E σ o σ1 hx).2 (xl X) B.fl) (vx_cwSW n B.ts (lw_SW q1 q2 q3 q4) rfl rfl rfl hy (tj_room B hL)) (tj_preS B hR) rfl hn (by rw [hl.1]) hst (lv_room hW) hd ⟨hc, hs⟩)
theorem tj_callSX {y : MethodName} {bytes : ByteArray} {maxL n idx : Nat} {rt : Option FieldType} {as : List Value} {st' : β → List Value} {h9 : List (Nat × Nat × Nat × Nat)} (hC : ct_ y (wsW_ y bytes maxL rt h9) d em as x) (q1 : Cond.methodLink own idx y ∈ lw_all) (q2 : Cond.static y ∈ lw_all) (q3 : Cond.initialized y.cls ∈ lw_all) (q4 : Cond.codeWith y bytes maxL rt h9 ∈ lw_all) (hy : md_ok y.cls y.desc n) (hn : as.length = n) (hL : maxL ≤ 45) (hst : st = as.reverse ++ rest) (hW : (rest.map fun v => v.category).sum ≤ 8) (hd : decode cc pc = .ok (.invokestatic idx, 3)) (hs : ∀ v, st' v = (em v).toList ++ rest) (k : ∀ (v : β) (σ1 : hp_S), tj_T E X own ini cc nL ret (d + 1) hh n0 s0 emb σ1 (pc + 3) L (st' v) (f v)) (hout : ∀ x ∈ tableOf hh, covers x pc = false) : tj_T E X own ini cc nL ret (d + 1) hh n0 s0 emb σ pc L st (mx_bind x f) := by
  refine tj_runB 3 hs (fun o σ1 hx => (hC X E σ o σ1 hx).1) (fun o σ1 hx B H locs c s ls hR hlo hl hc hs => ?_) k hout
  exact tj_rn3 hlo (vx_runSX (tj_fix B) ((hC X E σ o σ1 hx).2 (xl X) B.fl) (vx_cwSW n B.ts (lw_SW q1 q2 q3 q4) rfl rfl rfl hy (tj_room B hL)) (tj_preS B hR) rfl hn (by rw [hl.1]) hst (lv_room hW) hd ⟨hc, hs⟩)
theorem tj_trySN {y : MethodName} {bytes : ByteArray} {maxL n idx : Nat} {rt : Option FieldType} {as : List Value} {st' : β → List Value} {host : String} (hC : ct_ y (ws_ y bytes maxL rt) d em as x) (q1 : Cond.methodLinkNest own idx y host ∈ lw_tbl) (q2 : Cond.static y ∈ lw_all) (q3 : Cond.initialized y.cls ∈ lw_all) (q4 : Cond.code y bytes maxL rt ∈ lw_all) (hy : md_ok y.cls y.desc n) (hn : as.length = n) (hL : maxL ≤ 45) (hst : st = as.reverse ++ rest) (hW : (rest.map fun v => v.category).sum ≤ 8) (hd : decode cc pc = .ok (.invokestatic idx, 3)) (hs : ∀ v, st' v = (em v).toList ++ rest) (k : ∀ (v : β) (σ1 : hp_S), tj_T E X own ini cc nL ret (d + 1) hh n0 s0 emb σ1 (pc + 3) L (st' v) (f v)) (kx : ∀ (q : Nat) (σ1 : hp_S), tj_Tx E X own ini cc nL ret (d + 1) hh n0 s0 emb σ1 pc L rest q (h q)) : tj_T E X own ini cc nL ret (d + 1) hh n0 s0 emb σ pc L st (mx_try x f h) := by
  refine tj_run 3 hs (fun o σ1 hx => (hC X E σ o σ1 hx).1) (fun o σ1 hx B H locs c s ls hR hlo hl hc hs => ?_) k kx
  exact tj_rn3 hlo (vx_runSN (tj_fix B) ((hC X E σ o σ1 hx).2 (xl X) B.fl) ⟨va_cnB n B.ts (lw_meth q4) rfl rfl rfl (B.ev.2.1 _ q1 rfl) (B.ts _ q3) hy (tj_room B hL), B.ts _ q2, trivial⟩ (tj_preS B hR) rfl hn (by rw [hl.1]) hst (lv_room hW) hd ⟨hc, hs⟩)
theorem tj_callSN {y : MethodName} {bytes : ByteArray} {maxL n idx : Nat} {rt : Option FieldType} {as : List Value} {st' : β → List Value} {host : String} (hC : ct_ y (ws_ y bytes maxL rt) d em as x) (q1 : Cond.methodLinkNest own idx y host ∈ lw_tbl) (q2 : Cond.static y ∈ lw_all) (q3 : Cond.initialized y.cls ∈ lw_all) (q4 : Cond.code y bytes maxL rt ∈ lw_all) (hy : md_ok y.cls y.desc n) (hn : as.length = n) (hL : maxL ≤ 45) (hst : st = as.reverse ++ rest) (hW : (rest.map fun v => v.category).sum ≤ 8) (hd : decode cc pc = .ok (.invokestatic idx, 3)) (hs : ∀ v, st' v = (em v).toList ++ rest) (k : ∀ (v : β) (σ1 : hp_S), tj_T E X own ini cc nL ret (d + 1) hh n0 s0 emb σ1 (pc + 3) L (st' v) (f v)) (hout : ∀ x ∈ tableOf hh, covers x pc = false) : tj_T E X own ini cc nL ret (d + 1) hh n0 s0 emb σ pc L st (mx_bind x f) := by
  refine tj_runB 3 hs (fun o σ1 hx => (hC X E σ o σ1 hx).1) (fun o σ1 hx B H locs c s ls hR hlo hl hc hs => ?_) k hout
  exact tj_rn3 hlo (vx_runSN (tj_fix B) ((hC X E σ o σ1 hx).2 (xl X) B.fl) ⟨va_cnB n B.ts (lw_meth q4) rfl rfl rfl (B.ev.2.1 _ q1 rfl) (B.ts _ q3) hy (tj_room B hL), B.ts _ q2, trivial⟩ (tj_preS B hR) rfl hn (by rw [hl.1]) hst (lv_room hW) hd ⟨hc, hs⟩)
theorem tj_tryI {y : MethodName} {bytes : ByteArray} {maxL n idx : Nat} {as : List Value} {v : Option Nat} {st' : β → List Value} (hC : ∀ a, v = some a → ct_ y (ws_ y bytes maxL none) d em (.ref a :: as) x) (q1 : Cond.methodLink own idx y ∈ lw_all) (q2 : Cond.instanceMethod y ∈ lw_all) (q3 : Cond.initialized y.cls ∈ lw_all) (q4 : Cond.code y bytes maxL none ∈ lw_all) (hi : y.name = "<init>") (hy : md_ok y.cls y.desc n) (hn : as.length = n) (hL : maxL ≤ 45) (hst : st = as.reverse ++ (va_rf v :: rest)) (hW : (rest.map fun v => v.category).sum ≤ 8) (hd : decode cc pc = .ok (.invokespecial idx, 3)) (hs : ∀ v, st' v = (em v).toList ++ rest) (k : ∀ (v : β) (σ1 : hp_S), tj_T E X own ini cc nL ret (d + 1) hh n0 s0 emb σ1 (pc + 3) L (st' v) (f v)) (kx : ∀ (q : Nat) (σ1 : hp_S), tj_Tx E X own ini cc nL ret (d + 1) hh n0 s0 emb σ1 pc L rest q (h q)) : tj_T E X own ini cc nL ret (d + 1) hh n0 s0 emb σ pc L st (mx_try (mx_deref v fun _ => x) f h) := by
  cases v with
  | none =>
    refine tj_run (x := mx_deref none fun _ => x) 3 hs (fun o σ1 hx => by cases hx) (fun o σ1 hx => by cases hx) k kx
  | some a =>
    refine tj_run (x := mx_deref (some a) fun _ => x) 3 hs (fun o σ1 hx => (hC a rfl X E σ o σ1 hx).1) (fun o σ1 hx B H locs c s ls hR hlo hl hc hs => ?_) k kx
    exact tj_rn3 hlo (vx_runI (tj_fix B) ((hC a rfl X E σ o σ1 hx).2 (xl X) B.fl) (cwI n B.ts (lw_meth q4) rfl rfl rfl (B.ts _ q3) (B.ts _ q1) (B.ts _ q2) hi hy (tj_room B hL)) (tj_preS B hR) rfl hn (by rw [hl.1]) hst (lv_room hW) hd ⟨hc, hs⟩)
theorem tj_callI {y : MethodName} {bytes : ByteArray} {maxL n idx : Nat} {as : List Value} {v : Option Nat} {st' : β → List Value} (hC : ∀ a, v = some a → ct_ y (ws_ y bytes maxL none) d em (.ref a :: as) x) (q1 : Cond.methodLink own idx y ∈ lw_all) (q2 : Cond.instanceMethod y ∈ lw_all) (q3 : Cond.initialized y.cls ∈ lw_all) (q4 : Cond.code y bytes maxL none ∈ lw_all) (hi : y.name = "<init>") (hy : md_ok y.cls y.desc n) (hn : as.length = n) (hL : maxL ≤ 45) (hst : st = as.reverse ++ (va_rf v :: rest)) (hW : (rest.map fun v => v.category).sum ≤ 8) (hd : decode cc pc = .ok (.invokespecial idx, 3)) (hs : ∀ v, st' v = (em v).toList ++ rest) (k : ∀ (v : β) (σ1 : hp_S), tj_T E X own ini cc nL ret (d + 1) hh n0 s0 emb σ1 (pc + 3) L (st' v) (f v)) (hout : ∀ x ∈ tableOf hh, covers x pc = false) : tj_T E X own ini cc nL ret (d + 1) hh n0 s0 emb σ pc L st (mx_bind (mx_deref v fun _ => x) f) := by
  cases v with
  | none =>
    refine tj_runB (x := mx_deref none fun _ => x) 3 hs (fun o σ1 hx => by cases hx) (fun o σ1 hx => by cases hx) k hout
  | some a =>
    refine tj_runB (x := mx_deref (some a) fun _ => x) 3 hs (fun o σ1 hx => (hC a rfl X E σ o σ1 hx).1) (fun o σ1 hx B H locs c s ls hR hlo hl hc hs => ?_) k hout
    exact tj_rn3 hlo (vx_runI (tj_fix B) ((hC a rfl X E σ o σ1 hx).2 (xl X) B.fl) (cwI n B.ts (lw_meth q4) rfl rfl rfl (B.ts _ q3) (B.ts _ q1) (B.ts _ q2) hi hy (tj_room B hL)) (tj_preS B hR) rfl hn (by rw [hl.1]) hst (lv_room hW) hd ⟨hc, hs⟩)
theorem tj_tryIN {y : MethodName} {bytes : ByteArray} {maxL n idx : Nat} {as : List Value} {v : Option Nat} {st' : β → List Value} {host : String} (hC : ∀ a, v = some a → ct_ y (ws_ y bytes maxL none) d em (.ref a :: as) x) (q1 : Cond.methodLinkNest own idx y host ∈ lw_tbl) (q2 : Cond.instanceMethod y ∈ lw_all) (q3 : Cond.initialized y.cls ∈ lw_all) (q4 : Cond.code y bytes maxL none ∈ lw_all) (hi : y.name = "<init>") (hy : md_ok y.cls y.desc n) (hn : as.length = n) (hL : maxL ≤ 45) (hst : st = as.reverse ++ (va_rf v :: rest)) (hW : (rest.map fun v => v.category).sum ≤ 8) (hd : decode cc pc = .ok (.invokespecial idx, 3)) (hs : ∀ v, st' v = (em v).toList ++ rest) (k : ∀ (v : β) (σ1 : hp_S), tj_T E X own ini cc nL ret (d + 1) hh n0 s0 emb σ1 (pc + 3) L (st' v) (f v)) (kx : ∀ (q : Nat) (σ1 : hp_S), tj_Tx E X own ini cc nL ret (d + 1) hh n0 s0 emb σ1 pc L rest q (h q)) : tj_T E X own ini cc nL ret (d + 1) hh n0 s0 emb σ pc L st (mx_try (mx_deref v fun _ => x) f h) := by
  cases v with
  | none =>
    refine tj_run (x := mx_deref none fun _ => x) 3 hs (fun o σ1 hx => by cases hx) (fun o σ1 hx => by cases hx) k kx
  | some a =>
    refine tj_run (x := mx_deref (some a) fun _ => x) 3 hs (fun o σ1 hx => (hC a rfl X E σ o σ1 hx).1) (fun o σ1 hx B H locs c s ls hR hlo hl hc hs => ?_) k kx
    exact tj_rn3 hlo (vx_runIN (tj_fix B) ((hC a rfl X E σ o σ1 hx).2 (xl X) B.fl) ⟨va_cnB n B.ts (lw_meth q4) rfl rfl rfl (B.ev.2.1 _ q1 rfl) (B.ts _ q3) hy (tj_room B hL), hi, B.ts _ q2⟩ (tj_preS B hR) rfl hn (by rw [hl.1]) hst (lv_room hW) hd ⟨hc, hs⟩)
theorem tj_callIN {y : MethodName} {bytes : ByteArray} {maxL n idx : Nat} {as : List Value} {v : Option Nat} {st' : β → List Value} {host : String} (hC : ∀ a, v = some a → ct_ y (ws_ y bytes maxL none) d em (.ref a :: as) x) (q1 : Cond.methodLinkNest own idx y host ∈ lw_tbl) (q2 : Cond.instanceMethod y ∈ lw_all) (q3 : Cond.initialized y.cls ∈ lw_all) (q4 : Cond.code y bytes maxL none ∈ lw_all) (hi : y.name = "<init>") (hy : md_ok y.cls y.desc n) (hn : as.length = n) (hL : maxL ≤ 45) (hst : st = as.reverse ++ (va_rf v :: rest)) (hW : (rest.map fun v => v.category).sum ≤ 8) (hd : decode cc pc = .ok (.invokespecial idx, 3)) (hs : ∀ v, st' v = (em v).toList ++ rest) (k : ∀ (v : β) (σ1 : hp_S), tj_T E X own ini cc nL ret (d + 1) hh n0 s0 emb σ1 (pc + 3) L (st' v) (f v)) (hout : ∀ x ∈ tableOf hh, covers x pc = false) : tj_T E X own ini cc nL ret (d + 1) hh n0 s0 emb σ pc L st (mx_bind (mx_deref v fun _ => x) f) := by
  cases v with
  | none =>
    refine tj_runB (x := mx_deref none fun _ => x) 3 hs (fun o σ1 hx => by cases hx) (fun o σ1 hx => by cases hx) k hout
  | some a =>
    refine tj_runB (x := mx_deref (some a) fun _ => x) 3 hs (fun o σ1 hx => (hC a rfl X E σ o σ1 hx).1) (fun o σ1 hx B H locs c s ls hR hlo hl hc hs => ?_) k hout
    exact tj_rn3 hlo (vx_runIN (tj_fix B) ((hC a rfl X E σ o σ1 hx).2 (xl X) B.fl) ⟨va_cnB n B.ts (lw_meth q4) rfl rfl rfl (B.ev.2.1 _ q1 rfl) (B.ts _ q3) hy (tj_room B hL), hi, B.ts _ q2⟩ (tj_preS B hR) rfl hn (by rw [hl.1]) hst (lv_room hW) hd ⟨hc, hs⟩)
/-- a receiver of the tag t -/
theorem mx_is_some {t : Nat} {v : Option Nat} {r : (β ⊕ Nat) × hp_S} (hx : mx_is t v x σ = some r) : (∃ a fs, v = some a ∧ hp_G σ a = some (t, fs)) ∧ x σ = some r := by
  unfold mx_is at hx
  split at hx
  · rename_i ht
    exact ⟨hp_tag_some ht, hx⟩
  · cases hx
theorem tj_tryV {y : MethodName} {bytes : ByteArray} {maxL n idx : Nat} {rt : Option FieldType} {as : List Value} {v : Option Nat} {t : Nat} {C : String} {T0 : u_T} {N : Nat} {st' : β → List Value} (hC : ∀ a, v = some a → ct_ y (ws_ y bytes maxL rt) d em (.ref a :: as) x) (ht : t < 100) (hc0 : cl_tab[t]? = some (C, T0, N)) (q1 : Cond.methodLink own idx y ∈ lw_all) (q2 : Cond.instanceMethod y ∈ lw_all) (q3 : Cond.selects C y y ∈ lw_all) (q4 : Cond.initialized C ∈ lw_all) (q5 : Cond.code y bytes maxL rt ∈ lw_all) (hyc : y.cls = C) (hy : md_ok y.cls y.desc n) (hn : as.length = n) (hL : maxL ≤ 45) (hst : st = as.reverse ++ (va_rf v :: rest)) (hW : (rest.map fun v => v.category).sum ≤ 8) (hd : decode cc pc = .ok (.invokevirtual idx, 3)) (hs : ∀ v, st' v = (em v).toList ++ rest) (k : ∀ (v : β) (σ1 : hp_S), tj_T E X own ini cc nL ret (d + 1) hh n0 s0 emb σ1 (pc + 3) L (st' v) (f v)) (kx : ∀ (q : Nat) (σ1 : hp_S), tj_Tx E X own ini cc nL ret (d + 1) hh n0 s0 emb σ1 pc L rest q (h q)) : tj_T E X own ini cc nL ret (d + 1) hh n0 s0 emb σ pc L st (mx_try (mx_is t v x) f h) := by
  refine tj_run 3 hs (fun o σ1 hx => ?_) (fun o σ1 hx B H locs c s ls hR hlo hl hc hs => ?_) k kx
  · obtain ⟨⟨a, fs, e, hG⟩, hx⟩ := mx_is_some hx
    exact (hC a e X E σ o σ1 hx).1
  · obtain ⟨⟨a, fs, e, hG⟩, hx'⟩ := mx_is_some hx
    subst e
    exact tj_rn3 hlo (vx_runV (tj_fix B) ((hC a rfl X E σ o σ1 hx').2 (xl X) B.fl) (cwV n B.ts (lw_V q1 q2 q3 q4 q5) rfl rfl rfl ⟨hyc, hy⟩ (tj_room B hL)) (tj_preV B hR hG ht hc0) rfl hn (by rw [hl.1]) hst (lv_room hW) hd ⟨hc, hs⟩)
theorem tj_callV {y : MethodName} {bytes : ByteArray} {maxL n idx : Nat} {rt : Option FieldType} {as : List Value} {v : Option Nat} {t : Nat} {C : String} {T0 : u_T} {N : Nat} {st' : β → List Value} (hC : ∀ a, v = some a → ct_ y (ws_ y bytes maxL rt) d em (.ref a :: as) x) (ht : t < 100) (hc0 : cl_tab[t]? = some (C, T0, N)) (q1 : Cond.methodLink own idx y ∈ lw_all) (q2 : Cond.instanceMethod y ∈ lw_all) (q3 : Cond.selects C y y ∈ lw_all) (q4 : Cond.initialized C ∈ lw_all) (q5 : Cond.code y bytes maxL rt ∈ lw_all) (hyc : y.cls = C) (hy : md_ok y.cls y.desc n) (hn : as.length = n) (hL : maxL ≤ 45) (hst : st = as.reverse ++ (va_rf v :: rest)) (hW : (rest.map fun v => v.category).sum ≤ 8) (hd : decode cc pc = .ok (.invokevirtual idx, 3)) (hs : ∀ v, st' v = (em v).toList ++ rest) (k : ∀ (v : β) (σ1 : hp_S), tj_T E X own ini cc nL ret (d + 1) hh n0 s0 emb σ1 (pc + 3) L (st' v) (f v)) (hout : ∀ x ∈ tableOf hh, covers x pc = false) : tj_T E X own ini cc nL ret (d + 1) hh n0 s0 emb σ pc L st (mx_bind (mx_is t v x) f) := by
  refine tj_runB 3 hs (fun o σ1 hx => ?_) (fun o σ1 hx B H locs c s ls hR hlo hl hc hs => ?_) k hout
  · obtain ⟨⟨a, fs, e, hG⟩, hx⟩ := mx_is_some hx
    exact (hC a e X E σ o σ1 hx).1
  · obtain ⟨⟨a, fs, e, hG⟩, hx'⟩ := mx_is_some hx
    subst e
    exact tj_rn3 hlo (vx_runV (tj_fix B) ((hC a rfl X E σ o σ1 hx').2 (xl X) B.fl) (cwV n B.ts (lw_V q1 q2 q3 q4 q5) rfl rfl rfl ⟨hyc, hy⟩ (tj_room B hL)) (tj_preV B hR hG ht hc0) rfl hn (by rw [hl.1]) hst (lv_room hW) hd ⟨hc, hs⟩)
theorem tj_tryVX {y : MethodName} {bytes : ByteArray} {maxL n idx : Nat} {rt : Option FieldType} {as : List Value} {v : Option Nat} {t : Nat} {C : String} {T0 : u_T} {N : Nat} {st' : β → List Value} {h9 : List (Nat × Nat × Nat × Nat)} (hC : ∀ a, v = some a → ct_ y (wsW_ y bytes maxL rt h9) d em (.ref a :: as) x) (ht : t < 100) (hc0 : cl_tab[t]? = some (C, T0, N)) (q1 : Cond.methodLink own idx y ∈ lw_all) (q2 : Cond.instanceMethod y ∈ lw_all) (q3 : Cond.selects C y y ∈ lw_all) (q4 : Cond.initialized C ∈ lw_all) (q5 : Cond.codeWith y bytes maxL rt h9 ∈ lw_all) (hyc : y.cls = C) (hy : md_ok y.cls y.desc n) (hn : as.length = n) (hL : maxL ≤ 45) (hst : st = as.reverse ++ (va_rf v :: rest)) (hW : (rest.map fun v => v.category).sum ≤ 8) (hd : decode cc pc = .ok (.invokevirtual idx, 3)) (hs : ∀ v, st' v = (em v).toList ++ rest) (k : ∀ (v : β) (σ1 : hp_S), tj_T E X own ini cc nL ret (d + 1) hh n0 s0 emb σ1 (pc + 3) L (st' v) (f v)) (kx : ∀ (q : Nat) (σ1 : hp_S), tj_Tx E X own ini cc nL ret (d + 1) hh n0 s0 emb σ1 pc L rest q (h q)) : tj_T E X own ini cc nL ret (d + 1) hh n0 s0 emb σ pc L st (mx_try (mx_is t v x) f h) := by
  refine tj_run 3 hs (fun o σ1 hx => ?_) (fun o σ1 hx B H locs c s ls hR hlo hl hc hs => ?_) k kx
  · obtain ⟨⟨a, fs, e, hG⟩, hx⟩ := mx_is_some hx
    exact (hC a e X E σ o σ1 hx).1
  · obtain ⟨⟨a, fs, e, hG⟩, hx'⟩ := mx_is_some hx
    subst e
    exact tj_rn3 hlo (vx_runVX (tj_fix B) ((hC a rfl X E σ o σ1 hx').2 (xl X) B.fl) (vx_cwVW n B.ts (lw_VW q1 q2 q3 q4 q5) rfl rfl rfl ⟨hyc, hy⟩ (tj_room B hL)) (tj_preV B hR hG ht hc0) rfl hn (by rw [hl.1]) hst (lv_room hW) hd ⟨hc, hs⟩)
theorem tj_callVX {y : MethodName} {bytes : ByteArray} {maxL n idx : Nat} {rt : Option FieldType} {as : List Value} {v : Option Nat} {t : Nat} {C : String} {T0 : u_T} {N : Nat} {st' : β → List Value} {h9 : List (Nat × Nat × Nat × Nat)} (hC : ∀ a, v = some a → ct_ y (wsW_ y bytes maxL rt h9) d em (.ref a :: as) x) (ht : t < 100) (hc0 : cl_tab[t]? = some (C, T0, N)) (q1 : Cond.methodLink own idx y ∈ lw_all) (q2 : Cond.instanceMethod y ∈ lw_all) (q3 : Cond.selects C y y ∈ lw_all) (q4 : Cond.initialized C ∈ lw_all) (q5 : Cond.codeWith y bytes maxL rt h9 ∈ lw_all) (hyc : y.cls = C) (hy : md_ok y.cls y.desc n) (hn : as.length = n) (hL : maxL ≤ 45) (hst : st = as.reverse ++ (va_rf v :: rest)) (hW : (rest.map fun v => v.category).sum ≤ 8) (hd : decode cc pc = .ok (.invokevirtual idx, 3)) (hs : ∀ v, st' v = (em v).toList ++ rest) (k : ∀ (v : β) (σ1 : hp_S), tj_T E X own ini cc nL ret (d + 1) hh n0 s0 emb σ1 (pc + 3) L (st' v) (f v)) (hout : ∀ x ∈ tableOf hh, covers x pc = false) : tj_T E X own ini cc nL ret (d + 1) hh n0 s0 emb σ pc L st (mx_bind (mx_is t v x) f) := by
  refine tj_runB 3 hs (fun o σ1 hx => ?_) (fun o σ1 hx B H locs c s ls hR hlo hl hc hs => ?_) k hout
  · obtain ⟨⟨a, fs, e, hG⟩, hx⟩ := mx_is_some hx
    exact (hC a e X E σ o σ1 hx).1
  · obtain ⟨⟨a, fs, e, hG⟩, hx'⟩ := mx_is_some hx
    subst e
    exact tj_rn3 hlo (vx_runVX (tj_fix B) ((hC a rfl X E σ o σ1 hx').2 (xl X) B.fl) (vx_cwVW n B.ts (lw_VW q1 q2 q3 q4 q5) rfl rfl rfl ⟨hyc, hy⟩ (tj_room B hL)) (tj_preV B hR hG ht hc0) rfl hn (by rw [hl.1]) hst (lv_room hW) hd ⟨hc, hs⟩)
theorem tj_tryVN {y : MethodName} {bytes : ByteArray} {maxL n idx : Nat} {rt : Option FieldType} {as : List Value} {v : Option Nat} {t : Nat} {C : String} {T0 : u_T} {N : Nat} {st' : β → List Value} {host : String} (hC : ∀ a, v = some a → ct_ y (ws_ y bytes maxL rt) d em (.ref a :: as) x) (ht : t < 100) (hc0 : cl_tab[t]? = some (C, T0, N)) (q1 : Cond.methodLinkNest own idx y host ∈ lw_tbl) (q2 : Cond.instanceMethod y ∈ lw_all) (q3 : Cond.selects C y y ∈ lw_all) (q4 : Cond.initialized y.cls ∈ lw_all) (q5 : Cond.code y bytes maxL rt ∈ lw_all) (hy : md_ok y.cls y.desc n) (hn : as.length = n) (hL : maxL ≤ 45) (hst : st = as.reverse ++ (va_rf v :: rest)) (hW : (rest.map fun v => v.category).sum ≤ 8) (hd : decode cc pc = .ok (.invokevirtual idx, 3)) (hs : ∀ v, st' v = (em v).toList ++ rest) (k : ∀ (v : β) (σ1 : hp_S), tj_T E X own ini cc nL ret (d + 1) hh n0 s0 emb σ1 (pc + 3) L (st' v) (f v)) (kx : ∀ (q : Nat) (σ1 : hp_S), tj_Tx E X own ini cc nL ret (d + 1) hh n0 s0 emb σ1 pc L rest q (h q)) : tj_T E X own ini cc nL ret (d + 1) hh n0 s0 emb σ pc L st (mx_try (mx_is t v x) f h) := by
  refine tj_run 3 hs (fun o σ1 hx => ?_) (fun o σ1 hx B H locs c s ls hR hlo hl hc hs => ?_) k kx
  · obtain ⟨⟨a, fs, e, hG⟩, hx⟩ := mx_is_some hx
    exact (hC a e X E σ o σ1 hx).1
  · obtain ⟨⟨a, fs, e, hG⟩, hx'⟩ := mx_is_some hx
    subst e
    exact tj_rn3 hlo (vx_runVN (tj_fix B) ((hC a rfl X E σ o σ1 hx').2 (xl X) B.fl) ⟨va_cnB n B.ts (lw_meth q5) rfl rfl rfl (B.ev.2.1 _ q1 rfl) (B.ts _ q4) hy (tj_room B hL), B.ts _ q2, B.ts _ q3⟩ (tj_preV B hR hG ht hc0) rfl hn (by rw [hl.1]) hst (lv_room hW) hd ⟨hc, hs⟩)
theorem tj_callVN {y : MethodName} {bytes : ByteArray} {maxL n idx : Nat} {rt : Option FieldType} {as : List Value} {v : Option Nat} {t : Nat} {C : String} {T0 : u_T} {N : Nat} {st' : β → List Value} {host : String} (hC : ∀ a, v = some a → ct_ y (ws_ y bytes maxL rt) d em (.ref a :: as) x) (ht : t < 100) (hc0 : cl_tab[t]? = some (C, T0, N)) (q1 : Cond.methodLinkNest own idx y host ∈ lw_tbl) (q2 : Cond.instanceMethod y ∈ lw_all) (q3 : Cond.selects C y y ∈ lw_all) (q4 : Cond.initialized y.cls ∈ lw_all) (q5 : Cond.code y bytes maxL rt ∈ lw_all) (hy : md_ok y.cls y.desc n) (hn : as.length = n) (hL : maxL ≤ 45) (hst : st = as.reverse ++ (va_rf v :: rest)) (hW : (rest.map fun v => v.category).sum ≤ 8) (hd : decode cc pc = .ok (.invokevirtual idx, 3)) (hs : ∀ v, st' v = (em v).toList ++ rest) (k : ∀ (v : β) (σ1 : hp_S), tj_T E X own ini cc nL ret (d + 1) hh n0 s0 emb σ1 (pc + 3) L (st' v) (f v)) (hout : ∀ x ∈ tableOf hh, covers x pc = false) : tj_T E X own ini cc nL ret (d + 1) hh n0 s0 emb σ pc L st (mx_bind (mx_is t v x) f) := by
  refine tj_runB 3 hs (fun o σ1 hx => ?_) (fun o σ1 hx B H locs c s ls hR hlo hl hc hs => ?_) k hout
  · obtain ⟨⟨a, fs, e, hG⟩, hx⟩ := mx_is_some hx
    exact (hC a e X E σ o σ1 hx).1
  · obtain ⟨⟨a, fs, e, hG⟩, hx'⟩ := mx_is_some hx
    subst e
    exact tj_rn3 hlo (vx_runVN (tj_fix B) ((hC a rfl X E σ o σ1 hx').2 (xl X) B.fl) ⟨va_cnB n B.ts (lw_meth q5) rfl rfl rfl (B.ev.2.1 _ q1 rfl) (B.ts _ q4) hy (tj_room B hL), B.ts _ q2, B.ts _ q3⟩ (tj_preV B hR hG ht hc0) rfl hn (by rw [hl.1]) hst (lv_room hW) hd ⟨hc, hs⟩)
theorem lw_U {idx : Nat} {C owner : String} {x y : MethodName} {b : ByteArray} {L : Nat} {r : Option FieldType} (h1 : Cond.methodLink own idx x ∈ lw_all) (h2 : Cond.sameMethod x.cls owner x.name x.desc ∈ lw_all) (h3 : Cond.selects C x y ∈ lw_all) (h4 : Cond.instanceMethod y ∈ lw_all) (h5 : Cond.initialized y.cls ∈ lw_all) (h6 : Cond.code y b L r ∈ lw_all) : GoodIn lw_all (va_wsU own idx C owner x y (ws_ y b L r)) := by
  refine lw_app ?_ (lw_meth h6)
  intro w hw
  simp only [List.mem_cons, List.not_mem_nil, or_false] at hw
  rcases hw with e | e | e | e | e
  · rw [e]; exact h1
  · rw [e]; exact h2
  · rw [e]; exact h3
  · rw [e]; exact h4
  · rw [e]; exact h5
theorem lw_O {idx : Nat} {C owner : String} {x y : MethodName} {b : ByteArray} {L : Nat} {r : Option FieldType} (h1 : Cond.methodLink own idx x ∈ lw_all) (h2 : Cond.sameMethod x.cls owner x.name x.desc ∈ lw_all) (h0 : Cond.instanceMethod ⟨owner, x.name, x.desc⟩ ∈ lw_all) (h3 : Cond.selects C x y ∈ lw_all) (h4 : Cond.instanceMethod y ∈ lw_all) (h5 : Cond.initialized y.cls ∈ lw_all) (h6 : Cond.code y b L r ∈ lw_all) : GoodIn lw_all (va_wsO own idx C owner x y (ws_ y b L r)) := by
  refine lw_app ?_ (lw_meth h6)
  intro w hw
  simp only [List.mem_cons, List.not_mem_nil, or_false] at hw
  rcases hw with e | e | e | e | e | e
  · rw [e]; exact h1
  · rw [e]; exact h2
  · rw [e]; exact h0
  · rw [e]; exact h3
  · rw [e]; exact h4
  · rw [e]; exact h5
theorem lw_F {idx : Nat} {C : String} {x y : MethodName} {b : ByteArray} {L : Nat} {r : Option FieldType} (h1 : Cond.methodLink own idx x ∈ lw_all) (h3 : Cond.selects C x y ∈ lw_all) (h4 : Cond.instanceMethod y ∈ lw_all) (h5 : Cond.initialized y.cls ∈ lw_all) (h6 : Cond.code y b L r ∈ lw_all) : GoodIn lw_all (va_wsF own idx C x y (ws_ y b L r)) := by
  refine lw_app ?_ (lw_meth h6)
  intro w hw
  simp only [List.mem_cons, List.not_mem_nil, or_false] at hw
  rcases hw with e | e | e | e
  · rw [e]; exact h1
  · rw [e]; exact h3
  · rw [e]; exact h4
  · rw [e]; exact h5
theorem tj_tryU {y : MethodName} {bytes : ByteArray} {maxL n idx : Nat} {rt : Option FieldType} {as : List Value} {v : Option Nat} {t : Nat} {C : String} {T0 : u_T} {N : Nat} {st' : β → List Value} {x0 : MethodName} {owner : String} (hC : ∀ a, v = some a → ct_ y (ws_ y bytes maxL rt) d em (.ref a :: as) x) (ht : t < 100) (hc0 : cl_tab[t]? = some (C, T0, N)) (q1 : Cond.methodLink own idx x0 ∈ lw_all) (q2 : Cond.sameMethod x0.cls owner x0.name x0.desc ∈ lw_all) (q3 : Cond.selects C x0 y ∈ lw_all) (q4 : Cond.instanceMethod y ∈ lw_all) (q5 : Cond.initialized y.cls ∈ lw_all) (q6 : Cond.code y bytes maxL rt ∈ lw_all) (hyx : y = ⟨owner, x0.name, x0.desc⟩) (hy : md_ok owner x0.desc n) (hn : as.length = n) (hL : maxL ≤ 45) (hst : st = as.reverse ++ (va_rf v :: rest)) (hW : (rest.map fun v => v.category).sum ≤ 8) (hd : decode cc pc = .ok (.invokevirtual idx, 3)) (hs : ∀ v, st' v = (em v).toList ++ rest) (k : ∀ (v : β) (σ1 : hp_S), tj_T E X own ini cc nL ret (d + 1) hh n0 s0 emb σ1 (pc + 3) L (st' v) (f v)) (kx : ∀ (q : Nat) (σ1 : hp_S), tj_Tx E X own ini cc nL ret (d + 1) hh n0 s0 emb σ1 pc L rest q (h q)) : tj_T E X own ini cc nL ret (d + 1) hh n0 s0 emb σ pc L st (mx_try (mx_is t v x) f h) := by
  refine tj_run 3 hs (fun o σ1 hx => ?_) (fun o σ1 hx B H locs c s ls hR hlo hl hc hs => ?_) k kx
  · obtain ⟨⟨a, fs, e, hG⟩, hx⟩ := mx_is_some hx
    exact (hC a e X E σ o σ1 hx).1
  · obtain ⟨⟨a, fs, e, hG⟩, hx'⟩ := mx_is_some hx
    subst e
    exact tj_rn3 hlo (vx_runU (tj_fix B) ((hC a rfl X E σ o σ1 hx').2 (xl X) B.fl) (va_cwU n B.ts (lw_U q1 q2 q3 q4 q5 q6) rfl rfl rfl hyx hy (tj_room B hL)) (tj_preV B hR hG ht hc0) rfl hn (by rw [hl.1]) hst (lv_room hW) hd ⟨hc, hs⟩)
theorem tj_callU {y : MethodName} {bytes : ByteArray} {maxL n idx : Nat} {rt : Option FieldType} {as : List Value} {v : Option Nat} {t : Nat} {C : String} {T0 : u_T} {N : Nat} {st' : β → List Value} {x0 : MethodName} {owner : String} (hC : ∀ a, v = some a → ct_ y (ws_ y bytes maxL rt) d em (.ref a :: as) x) (ht : t < 100) (hc0 : cl_tab[t]? = some (C, T0, N)) (q1 : Cond.methodLink own idx x0 ∈ lw_all) (q2 : Cond.sameMethod x0.cls owner x0.name x0.desc ∈ lw_all) (q3 : Cond.selects C x0 y ∈ lw_all) (q4 : Cond.instanceMethod y ∈ lw_all) (q5 : Cond.initialized y.cls ∈ lw_all) (q6 : Cond.code y bytes maxL rt ∈ lw_all) (hyx : y = ⟨owner, x0.name, x0.desc⟩) (hy : md_ok owner x0.desc n) (hn : as.length = n) (hL : maxL ≤ 45) (hst : st = as.reverse ++ (va_rf v :: rest)) (hW : (rest.map fun v => v.category).sum ≤ 8) (hd : decode cc pc = .ok (.invokevirtual idx, 3)) (hs : ∀ v, st' v = (em v).toList ++ rest) (k : ∀ (v : β) (σ1 : hp_S), tj_T E X own ini cc nL ret (d + 1) hh n0 s0 emb σ1 (pc + 3) L (st' v) (f v)) (hout : ∀ x ∈ tableOf hh, covers x pc = false) : tj_T E X own ini cc nL ret (d + 1) hh n0 s0 emb σ pc L st (mx_bind (mx_is t v x) f) := by
  refine tj_runB 3 hs (fun o σ1 hx => ?_) (fun o σ1 hx B H locs c s ls hR hlo hl hc hs => ?_) k hout
  · obtain ⟨⟨a, fs, e, hG⟩, hx⟩ := mx_is_some hx
    exact (hC a e X E σ o σ1 hx).1
  · obtain ⟨⟨a, fs, e, hG⟩, hx'⟩ := mx_is_some hx
    subst e
    exact tj_rn3 hlo (vx_runU (tj_fix B) ((hC a rfl X E σ o σ1 hx').2 (xl X) B.fl) (va_cwU n B.ts (lw_U q1 q2 q3 q4 q5 q6) rfl rfl rfl hyx hy (tj_room B hL)) (tj_preV B hR hG ht hc0) rfl hn (by rw [hl.1]) hst (lv_room hW) hd ⟨hc, hs⟩)
theorem tj_tryO {y : MethodName} {bytes : ByteArray} {maxL n idx : Nat} {rt : Option FieldType} {as : List Value} {v : Option Nat} {t : Nat} {C : String} {T0 : u_T} {N : Nat} {st' : β → List Value} {x0 : MethodName} {owner : String} {b0 : ByteArray} {m0 : Nat} {r0 : Option FieldType} (hC : ∀ a, v = some a → ct_ y (ws_ y bytes maxL rt) d em (.ref a :: as) x) (ht : t < 100) (hc0 : cl_tab[t]? = some (C, T0, N)) (q1 : Cond.methodLink own idx x0 ∈ lw_all) (q2 : Cond.sameMethod x0.cls owner x0.name x0.desc ∈ lw_all) (q3 : Cond.selects C x0 y ∈ lw_all) (q4 : Cond.instanceMethod y ∈ lw_all) (q5 : Cond.initialized y.cls ∈ lw_all) (q6 : Cond.code y bytes maxL rt ∈ lw_all) (q0 : Cond.instanceMethod ⟨owner, x0.name, x0.desc⟩ ∈ lw_all) (q7 : Cond.code ⟨owner, x0.name, x0.desc⟩ b0 m0 r0 ∈ lw_all) (hy : md_ok owner x0.desc n) (hn : as.length = n) (hL : maxL ≤ 45) (hst : st = as.reverse ++ (va_rf v :: rest)) (hW : (rest.map fun v => v.category).sum ≤ 8) (hd : decode cc pc = .ok (.invokevirtual idx, 3)) (hs : ∀ v, st' v = (em v).toList ++ rest) (k : ∀ (v : β) (σ1 : hp_S), tj_T E X own ini cc nL ret (d + 1) hh n0 s0 emb σ1 (pc + 3) L (st' v) (f v)) (kx : ∀ (q : Nat) (σ1 : hp_S), tj_Tx E X own ini cc nL ret (d + 1) hh n0 s0 emb σ1 pc L rest q (h q)) : tj_T E X own ini cc nL ret (d + 1) hh n0 s0 emb σ pc L st (mx_try (mx_is t v x) f h) := by
  refine tj_run 3 hs (fun o σ1 hx => ?_) (fun o σ1 hx B H locs c s ls hR hlo hl hc hs => ?_) k kx
  · obtain ⟨⟨a, fs, e, hG⟩, hx⟩ := mx_is_some hx
    exact (hC a e X E σ o σ1 hx).1
  · obtain ⟨⟨a, fs, e, hG⟩, hx'⟩ := mx_is_some hx
    subst e
    exact tj_rn3 hlo (vx_runU (tj_fix B) ((hC a rfl X E σ o σ1 hx').2 (xl X) B.fl) (va_cwO n B.ts (lw_O q1 q2 q0 q3 q4 q5 q6) rfl rfl rfl q7 hy (tj_room B hL)) (tj_preV B hR hG ht hc0) rfl hn (by rw [hl.1]) hst (lv_room hW) hd ⟨hc, hs⟩)
theorem tj_callO {y : MethodName} {bytes : ByteArray} {maxL n idx : Nat} {rt : Option FieldType} {as : List Value} {v : Option Nat} {t : Nat} {C : String} {T0 : u_T} {N : Nat} {st' : β → List Value} {x0 : MethodName} {owner : String} {b0 : ByteArray} {m0 : Nat} {r0 : Option FieldType} (hC : ∀ a, v = some a → ct_ y (ws_ y bytes maxL rt) d em (.ref a :: as) x) (ht : t < 100) (hc0 : cl_tab[t]? = some (C, T0, N)) (q1 : Cond.methodLink own idx x0 ∈ lw_all) (q2 : Cond.sameMethod x0.cls owner x0.name x0.desc ∈ lw_all) (q3 : Cond.selects C x0 y ∈ lw_all) (q4 : Cond.instanceMethod y ∈ lw_all) (q5 : Cond.initialized y.cls ∈ lw_all) (q6 : Cond.code y bytes maxL rt ∈ lw_all) (q0 : Cond.instanceMethod ⟨owner, x0.name, x0.desc⟩ ∈ lw_all) (q7 : Cond.code ⟨owner, x0.name, x0.desc⟩ b0 m0 r0 ∈ lw_all) (hy : md_ok owner x0.desc n) (hn : as.length = n) (hL : maxL ≤ 45) (hst : st = as.reverse ++ (va_rf v :: rest)) (hW : (rest.map fun v => v.category).sum ≤ 8) (hd : decode cc pc = .ok (.invokevirtual idx, 3)) (hs : ∀ v, st' v = (em v).toList ++ rest) (k : ∀ (v : β) (σ1 : hp_S), tj_T E X own ini cc nL ret (d + 1) hh n0 s0 emb σ1 (pc + 3) L (st' v) (f v)) (hout : ∀ x ∈ tableOf hh, covers x pc = false) : tj_T E X own ini cc nL ret (d + 1) hh n0 s0 emb σ pc L st (mx_bind (mx_is t v x) f) := by
  refine tj_runB 3 hs (fun o σ1 hx => ?_) (fun o σ1 hx B H locs c s ls hR hlo hl hc hs => ?_) k hout
  · obtain ⟨⟨a, fs, e, hG⟩, hx⟩ := mx_is_some hx
    exact (hC a e X E σ o σ1 hx).1
  · obtain ⟨⟨a, fs, e, hG⟩, hx'⟩ := mx_is_some hx
    subst e
    exact tj_rn3 hlo (vx_runU (tj_fix B) ((hC a rfl X E σ o σ1 hx').2 (xl X) B.fl) (va_cwO n B.ts (lw_O q1 q2 q0 q3 q4 q5 q6) rfl rfl rfl q7 hy (tj_room B hL)) (tj_preV B hR hG ht hc0) rfl hn (by rw [hl.1]) hst (lv_room hW) hd ⟨hc, hs⟩)
theorem tj_tryA {y : MethodName} {bytes : ByteArray} {maxL n idx : Nat} {rt : Option FieldType} {as : List Value} {v : Option Nat} {t : Nat} {C : String} {T0 : u_T} {N : Nat} {st' : β → List Value} {x0 : MethodName} {owner : String} (hC : ∀ a, v = some a → ct_ y (ws_ y bytes maxL rt) d em (.ref a :: as) x) (ht : t < 100) (hc0 : cl_tab[t]? = some (C, T0, N)) (q1 : Cond.methodLink own idx x0 ∈ lw_all) (q2 : Cond.sameMethod x0.cls owner x0.name x0.desc ∈ lw_all) (q3 : Cond.selects C x0 y ∈ lw_all) (q4 : Cond.instanceMethod y ∈ lw_all) (q5 : Cond.initialized y.cls ∈ lw_all) (q6 : Cond.code y bytes maxL rt ∈ lw_all) (q0 : Cond.declares ⟨owner, x0.name, x0.desc⟩ ∈ lw_tbl) (hy : md_ok owner x0.desc n) (hn : as.length = n) (hL : maxL ≤ 45) (hst : st = as.reverse ++ (va_rf v :: rest)) (hW : (rest.map fun v => v.category).sum ≤ 8) (hd : decode cc pc = .ok (.invokevirtual idx, 3)) (hs : ∀ v, st' v = (em v).toList ++ rest) (k : ∀ (v : β) (σ1 : hp_S), tj_T E X own ini cc nL ret (d + 1) hh n0 s0 emb σ1 (pc + 3) L (st' v) (f v)) (kx : ∀ (q : Nat) (σ1 : hp_S), tj_Tx E X own ini cc nL ret (d + 1) hh n0 s0 emb σ1 pc L rest q (h q)) : tj_T E X own ini cc nL ret (d + 1) hh n0 s0 emb σ pc L st (mx_try (mx_is t v x) f h) := by
  refine tj_run 3 hs (fun o σ1 hx => ?_) (fun o σ1 hx B H locs c s ls hR hlo hl hc hs => ?_) k kx
  · obtain ⟨⟨a, fs, e, hG⟩, hx⟩ := mx_is_some hx
    exact (hC a e X E σ o σ1 hx).1
  · obtain ⟨⟨a, fs, e, hG⟩, hx'⟩ := mx_is_some hx
    subst e
    exact tj_rn3 hlo (vx_runU (tj_fix B) ((hC a rfl X E σ o σ1 hx').2 (xl X) B.fl) (va_cwA n B.ts (lw_U q1 q2 q3 q4 q5 q6) rfl rfl rfl (B.ev.2.1 _ q0 rfl) hy (tj_room B hL)) (tj_preV B hR hG ht hc0) rfl hn (by rw [hl.1]) hst (lv_room hW) hd ⟨hc, hs⟩)
theorem tj_callA {y : MethodName} {bytes : ByteArray} {maxL n idx : Nat} {rt : Option FieldType} {as : List Value} {v : Option Nat} {t : Nat} {C : String} {T0 : u_T} {N : Nat} {st' : β → List Value} {x0 : MethodName} {owner : String} (hC : ∀ a, v = some a → ct_ y (ws_ y bytes maxL rt) d em (.ref a :: as) x) (ht : t < 100) (hc0 : cl_tab[t]? = some (C, T0, N)) (q1 : Cond.methodLink own idx x0 ∈ lw_all) (q2 : Cond.sameMethod x0.cls owner x0.name x0.desc ∈ lw_all) (q3 : Cond.selects C x0 y ∈ lw_all) (q4 : Cond.instanceMethod y ∈ lw_all) (q5 : Cond.initialized y.cls ∈ lw_all) (q6 : Cond.code y bytes maxL rt ∈ lw_all) (q0 : Cond.declares ⟨owner, x0.name, x0.desc⟩ ∈ lw_tbl) (hy : md_ok owner x0.desc n) (hn : as.length = n) (hL : maxL ≤ 45) (hst : st = as.reverse ++ (va_rf v :: rest)) (hW : (rest.map fun v => v.category).sum ≤ 8) (hd : decode cc pc = .ok (.invokevirtual idx, 3)) (hs : ∀ v, st' v = (em v).toList ++ rest) (k : ∀ (v : β) (σ1 : hp_S), tj_T E X own ini cc nL ret (d + 1) hh n0 s0 emb σ1 (pc + 3) L (st' v) (f v)) (hout : ∀ x ∈ tableOf hh, covers x pc = false) : tj_T E X own ini cc nL ret (d + 1) hh n0 s0 emb σ pc L st (mx_bind (mx_is t v x) f) := by
  refine tj_runB 3 hs (fun o σ1 hx => ?_) (fun o σ1 hx B H locs c s ls hR hlo hl hc hs => ?_) k hout
  · obtain ⟨⟨a, fs, e, hG⟩, hx⟩ := mx_is_some hx
    exact (hC a e X E σ o σ1 hx).1
  · obtain ⟨⟨a, fs, e, hG⟩, hx'⟩ := mx_is_some hx
    subst e
    exact tj_rn3 hlo (vx_runU (tj_fix B) ((hC a rfl X E σ o σ1 hx').2 (xl X) B.fl) (va_cwA n B.ts (lw_U q1 q2 q3 q4 q5 q6) rfl rfl rfl (B.ev.2.1 _ q0 rfl) hy (tj_room B hL)) (tj_preV B hR hG ht hc0) rfl hn (by rw [hl.1]) hst (lv_room hW) hd ⟨hc, hs⟩)
theorem tj_Fw (B : tj_C E X own ini cc nL ret d hh) {C : String} {x0 y : MethodName} (g1 : x0 ∈ ev_iL) (g2 : Cond.publicMethod y ∈ lw_tbl) (g3 : Cond.unhidden C x0.name x0.desc ∈ lw_tbl) (g4 : Cond.castable C x0.cls ∈ lw_tbl) : va_Fw C x0 y (xs X) := by
  obtain ⟨h1, h2⟩ := B.ev.2.2.1 _ g1
  exact ⟨h2, h1, B.ev.2.1 _ g2 rfl, B.ev.2.1 _ g3 rfl, B.ev.2.1 _ g4 rfl⟩
theorem tj_at100 (B : tj_C E X own ini cc nL ret d hh) {t : Nat} {C : String} {T0 : u_T} {N : Nat} (hc : cl_tab[t]? = some (C, T0, N)) : ClassAt (xs X) C (E.1.1 t) := (B.ev.1.1 t _ hc).2
theorem tj_tryF {y : MethodName} {bytes : ByteArray} {maxL n idx : Nat} {rt : Option FieldType} {as : List Value} {v : Option Nat} {t : Nat} {C : String} {T0 : u_T} {N : Nat} {st' : β → List Value} {x0 : MethodName} {cnt : Nat} (hC : ∀ a, v = some a → ct_ y (ws_ y bytes maxL rt) d em (.ref a :: as) x) (ht : t < 100) (hc0 : cl_tab[t]? = some (C, T0, N)) (q1 : Cond.methodLink own idx x0 ∈ lw_all) (q3 : Cond.selects C x0 y ∈ lw_all) (q4 : Cond.instanceMethod y ∈ lw_all) (q5 : Cond.initialized y.cls ∈ lw_all) (q6 : Cond.code y bytes maxL rt ∈ lw_all) (g1 : x0 ∈ ev_iL) (g2 : Cond.publicMethod y ∈ lw_tbl) (g3 : Cond.unhidden C x0.name x0.desc ∈ lw_tbl) (g4 : Cond.castable C x0.cls ∈ lw_tbl) (hy : md_ok x0.cls x0.desc n) (hn : as.length = n) (hL : maxL ≤ 45) (hst : st = as.reverse ++ (va_rf v :: rest)) (hW : (rest.map fun v => v.category).sum ≤ 8) (hd : decode cc pc = .ok (.invokeinterface idx cnt, 5)) (hs : ∀ v, st' v = (em v).toList ++ rest) (k : ∀ (v : β) (σ1 : hp_S), tj_T E X own ini cc nL ret (d + 1) hh n0 s0 emb σ1 (pc + 5) L (st' v) (f v)) (kx : ∀ (q : Nat) (σ1 : hp_S), tj_Tx E X own ini cc nL ret (d + 1) hh n0 s0 emb σ1 pc L rest q (h q)) : tj_T E X own ini cc nL ret (d + 1) hh n0 s0 emb σ pc L st (mx_try (mx_is t v x) f h) := by
  refine tj_run 5 hs (fun o σ1 hx => ?_) (fun o σ1 hx B H locs c s ls hR hlo hl hc hs => ?_) k kx
  · obtain ⟨⟨a, fs, e, hG⟩, hx⟩ := mx_is_some hx
    exact (hC a e X E σ o σ1 hx).1
  · obtain ⟨⟨a, fs, e, hG⟩, hx'⟩ := mx_is_some hx
    subst e
    exact tj_rn5 hlo (vx_runF (tj_at100 B hc0) (tj_fix B) ((hC a rfl X E σ o σ1 hx').2 (xl X) B.fl) (va_cwF n B.ts (lw_F q1 q3 q4 q5 q6) rfl rfl rfl (tj_Fw B g1 g2 g3 g4) hy (tj_room B hL)) (tj_preV B hR hG ht hc0) rfl hn (by rw [hl.1]) hst (lv_room hW) hd ⟨hc, hs⟩)
theorem tj_callF {y : MethodName} {bytes : ByteArray} {maxL n idx : Nat} {rt : Option FieldType} {as : List Value} {v : Option Nat} {t : Nat} {C : String} {T0 : u_T} {N : Nat} {st' : β → List Value} {x0 : MethodName} {cnt : Nat} (hC : ∀ a, v = some a → ct_ y (ws_ y bytes maxL rt) d em (.ref a :: as) x) (ht : t < 100) (hc0 : cl_tab[t]? = some (C, T0, N)) (q1 : Cond.methodLink own idx x0 ∈ lw_all) (q3 : Cond.selects C x0 y ∈ lw_all) (q4 : Cond.instanceMethod y ∈ lw_all) (q5 : Cond.initialized y.cls ∈ lw_all) (q6 : Cond.code y bytes maxL rt ∈ lw_all) (g1 : x0 ∈ ev_iL) (g2 : Cond.publicMethod y ∈ lw_tbl) (g3 : Cond.unhidden C x0.name x0.desc ∈ lw_tbl) (g4 : Cond.castable C x0.cls ∈ lw_tbl) (hy : md_ok x0.cls x0.desc n) (hn : as.length = n) (hL : maxL ≤ 45) (hst : st = as.reverse ++ (va_rf v :: rest)) (hW : (rest.map fun v => v.category).sum ≤ 8) (hd : decode cc pc = .ok (.invokeinterface idx cnt, 5)) (hs : ∀ v, st' v = (em v).toList ++ rest) (k : ∀ (v : β) (σ1 : hp_S), tj_T E X own ini cc nL ret (d + 1) hh n0 s0 emb σ1 (pc + 5) L (st' v) (f v)) (hout : ∀ x ∈ tableOf hh, covers x pc = false) : tj_T E X own ini cc nL ret (d + 1) hh n0 s0 emb σ pc L st (mx_bind (mx_is t v x) f) := by
  refine tj_runB 5 hs (fun o σ1 hx => ?_) (fun o σ1 hx B H locs c s ls hR hlo hl hc hs => ?_) k hout
  · obtain ⟨⟨a, fs, e, hG⟩, hx⟩ := mx_is_some hx
    exact (hC a e X E σ o σ1 hx).1
  · obtain ⟨⟨a, fs, e, hG⟩, hx'⟩ := mx_is_some hx
    subst e
    exact tj_rn5 hlo (vx_runF (tj_at100 B hc0) (tj_fix B) ((hC a rfl X E σ o σ1 hx').2 (xl X) B.fl) (va_cwF n B.ts (lw_F q1 q3 q4 q5 q6) rfl rfl rfl (tj_Fw B g1 g2 g3 g4) hy (tj_room B hL)) (tj_preV B hR hG ht hc0) rfl hn (by rw [hl.1]) hst (lv_room hW) hd ⟨hc, hs⟩)
end CALL
