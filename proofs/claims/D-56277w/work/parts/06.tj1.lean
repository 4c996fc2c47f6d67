/-! WALKS AS JUDGEMENTS (tj_): the machine's frame, locals and stack beside a function over abstract heaps -/
abbrev tj_X : Type := Program × Launch × Env × Room × State × MethodId × Array Value × List Frame × Method × Code
abbrev xp (X : tj_X) : Program := X.1
abbrev xl (X : tj_X) : Launch := X.2.1
abbrev xe (X : tj_X) : Env := X.2.2.1
abbrev xR (X : tj_X) : Room := X.2.2.2.1
abbrev xs (X : tj_X) : State := X.2.2.2.2.1
abbrev xm (X : tj_X) : MethodId := X.2.2.2.2.2.1
abbrev xa (X : tj_X) : Array Value := X.2.2.2.2.2.2.1
abbrev xb (X : tj_X) : List Frame := X.2.2.2.2.2.2.2.1
abbrev xh (X : tj_X) : Method := X.2.2.2.2.2.2.2.2.1
abbrev xc (X : tj_X) : Code := X.2.2.2.2.2.2.2.2.2
abbrev tj_a (E : tj_E) : Nat → ClassId := E.2.1
abbrev tj_H (E : tj_E) : Heap := E.2.2.1
abbrev tj_b (E : tj_E) : Nat := E.2.2.2.1
abbrev tj_e (E : tj_E) : Nat → Value := E.2.2.2.2
def tj_cls (E : tj_E) (t : Nat) : ClassId := if t < 100 then E.1.1 t else tj_a E t
def tj_sl (E : tj_E) (t k : Nat) : Nat := if t < 100 then E.1.2 t k else k
def tj_at (E : tj_E) (a : Nat) (o : hp_O) (H : Heap) : Prop := ∃ cell : Cell, H[a]? = some cell ∧ cell.vm ≠ .unknown ∧ cell.vm.isStatics = false ∧ (tj_b E ≤ a → cell.vm = .none) ∧ cell.cls = tj_cls E o.1 ∧ (∀ (k : Nat) (v : Value), o.2[k]? = some v → cell.slots[tj_sl E o.1 k]? = some v) ∧ (100 ≤ o.1 → cell.slots.size = o.2.length) ∧ (o.1 < 100 → ∃ q : vw_C, cl_tab[o.1]? = some q ∧ o.2.length ≤ q.2.2)
def tj_R (E : tj_E) (σ : hp_S) (H : Heap) : Prop := H.size = hp_n σ ∧ hp_b σ = tj_b E ∧ hp_e σ = tj_e E ∧ tj_b E ≤ hp_n σ ∧ (∀ q : Nat, q < tj_b E → H[q]? = (tj_H E)[q]?) ∧ ∀ (a : Nat) (o : hp_O), hp_G σ a = some o → tj_at E a o H
def tj_lo (E : tj_E) (locs : List Loc) : Prop := ∀ q ∈ locs, tj_b E ≤ q.base
def tj_ls (ls : Array Slot) (nL : Nat) (L : List (Option Value)) : Prop := ls.size = nL ∧ lv_wf ls ∧ L.length = nL ∧ ∀ (i : Nat) (v : Value), L[i]? = some (some v) → ls[i]? = some (.val v)
abbrev tj_W (X : tj_X) (H : Heap) (locs : List Loc) (cells slots : Nat) (Q : State → Prop) (g : JFrame) : Prop := W (xp X) (xl X) (xe X) (xR X) (xs X) (xm X) (xa X) (xb X) (xh X) (xc X) H locs cells slots Q g
abbrev tj_Wx (X : tj_X) (H : Heap) (locs : List Loc) (cells slots : Nat) (Q : State → Prop) (g : JFrame) (q : Addr) : Prop := vx_W (xp X) (xl X) (xe X) (xR X) (xs X) (xm X) (xa X) (xb X) (xh X) (xc X) H locs cells slots Q g q
def tj_fr (E : tj_E) : Addr → Prop := fun q => tj_b E ≤ q
def tj_Qc {α : Type} (E : tj_E) (emb : α → Option Value) (o : α ⊕ Nat) (σe : hp_S) : Array Value → State → Outcome → State → Prop := fun _ _ oc t => ∃ r, o = .inl r ∧ oc = .returned (emb r) ∧ tj_R E σe t.heap
def tj_XC {α : Type} (E : tj_E) (o : α ⊕ Nat) (σe : hp_S) : Addr → String → State → State → Prop := fun q C _ t => o = .inr q ∧ tj_R E σe t.heap ∧ ∃ (tt : Nat) (T : u_T) (N : Nat), hp_tag σe (some q) = some tt ∧ tt < 100 ∧ cl_tab[tt]? = some (C, T, N)
def tj_Z {α : Type} (E : tj_E) (X : tj_X) (n0 s0 : Nat) (emb : α → Option Value) (o : α ⊕ Nat) (σe : hp_S) : State → Prop := vx_MQ (xb X) (tj_Qc E emb o σe) (tj_XC E o σe) (xa X) (xs X) (hp_n σe - n0) (hp_s σe - s0) (tj_fr E)
/-- what holds all through a method's body -/
def tj_C (E : tj_E) (X : tj_X) (own ini : String) (cc : ByteArray) (nL : Nat) (ret : Option FieldType) (d : Nat) (hh : List (Nat × Nat × Nat × Nat)) : Prop :=
  (xp X).tables.exec = Jvm.exec ∧ (xc X).code = cc ∧ (xh X).sig.returnType = ret ∧ (xc X).maxLocals = nL ∧ (xs X).vm.findClass own = some (xm X).cls ∧ (xh X).locks = false ∧ (∀ w ∈ lw_all, w.before (xa X) (xs X) = true) ∧ ev_E E (xs X) ∧ (xc X).exceptionTable.toList = tableOf hh ∧ d ≤ (xR X).frames ∧ 64 * d ≤ (xR X).locals ∧ (xl X).flags = flags0 ∧ (xh X).name = ini
/-- THE JUDGEMENT: at pc, with locals L and stack st, over the abstract heap σ, the rest of the method does what x does -/
def tj_T {α : Type} (E : tj_E) (X : tj_X) (own ini : String) (cc : ByteArray) (nL : Nat) (ret : Option FieldType) (d : Nat) (hh : List (Nat × Nat × Nat × Nat)) (n0 s0 : Nat) (emb : α → Option Value) (σ : hp_S) (pc : Nat) (L : List (Option Value)) (st : List Value) (x : mx_M α) : Prop :=
  ∀ (o : α ⊕ Nat) (σe : hp_S), x σ = some (o, σe) → (hp_n σ ≤ hp_n σe ∧ hp_s σ ≤ hp_s σe) ∧ (tj_C E X own ini cc nL ret d hh → ∀ (H : Heap) (locs : List Loc) (ls : Array Slot), tj_R E σ H → tj_lo E locs → tj_ls ls nL L → n0 ≤ hp_n σ → s0 ≤ hp_s σ → hp_n σe - n0 ≤ (xR X).cells → hp_s σe - s0 ≤ (xR X).slots →
    tj_W X H locs (hp_n σ - n0) (hp_s σ - s0) (tj_Z E X n0 s0 emb o σe) (F0 (xm X) pc ls st))
/-- .. with q thrown at pc -/
def tj_Tx {α : Type} (E : tj_E) (X : tj_X) (own ini : String) (cc : ByteArray) (nL : Nat) (ret : Option FieldType) (d : Nat) (hh : List (Nat × Nat × Nat × Nat)) (n0 s0 : Nat) (emb : α → Option Value) (σ : hp_S) (pc : Nat) (L : List (Option Value)) (st : List Value) (q : Nat) (x : mx_M α) : Prop :=
  ∀ (o : α ⊕ Nat) (σe : hp_S), x σ = some (o, σe) → (hp_n σ ≤ hp_n σe ∧ hp_s σ ≤ hp_s σe) ∧ (tj_C E X own ini cc nL ret d hh → ∀ (H : Heap) (locs : List Loc) (ls : Array Slot), tj_R E σ H → tj_lo E locs → tj_ls ls nL L → n0 ≤ hp_n σ → s0 ≤ hp_s σ → hp_n σe - n0 ≤ (xR X).cells → hp_s σe - s0 ≤ (xR X).slots →
    tj_Wx X H locs (hp_n σ - n0) (hp_s σ - s0) (tj_Z E X n0 s0 emb o σe) (F0 (xm X) pc ls st) q)
section TJ
variable {α β : Type} {E : tj_E} {X : tj_X} {own ini : String} {cc : ByteArray} {nL : Nat} {ret : Option FieldType} {d : Nat} {hh : List (Nat × Nat × Nat × Nat)} {n0 s0 : Nat} {emb : α → Option Value} {σ : hp_S} {pc : Nat} {L : List (Option Value)} {st : List Value} {x : mx_M α}
theorem tj_C.ex (B : tj_C E X own ini cc nL ret d hh) : (xp X).tables.exec = Jvm.exec := B.1
theorem tj_C.co (B : tj_C E X own ini cc nL ret d hh) : (xc X).code = cc := B.2.1
theorem tj_C.rt (B : tj_C E X own ini cc nL ret d hh) : (xh X).sig.returnType = ret := B.2.2.1
theorem tj_C.ml (B : tj_C E X own ini cc nL ret d hh) : (xc X).maxLocals = nL := B.2.2.2.1
theorem tj_C.ow (B : tj_C E X own ini cc nL ret d hh) : (xs X).vm.findClass own = some (xm X).cls := B.2.2.2.2.1
theorem tj_C.lk (B : tj_C E X own ini cc nL ret d hh) : (xh X).locks = false := B.2.2.2.2.2.1
theorem tj_C.ts (B : tj_C E X own ini cc nL ret d hh) : ∀ w ∈ lw_all, w.before (xa X) (xs X) = true := B.2.2.2.2.2.2.1
theorem tj_C.ev (B : tj_C E X own ini cc nL ret d hh) : ev_E E (xs X) := B.2.2.2.2.2.2.2.1
theorem tj_C.tb (B : tj_C E X own ini cc nL ret d hh) : (xc X).exceptionTable.toList = tableOf hh := B.2.2.2.2.2.2.2.2.1
theorem tj_C.fr (B : tj_C E X own ini cc nL ret d hh) : d ≤ (xR X).frames := B.2.2.2.2.2.2.2.2.2.1
theorem tj_C.lo (B : tj_C E X own ini cc nL ret d hh) : 64 * d ≤ (xR X).locals := B.2.2.2.2.2.2.2.2.2.2.1
theorem tj_C.fl (B : tj_C E X own ini cc nL ret d hh) : (xl X).flags = flags0 := B.2.2.2.2.2.2.2.2.2.2.2.1
theorem tj_C.nm (B : tj_C E X own ini cc nL ret d hh) : (xh X).name = ini := B.2.2.2.2.2.2.2.2.2.2.2.2
/-- a step on the stack alone -/
theorem tj_st {pc' : Nat} {st' : List Value} (h : tj_C E X own ini cc nL ret d hh → ∀ (H : Heap) (locs : List Loc) (c s : Nat) (Q : State → Prop) (ls : Array Slot), tj_ls ls nL L → tj_W X H locs c s Q (F0 (xm X) pc' ls st') → tj_W X H locs c s Q (F0 (xm X) pc ls st)) (k : tj_T E X own ini cc nL ret d hh n0 s0 emb σ pc' L st' x) : tj_T E X own ini cc nL ret d hh n0 s0 emb σ pc L st x := by
  intro o σe hx
  obtain ⟨h1, h2⟩ := k o σe hx
  exact ⟨h1, fun B H locs ls a b c d e f g => h B H locs _ _ _ ls c (h2 B H locs ls a b c d e f g)⟩
/-- a step that changes the locals -/
theorem tj_lt {pc' : Nat} {L' : List (Option Value)} {st' : List Value} (h : tj_C E X own ini cc nL ret d hh → ∀ (H : Heap) (locs : List Loc) (c s : Nat) (Q : State → Prop) (ls : Array Slot), tj_ls ls nL L → (∀ ls' : Array Slot, tj_ls ls' nL L' → tj_W X H locs c s Q (F0 (xm X) pc' ls' st')) → tj_W X H locs c s Q (F0 (xm X) pc ls st)) (k : tj_T E X own ini cc nL ret d hh n0 s0 emb σ pc' L' st' x) : tj_T E X own ini cc nL ret d hh n0 s0 emb σ pc L st x := by
  intro o σe hx
  obtain ⟨h1, h2⟩ := k o σe hx
  exact ⟨h1, fun B H locs ls a b c d e f g => h B H locs _ _ _ ls c (fun ls' c' => h2 B H locs ls' a b c' d e f g)⟩
theorem tj_ls.at {ls : Array Slot} (h : tj_ls ls nL L) {i : Nat} {v : Value} (hi : L[i]? = some (some v)) : ls[i]? = some (.val v) := h.2.2.2 i v hi
/-- the listed locals as the kit lists them -/
def tj_as : Nat → List (Option Value) → List (Nat × Value)
  | _, [] => []
  | i, none :: L => tj_as (i + 1) L
  | i, some v :: L => (i, v) :: tj_as (i + 1) L
theorem tj_as_mem : ∀ (L : List (Option Value)) (i j : Nat) (v : Value), (j, v) ∈ tj_as i L ↔ i ≤ j ∧ L[j - i]? = some (some v)
  | [], i, j, v => by simp [tj_as]
  | none :: L, i, j, v => by
    rw [tj_as, tj_as_mem L (i + 1) j v]
    constructor
    · rintro ⟨h1, h2⟩
      refine ⟨by omega, ?_⟩
      rw [show j - i = (j - (i + 1)) + 1 by omega]
      simpa using h2
    · rintro ⟨h1, h2⟩
      rcases Nat.eq_or_lt_of_le h1 with h3 | h3
      · subst h3; simp at h2
      · refine ⟨h3, ?_⟩
        rw [show j - i = (j - (i + 1)) + 1 by omega] at h2
        simpa using h2
  | some w :: L, i, j, v => by
    rw [tj_as, List.mem_cons, tj_as_mem L (i + 1) j v]
    constructor
    · rintro (h | ⟨h1, h2⟩)
      · cases h; simp
      · refine ⟨by omega, ?_⟩
        rw [show j - i = (j - (i + 1)) + 1 by omega]
        simpa using h2
    · rintro ⟨h1, h2⟩
      rcases Nat.eq_or_lt_of_le h1 with h3 | h3
      · subst h3
        left
        simp at h2
        rw [h2]
      · right
        refine ⟨h3, ?_⟩
        rw [show j - i = (j - (i + 1)) + 1 by omega] at h2
        simpa using h2
theorem tj_ls.has {ls : Array Slot} (h : tj_ls ls nL L) : lv_has ls nL (tj_as 0 L) := by
  refine ⟨h.1, h.2.1, ?_⟩
  rintro ⟨j, v⟩ hq
  have := (tj_as_mem L 0 j v).mp hq
  exact h.2.2.2 j v (by simpa using this.2)
theorem tj_ls.set1 {ls' : Array Slot} {i : Nat} {v : Value} (hL : L.length = nL) (hc : v.category = 1) (h2 : ∀ (j : Nat) (w : Value), L[j]? = some (some w) → w.category = 2 → j + 1 = i → False) (h : lv_has ls' nL ((i, v) :: (tj_as 0 L).filter (fun q => !(q.1 == i) && !(q.1 + 1 == i && q.2.category == 2)))) : tj_ls ls' nL (L.set i (some v)) := by
  refine ⟨h.1, h.2.1, by simpa using hL, ?_⟩
  intro j w hj
  by_cases e : j = i
  · subst e
    rw [List.getElem?_set_self (by have := (List.getElem?_eq_some_iff.mp hj).1; simpa using this)] at hj
    cases hj
    exact h.2.2 (j, v) List.mem_cons_self
  · rw [List.getElem?_set_ne (Ne.symm e)] at hj
    refine h.2.2 (j, w) (List.mem_cons_of_mem _ (List.mem_filter.mpr ⟨(tj_as_mem L 0 j w).mpr ⟨Nat.zero_le _, by simpa using hj⟩, ?_⟩))
    simp only [Bool.and_eq_true, Bool.not_eq_true', beq_eq_false_iff_ne, ne_eq, Bool.and_eq_false_iff]
    refine ⟨e, ?_⟩
    by_cases e2 : j + 1 = i
    · right
      exact fun h3 => h2 j w hj h3 e2
    · left; exact e2
theorem tj_ls.set2 {ls' : Array Slot} {i : Nat} {v : Value} (hL : L.length = nL) (hc : v.category = 2) (h1 : ∀ w : Value, L[i + 1]? = some (some w) → False) (h2 : ∀ (j : Nat) (w : Value), L[j]? = some (some w) → w.category = 2 → j + 1 = i → False) (h : lv_has ls' nL ((i, v) :: (tj_as 0 L).filter (fun q => !(q.1 == i) && (!(q.1 == i + 1) && !(q.1 + 1 == i && q.2.category == 2))))) : tj_ls ls' nL (L.set i (some v)) := by
  refine ⟨h.1, h.2.1, by simpa using hL, ?_⟩
  intro j w hj
  by_cases e : j = i
  · subst e
    rw [List.getElem?_set_self (by have := (List.getElem?_eq_some_iff.mp hj).1; simpa using this)] at hj
    cases hj
    exact h.2.2 (j, v) List.mem_cons_self
  · rw [List.getElem?_set_ne (Ne.symm e)] at hj
    refine h.2.2 (j, w) (List.mem_cons_of_mem _ (List.mem_filter.mpr ⟨(tj_as_mem L 0 j w).mpr ⟨Nat.zero_le _, by simpa using hj⟩, ?_⟩))
    simp only [Bool.and_eq_true, Bool.not_eq_true', beq_eq_false_iff_ne, ne_eq, Bool.and_eq_false_iff]
    refine ⟨e, ?_, ?_⟩
    · intro e3; subst e3; exact h1 w hj
    · by_cases e2 : j + 1 = i
      · right
        exact fun h3 => h2 j w hj h3 e2
      · left; exact e2
/-- fewer locals -/
def tj_su : List (Option Value) → List (Option Value) → Prop
  | [], [] => True
  | none :: L', _ :: L => tj_su L' L
  | some v :: L', u :: L => u = some v ∧ tj_su L' L
  | _, _ => False
theorem tj_su_at : ∀ (L' L : List (Option Value)), tj_su L' L → L'.length = L.length ∧ ∀ (i : Nat) (v : Value), L'[i]? = some (some v) → L[i]? = some (some v)
  | [], [], _ => ⟨rfl, fun i v h => by simp at h⟩
  | none :: L', _ :: L, h => by
    obtain ⟨h1, h2⟩ := tj_su_at L' L h
    refine ⟨by simp [h1], fun i v hi => ?_⟩
    cases i with
    | zero => simp at hi
    | succ i => simpa using h2 i v (by simpa using hi)
  | some w :: L', u :: L, h => by
    obtain ⟨h0, h⟩ := h
    obtain ⟨h1, h2⟩ := tj_su_at L' L h
    refine ⟨by simp [h1], fun i v hi => ?_⟩
    cases i with
    | zero => simp at hi; subst hi; simp [h0]
    | succ i => simpa using h2 i v (by simpa using hi)
  | [], _ :: _, h => False.elim h
  | some _ :: _, [], h => False.elim h
  | none :: _, [], h => False.elim h
theorem tj_wk {L' : List (Option Value)} (h : tj_su L' L) (k : tj_T E X own ini cc nL ret d hh n0 s0 emb σ pc L' st x) : tj_T E X own ini cc nL ret d hh n0 s0 emb σ pc L st x := by
  intro o σe hx
  obtain ⟨h1, h2⟩ := k o σe hx
  obtain ⟨g1, g2⟩ := tj_su_at L' L h
  exact ⟨h1, fun B H locs ls a b c d e f g => h2 B H locs ls a b ⟨c.1, c.2.1, by rw [g1]; exact c.2.2.1, fun i v hi => c.2.2.2 i v (g2 i v hi)⟩ d e f g⟩
theorem tj_fail {emb : α → Option Value} : tj_T E X own ini cc nL ret d hh n0 s0 emb σ pc L st mx_fail := by
  intro o σe hx
  cases hx
end TJ
