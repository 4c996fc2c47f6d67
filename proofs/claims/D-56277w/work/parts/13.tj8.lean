/-! ROWS: two receivers, switches by table, private methods found in a class below, super calls -/
theorem nar_rf {ty : FieldType} (v : Option Nat) : narrow ty (va_rf v) = va_rf v := by cases v <;> cases ty <;> rfl
theorem fit_rf {C : String} (v : Option Nat) : fits (.object C) (va_rf v) = true := by cases v <;> rfl
theorem fit_rfa {t : FieldType} (v : Option Nat) : fits (.array t) (va_rf v) = true := by cases v <;> rfl
theorem ev_s {z : String × String × String × Nat} (i : Nat) (h : ev_sL[i]? = some z) : z ∈ ev_sL := List.mem_of_getElem? h
theorem ev_j {z : String × String × String × Int32} (i : Nat) (h : ev_jL[i]? = some z) : z ∈ ev_jL := List.mem_of_getElem? h
theorem ev_t {z : String × Nat × String × Nat} (i : Nat) (h : ev_tL[i]? = some z) : z ∈ ev_tL := List.mem_of_getElem? h
theorem ev_m {z : String × Nat} (i : Nat) (h : ev_mL[i]? = some z) : z ∈ ev_mL := List.mem_of_getElem? h
theorem ev_n {z : String × String} (i : Nat) (h : ev_nL[i]? = some z) : z ∈ ev_nL := List.mem_of_getElem? h
theorem ev_i {z : MethodName} (i : Nat) (h : ev_iL[i]? = some z) : z ∈ ev_iL := List.mem_of_getElem? h
theorem ev_p {z : MethodName} (i : Nat) (h : ev_pL[i]? = some z) : z ∈ ev_pL := List.mem_of_getElem? h
theorem cat_i (x : Int32) : (Value.int x).category = 1 := rfl
theorem cat_l (x : Int64) : (Value.long x).category = 2 := rfl
theorem cat_f (x : UInt32) : (Value.float x).category = 1 := rfl
theorem cat_d (x : UInt64) : (Value.double x).category = 2 := rfl
theorem nf_Z : ∀ x : Int32, narrow .boolean (.int x) = .int x → fits .boolean (.int x) = true := fun x h => by rw [← h]; exact fits_narrow_boolean x
theorem nf_B : ∀ x : Int32, narrow .byte (.int x) = .int x → fits .byte (.int x) = true := fun x h => by rw [← h]; exact fits_narrow_byte x
theorem nf_C : ∀ x : Int32, narrow .char (.int x) = .int x → fits .char (.int x) = true := fun x h => by rw [← h]; exact fits_narrow_char x
theorem nf_S : ∀ x : Int32, narrow .short (.int x) = .int x → fits .short (.int x) = true := fun x h => by rw [← h]; exact fits_narrow_short x
section TJ8
variable {α β : Type} {E : tj_E} {X : tj_X} {own ini : String} {cc : ByteArray} {nL : Nat} {ret : Option FieldType} {d : Nat} {hh : List (Nat × Nat × Nat × Nat)} {n0 s0 : Nat} {emb : α → Option Value} {σ : hp_S} {pc : Nat} {L : List (Option Value)} {st rest : List Value} {H : Heap} {locs : List Loc} {ls : Array Slot} {cells slots : Nat} {Q : State → Prop}
variable {em : β → Option Value} {x y : mx_M β} {f : β → mx_M α} {h : Nat → mx_M α}
theorem tj_xfail {q : Nat} : tj_Tx E X own ini cc nL ret d hh n0 s0 emb σ pc L st q (mx_fail : mx_M α) := by
  intro o σe hx
  cases hx
theorem tj_or {t : Nat} {v : Option Nat} {pc' : Nat} {st' : β → List Value} (h1 : ∀ f' : β → mx_M α, (∀ (u : β) (σ1 : hp_S), tj_T E X own ini cc nL ret d hh n0 s0 emb σ1 pc' L (st' u) (f' u)) → tj_T E X own ini cc nL ret d hh n0 s0 emb σ pc L st (mx_bind x f')) (h2 : ∀ f' : β → mx_M α, (∀ (u : β) (σ1 : hp_S), tj_T E X own ini cc nL ret d hh n0 s0 emb σ1 pc' L (st' u) (f' u)) → tj_T E X own ini cc nL ret d hh n0 s0 emb σ pc L st (mx_bind y f')) (k : ∀ (u : β) (σ1 : hp_S), tj_T E X own ini cc nL ret d hh n0 s0 emb σ1 pc' L (st' u) (f u)) : tj_T E X own ini cc nL ret d hh n0 s0 emb σ pc L st (mx_bind (mx_or t v x y) f) := by
  intro o σe hx
  by_cases hc : hp_tag σ v = some t
  · refine h1 f k o σe ?_
    unfold mx_bind mx_or at hx
    rw [if_pos hc] at hx
    exact hx
  · refine h2 f k o σe ?_
    unfold mx_bind mx_or at hx
    rw [if_neg hc] at hx
    exact hx
theorem tj_orT {t : Nat} {v : Option Nat} {pc' : Nat} {st' : β → List Value} {sx : List Value} (h1 : ∀ (f' : β → mx_M α) (h' : Nat → mx_M α), (∀ (u : β) (σ1 : hp_S), tj_T E X own ini cc nL ret d hh n0 s0 emb σ1 pc' L (st' u) (f' u)) → (∀ (q : Nat) (σ1 : hp_S), tj_Tx E X own ini cc nL ret d hh n0 s0 emb σ1 pc L sx q (h' q)) → tj_T E X own ini cc nL ret d hh n0 s0 emb σ pc L st (mx_try x f' h')) (h2 : ∀ (f' : β → mx_M α) (h' : Nat → mx_M α), (∀ (u : β) (σ1 : hp_S), tj_T E X own ini cc nL ret d hh n0 s0 emb σ1 pc' L (st' u) (f' u)) → (∀ (q : Nat) (σ1 : hp_S), tj_Tx E X own ini cc nL ret d hh n0 s0 emb σ1 pc L sx q (h' q)) → tj_T E X own ini cc nL ret d hh n0 s0 emb σ pc L st (mx_try y f' h')) (k : ∀ (u : β) (σ1 : hp_S), tj_T E X own ini cc nL ret d hh n0 s0 emb σ1 pc' L (st' u) (f u)) (kx : ∀ (q : Nat) (σ1 : hp_S), tj_Tx E X own ini cc nL ret d hh n0 s0 emb σ1 pc L sx q (h q)) : tj_T E X own ini cc nL ret d hh n0 s0 emb σ pc L st (mx_try (mx_or t v x y) f h) := by
  intro o σe hx
  by_cases hc : hp_tag σ v = some t
  · refine h1 f h k kx o σe ?_
    unfold mx_try mx_or at hx
    rw [if_pos hc] at hx
    exact hx
  · refine h2 f h k kx o σe ?_
    unfold mx_try mx_or at hx
    rw [if_neg hc] at hx
    exact hx
theorem tj_ldcSw {tx : String} {i idx : Nat} {f : Option Nat → mx_M α} (hz : (own, idx, tx, i) ∈ ev_tL) (hd : decode cc pc = .ok (.ldc_w idx, 3)) (k : ∀ x : Option Nat, tj_T E X own ini cc nL ret d hh n0 s0 emb σ (pc + 3) L (va_rf x :: st) (f x)) : tj_T E X own ini cc nL ret d hh n0 s0 emb σ pc L st (mx_bind (mx_con i) f) := by
  refine tj_rd (P := fun x => hp_e σ i = va_rf x) (fun r h => mx_con_some h) (fun x hx B H locs c s Q ls hR hl w => ?_) k
  obtain ⟨a, e, hZ⟩ := B.ev.2.2.2.2.2.2.2.1 _ hz
  have e2 : va_rf x = .ref a := by rw [← hx, hR.2.2.1]; exact e
  rw [e2] at w
  intro T hT Y
  obtain ⟨t9, a1, b1⟩ := w T hT Y
  exact ⟨t9, Y.ldcStringW B.ex B.ow (text := tx) (a := a) hZ.1 hZ.2 (g := F0 (xm X) pc ls st) rfl (by rw [B.co]; exact hd) t9 a1, b1⟩
theorem tj_cwP (B : tj_C E X own ini cc nL ret (d + 1) hh) {y : MethodName} {bytes : ByteArray} {maxL n idx c s : Nat} {rt : Option FieldType} (q1 : Cond.methodLink own idx y ∈ lw_all) (q2 : Cond.instanceMethod y ∈ lw_all) (q4 : Cond.initialized y.cls ∈ lw_all) (q3 : y ∈ ev_pL) (q5 : Cond.code y bytes maxL rt ∈ lw_all) (hy : md_ok y.cls y.desc n) (hL : maxL ≤ 45) :
    CallW (xR X) (xs X) (xa X) own "java/lang/StringBuilder" idx y bytes maxL rt (ws_ y bytes maxL rt) (tj_rm d c s) c s n :=
  ⟨callB_of n B.ts (lw_meth q5) rfl rfl rfl (B.ts _ q4) (B.ts _ q1) hy (tj_room B hL), B.ts _ q2, va_Nw.use rfl (B.ev.2.2.2.2.2.2.2.2.2.2.1 _ q3)⟩
theorem tj_tryP {y : MethodName} {bytes : ByteArray} {maxL n idx : Nat} {rt : Option FieldType} {as : List Value} {v : Option Nat} {t : Nat} {T0 : u_T} {N : Nat} {st' : β → List Value} (hC : ∀ a, v = some a → ct_ y (ws_ y bytes maxL rt) d em (.ref a :: as) x) (ht : t < 100) (hc0 : cl_tab[t]? = some ("java/lang/StringBuilder", T0, N)) (q1 : Cond.methodLink own idx y ∈ lw_all) (q2 : Cond.instanceMethod y ∈ lw_all) (q4 : Cond.initialized y.cls ∈ lw_all) (q3 : y ∈ ev_pL) (q5 : Cond.code y bytes maxL rt ∈ lw_all) (hy : md_ok y.cls y.desc n) (hn : as.length = n) (hL : maxL ≤ 45) (hst : st = as.reverse ++ (va_rf v :: rest)) (hW : (rest.map fun v => v.category).sum ≤ 8) (hd : decode cc pc = .ok (.invokevirtual idx, 3)) (hs : ∀ v, st' v = (em v).toList ++ rest) (k : ∀ (v : β) (σ1 : hp_S), tj_T E X own ini cc nL ret (d + 1) hh n0 s0 emb σ1 (pc + 3) L (st' v) (f v)) (kx : ∀ (q : Nat) (σ1 : hp_S), tj_Tx E X own ini cc nL ret (d + 1) hh n0 s0 emb σ1 pc L rest q (h q)) : tj_T E X own ini cc nL ret (d + 1) hh n0 s0 emb σ pc L st (mx_try (mx_is t v x) f h) := by
  refine tj_run 3 hs (fun o σ1 hx => ?_) (fun o σ1 hx B H locs c s ls hR hlo hl hc hs => ?_) k kx
  · obtain ⟨⟨a, fs, e, hG⟩, hx⟩ := mx_is_some hx
    exact (hC a e X E σ o σ1 hx).1
  · obtain ⟨⟨a, fs, e, hG⟩, hx'⟩ := mx_is_some hx
    subst e
    exact tj_rn3 hlo (vx_runV (tj_fix B) ((hC a rfl X E σ o σ1 hx').2 (xl X) B.fl) (tj_cwP B q1 q2 q4 q3 q5 hy hL) (tj_preV B hR hG ht hc0) rfl hn (by rw [hl.1]) hst (lv_room hW) hd ⟨hc, hs⟩)
theorem tj_callP {y : MethodName} {bytes : ByteArray} {maxL n idx : Nat} {rt : Option FieldType} {as : List Value} {v : Option Nat} {t : Nat} {T0 : u_T} {N : Nat} {st' : β → List Value} (hC : ∀ a, v = some a → ct_ y (ws_ y bytes maxL rt) d em (.ref a :: as) x) (ht : t < 100) (hc0 : cl_tab[t]? = some ("java/lang/StringBuilder", T0, N)) (q1 : Cond.methodLink own idx y ∈ lw_all) (q2 : Cond.instanceMethod y ∈ lw_all) (q4 : Cond.initialized y.cls ∈ lw_all) (q3 : y ∈ ev_pL) (q5 : Cond.code y bytes maxL rt ∈ lw_all) (hy : md_ok y.cls y.desc n) (hn : as.length = n) (hL : maxL ≤ 45) (hst : st = as.reverse ++ (va_rf v :: rest)) (hW : (rest.map fun v => v.category).sum ≤ 8) (hd : decode cc pc = .ok (.invokevirtual idx, 3)) (hs : ∀ v, st' v = (em v).toList ++ rest) (k : ∀ (v : β) (σ1 : hp_S), tj_T E X own ini cc nL ret (d + 1) hh n0 s0 emb σ1 (pc + 3) L (st' v) (f v)) (hout : ∀ x ∈ tableOf hh, covers x pc = false) : tj_T E X own ini cc nL ret (d + 1) hh n0 s0 emb σ pc L st (mx_bind (mx_is t v x) f) := by
  refine tj_runB 3 hs (fun o σ1 hx => ?_) (fun o σ1 hx B H locs c s ls hR hlo hl hc hs => ?_) k hout
  · obtain ⟨⟨a, fs, e, hG⟩, hx⟩ := mx_is_some hx
    exact (hC a e X E σ o σ1 hx).1
  · obtain ⟨⟨a, fs, e, hG⟩, hx'⟩ := mx_is_some hx
    subst e
    exact tj_rn3 hlo (vx_runV (tj_fix B) ((hC a rfl X E σ o σ1 hx').2 (xl X) B.fl) (tj_cwP B q1 q2 q4 q3 q5 hy hL) (tj_preV B hR hG ht hc0) rfl hn (by rw [hl.1]) hst (lv_room hW) hd ⟨hc, hs⟩)
theorem lw_SU {idx : Nat} {y : MethodName} {b : ByteArray} {L : Nat} {r : Option FieldType} (h1 : Cond.methodLink own idx y ∈ lw_all) (h2 : Cond.sameMethod y.cls y.cls y.name y.desc ∈ lw_all) (h3 : Cond.superclass own y.cls ∈ lw_all) (h4 : Cond.instanceMethod y ∈ lw_all) (h5 : Cond.initialized y.cls ∈ lw_all) (h6 : Cond.code y b L r ∈ lw_all) : GoodIn lw_all (va_wsSU own idx y (ws_ y b L r)) := by
  refine lw_app ?_ (lw_meth h6)
  intro w hw
  simp only [List.mem_cons, List.not_mem_nil, or_false] at hw
  rcases hw with e | e | e | e | e
  · rw [e]; exact h1
  · rw [e]; exact h2
  · rw [e]; exact h3
  · rw [e]; exact h4
  · rw [e]; exact h5
theorem tj_trySU {y : MethodName} {bytes : ByteArray} {maxL n idx : Nat} {rt : Option FieldType} {as : List Value} {v : Option Nat} {t : Nat} {C : String} {T0 : u_T} {N : Nat} {st' : β → List Value} (hC : ∀ a, v = some a → ct_ y (ws_ y bytes maxL rt) d em (.ref a :: as) x) (ht : t < 100) (hc0 : cl_tab[t]? = some (C, T0, N)) (q1 : Cond.methodLink own idx y ∈ lw_all) (q2 : Cond.sameMethod y.cls y.cls y.name y.desc ∈ lw_all) (q3 : Cond.superclass own y.cls ∈ lw_all) (q4 : Cond.instanceMethod y ∈ lw_all) (q5 : Cond.initialized y.cls ∈ lw_all) (q6 : Cond.code y bytes maxL rt ∈ lw_all) (hno : y.name ≠ "<init>") (hy : md_ok y.cls y.desc n) (hn : as.length = n) (hL : maxL ≤ 45) (hst : st = as.reverse ++ (va_rf v :: rest)) (hW : (rest.map fun v => v.category).sum ≤ 8) (hd : decode cc pc = .ok (.invokespecial idx, 3)) (hs : ∀ v, st' v = (em v).toList ++ rest) (k : ∀ (v : β) (σ1 : hp_S), tj_T E X own ini cc nL ret (d + 1) hh n0 s0 emb σ1 (pc + 3) L (st' v) (f v)) (kx : ∀ (q : Nat) (σ1 : hp_S), tj_Tx E X own ini cc nL ret (d + 1) hh n0 s0 emb σ1 pc L rest q (h q)) : tj_T E X own ini cc nL ret (d + 1) hh n0 s0 emb σ pc L st (mx_try (mx_is t v x) f h) := by
  refine tj_run 3 hs (fun o σ1 hx => ?_) (fun o σ1 hx B H locs c s ls hR hlo hl hc hs => ?_) k kx
  · obtain ⟨⟨a, fs, e, hG⟩, hx⟩ := mx_is_some hx
    exact (hC a e X E σ o σ1 hx).1
  · obtain ⟨⟨a, fs, e, hG⟩, hx'⟩ := mx_is_some hx
    subst e
    exact tj_rn3 hlo (vx_runSU (tj_at100 B hc0) (tj_fix B) ((hC a rfl X E σ o σ1 hx').2 (xl X) B.fl) (va_cwSU n B.ts (lw_SU q1 q2 q3 q4 q5 q6) rfl rfl rfl ⟨hno, hy.2.2⟩ (tj_room B hL)) (tj_preV B hR hG ht hc0) rfl hn (by rw [hl.1]) hst (lv_room hW) hd ⟨hc, hs⟩)
theorem tj_callSU {y : MethodName} {bytes : ByteArray} {maxL n idx : Nat} {rt : Option FieldType} {as : List Value} {v : Option Nat} {t : Nat} {C : String} {T0 : u_T} {N : Nat} {st' : β → List Value} (hC : ∀ a, v = some a → ct_ y (ws_ y bytes maxL rt) d em (.ref a :: as) x) (ht : t < 100) (hc0 : cl_tab[t]? = some (C, T0, N)) (q1 : Cond.methodLink own idx y ∈ lw_all) (q2 : Cond.sameMethod y.cls y.cls y.name y.desc ∈ lw_all) (q3 : Cond.superclass own y.cls ∈ lw_all) (q4 : Cond.instanceMethod y ∈ lw_all) (q5 : Cond.initialized y.cls ∈ lw_all) (q6 : Cond.code y bytes maxL rt ∈ lw_all) (hno : y.name ≠ "<init>") (hy : md_ok y.cls y.desc n) (hn : as.length = n) (hL : maxL ≤ 45) (hst : st = as.reverse ++ (va_rf v :: rest)) (hW : (rest.map fun v => v.category).sum ≤ 8) (hd : decode cc pc = .ok (.invokespecial idx, 3)) (hs : ∀ v, st' v = (em v).toList ++ rest) (k : ∀ (v : β) (σ1 : hp_S), tj_T E X own ini cc nL ret (d + 1) hh n0 s0 emb σ1 (pc + 3) L (st' v) (f v)) (hout : ∀ x ∈ tableOf hh, covers x pc = false) : tj_T E X own ini cc nL ret (d + 1) hh n0 s0 emb σ pc L st (mx_bind (mx_is t v x) f) := by
  refine tj_runB 3 hs (fun o σ1 hx => ?_) (fun o σ1 hx B H locs c s ls hR hlo hl hc hs => ?_) k hout
  · obtain ⟨⟨a, fs, e, hG⟩, hx⟩ := mx_is_some hx
    exact (hC a e X E σ o σ1 hx).1
  · obtain ⟨⟨a, fs, e, hG⟩, hx'⟩ := mx_is_some hx
    subst e
    exact tj_rn3 hlo (vx_runSU (tj_at100 B hc0) (tj_fix B) ((hC a rfl X E σ o σ1 hx').2 (xl X) B.fl) (va_cwSU n B.ts (lw_SU q1 q2 q3 q4 q5 q6) rfl rfl rfl ⟨hno, hy.2.2⟩ (tj_room B hL)) (tj_preV B hR hG ht hc0) rfl hn (by rw [hl.1]) hst (lv_room hW) hd ⟨hc, hs⟩)
/-- tableswitch: keys and targets -/
theorem tj_table {dflt lo hi : Int} {offs : Array Int} {len : Nat} {x : Int32} {pr : List (Int32 × mx_M α)} {D : mx_M α} (ks : List (Int32 × Nat)) (tD : Nat) (hd : decode cc pc = .ok (.tableswitch dflt lo hi offs, len)) (hps : offs.toList.map (fun o => (pc : Int) + o) = ks.map (fun q => (q.2 : Int))) (hk : ks.map (fun q => q.1.toInt) = (List.range ks.length).map (fun i : Nat => lo + Int.ofNat i)) (hhi : lo + (ks.length : Int) = hi + 1) (hD : (pc : Int) + dflt = (tD : Int)) (hlen : pr.map Prod.fst = ks.map Prod.fst)
    (kc : ∀ (i : Nat) (t : Nat) (key : Int32) (A : mx_M α), ks[i]? = some (key, t) → pr[i]? = some (key, A) → tj_T E X own ini cc nL ret d hh n0 s0 emb σ t L st A) (kD : tj_T E X own ini cc nL ret d hh n0 s0 emb σ tD L st D) : tj_T E X own ini cc nL ret d hh n0 s0 emb σ pc L (.int x :: st) (mx_sw x pr D) := by
  have look : ∀ (l : List (Int32 × mx_M α)), (∃ (i : Nat) (A : mx_M α), l.lookup x = some A ∧ l[i]? = some (x, A)) ∨ (l.lookup x = none ∧ ∀ (i : Nat) (q : Int32 × mx_M α), l[i]? = some q → q.1 ≠ x) := by
    intro l
    induction l with
    | nil => exact Or.inr ⟨rfl, fun i q h => by simp at h⟩
    | cons b l ih =>
      obtain ⟨bk, bA⟩ := b
      by_cases hx : x = bk
      · subst hx
        exact Or.inl ⟨0, bA, by simp [List.lookup], rfl⟩
      · have hl : List.lookup x ((bk, bA) :: l) = l.lookup x := by
          rw [List.lookup_cons]
          have : (x == bk) = false := by simpa using hx
          rw [this]
        rw [hl]
        rcases ih with ⟨i, A, h1, h2⟩ | ⟨h1, h2⟩
        · exact Or.inl ⟨i + 1, A, h1, by simpa using h2⟩
        · refine Or.inr ⟨h1, fun i q h => ?_⟩
          cases i with
          | zero => simp at h; rw [← h]; exact fun e => hx e.symm
          | succ i => exact h2 i q (by simpa using h)
  have kat : ∀ (i : Nat) (q : Int32 × Nat), ks[i]? = some q → q.1.toInt = lo + (i : Int) := by
    intro i q h
    have hlt : i < ks.length := (List.getElem?_eq_some_iff.mp h).1
    have h1 : (ks.map (fun q => q.1.toInt))[i]? = some q.1.toInt := by rw [List.getElem?_map, h]; rfl
    rw [hk, List.getElem?_map, List.getElem?_range hlt] at h1
    exact (Option.some.inj h1).symm
  have cat : ∀ (i : Nat) (q : Int32 × mx_M α), pr[i]? = some q → ∃ t, ks[i]? = some (q.1, t) := by
    intro i q h
    have h1 : (pr.map Prod.fst)[i]? = some q.1 := by rw [List.getElem?_map, h]; rfl
    rw [hlen, List.getElem?_map] at h1
    obtain ⟨r, h2, h3⟩ := Option.map_eq_some_iff.mp h1
    exact ⟨r.2, by rw [h2, ← h3]⟩
  intro o σe hx
  unfold mx_sw at hx
  rcases look pr with ⟨i, A, h1, h2⟩ | ⟨h1, h2⟩
  · rw [h1] at hx
    obtain ⟨t, h3⟩ := cat i _ h2
    have h4 := kat i _ h3
    simp only at h4
    have hlt : i < ks.length := (List.getElem?_eq_some_iff.mp h3).1
    have h5 : (offs.toList.map (fun o => (pc : Int) + o))[i]? = some (t : Int) := by
      rw [hps, List.getElem?_map, h3]; rfl
    rw [List.getElem?_map] at h5
    obtain ⟨off, h6, h7⟩ := Option.map_eq_some_iff.mp h5
    obtain ⟨r1, r2⟩ := kc i t x A h3 h2 o σe hx
    exact ⟨r1, fun B H locs ls a b c d e f g => lv_tableIn B.ex B.co hd (by omega) (by omega) (by rw [h4, show (lo + (i : Int) - lo).toNat = i by omega]; simpa using h6) h7 (r2 B H locs ls a b c d e f g)⟩
  · rw [h1] at hx
    obtain ⟨r1, r2⟩ := kD o σe hx
    refine ⟨r1, fun B H locs ls a b c d e f g => lv_tableOut B.ex B.co hd ?_ hD (r2 B H locs ls a b c d e f g)⟩
    refine Decidable.byContradiction fun hn => ?_
    have h8 : ¬ x.toInt < lo := fun h => hn (Or.inl h)
    have h9 : ¬ hi < x.toInt := fun h => hn (Or.inr h)
    have hlt : (x.toInt - lo).toNat < ks.length := by omega
    have h10 := kat _ _ (List.getElem?_eq_getElem hlt)
    have h11 : (pr.map Prod.fst)[(x.toInt - lo).toNat]? = some ks[(x.toInt - lo).toNat].1 := by rw [hlen, List.getElem?_map, List.getElem?_eq_getElem hlt]; rfl
    rw [List.getElem?_map] at h11
    obtain ⟨q, h12, h13⟩ := Option.map_eq_some_iff.mp h11
    exact h2 _ q h12 (by rw [h13]; exact Int32.toInt_inj.mp (by omega))
theorem tj_mmax {x y : Int32} {idx : Nat} {pr : mx_M α} (q1 : Cond.methodLink own idx Lib.Math.max.name ∈ lw_all) (hW : (st.map fun v => v.category).sum ≤ 8) (hd : decode cc pc = .ok (.invokestatic idx, 3)) (k : tj_T E X own ini cc nL ret (d + 1) hh n0 s0 emb σ (pc + 3) L (.int (if x < y then y else x) :: st) pr) : tj_T E X own ini cc nL ret (d + 1) hh n0 s0 emb σ pc L (.int y :: .int x :: st) pr := by
  intro o σe hx
  obtain ⟨h1, h2⟩ := k o σe hx
  refine ⟨h1, fun B H locs ls a b c e f g i => ?_⟩
  have hlo := B.lo
  exact va_mmax B.ex B.co (by rw [B.ml]; exact c.1.symm) B.ow (B.ts _ q1) (B.ts _ q631) (B.ts _ q122) (B.ts _ q632) (Nat.le_trans (Nat.succ_le_succ (Nat.zero_le _)) B.fr) (by omega) (by omega) (by omega) hd (h2 B H locs ls a b c e f g i)
theorem tj_mmin {x y : Int32} {idx : Nat} {pr : mx_M α} (q1 : Cond.methodLink own idx Lib.Math.min.name ∈ lw_all) (hW : (st.map fun v => v.category).sum ≤ 8) (hd : decode cc pc = .ok (.invokestatic idx, 3)) (k : tj_T E X own ini cc nL ret (d + 1) hh n0 s0 emb σ (pc + 3) L (.int (if y < x then y else x) :: st) pr) : tj_T E X own ini cc nL ret (d + 1) hh n0 s0 emb σ pc L (.int y :: .int x :: st) pr := by
  intro o σe hx
  obtain ⟨h1, h2⟩ := k o σe hx
  refine ⟨h1, fun B H locs ls a b c e f g i => ?_⟩
  have hlo := B.lo
  exact va_mmin B.ex B.co (by rw [B.ml]; exact c.1.symm) B.ow (B.ts _ q1) (B.ts _ q649) (B.ts _ q122) (B.ts _ q650) (Nat.le_trans (Nat.succ_le_succ (Nat.zero_le _)) B.fr) (by omega) (by omega) (by omega) hd (h2 B H locs ls a b c e f g i)
theorem lw_FW {idx : Nat} {C : String} {x y : MethodName} {b : ByteArray} {L : Nat} {r : Option FieldType} {hh : List (Nat × Nat × Nat × Nat)} (h1 : Cond.methodLink own idx x ∈ lw_all) (h3 : Cond.selects C x y ∈ lw_all) (h4 : Cond.instanceMethod y ∈ lw_all) (h5 : Cond.initialized y.cls ∈ lw_all) (h6 : Cond.codeWith y b L r hh ∈ lw_all) : GoodIn lw_all (va_wsF own idx C x y (wsW_ y b L r hh)) := by
  refine lw_app ?_ (lw_methW h6)
  intro w hw
  simp only [List.mem_cons, List.not_mem_nil, or_false] at hw
  rcases hw with e | e | e | e
  · rw [e]; exact h1
  · rw [e]; exact h3
  · rw [e]; exact h4
  · rw [e]; exact h5
theorem tj_tryFX {y : MethodName} {bytes : ByteArray} {maxL n idx : Nat} {rt : Option FieldType} {as : List Value} {v : Option Nat} {t : Nat} {C : String} {T0 : u_T} {N : Nat} {st' : β → List Value} {x0 : MethodName} {cnt : Nat} {h9 : List (Nat × Nat × Nat × Nat)} (hC : ∀ a, v = some a → ct_ y (wsW_ y bytes maxL rt h9) d em (.ref a :: as) x) (ht : t < 100) (hc0 : cl_tab[t]? = some (C, T0, N)) (q1 : Cond.methodLink own idx x0 ∈ lw_all) (q3 : Cond.selects C x0 y ∈ lw_all) (q4 : Cond.instanceMethod y ∈ lw_all) (q5 : Cond.initialized y.cls ∈ lw_all) (q6 : Cond.codeWith y bytes maxL rt h9 ∈ lw_all) (g1 : x0 ∈ ev_iL) (g2 : Cond.publicMethod y ∈ lw_tbl) (g3 : Cond.unhidden C x0.name x0.desc ∈ lw_tbl) (g4 : Cond.castable C x0.cls ∈ lw_tbl) (hy : md_ok x0.cls x0.desc n) (hn : as.length = n) (hL : maxL ≤ 45) (hst : st = as.reverse ++ (va_rf v :: rest)) (hW : (rest.map fun v => v.category).sum ≤ 8) (hd : decode cc pc = .ok (.invokeinterface idx cnt, 5)) (hs : ∀ v, st' v = (em v).toList ++ rest) (k : ∀ (v : β) (σ1 : hp_S), tj_T E X own ini cc nL ret (d + 1) hh n0 s0 emb σ1 (pc + 5) L (st' v) (f v)) (kx : ∀ (q : Nat) (σ1 : hp_S), tj_Tx E X own ini cc nL ret (d + 1) hh n0 s0 emb σ1 pc L rest q (h q)) : tj_T E X own ini cc nL ret (d + 1) hh n0 s0 emb σ pc L st (mx_try (mx_is t v x) f h) := by
  refine tj_run 5 hs (fun o σ1 hx => ?_) (fun o σ1 hx B H locs c s ls hR hlo hl hc hs => ?_) k kx
  · obtain ⟨⟨a, fs, e, hG⟩, hx⟩ := mx_is_some hx
    exact (hC a e X E σ o σ1 hx).1
  · obtain ⟨⟨a, fs, e, hG⟩, hx'⟩ := mx_is_some hx
    subst e
    exact tj_rn5 hlo (vx_runFW (tj_at100 B hc0) (tj_fix B) ((hC a rfl X E σ o σ1 hx').2 (xl X) B.fl) (va_cwFW n B.ts (lw_FW q1 q3 q4 q5 q6) rfl rfl rfl (tj_Fw B g1 g2 g3 g4) hy (tj_room B hL)) (tj_preV B hR hG ht hc0) rfl hn (by rw [hl.1]) hst (lv_room hW) hd ⟨hc, hs⟩)
theorem tj_callFX {y : MethodName} {bytes : ByteArray} {maxL n idx : Nat} {rt : Option FieldType} {as : List Value} {v : Option Nat} {t : Nat} {C : String} {T0 : u_T} {N : Nat} {st' : β → List Value} {x0 : MethodName} {cnt : Nat} {h9 : List (Nat × Nat × Nat × Nat)} (hC : ∀ a, v = some a → ct_ y (wsW_ y bytes maxL rt h9) d em (.ref a :: as) x) (ht : t < 100) (hc0 : cl_tab[t]? = some (C, T0, N)) (q1 : Cond.methodLink own idx x0 ∈ lw_all) (q3 : Cond.selects C x0 y ∈ lw_all) (q4 : Cond.instanceMethod y ∈ lw_all) (q5 : Cond.initialized y.cls ∈ lw_all) (q6 : Cond.codeWith y bytes maxL rt h9 ∈ lw_all) (g1 : x0 ∈ ev_iL) (g2 : Cond.publicMethod y ∈ lw_tbl) (g3 : Cond.unhidden C x0.name x0.desc ∈ lw_tbl) (g4 : Cond.castable C x0.cls ∈ lw_tbl) (hy : md_ok x0.cls x0.desc n) (hn : as.length = n) (hL : maxL ≤ 45) (hst : st = as.reverse ++ (va_rf v :: rest)) (hW : (rest.map fun v => v.category).sum ≤ 8) (hd : decode cc pc = .ok (.invokeinterface idx cnt, 5)) (hs : ∀ v, st' v = (em v).toList ++ rest) (k : ∀ (v : β) (σ1 : hp_S), tj_T E X own ini cc nL ret (d + 1) hh n0 s0 emb σ1 (pc + 5) L (st' v) (f v)) (hout : ∀ x ∈ tableOf hh, covers x pc = false) : tj_T E X own ini cc nL ret (d + 1) hh n0 s0 emb σ pc L st (mx_bind (mx_is t v x) f) := by
  refine tj_runB 5 hs (fun o σ1 hx => ?_) (fun o σ1 hx B H locs c s ls hR hlo hl hc hs => ?_) k hout
  · obtain ⟨⟨a, fs, e, hG⟩, hx⟩ := mx_is_some hx
    exact (hC a e X E σ o σ1 hx).1
  · obtain ⟨⟨a, fs, e, hG⟩, hx'⟩ := mx_is_some hx
    subst e
    exact tj_rn5 hlo (vx_runFW (tj_at100 B hc0) (tj_fix B) ((hC a rfl X E σ o σ1 hx').2 (xl X) B.fl) (va_cwFW n B.ts (lw_FW q1 q3 q4 q5 q6) rfl rfl rfl (tj_Fw B g1 g2 g3 g4) hy (tj_room B hL)) (tj_preV B hR hG ht hc0) rfl hn (by rw [hl.1]) hst (lv_room hW) hd ⟨hc, hs⟩)
end TJ8
