/-! THE MAP'S CELLS AND STEPS OVER THEM -/
def mo (ks vs : Value) (root : Option Nat) (n mc : Int32) (es nk dm : Value) : List Value := [ks, vs, .null, va_rf root, .int n, .int mc, es, nk, dm]
/-- from σ0 on only the map and its entries are written; the map's cells at σ -/
def ts (σ0 σ : hp_S) (m : Nat) (o : List Value) (S : Nat → Prop) (F : tm_f) : Prop := fq (fun b => S b ∨ b = m) 0 0 σ0 σ ∧ hp_G σ m = some (18, o) ∧ hp_b σ ≤ m ∧ th σ S F
section TS
variable {α : Type} {σ0 σ : hp_S} {m : Nat} {o : List Value} {S : Nat → Prop} {K V L R P : Nat → Option Nat} {C : Nat → Int32} {a : Nat} {Q : α ⊕ Nat → hp_S → Prop}
theorem ms_get {cs : List (Nat × Nat)} {v x9 : Option Nat} {f : Option Nat → mx_M α} (h : hp_fld cs σ v = some (va_rf x9)) (k : mw (f x9) σ Q) : mw (mx_bind (mx_getR cs v) f) σ Q := mw_bind.mpr (mw_getR.mpr ⟨_, h, k⟩)
theorem ms_getI {cs : List (Nat × Nat)} {v : Option Nat} {x9 : Int32} {f : Int32 → mx_M α} (h : hp_fld cs σ v = some (.int x9)) (k : mw (f x9) σ Q) : mw (mx_bind (mx_getI cs v) f) σ Q := mw_bind.mpr (mw_getI.mpr ⟨_, h, k⟩)
theorem ms_put {cs : List (Nat × Nat)} {v : Option Nat} {w : Value} {τ : hp_S} {f : Unit → mx_M α} (h : hp_put cs σ v w = some τ) (k : mw (f ()) τ Q) : mw (mx_bind (mx_put cs v w) f) σ Q := mw_bind.mpr (mw_put.mpr ⟨_, h, k⟩)
theorem ms_K {f : Option Nat → mx_M α} (h : ts σ0 σ m o S (K, V, L, R, P, C)) (ha : S a) (k : mw (f (K a)) σ Q) : mw (mx_bind (mx_getR [(19, 0)] (some a)) f) σ Q := ms_get (th_K h.2.2.2 ha) k
theorem ms_V {f : Option Nat → mx_M α} (h : ts σ0 σ m o S (K, V, L, R, P, C)) (ha : S a) (k : mw (f (V a)) σ Q) : mw (mx_bind (mx_getR [(19, 1)] (some a)) f) σ Q := ms_get (th_V h.2.2.2 ha) k
theorem ms_L {f : Option Nat → mx_M α} (h : ts σ0 σ m o S (K, V, L, R, P, C)) (ha : S a) (k : mw (f (L a)) σ Q) : mw (mx_bind (mx_getR [(19, 2)] (some a)) f) σ Q := ms_get (th_L h.2.2.2 ha) k
theorem ms_R {f : Option Nat → mx_M α} (h : ts σ0 σ m o S (K, V, L, R, P, C)) (ha : S a) (k : mw (f (R a)) σ Q) : mw (mx_bind (mx_getR [(19, 3)] (some a)) f) σ Q := ms_get (th_R h.2.2.2 ha) k
theorem ms_P {f : Option Nat → mx_M α} (h : ts σ0 σ m o S (K, V, L, R, P, C)) (ha : S a) (k : mw (f (P a)) σ Q) : mw (mx_bind (mx_getR [(19, 4)] (some a)) f) σ Q := ms_get (th_P h.2.2.2 ha) k
theorem ms_C {f : Int32 → mx_M α} (h : ts σ0 σ m o S (K, V, L, R, P, C)) (ha : S a) (k : mw (f (C a)) σ Q) : mw (mx_bind (mx_getI [(19, 5)] (some a)) f) σ Q := ms_getI (th_C h.2.2.2 ha) k
theorem ts_ne {F : tm_f} (h : ts σ0 σ m o S F) (ha : S a) : a ≠ m := by
  intro e
  subst e
  have h1 := (h.2.2.2 a ha).1
  rw [h.2.1] at h1
  cases h1
theorem ts_go {F G : tm_f} {τ : hp_S} {o9 : hp_O} (h : ts σ0 σ m o S F) (ha : S a) (ht : th τ S G) (he : τ = hp_set σ a o9) : ts σ0 τ m o S G := by
  have hne := ts_ne h ha
  obtain ⟨h1, h2, h3, h4⟩ := h
  subst he
  refine ⟨fq_trans h1 (fq_set (Or.inl ha : S a ∨ a = m)) (fun b _ hb => hb), ?_, h3, ht⟩
  rw [hp_G_set, if_neg (Ne.symm hne)]
  exact h2
theorem ms_pL {w : Option Nat} {f : Unit → mx_M α} (h : ts σ0 σ m o S (K, V, L, R, P, C)) (ha : S a) (k : ∀ τ, ts σ0 τ m o S (K, V, up L a w, R, P, C) → mw (f ()) τ Q) : mw (mx_bind (mx_put [(19, 2)] (some a) (va_rf w)) f) σ Q := by
  obtain ⟨τ, e1, e2, -, e4⟩ := th_pL (w := w) h.2.2.2 ha
  exact ms_put e1 (k τ (ts_go h ha e2 e4))
theorem ms_pR {w : Option Nat} {f : Unit → mx_M α} (h : ts σ0 σ m o S (K, V, L, R, P, C)) (ha : S a) (k : ∀ τ, ts σ0 τ m o S (K, V, L, up R a w, P, C) → mw (f ()) τ Q) : mw (mx_bind (mx_put [(19, 3)] (some a) (va_rf w)) f) σ Q := by
  obtain ⟨τ, e1, e2, -, e4⟩ := th_pR (w := w) h.2.2.2 ha
  exact ms_put e1 (k τ (ts_go h ha e2 e4))
theorem ms_pP {w : Option Nat} {f : Unit → mx_M α} (h : ts σ0 σ m o S (K, V, L, R, P, C)) (ha : S a) (k : ∀ τ, ts σ0 τ m o S (K, V, L, R, up P a w, C) → mw (f ()) τ Q) : mw (mx_bind (mx_put [(19, 4)] (some a) (va_rf w)) f) σ Q := by
  obtain ⟨τ, e1, e2, -, e4⟩ := th_pP (w := w) h.2.2.2 ha
  exact ms_put e1 (k τ (ts_go h ha e2 e4))
theorem ms_pC {w : Int32} {f : Unit → mx_M α} (h : ts σ0 σ m o S (K, V, L, R, P, C)) (ha : S a) (k : ∀ τ, ts σ0 τ m o S (K, V, L, R, P, up C a w) → mw (f ()) τ Q) : mw (mx_bind (mx_put [(19, 5)] (some a) (.int w)) f) σ Q := by
  obtain ⟨τ, e1, e2, -, e4⟩ := th_pC (w := w) h.2.2.2 ha
  exact ms_put e1 (k τ (ts_go h ha e2 e4))
/-- the map's own fields -/
theorem ms_root {ks vs es nk dm : Value} {root : Option Nat} {n mc : Int32} {F : tm_f} {f : Option Nat → mx_M α} (h : ts σ0 σ m (mo ks vs root n mc es nk dm) S F) (k : mw (f root) σ Q) : mw (mx_bind (mx_getR [(18, 3)] (some m)) f) σ Q := ms_get (by simp [hp_fld, h.2.1, mo, List.lookup]) k
theorem ms_pm {k9 : Nat} {w : Value} {o' : List Value} {F : tm_f} {f : Unit → mx_M α} (h : ts σ0 σ m o S F) (hk : k9 < o.length) (ho : o.set k9 w = o') (k : ∀ τ, ts σ0 τ m o' S F → mw (f ()) τ Q) : mw (mx_bind (mx_put [(18, k9)] (some m) w) f) σ Q := by
  have hne : ∀ a, S a → a ≠ m := fun a ha => ts_ne h ha
  obtain ⟨h1, h2, h3, h4⟩ := h
  refine ms_put (τ := hp_set σ m (18, o')) (by simp [hp_put, h2, List.lookup, h3, hk, ho]) (k _ ⟨fq_trans h1 (fq_set (Or.inr rfl : S m ∨ m = m)) (fun b _ hb => hb), by rw [hp_G_set, if_pos rfl], h3, fun b hb => ?_⟩)
  rw [hp_G_set, if_neg (hne b hb), hp_b_set]
  exact h4 b hb
theorem ms_proot {ks vs es nk dm : Value} {root w : Option Nat} {n mc : Int32} {F : tm_f} {f : Unit → mx_M α} (h : ts σ0 σ m (mo ks vs root n mc es nk dm) S F) (k : ∀ τ, ts σ0 τ m (mo ks vs w n mc es nk dm) S F → mw (f ()) τ Q) : mw (mx_bind (mx_put [(18, 3)] (some m) (va_rf w)) f) σ Q := ms_pm h (by simp [mo]) rfl k
theorem ts_tag {F : tm_f} (h : ts σ0 σ m o S F) : hp_tag σ (some m) = some 18 := by simp [hp_tag, h.2.1]
end TS
section ROT
variable {σ0 σ : hp_S} {m : Nat} {S : Nat → Prop} {K V L R P L' R' P' : Nat → Option Nat} {C : Nat → Int32} {ky lo hi : Nat → Int} {root root' : Option Nat} {p r d : Nat} {Q : Unit ⊕ Nat → hp_S → Prop} {ks vs es nk dm : Value} {n mc : Int32}
theorem fx_rotL (hI : tm_I root S ky L R P lo hi) (hp : S p) (hr : R p = some r) (eL : L' = up (match P p with | some q => if L q = some p then up L q (some r) else L | none => L) r (some p)) (eR : R' = (match P p with | some q => if L q = some p then up R p (L r) else up (up R p (L r)) q (some r) | none => up R p (L r))) (eP : P' = up (up (match L r with | some y => up P y (some p) | none => P) r (P p)) p (some r)) (er : root' = (match P p with | some _ => root | none => some r))
    (h : ts σ0 σ m (mo ks vs root n mc es nk dm) S (K, V, L, R, P, C)) (hQ : ∀ τ, ts σ0 τ m (mo ks vs root' n mc es nk dm) S (K, V, L', R', P', C) → Q (.inl ()) τ) : mw (fn_J1_rotateLeft (d + 1) (some m) (some p)) σ Q := by
  obtain ⟨h1, h2, h3, h4, h5, h6, h7, h8, h9, h10⟩ := hI
  obtain ⟨hS, hP, hlo, hhi⟩ := h3 p r hp hr
  have n1 := h1 p hp
  have e1 : r ≠ p := fun e => by subst e; omega
  have tail : ∀ (τ : hp_S) (P1 : Nat → Option Nat), P1 p = P p → P' = up (up P1 r (P p)) p (some r) → ts σ0 τ m (mo ks vs root n mc es nk dm) S (K, V, L, up R p (L r), P1, C) → mw (fn_J1_rotateLeft_J32 d (some m) (some p) (some r)) τ Q := by
    intro τ P1 hP1 eP1 hτ
    unfold fn_J1_rotateLeft_J32 fn_J1_rotateLeft_J85
    refine ms_P hτ hp ?_
    rw [hP1]
    refine ms_pP hτ hS fun τ1 hτ1 => ?_
    refine ms_P hτ1 hp ?_
    have e2 : up P1 r (P p) p = P p := by simp [up, Ne.symm e1, hP1]
    rw [e2]
    rcases hPp : P p with _ | q
    · rw [mw_ifnullN]
      refine ms_proot hτ1 fun τ2 hτ2 => ?_
      refine ms_pL hτ2 hS fun τ3 hτ3 => ?_
      refine ms_pP hτ3 hp fun τ4 hτ4 => ?_
      rw [mw_pure]
      refine hQ τ4 ?_
      rw [eL, eR, eP1, er]
      simpa only [hPp] using hτ4
    · rw [mw_ifnullS]
      have hq := (h4 p q hp hPp).1
      refine ms_P hτ1 hp ?_
      rw [e2, hPp]
      refine ms_L hτ1 hq ?_
      by_cases hl : L q = some p
      · rw [mw_ifT hl]
        refine ms_P hτ1 hp ?_
        rw [e2, hPp]
        refine ms_pL hτ1 hq fun τ2 hτ2 => ?_
        refine ms_pL hτ2 hS fun τ3 hτ3 => ?_
        refine ms_pP hτ3 hp fun τ4 hτ4 => ?_
        rw [mw_pure]
        refine hQ τ4 ?_
        rw [eL, eR, eP1, er]
        simpa only [hPp, if_pos hl] using hτ4
      · rw [mw_ifF hl]
        refine ms_P hτ1 hp ?_
        rw [e2, hPp]
        refine ms_pR hτ1 hq fun τ2 hτ2 => ?_
        refine ms_pL hτ2 hS fun τ3 hτ3 => ?_
        refine ms_pP hτ3 hp fun τ4 hτ4 => ?_
        rw [mw_pure]
        refine hQ τ4 ?_
        rw [eL, eR, eP1, er]
        simpa only [hPp, if_neg hl] using hτ4
  unfold fn_J1_rotateLeft fn_J1_rotateLeft_B0
  rw [mw_ifnullS]
  refine ms_R h hp ?_
  rw [hr]
  refine ms_L h hS ?_
  refine ms_pR h hp fun τ1 hτ1 => ?_
  refine ms_L hτ1 hS ?_
  rcases hLr : L r with _ | y
  · rw [mw_ifnullN]
    refine tail τ1 P rfl (by rw [eP, hLr]) ?_
    rw [hLr] at hτ1 ⊢
    exact hτ1
  · rw [mw_ifnullS]
    obtain ⟨a1, a2, a3, a4⟩ := h2 r y hS hLr
    have n3 := h1 y a1
    refine ms_L hτ1 hS ?_
    rw [hLr]
    refine ms_pP hτ1 a1 fun τ2 hτ2 => ?_
    refine tail τ2 (up P y (some p)) ?_ (by rw [eP, hLr]) ?_
    · have e5 : p ≠ y := fun e => by subst e; omega
      simp [up, e5]
    · rw [hLr] at hτ2 ⊢
      exact hτ2
end ROT
