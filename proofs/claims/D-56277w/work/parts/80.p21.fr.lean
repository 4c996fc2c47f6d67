/-! FRAMES WITH TAGS; single objects -/
/-- a frame that also keeps every tag -/
def fr (M : Nat → Prop) (k l : Nat) (σ τ : hp_S) : Prop := (∀ b, b < hp_n σ → hp_tag τ (some b) = hp_tag σ (some b)) ∧ fq M k l σ τ
theorem fr_refl {M : Nat → Prop} {σ : hp_S} : fr M 0 0 σ σ := ⟨fun _ _ => rfl, fq_refl⟩
theorem fr_n {M : Nat → Prop} {k l : Nat} {σ τ : hp_S} (h : fr M k l σ τ) : hp_n σ ≤ hp_n τ := h.2.2.1
theorem fr_b {M : Nat → Prop} {k l : Nat} {σ τ : hp_S} (h : fr M k l σ τ) : hp_b τ = hp_b σ := h.2.2.2.2.2.2.1
theorem fr_e {M : Nat → Prop} {k l : Nat} {σ τ : hp_S} (h : fr M k l σ τ) : hp_e τ = hp_e σ := h.2.2.2.2.2.2.2
theorem fr_G {M : Nat → Prop} {k l : Nat} {σ τ : hp_S} (h : fr M k l σ τ) {b : Nat} (hb : b < hp_n σ) (hM : ¬ M b) : hp_G τ b = hp_G σ b := h.2.1 b hb hM
theorem fr_mono {M N : Nat → Prop} {k l k' l' : Nat} {σ τ : hp_S} (h : fr M k l σ τ) (hM : ∀ b, b < hp_n σ → M b → N b) (hk : k ≤ k') (hl : l ≤ l') : fr N k' l' σ τ := ⟨h.1, fq_mono h.2 hM hk hl⟩
theorem fr_trans {M N : Nat → Prop} {k l k' l' : Nat} {σ τ ρ : hp_S} (h : fr M k l σ τ) (h' : fr N k' l' τ ρ) (hN : ∀ b, b < hp_n σ → N b → M b) : fr M (k + k') (l + l') σ ρ := ⟨fun b hb => (h'.1 b (Nat.lt_of_lt_of_le hb (fr_n h))).trans (h.1 b hb), fq_trans h.2 h'.2 hN⟩
theorem hp_tag_set {σ : hp_S} {a b : Nat} {o : hp_O} (h : hp_tag σ (some a) = some o.1) : hp_tag (hp_set σ a o) (some b) = hp_tag σ (some b) := by
  by_cases e : b = a
  · subst e
    rw [h]
    simp [hp_tag, hp_G_set]
  · simp [hp_tag, hp_G_set, e]
theorem fr_set {M : Nat → Prop} {σ : hp_S} {a : Nat} {o : hp_O} (h : M a) (ht : hp_tag σ (some a) = some o.1) : fr M 0 0 σ (hp_set σ a o) := ⟨fun _ _ => hp_tag_set ht, fq_set h⟩
theorem fr_add {M : Nat → Prop} {σ : hp_S} {o : hp_O} {k : Nat} : fr M 1 k σ (hp_add σ o k) := ⟨fun b hb => by simp [hp_tag, hp_G_add, Nat.ne_of_lt hb], fq_add⟩
/-- the cells from n0 on that have one of the tags ts -/
def tg (σ : hp_S) (ts : List Nat) (n0 b : Nat) : Prop := n0 ≤ b ∧ ∃ t, hp_tag σ (some b) = some t ∧ t ∈ ts
theorem tg_of {M : Nat → Prop} {k l : Nat} {σ τ : hp_S} (h : fr M k l σ τ) {ts ts' : List Nat} {n0 n1 : Nat} (hn : n0 ≤ n1) (hts : ∀ t ∈ ts', t ∈ ts) : ∀ b, b < hp_n σ → tg τ ts' n1 b → tg σ ts n0 b := by
  rintro b hb ⟨h1, t, h2, h3⟩
  exact ⟨Nat.le_trans hn h1, t, by rw [← h.1 b hb]; exact h2, hts t h3⟩
/-- two runs, each of which writes cells of the tags ts from n0 on -/
theorem fr_tg {σ τ ρ : hp_S} {ts ts' : List Nat} {n0 n1 k l k' l' : Nat} (h : fr (tg σ ts n0) k l σ τ) (h' : fr (tg τ ts' n1) k' l' τ ρ) (hn : n0 ≤ n1) (hts : ∀ t ∈ ts', t ∈ ts) : fr (tg σ ts n0) (k + k') (l + l') σ ρ := fr_trans h h' (tg_of h hn hts)
/-- a second run that writes new cells only -/
theorem fr_new {M N : Nat → Prop} {σ τ ρ : hp_S} {k l k' l' : Nat} (h : fr M k l σ τ) (h' : fr N k' l' τ ρ) (hN : ∀ b, N b → hp_n σ ≤ b) : fr M (k + k') (l + l') σ ρ := fr_trans h h' (fun b hb hn => absurd (hN b hn) (by omega))
/-- an object -/
def ob (σ : hp_S) (a t : Nat) (fs : List Value) : Prop := hp_G σ a = some (t, fs) ∧ a < hp_n σ
theorem ob_tag {σ : hp_S} {a t : Nat} {fs : List Value} (h : ob σ a t fs) : hp_tag σ (some a) = some t := by simp [hp_tag, h.1]
theorem ob_fr {M : Nat → Prop} {k l a t : Nat} {fs : List Value} {σ τ : hp_S} (h : ob σ a t fs) (f : fr M k l σ τ) (hM : ¬ M a) : ob τ a t fs := ⟨(fr_G f h.2 hM).trans h.1, Nat.lt_of_lt_of_le h.2 (fr_n f)⟩
theorem ob_tg {σ ρ τ : hp_S} {ts : List Nat} {n0 k l a t : Nat} {fs : List Value} (h : ob σ a t fs) (f : fr (tg σ ts n0) k l σ τ) (ht : t ∉ ts) : ob τ a t fs := ob_fr h f (by
  rintro ⟨-, t', h1, h2⟩
  rw [ob_tag h] at h1
  cases h1
  exact ht h2)
theorem ob_lo {σ τ : hp_S} {ts : List Nat} {n0 k l a t : Nat} {fs : List Value} (h : ob σ a t fs) (f : fr (tg σ ts n0) k l σ τ) (ha : a < n0) : ob τ a t fs := ob_fr h f (fun hh => absurd hh.1 (by omega))
theorem ob_ne {σ : hp_S} {a b t u : Nat} {fs gs : List Value} (h : ob σ a t fs) (h' : ob σ b u gs) (ht : t ≠ u) : a ≠ b := by
  intro e
  subst e
  have := h.1.symm.trans h'.1
  cases this
  exact ht rfl
theorem ob_set {σ : hp_S} {a b t u : Nat} {fs gs : List Value} (h : ob σ a t fs) (hne : a ≠ b) : ob (hp_set σ b (u, gs)) a t fs := ⟨by rw [hp_G_set, if_neg hne]; exact h.1, h.2⟩
theorem ob_self {σ : hp_S} {a t u : Nat} {fs gs : List Value} (h : ob σ a t fs) : ob (hp_set σ a (u, gs)) a u gs := ⟨by rw [hp_G_set, if_pos rfl], h.2⟩
theorem ob_add {σ : hp_S} {a t k : Nat} {o : hp_O} {fs : List Value} (h : ob σ a t fs) : ob (hp_add σ o k) a t fs := ⟨by rw [hp_G_add, if_neg (Nat.ne_of_lt h.2)]; exact h.1, Nat.lt_succ_of_lt h.2⟩
theorem ob_new {σ : hp_S} {t k : Nat} {fs : List Value} : ob (hp_add σ (t, fs) k) (hp_n σ) t fs := ⟨by rw [hp_G_add, if_pos rfl], Nat.lt_succ_self _⟩
section MO
variable {α : Type} {σ : hp_S} {a t k : Nat} {fs : List Value} {cs : List (Nat × Nat)} {Q : α ⊕ Nat → hp_S → Prop}
theorem mo_R {x : Option Nat} {f : Option Nat → mx_M α} (h : ob σ a t fs) (hc : cs.lookup t = some k) (hk : fs[k]? = some (va_rf x)) (kk : mw (f x) σ Q) : mw (mx_bind (mx_getR cs (some a)) f) σ Q := ms_get (by simp [hp_fld, h.1, hc, hk]) kk
theorem mo_I {x : Int32} {f : Int32 → mx_M α} (h : ob σ a t fs) (hc : cs.lookup t = some k) (hk : fs[k]? = some (.int x)) (kk : mw (f x) σ Q) : mw (mx_bind (mx_getI cs (some a)) f) σ Q := ms_getI (by simp [hp_fld, h.1, hc, hk]) kk
theorem hp_putE {w : Value} (h : ob σ a t fs) (hc : cs.lookup t = some k) (hk : k < fs.length) (hb : hp_b σ ≤ a) : hp_put cs σ (some a) w = some (hp_set σ a (t, fs.set k w)) := by simp [hp_put, h.1, hc, hk, hb]
/-- a field written; the state behind it as it stands -/
theorem mo_S {w : Value} {f : Unit → mx_M α} (h : ob σ a t fs) (hc : cs.lookup t = some k) (hk : k < fs.length) (hb : hp_b σ ≤ a) (kk : mw (f ()) (hp_set σ a (t, fs.set k w)) Q) : mw (mx_bind (mx_put cs (some a) w) f) σ Q := ms_put (hp_putE h hc hk hb) kk
/-- a field written -/
theorem mo_P {w : Value} {f : Unit → mx_M α} (h : ob σ a t fs) (hc : cs.lookup t = some k) (hk : k < fs.length) (hb : hp_b σ ≤ a) (kk : ∀ τ, fr (fun b => b = a) 0 0 σ τ → ob τ a t (fs.set k w) → mw (f ()) τ Q) : mw (mx_bind (mx_put cs (some a) w) f) σ Q := mo_S h hc hk hb (kk _ (fr_set rfl (ob_tag h)) (ob_self h))
theorem mo_PN {ty : FieldType} {x : Int32} {f : Unit → mx_M α} (hn : mx_nar ty x = true) (h : ob σ a t fs) (hc : cs.lookup t = some k) (hk : k < fs.length) (hb : hp_b σ ≤ a) (kk : ∀ τ, fr (fun b => b = a) 0 0 σ τ → ob τ a t (fs.set k (.int x)) → mw (f ()) τ Q) : mw (mx_bind (mx_putN ty cs (some a) x) f) σ Q := mw_bind.mpr ((mw_putN hn).mpr ⟨_, hp_putE h hc hk hb, kk _ (fr_set rfl (ob_tag h)) (ob_self h)⟩)
theorem mo_is {x : mx_M α} (h : ob σ a t fs) : mw (mx_is t (some a) x) σ Q ↔ mw x σ Q := mw_is (ob_tag h)
theorem mo_call {β : Type} {x : mx_M β} {f : β → mx_M α} (h : ob σ a t fs) (kk : mw (mx_bind x f) σ Q) : mw (mx_bind (mx_is t (some a) x) f) σ Q := mw_bind.mpr ((mo_is h).mpr (mw_bind.mp kk))
/-- a call whose run is known by what it answers -/
theorem mo_bind {β : Type} {x : mx_M β} {f : β → mx_M α} {R : β ⊕ Nat → hp_S → Prop} (h : mw x σ R) (k1 : ∀ v s, R (.inl v) s → mw (f v) s Q) (k2 : ∀ q s, R (.inr q) s → Q (.inr q) s) : mw (mx_bind x f) σ Q := mw_bind.mpr (mw_imp h (fun o s hr => by
  cases o with
  | inl v => exact k1 v s hr
  | inr q => exact k2 q s hr))
/-- a new object -/
theorem mo_new {o : hp_O} {f : Nat → mx_M α} (kk : mw (f (hp_n σ)) (hp_add σ o k) Q) : mw (mx_bind (mx_new o k) f) σ Q := mw_bind.mpr (mw_new.mpr kk)
end MO
