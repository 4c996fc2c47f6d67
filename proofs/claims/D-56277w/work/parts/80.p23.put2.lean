/-! put: a key that is there already; a key above all others; the first key -/
section PT
variable {σ σ0 : hp_S} {m d : Nat} {S : Nat → Prop} {K V L R P : Nat → Option Nat} {C : Nat → Int32} {ky kv lo hi : Nat → Int} {root v1 v2 : Option Nat} {ks vs es nk dm : Value} {n mc : Int32} {i : Int} {Q : Option Nat ⊕ Nat → hp_S → Prop}
theorem ms_pV {α : Type} {a : Nat} {w : Option Nat} {o : List Value} {f : Unit → mx_M α} {Q : α ⊕ Nat → hp_S → Prop} (h : ts σ0 σ m o S (K, V, L, R, P, C)) (ha : S a) (k : ∀ τ, ts σ0 τ m o S (K, up V a w, L, R, P, C) → mw (f ()) τ Q) : mw (mx_bind (mx_put [(19, 1)] (some a) (va_rf w)) f) σ Q := by
  obtain ⟨h1, h2⟩ := th_put (G := (K, up V a w, L, R, P, C)) h.2.2.2 ha (k := 1) (w := va_rf w) (by decide) (by simp [tm_e, up]) (fun b hb => by simp [tm_e, up, hb])
  exact ms_put h1 (k _ (ts_go h ha h2 rfl))
theorem pt_loopA (hI : tm_I root S ky L R P lo hi) (hk : tm_K σ S K ky kv) (hv : bx σ v1 i) (hi0 : 0 ≤ i) (hi1 : i < 1000) (h : ts σ0 σ m (mo ks vs root n mc es nk dm) S (K, V, L, R, P, C)) {a0 : Nat} (h0 : S a0) (k0 : kv a0 = i) (q1 : ∀ τ, ts σ0 τ m (mo ks vs root n mc es nk dm) S (K, up V a0 v2, L, R, P, C) → Q (.inl (V a0)) τ) : ∀ (n9 k a : Nat), S a → lo a < 2 * i → 2 * i < hi a → (hi a - lo a).toNat ≤ n9 → n9 + 1 ≤ k → mw (fn_J1_put_2_L123 (d + 3) k (some m) v1 v2 1 (some a) v1) σ Q := by
  intro n9
  induction n9 with
  | zero =>
    intro k a ha a2 a3 a4 hk9
    omega
  | succ n9 ih =>
    intro k a a1 a2 a3 a4 hk9
    obtain ⟨k, rfl⟩ : ∃ k', k = k' + 1 := ⟨k - 1, by omega⟩
    show mw (fn_J1_put_2_L123_b (d + 3) (fn_J1_put_2_L123 (d + 3) k) (some m) v1 v2 1 (some a) v1) σ Q
    unfold fn_J1_put_2_L123_b
    obtain ⟨b1, b2, b3, b4⟩ := hk a a1
    obtain ⟨c1, -, -, -⟩ := hk a0 h0
    have x1 := hI.1 a a1
    refine ms_K h a1 ?_
    refine mc_compareTo hv b4 (by constructor <;> omega) (by constructor <;> omega) ?_
    unfold cm
    by_cases h1 : kv a ≤ i
    · rw [if_pos h1]
      by_cases h2 : i = kv a
      · rw [if_pos h2, mw_ifT (by decide), mw_ifT (by decide)]
        have e : a = a0 := hI.2.2.2.2.2.2.2.2.1 a a0 a1 h0 (by omega)
        subst e
        refine ms_V h a1 ?_
        rw [mw_ifF (by decide)]
        refine ms_pV h a1 fun τ hτ => ?_
        rw [mw_pure]
        exact q1 τ hτ
      · rw [if_neg h2, mw_ifT (by decide), mw_ifF (by decide)]
        refine ms_R h a1 ?_
        unfold fn_J1_put_2_J196
        rcases hR : R a with _ | b
        · have y1 := hI.2.2.2.2.2.2.2.1 a a0 a1 h0 hR
          omega
        · rw [mw_ifnullS]
          have y1 := hI.2.2.1 a b a1 hR
          exact ih k b y1.1 (by omega) (by omega) (by omega) (by omega)
    · rw [if_neg h1, mw_ifF (by decide)]
      refine ms_L h a1 ?_
      unfold fn_J1_put_2_J196
      rcases hL : L a with _ | b
      · have y1 := hI.2.2.2.2.2.2.1 a a0 a1 h0 hL
        omega
      · rw [mw_ifnullS]
        have y1 := hI.2.1 a b a1 hL
        exact ih k b y1.1 (by omega) (by omega) (by omega) (by omega)
theorem pt_loopB (hI : tm_I root S ky L R P lo hi) (hk : tm_K σ S K ky kv) (hc : ∀ a, S a → C a = 0 ∨ C a = 1) (hv : bx σ v1 i) (hi0 : 0 ≤ i) (hi1 : i < 1000) (hS : ∀ a, S a → a < hp_n σ) (hm : m < hp_n σ) (hb : hp_b σ ≤ hp_n σ) (h : ts σ σ m (mo ks vs root n mc es nk dm) S (K, V, L, R, P, C)) (h0 : ∀ a, S a → kv a < i) (hQ : ae_Q σ m S K V ky (2 * i) v1 v2 ks vs es nk dm (n + 1) (mc + 1) (fun _ s => Q (.inl none) s)) : ∀ (n9 k a : Nat), S a → lo a < 2 * i → 2 * i < hi a → (hi a - lo a).toNat ≤ n9 → n9 + 1 ≤ k → mw (fn_J1_put_2_L123 (d + 3) k (some m) v1 v2 1 (some a) v1) σ Q := by
  intro n9
  induction n9 with
  | zero =>
    intro k a ha a2 a3 a4 hk9
    omega
  | succ n9 ih =>
    intro k a a1 a2 a3 a4 hk9
    obtain ⟨k, rfl⟩ : ∃ k', k = k' + 1 := ⟨k - 1, by omega⟩
    show mw (fn_J1_put_2_L123_b (d + 3) (fn_J1_put_2_L123 (d + 3) k) (some m) v1 v2 1 (some a) v1) σ Q
    unfold fn_J1_put_2_L123_b
    obtain ⟨b1, b2, b3, b4⟩ := hk a a1
    have b5 := h0 a a1
    have x1 := hI.1 a a1
    refine ms_K h a1 ?_
    refine mc_compareTo hv b4 (by constructor <;> omega) (by constructor <;> omega) ?_
    unfold cm
    rw [if_pos (Int.le_of_lt b5), if_neg (by omega), mw_ifT (by decide), mw_ifF (by decide)]
    refine ms_R h a1 ?_
    unfold fn_J1_put_2_J196
    rcases hR : R a with _ | b
    · rw [mw_ifnullN]
      unfold fn_J1_put_2_J201
      rw [mw_ifT (by decide)]
      unfold fn_J1_put_2_J216
      refine mw_bind.mpr ((mw_is (ts_tag h)).mpr (ae_right hI hc a1 hR (by omega) a3 hS hm hb h ?_))
      intro τ root' L' R' P' C' lo' hi' g1 g2 g3 g4 g5 g6
      rw [mw_pure]
      exact hQ τ root' L' R' P' C' lo' hi' g1 g2 g3 g4 g5 g6
    · rw [mw_ifnullS]
      have y1 := hI.2.2.1 a b a1 hR
      exact ih k b y1.1 (by omega) (by omega) (by omega) (by omega)
/-- the first entry -/
theorem pt_first {Q : Unit ⊕ Nat → hp_S → Prop} (hv : bx σ v1 i) (hi0 : 0 ≤ i) (hi1 : i < 1000) (hm : m < hp_n σ) (hb : hp_b σ ≤ hp_n σ) (hbm : hp_b σ ≤ m) (hmo : hp_G σ m = some (18, mo ks vs none n mc es nk dm)) (hQ : ∀ τ, fq (fun b => b = m) 1 6 σ τ → hp_n τ = hp_n σ + 1 → hp_G τ m = some (18, mo ks vs (some (hp_n σ)) 1 (mc + 1) es nk dm) → hp_G τ (hp_n σ) = some (19, [va_rf v1, va_rf v2, .null, .null, .null, .int 1]) → Q (.inl ()) τ) : mw (fn_J1_addEntryToEmptyMap (d + 5) (some m) v1 v2) σ Q := by
  show mw (fn_J1_addEntryToEmptyMap_B0 (d + 4) (some m) v1 v2) σ Q
  unfold fn_J1_addEntryToEmptyMap_B0
  have ht : hp_tag σ (some m) = some 18 := by simp [hp_tag, hmo]
  refine mw_bind.mpr ((mw_is ht).mpr ?_)
  show mw (fn_J1_compare_B0 (d + 3) (some m) v1 v1) σ _
  unfold fn_J1_compare_B0
  refine ms_get (x9 := none) (by simp [hp_fld, hmo, mo, List.lookup, va_rf]) ?_
  rw [mw_ifnullN]
  have hvt := bx_tag hv
  obtain ⟨b, e, hb'⟩ := id hv
  subst e
  refine mw_cast1 hvt (by decide) ?_
  refine mc_compareTo hv hv (by constructor <;> omega) (by constructor <;> omega) ?_
  rw [mw_pure]
  refine mw_bind.mpr (mw_new.mpr ?_)
  refine mw_bind.mpr ?_
  rw [mw_deref]
  show mw (fn_J41_init_B0 (d + 3) (some (hp_n σ)) (some b) v2 none) _ _
  unfold fn_J41_init_B0
  rw [mw_deref]
  have hp1 : ∀ (k9 : Nat) (w : Value) (fs : List Value), k9 < fs.length → hp_put [(19, k9)] (hp_add σ (19, fs) 6) (some (hp_n σ)) w = some (hp_add σ (19, fs.set k9 w) 6) := by
    intro k9 w fs hk
    simp [hp_put, hp_G_add, List.lookup, hp_b_add, hb, hk, hp_setAdd]
  refine ms_put (hp1 5 _ _ (by decide)) ?_
  refine ms_put (hp1 0 _ _ (by simp)) ?_
  refine ms_put (hp1 1 _ _ (by simp)) ?_
  refine ms_put (hp1 4 _ _ (by simp)) ?_
  rw [mw_pure]
  have hne : m ≠ hp_n σ := Nat.ne_of_lt hm
  have o0 : ob (hp_add σ (19, [va_rf (some b), va_rf v2, .null, .null, va_rf none, .int 1]) 6) m 18 (mo ks vs none n mc es nk dm) := ob_add ⟨hmo, hm⟩
  have e0 : ob (hp_add σ (19, [va_rf (some b), va_rf v2, .null, .null, va_rf none, .int 1]) 6) (hp_n σ) 19 [va_rf (some b), va_rf v2, .null, .null, va_rf none, .int 1] := ob_new
  refine mo_S o0 rfl (by simp [mo]) hbm ?_
  refine mo_S (ob_self o0) rfl (by simp [mo]) hbm ?_
  refine mo_I (x := mc) (ob_self (ob_self o0)) rfl (by simp [mo]) ?_
  refine mo_S (ob_self (ob_self o0)) rfl (by simp [mo]) hbm ?_
  rw [mw_pure]
  refine hQ _ ?_ rfl (ob_self (ob_self (ob_self o0))).1 (ob_set (ob_set (ob_set e0 (Ne.symm hne)) (Ne.symm hne)) (Ne.symm hne)).1
  have es : ∀ (s : hp_S) (o : hp_O), fq (fun b => b = m) 0 0 s (hp_set s m o) := fun s o => fq_set rfl
  exact fq_trans (fq_trans (fq_trans fq_add (es _ _) (fun _ _ hb => hb)) (es _ _) (fun _ _ hb => hb)) (es _ _) (fun _ _ hb => hb)
end PT
