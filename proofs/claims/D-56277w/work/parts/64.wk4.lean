set_option maxRecDepth 100000
theorem tj_J21_hashCode_4_L8_b {E : tj_E} {X : tj_X} {n0 s0 : Nat} (d : Nat) {b8 : Int32 → Option Nat → Int32 → Int32 → mx_M Int32} (h8 : ∀ (l0 : Int32) (l1 : Option Nat) (l4 : Int32) (l5 : Int32) (σ : hp_S), tj_T E X RJ21 "hashCode" cJ21_hashCode_4 6 (some .int) (d + 1) [] n0 s0 em_i σ 8 [some (.int l0), some (va_rf l1), none, none, some (.int l4), some (.int l5)] [] (b8 l0 l1 l4 l5)) (l0 : Int32) (l1 : Option Nat) (l4 : Int32) (l5 : Int32) (σ : hp_S) : tj_T E X RJ21 "hashCode" cJ21_hashCode_4 6 (some .int) (d + 1) [] n0 s0 em_i σ 8 [some (.int l0), some (va_rf l1), none, none, some (.int l4), some (.int l5)] [] (fn_J21_hashCode_4_L8_b d b8 l0 l1 l4 l5) := by
  unfold fn_J21_hashCode_4_L8_b
  refine tj_iload dJ21_hashCode_4_8 rfl ?_
  refine tj_iload dJ21_hashCode_4_10 rfl ?_
  refine tj_icmp_ge 31 dJ21_hashCode_4_12 rfl (fun _ => ?_) (fun _ => ?_)
  · refine tj_iload_n dJ21_hashCode_4_31 rfl ?_
    exact tj_iret dJ21_hashCode_4_32
  · refine tj_bipush (31 : Int32) dJ21_hashCode_4_15 (by decide) ?_
    refine tj_iload_n dJ21_hashCode_4_17 rfl ?_
    refine tj_imul dJ21_hashCode_4_18 ?_
    refine tj_aload_n dJ21_hashCode_4_19 rfl ?_
    refine tj_iload dJ21_hashCode_4_20 rfl ?_
    refine tj_iald dJ21_hashCode_4_22 (fun v101 => ?_)
    refine tj_iadd dJ21_hashCode_4_23 ?_
    refine tj_topi (fun v102 => ?_)
    refine tj_istore_n dJ21_hashCode_4_24 (by decide) trivial [some (.int v102), some (va_rf l1), none, none, some (.int l4), some (.int l5)] rfl ?_
    refine tj_iinc (1 : Int32) dJ21_hashCode_4_25 rfl rfl (by decide) rfl [some (.int v102), some (va_rf l1), none, none, some (.int l4), some (.int (l5 + (1 : Int32)))] rfl ?_
    refine tj_goto 8 dJ21_hashCode_4_28 rfl ?_
    exact h8 v102 l1 l4 _ _
theorem tj_J21_hashCode_4_L8 {E : tj_E} {X : tj_X} {n0 s0 : Nat} (d : Nat) : ∀ (k : Nat) (l0 : Int32) (l1 : Option Nat) (l4 : Int32) (l5 : Int32) (σ : hp_S), tj_T E X RJ21 "hashCode" cJ21_hashCode_4 6 (some .int) (d + 1) [] n0 s0 em_i σ 8 [some (.int l0), some (va_rf l1), none, none, some (.int l4), some (.int l5)] [] (fn_J21_hashCode_4_L8 d k l0 l1 l4 l5) := by
  intro k
  induction k with
  | zero =>
    intro l0 l1 l4 l5 σ
    exact tj_fail
  | succ k ih =>
    intro l0 l1 l4 l5 σ
    exact tj_J21_hashCode_4_L8_b d ih l0 l1 l4 l5 σ
theorem tj_J21_hashCode_4_B0 {E : tj_E} {X : tj_X} {n0 s0 : Nat} (d : Nat) (v0 : Int32) (v1 : Option Nat) (v2 : Int32) (v3 : Int32) (σ : hp_S) : tj_T E X RJ21 "hashCode" cJ21_hashCode_4 6 (some .int) (d + 1) [] n0 s0 em_i σ 0 [some (.int v0), some (va_rf v1), some (.int v2), some (.int v3), none, none] [] (fn_J21_hashCode_4_B0 d v0 v1 v2 v3) := by
  unfold fn_J21_hashCode_4_B0
  refine tj_iload_n dJ21_hashCode_4_0 rfl ?_
  refine tj_iload_n dJ21_hashCode_4_1 rfl ?_
  refine tj_iadd dJ21_hashCode_4_2 ?_
  refine tj_topi (fun v101 => ?_)
  refine tj_istore dJ21_hashCode_4_3 (by decide) rfl [some (.int v0), some (va_rf v1), some (.int v2), some (.int v3), some (.int v101), none] rfl ?_
  refine tj_iload_n dJ21_hashCode_4_5 rfl ?_
  refine tj_istore dJ21_hashCode_4_6 (by decide) rfl [some (.int v0), some (va_rf v1), some (.int v2), some (.int v3), some (.int v101), some (.int v2)] rfl ?_
  refine tj_wk (L' := [some (.int v0), some (va_rf v1), none, none, some (.int v101), some (.int v2)]) ⟨rfl, rfl, rfl, rfl, trivial⟩ ?_
  exact tj_J21_hashCode_4_L8 d mx_K v0 v1 v101 v2 _
theorem ct_J21_hashCode_4 : ∀ (d : Nat) (v0 : Int32) (v1 : Option Nat) (v2 : Int32) (v3 : Int32), ct_ yJ21_hashCode_4 (ws_ yJ21_hashCode_4 cJ21_hashCode_4 6 (some .int)) d em_i [.int v0, va_rf v1, .int v2, .int v3] (fn_J21_hashCode_4 d v0 v1 v2 v3)
  | 0, _, _, _, _ => ct_fail
  | d + 1, v0, v1, v2, v3 => ct_of [(false, .int v0), (false, va_rf v1), (false, .int v2), (false, .int v3)] [some (.int v0), some (va_rf v1), some (.int v2), some (.int v3), none, none] (by decide) rfl ⟨rfl, rfl, ⟨rfl, (rf_cat _), ⟨rfl, rfl, ⟨rfl, rfl, trivial⟩⟩⟩⟩ (fun E X n0 s0 σ => tj_J21_hashCode_4_B0 d v0 v1 v2 v3 σ)
theorem tj_J21_signedHashCode_L8_b {E : tj_E} {X : tj_X} {n0 s0 : Nat} (d : Nat) {b8 : Int32 → Option Nat → Int32 → Int32 → mx_M Int32} (h8 : ∀ (l0 : Int32) (l1 : Option Nat) (l4 : Int32) (l5 : Int32) (σ : hp_S), tj_T E X RJ21 "signedHashCode" cJ21_signedHashCode 6 (some .int) (d + 1) [] n0 s0 em_i σ 8 [some (.int l0), some (va_rf l1), none, none, some (.int l4), some (.int l5)] [] (b8 l0 l1 l4 l5)) (l0 : Int32) (l1 : Option Nat) (l4 : Int32) (l5 : Int32) (σ : hp_S) : tj_T E X RJ21 "signedHashCode" cJ21_signedHashCode 6 (some .int) (d + 1) [] n0 s0 em_i σ 8 [some (.int l0), some (va_rf l1), none, none, some (.int l4), some (.int l5)] [] (fn_J21_signedHashCode_L8_b d b8 l0 l1 l4 l5) := by
  unfold fn_J21_signedHashCode_L8_b
  refine tj_iload dJ21_signedHashCode_8 rfl ?_
  refine tj_iload dJ21_signedHashCode_10 rfl ?_
  refine tj_icmp_ge 35 dJ21_signedHashCode_12 rfl (fun _ => ?_) (fun _ => ?_)
  · refine tj_iload_n dJ21_signedHashCode_35 rfl ?_
    exact tj_iret dJ21_signedHashCode_36
  · refine tj_bipush (31 : Int32) dJ21_signedHashCode_15 (by decide) ?_
    refine tj_iload_n dJ21_signedHashCode_17 rfl ?_
    refine tj_imul dJ21_signedHashCode_18 ?_
    refine tj_aload_n dJ21_signedHashCode_19 rfl ?_
    refine tj_iload dJ21_signedHashCode_20 rfl ?_
    refine tj_bald dJ21_signedHashCode_22 (fun v101 => ?_)
    refine tj_sipush (255 : Int32) dJ21_signedHashCode_23 (by decide) ?_
    refine tj_iand dJ21_signedHashCode_26 ?_
    refine tj_iadd dJ21_signedHashCode_27 ?_
    refine tj_topi (fun v102 => ?_)
    refine tj_istore_n dJ21_signedHashCode_28 (by decide) trivial [some (.int v102), some (va_rf l1), none, none, some (.int l4), some (.int l5)] rfl ?_
    refine tj_iinc (1 : Int32) dJ21_signedHashCode_29 rfl rfl (by decide) rfl [some (.int v102), some (va_rf l1), none, none, some (.int l4), some (.int (l5 + (1 : Int32)))] rfl ?_
    refine tj_goto 8 dJ21_signedHashCode_32 rfl ?_
    exact h8 v102 l1 l4 _ _
theorem tj_J21_signedHashCode_L8 {E : tj_E} {X : tj_X} {n0 s0 : Nat} (d : Nat) : ∀ (k : Nat) (l0 : Int32) (l1 : Option Nat) (l4 : Int32) (l5 : Int32) (σ : hp_S), tj_T E X RJ21 "signedHashCode" cJ21_signedHashCode 6 (some .int) (d + 1) [] n0 s0 em_i σ 8 [some (.int l0), some (va_rf l1), none, none, some (.int l4), some (.int l5)] [] (fn_J21_signedHashCode_L8 d k l0 l1 l4 l5) := by
  intro k
  induction k with
  | zero =>
    intro l0 l1 l4 l5 σ
    exact tj_fail
  | succ k ih =>
    intro l0 l1 l4 l5 σ
    exact tj_J21_signedHashCode_L8_b d ih l0 l1 l4 l5 σ
theorem tj_J21_signedHashCode_B0 {E : tj_E} {X : tj_X} {n0 s0 : Nat} (d : Nat) (v0 : Int32) (v1 : Option Nat) (v2 : Int32) (v3 : Int32) (σ : hp_S) : tj_T E X RJ21 "signedHashCode" cJ21_signedHashCode 6 (some .int) (d + 1) [] n0 s0 em_i σ 0 [some (.int v0), some (va_rf v1), some (.int v2), some (.int v3), none, none] [] (fn_J21_signedHashCode_B0 d v0 v1 v2 v3) := by
  unfold fn_J21_signedHashCode_B0
  refine tj_iload_n dJ21_signedHashCode_0 rfl ?_
  refine tj_iload_n dJ21_signedHashCode_1 rfl ?_
  refine tj_iadd dJ21_signedHashCode_2 ?_
  refine tj_topi (fun v101 => ?_)
  refine tj_istore dJ21_signedHashCode_3 (by decide) rfl [some (.int v0), some (va_rf v1), some (.int v2), some (.int v3), some (.int v101), none] rfl ?_
  refine tj_iload_n dJ21_signedHashCode_5 rfl ?_
  refine tj_istore dJ21_signedHashCode_6 (by decide) rfl [some (.int v0), some (va_rf v1), some (.int v2), some (.int v3), some (.int v101), some (.int v2)] rfl ?_
  refine tj_wk (L' := [some (.int v0), some (va_rf v1), none, none, some (.int v101), some (.int v2)]) ⟨rfl, rfl, rfl, rfl, trivial⟩ ?_
  exact tj_J21_signedHashCode_L8 d mx_K v0 v1 v101 v2 _
theorem ct_J21_signedHashCode : ∀ (d : Nat) (v0 : Int32) (v1 : Option Nat) (v2 : Int32) (v3 : Int32), ct_ yJ21_signedHashCode (ws_ yJ21_signedHashCode cJ21_signedHashCode 6 (some .int)) d em_i [.int v0, va_rf v1, .int v2, .int v3] (fn_J21_signedHashCode d v0 v1 v2 v3)
  | 0, _, _, _, _ => ct_fail
  | d + 1, v0, v1, v2, v3 => ct_of [(false, .int v0), (false, va_rf v1), (false, .int v2), (false, .int v3)] [some (.int v0), some (va_rf v1), some (.int v2), some (.int v3), none, none] (by decide) rfl ⟨rfl, rfl, ⟨rfl, (rf_cat _), ⟨rfl, rfl, ⟨rfl, rfl, trivial⟩⟩⟩⟩ (fun E X n0 s0 σ => tj_J21_signedHashCode_B0 d v0 v1 v2 v3 σ)
theorem tj_J21_vectorizedHashCode_B0 {E : tj_E} {X : tj_X} {n0 s0 : Nat} (d : Nat) (v0 : Option Nat) (v1 : Int32) (v2 : Int32) (v3 : Int32) (v4 : Int32) (σ : hp_S) : tj_T E X RJ21 "vectorizedHashCode" cJ21_vectorizedHashCode 5 (some .int) (d + 1) [] n0 s0 em_i σ 0 [some (va_rf v0), some (.int v1), some (.int v2), some (.int v3), some (.int v4)] [] (fn_J21_vectorizedHashCode_B0 d v0 v1 v2 v3 v4) := by
  unfold fn_J21_vectorizedHashCode_B0
  refine tj_iload dJ21_vectorizedHashCode_0 rfl ?_
  refine tj_table [((4 : Int32), 44), ((5 : Int32), 57), ((6 : Int32), 129), ((7 : Int32), 129), ((8 : Int32), 90), ((9 : Int32), 103), ((10 : Int32), 116)] 129 dJ21_vectorizedHashCode_2 rfl rfl rfl rfl rfl ?_ ?_
  · intro i t key A h1 h2
    match i, h1, h2 with
    | 0, h1, h2 =>
      cases h1; cases h2
      refine tj_iload_n dJ21_vectorizedHashCode_44 rfl ?_
      refine tj_aload_n dJ21_vectorizedHashCode_45 rfl ?_
      refine tj_cast (nm := "[B") q1893 ca__B dJ21_vectorizedHashCode_46 ?_
      refine tj_iload_n dJ21_vectorizedHashCode_49 rfl ?_
      refine tj_iload_n dJ21_vectorizedHashCode_50 rfl ?_
      refine tj_callS (as := [.int v3, va_rf v0, .int v1, .int v2]) (rest := []) (st' := (fun r => [.int r])) (ct_J21_signedHashCode d v3 v0 v1 v2) q1894 q1895 q121 q1896 md_J21_signedHashCode rfl (by decide) rfl (by decide) dJ21_vectorizedHashCode_51 (fun _ => rfl) (fun r101 σ => ?_) (by decide)
      refine tj_goto 157 dJ21_vectorizedHashCode_54 rfl ?_
      exact tj_iret dJ21_vectorizedHashCode_157
    | 1, h1, h2 =>
      cases h1; cases h2
      refine tj_aload_n dJ21_vectorizedHashCode_57 rfl ?_
      refine tj_inst (nm := "[B") q1893 ca__B nc__B_ dJ21_vectorizedHashCode_58 (fun v102 => ?_)
      refine tj_if_eq 77 dJ21_vectorizedHashCode_61 rfl (fun _ => ?_) (fun _ => ?_)
      · refine tj_iload_n dJ21_vectorizedHashCode_77 rfl ?_
        refine tj_aload_n dJ21_vectorizedHashCode_78 rfl ?_
        exact tj_fail
      · refine tj_iload_n dJ21_vectorizedHashCode_64 rfl ?_
        refine tj_aload_n dJ21_vectorizedHashCode_65 rfl ?_
        refine tj_cast (nm := "[B") q1893 ca__B dJ21_vectorizedHashCode_66 ?_
        refine tj_iload_n dJ21_vectorizedHashCode_69 rfl ?_
        refine tj_iload_n dJ21_vectorizedHashCode_70 rfl ?_
        exact tj_fail
    | 2, h1, h2 =>
      cases h1; cases h2
      exact tj_fail
    | 3, h1, h2 =>
      cases h1; cases h2
      exact tj_fail
    | 4, h1, h2 =>
      cases h1; cases h2
      refine tj_iload_n dJ21_vectorizedHashCode_90 rfl ?_
      refine tj_aload_n dJ21_vectorizedHashCode_91 rfl ?_
      refine tj_cast (nm := "[B") q1893 ca__B dJ21_vectorizedHashCode_92 ?_
      refine tj_iload_n dJ21_vectorizedHashCode_95 rfl ?_
      refine tj_iload_n dJ21_vectorizedHashCode_96 rfl ?_
      refine tj_callS (as := [.int v3, va_rf v0, .int v1, .int v2]) (rest := []) (st' := (fun r => [.int r])) (ct_J21_hashCode_2 d v3 v0 v1 v2) q1917 q1918 q121 q1919 md_J21_hashCode_2 rfl (by decide) rfl (by decide) dJ21_vectorizedHashCode_97 (fun _ => rfl) (fun r103 σ => ?_) (by decide)
      refine tj_goto 157 dJ21_vectorizedHashCode_100 rfl ?_
      exact tj_iret dJ21_vectorizedHashCode_157
    | 5, h1, h2 =>
      cases h1; cases h2
      refine tj_iload_n dJ21_vectorizedHashCode_103 rfl ?_
      refine tj_aload_n dJ21_vectorizedHashCode_104 rfl ?_
      exact tj_fail
    | 6, h1, h2 =>
      cases h1; cases h2
      refine tj_iload_n dJ21_vectorizedHashCode_116 rfl ?_
      refine tj_aload_n dJ21_vectorizedHashCode_117 rfl ?_
      refine tj_cast (nm := "[I") q1924 ca__I dJ21_vectorizedHashCode_118 ?_
      refine tj_iload_n dJ21_vectorizedHashCode_121 rfl ?_
      refine tj_iload_n dJ21_vectorizedHashCode_122 rfl ?_
      refine tj_callS (as := [.int v3, va_rf v0, .int v1, .int v2]) (rest := []) (st' := (fun r => [.int r])) (ct_J21_hashCode_4 d v3 v0 v1 v2) q1925 q1926 q121 q1927 md_J21_hashCode_4 rfl (by decide) rfl (by decide) dJ21_vectorizedHashCode_123 (fun _ => rfl) (fun r104 σ => ?_) (by decide)
      refine tj_goto 157 dJ21_vectorizedHashCode_126 rfl ?_
      exact tj_iret dJ21_vectorizedHashCode_157
    | _ + 7, h1, _ => simp at h1
  · exact tj_fail
theorem ct_J21_vectorizedHashCode : ∀ (d : Nat) (v0 : Option Nat) (v1 : Int32) (v2 : Int32) (v3 : Int32) (v4 : Int32), ct_ yJ21_vectorizedHashCode (ws_ yJ21_vectorizedHashCode cJ21_vectorizedHashCode 5 (some .int)) d em_i [va_rf v0, .int v1, .int v2, .int v3, .int v4] (fn_J21_vectorizedHashCode d v0 v1 v2 v3 v4)
  | 0, _, _, _, _, _ => ct_fail
  | d + 1, v0, v1, v2, v3, v4 => ct_of [(false, va_rf v0), (false, .int v1), (false, .int v2), (false, .int v3), (false, .int v4)] [some (va_rf v0), some (.int v1), some (.int v2), some (.int v3), some (.int v4)] (by decide) rfl ⟨rfl, (rf_cat _), ⟨rfl, rfl, ⟨rfl, rfl, ⟨rfl, rfl, ⟨rfl, rfl, trivial⟩⟩⟩⟩⟩ (fun E X n0 s0 σ => tj_J21_vectorizedHashCode_B0 d v0 v1 v2 v3 v4 σ)
theorem tj_J25_hashCode_B0 {E : tj_E} {X : tj_X} {n0 s0 : Nat} (d : Nat) (v0 : Option Nat) (σ : hp_S) : tj_T E X RJ25 "hashCode" cJ25_hashCode 1 (some .int) (d + 1) [] n0 s0 em_i σ 0 [some (va_rf v0)] [] (fn_J25_hashCode_B0 d v0) := by
  unfold fn_J25_hashCode_B0
  refine tj_aload_n dJ25_hashCode_0 rfl ?_
  refine tj_alen dJ25_hashCode_1 (fun v101 => ?_)
  refine tj_lookup [((0 : Int32), 28), ((1 : Int32), 32)] 42 dJ25_hashCode_2 rfl rfl rfl rfl ?_ ?_
  · intro i t key A h1 h2
    match i, h1, h2 with
    | 0, h1, h2 =>
      cases h1; cases h2
      refine tj_iconst (0 : Int32) dJ25_hashCode_28 rfl ?_
      refine tj_goto 51 dJ25_hashCode_29 rfl ?_
      exact tj_iret dJ25_hashCode_51
    | 1, h1, h2 =>
      cases h1; cases h2
      refine tj_aload_n dJ25_hashCode_32 rfl ?_
      refine tj_iconst (0 : Int32) dJ25_hashCode_33 rfl ?_
      refine tj_bald dJ25_hashCode_34 (fun v102 => ?_)
      refine tj_sipush (255 : Int32) dJ25_hashCode_35 (by decide) ?_
      refine tj_iand dJ25_hashCode_38 ?_
      refine tj_goto 51 dJ25_hashCode_39 rfl ?_
      exact tj_iret dJ25_hashCode_51
    | _ + 2, h1, _ => simp at h1
  · refine tj_aload_n dJ25_hashCode_42 rfl ?_
    refine tj_iconst (0 : Int32) dJ25_hashCode_43 rfl ?_
    refine tj_aload_n dJ25_hashCode_44 rfl ?_
    refine tj_alen dJ25_hashCode_45 (fun v103 => ?_)
    refine tj_iconst (0 : Int32) dJ25_hashCode_46 rfl ?_
    refine tj_iconst (4 : Int32) dJ25_hashCode_47 rfl ?_
    refine tj_callS (as := [va_rf v0, .int (0 : Int32), .int v103, .int (0 : Int32), .int (4 : Int32)]) (rest := []) (st' := (fun r => [.int r])) (ct_J21_vectorizedHashCode d v0 (0 : Int32) v103 (0 : Int32) (4 : Int32)) q1890 q1891 q121 q1892 md_J21_vectorizedHashCode rfl (by decide) rfl (by decide) dJ25_hashCode_48 (fun _ => rfl) (fun r104 σ => ?_) (by decide)
    exact tj_iret dJ25_hashCode_51
theorem ct_J25_hashCode : ∀ (d : Nat) (v0 : Option Nat), ct_ yJ25_hashCode (ws_ yJ25_hashCode cJ25_hashCode 1 (some .int)) d em_i [va_rf v0] (fn_J25_hashCode d v0)
  | 0, _ => ct_fail
  | d + 1, v0 => ct_of [(false, va_rf v0)] [some (va_rf v0)] (by decide) rfl ⟨rfl, (rf_cat _), trivial⟩ (fun E X n0 s0 σ => tj_J25_hashCode_B0 d v0 σ)
theorem tj_J9_hashCode_B0 {E : tj_E} {X : tj_X} {n0 s0 : Nat} (d : Nat) (v0 : Option Nat) (σ : hp_S) : tj_T E X RJ9 "hashCode" cJ9_hashCode 2 (some .int) (d + 1) [] n0 s0 em_i σ 0 [some (va_rf v0), none] [] (fn_J9_hashCode_B0 d v0) := by
  unfold fn_J9_hashCode_B0
  refine tj_aload_n dJ9_hashCode_0 rfl ?_
  refine tj_getI fl_J9_19 dJ9_hashCode_1 (fun v101 => ?_)
  refine tj_istore_n dJ9_hashCode_4 (by decide) (rf_cat _) [some (va_rf v0), some (.int v101)] rfl ?_
  refine tj_iload_n dJ9_hashCode_5 rfl ?_
  refine tj_if_ne 58 dJ9_hashCode_6 rfl (fun _ => ?_) (fun _ => ?_)
  · refine tj_aload_n dJ9_hashCode_9 rfl ?_
    refine tj_getI fl_J9_23 dJ9_hashCode_10 (fun v102 => ?_)
    refine tj_if_ne 58 dJ9_hashCode_13 rfl (fun _ => ?_) (fun _ => ?_)
    · refine tj_aload_n dJ9_hashCode_16 rfl ?_
      refine tj_callV (as := []) (rest := []) (st' := (fun r => [.int r])) (t := 30) (fun a e => by cases e; exact ct_J9_isLatin1 d _) (by decide) rfl q1883 q1884 q1885 q108 q1886 rfl md_J9_isLatin1 rfl (by decide) rfl (by decide) dJ9_hashCode_17 (fun _ => rfl) (fun r103 σ => ?_) (by decide)
      refine tj_if_eq 33 dJ9_hashCode_20 rfl (fun _ => ?_) (fun _ => ?_)
      · refine tj_aload_n dJ9_hashCode_33 rfl ?_
        refine tj_getR fl_J9_9r dJ9_hashCode_34 (fun v104 => ?_)
        exact tj_fail
      · refine tj_aload_n dJ9_hashCode_23 rfl ?_
        refine tj_getR fl_J9_9r dJ9_hashCode_24 (fun v105 => ?_)
        refine tj_callS (as := [va_rf v105]) (rest := []) (st' := (fun r => [.int r])) (ct_J25_hashCode d v105) q1887 q1888 q126 q1889 md_J25_hashCode rfl (by decide) rfl (by decide) dJ9_hashCode_27 (fun _ => rfl) (fun r106 σ => ?_) (by decide)
        refine tj_goto 40 dJ9_hashCode_30 rfl ?_
        refine tj_istore_n dJ9_hashCode_40 (by decide) (rf_cat _) [some (va_rf v0), some (.int r106)] rfl ?_
        refine tj_iload_n dJ9_hashCode_41 rfl ?_
        refine tj_if_ne 53 dJ9_hashCode_42 rfl (fun _ => ?_) (fun _ => ?_)
        · refine tj_aload_n dJ9_hashCode_45 rfl ?_
          refine tj_iconst (1 : Int32) dJ9_hashCode_46 rfl ?_
          refine tj_put fl_J9_23 rfl rfl dJ9_hashCode_47 (fun σ => ?_)
          refine tj_goto 58 dJ9_hashCode_50 rfl ?_
          refine tj_iload_n dJ9_hashCode_58 rfl ?_
          exact tj_iret dJ9_hashCode_59
        · refine tj_aload_n dJ9_hashCode_53 rfl ?_
          refine tj_iload_n dJ9_hashCode_54 rfl ?_
          refine tj_put fl_J9_19 rfl rfl dJ9_hashCode_55 (fun σ => ?_)
          refine tj_iload_n dJ9_hashCode_58 rfl ?_
          exact tj_iret dJ9_hashCode_59
    · refine tj_iload_n dJ9_hashCode_58 rfl ?_
      exact tj_iret dJ9_hashCode_59
  · refine tj_iload_n dJ9_hashCode_58 rfl ?_
    exact tj_iret dJ9_hashCode_59
theorem ct_J9_hashCode : ∀ (d : Nat) (v0 : Option Nat), ct_ yJ9_hashCode (ws_ yJ9_hashCode cJ9_hashCode 2 (some .int)) d em_i [va_rf v0] (fn_J9_hashCode d v0)
  | 0, _ => ct_fail
  | d + 1, v0 => ct_of [(false, va_rf v0)] [some (va_rf v0), none] (by decide) rfl ⟨rfl, (rf_cat _), trivial⟩ (fun E X n0 s0 σ => tj_J9_hashCode_B0 d v0 σ)
theorem tj_X5_applyTo_J195 {E : tj_E} {X : tj_X} {n0 s0 : Nat} (d : Nat) (l0 : Option Nat) (l1 : Option Nat) (l3 : Int32) (σ : hp_S) : tj_T E X RX5 "applyTo" cX5_applyTo 4 (some .int) (d + 1) [] n0 s0 em_i σ 195 [some (va_rf l0), some (va_rf l1), none, some (.int l3)] [] (fn_X5_applyTo_J195 d l0 l1 l3) := by
  unfold fn_X5_applyTo_J195
  refine tj_iload_n dX5_applyTo_195 rfl ?_
  refine tj_table [((0 : Int32), 244), ((1 : Int32), 264), ((2 : Int32), 280), ((3 : Int32), 296), ((4 : Int32), 306), ((5 : Int32), 311), ((6 : Int32), 316), ((7 : Int32), 331)] 341 dX5_applyTo_196 rfl rfl rfl rfl rfl ?_ ?_
  · intro i t key A h1 h2
    match i, h1, h2 with
    | 0, h1, h2 =>
      cases h1; cases h2
      refine tj_aload_n dX5_applyTo_244 rfl ?_
      refine tj_aload_n dX5_applyTo_245 rfl ?_
      refine tj_iconst (0 : Int32) dX5_applyTo_246 rfl ?_
      refine tj_callV (as := [.int (0 : Int32)]) (rest := [va_rf l1]) (st' := (fun r => [.int r, va_rf l1])) (t := 11) (fun a e => by cases e; exact ct_X5_at d _ _) (by decide) rfl q1955 q1957 qs18 q148 q1958 rfl md_X5_at rfl (by decide) rfl (by simp [rf_cat, cat_i, cat_l, cat_f, cat_d]) dX5_applyTo_247 (fun _ => rfl) (fun r101 σ => ?_) (by decide)
      refine tj_aload_n dX5_applyTo_250 rfl ?_
      refine tj_iconst (1 : Int32) dX5_applyTo_251 rfl ?_
      refine tj_callV (as := [.int (1 : Int32)]) (rest := [.int r101, va_rf l1]) (st' := (fun r => [.int r, .int r101, va_rf l1])) (t := 11) (fun a e => by cases e; exact ct_X5_at d _ _) (by decide) rfl q1955 q1957 qs18 q148 q1958 rfl md_X5_at rfl (by decide) rfl (by simp [rf_cat, cat_i, cat_l, cat_f, cat_d]) dX5_applyTo_252 (fun _ => rfl) (fun r102 σ => ?_) (by decide)
      refine tj_aload_n dX5_applyTo_255 rfl ?_
      refine tj_iconst (2 : Int32) dX5_applyTo_256 rfl ?_
      refine tj_callV (as := [.int (2 : Int32)]) (rest := [.int r102, .int r101, va_rf l1]) (st' := (fun r => [.int r, .int r102, .int r101, va_rf l1])) (t := 11) (fun a e => by cases e; exact ct_X5_at d _ _) (by decide) rfl q1955 q1957 qs18 q148 q1958 rfl md_X5_at rfl (by decide) rfl (by simp [rf_cat, cat_i, cat_l, cat_f, cat_d]) dX5_applyTo_257 (fun _ => rfl) (fun r103 σ => ?_) (by decide)
      refine tj_callV (as := [.int r101, .int r102, .int r103]) (rest := []) (st' := (fun r => [.int r])) (t := 2) (fun a e => by cases e; exact ct_X2_addLion d _ _ _ _) (by decide) rfl q1959 q1960 q1961 q97 q1962 rfl md_X2_addLion rfl (by decide) rfl (by decide) dX5_applyTo_260 (fun _ => rfl) (fun r104 σ => ?_) (by decide)
      exact tj_iret dX5_applyTo_263
    | 1, h1, h2 =>
      cases h1; cases h2
      refine tj_aload_n dX5_applyTo_264 rfl ?_
      refine tj_aload_n dX5_applyTo_265 rfl ?_
      refine tj_iconst (0 : Int32) dX5_applyTo_266 rfl ?_
      refine tj_callV (as := [.int (0 : Int32)]) (rest := [va_rf l1]) (st' := (fun r => [.int r, va_rf l1])) (t := 11) (fun a e => by cases e; exact ct_X5_at d _ _) (by decide) rfl q1955 q1957 qs18 q148 q1958 rfl md_X5_at rfl (by decide) rfl (by simp [rf_cat, cat_i, cat_l, cat_f, cat_d]) dX5_applyTo_267 (fun _ => rfl) (fun r105 σ => ?_) (by decide)
      refine tj_aload_n dX5_applyTo_270 rfl ?_
      refine tj_iconst (1 : Int32) dX5_applyTo_271 rfl ?_
      refine tj_callV (as := [.int (1 : Int32)]) (rest := [.int r105, va_rf l1]) (st' := (fun r => [.int r, .int r105, va_rf l1])) (t := 11) (fun a e => by cases e; exact ct_X5_at d _ _) (by decide) rfl q1955 q1957 qs18 q148 q1958 rfl md_X5_at rfl (by decide) rfl (by simp [rf_cat, cat_i, cat_l, cat_f, cat_d]) dX5_applyTo_272 (fun _ => rfl) (fun r106 σ => ?_) (by decide)
      refine tj_iconst (1 : Int32) dX5_applyTo_275 rfl ?_
      refine tj_callV (as := [.int r105, .int r106, .int (1 : Int32)]) (rest := []) (st' := (fun r => [.int r])) (t := 2) (fun a e => by cases e; exact ct_X2_changeHunger d _ _ _ _) (by decide) rfl q2415 q2416 q2417 q97 q2418 rfl md_X2_changeHunger rfl (by decide) rfl (by decide) dX5_applyTo_276 (fun _ => rfl) (fun r107 σ => ?_) (by decide)
      exact tj_iret dX5_applyTo_279
    | 2, h1, h2 =>
      cases h1; cases h2
      refine tj_aload_n dX5_applyTo_280 rfl ?_
      refine tj_aload_n dX5_applyTo_281 rfl ?_
      refine tj_iconst (0 : Int32) dX5_applyTo_282 rfl ?_
      refine tj_callV (as := [.int (0 : Int32)]) (rest := [va_rf l1]) (st' := (fun r => [.int r, va_rf l1])) (t := 11) (fun a e => by cases e; exact ct_X5_at d _ _) (by decide) rfl q1955 q1957 qs18 q148 q1958 rfl md_X5_at rfl (by decide) rfl (by simp [rf_cat, cat_i, cat_l, cat_f, cat_d]) dX5_applyTo_283 (fun _ => rfl) (fun r108 σ => ?_) (by decide)
      refine tj_aload_n dX5_applyTo_286 rfl ?_
      refine tj_iconst (1 : Int32) dX5_applyTo_287 rfl ?_
      refine tj_callV (as := [.int (1 : Int32)]) (rest := [.int r108, va_rf l1]) (st' := (fun r => [.int r, .int r108, va_rf l1])) (t := 11) (fun a e => by cases e; exact ct_X5_at d _ _) (by decide) rfl q1955 q1957 qs18 q148 q1958 rfl md_X5_at rfl (by decide) rfl (by simp [rf_cat, cat_i, cat_l, cat_f, cat_d]) dX5_applyTo_288 (fun _ => rfl) (fun r109 σ => ?_) (by decide)
      refine tj_iconst (0 : Int32) dX5_applyTo_291 rfl ?_
      refine tj_callV (as := [.int r108, .int r109, .int (0 : Int32)]) (rest := []) (st' := (fun r => [.int r])) (t := 2) (fun a e => by cases e; exact ct_X2_changeHunger d _ _ _ _) (by decide) rfl q2415 q2416 q2417 q97 q2418 rfl md_X2_changeHunger rfl (by decide) rfl (by decide) dX5_applyTo_292 (fun _ => rfl) (fun r110 σ => ?_) (by decide)
      exact tj_iret dX5_applyTo_295
    | 3, h1, h2 =>
      cases h1; cases h2
      refine tj_aload_n dX5_applyTo_296 rfl ?_
      refine tj_aload_n dX5_applyTo_297 rfl ?_
      refine tj_iconst (0 : Int32) dX5_applyTo_298 rfl ?_
      refine tj_callV (as := [.int (0 : Int32)]) (rest := [va_rf l1]) (st' := (fun r => [.int r, va_rf l1])) (t := 11) (fun a e => by cases e; exact ct_X5_at d _ _) (by decide) rfl q1955 q1957 qs18 q148 q1958 rfl md_X5_at rfl (by decide) rfl (by simp [rf_cat, cat_i, cat_l, cat_f, cat_d]) dX5_applyTo_299 (fun _ => rfl) (fun r111 σ => ?_) (by decide)
      refine tj_callV (as := [.int r111]) (rest := []) (st' := (fun r => [.int r])) (t := 2) (fun a e => by cases e; exact ct_X2_leave d _ _) (by decide) rfl q2429 q2430 q2431 q97 q2432 rfl md_X2_leave rfl (by decide) rfl (by decide) dX5_applyTo_302 (fun _ => rfl) (fun r112 σ => ?_) (by decide)
      exact tj_iret dX5_applyTo_305
    | 4, h1, h2 =>
      cases h1; cases h2
      refine tj_aload_n dX5_applyTo_306 rfl ?_
      refine tj_callV (as := []) (rest := []) (st' := (fun r => [.int r])) (t := 2) (fun a e => by cases e; exact ct_X2_serve d _) (by decide) rfl q2438 q2439 q2440 q97 q2441 rfl md_X2_serve rfl (by decide) rfl (by decide) dX5_applyTo_307 (fun _ => rfl) (fun r113 σ => ?_) (by decide)
      exact tj_iret dX5_applyTo_310
    | 5, h1, h2 =>
      cases h1; cases h2
      refine tj_aload_n dX5_applyTo_311 rfl ?_
      refine tj_callV (as := []) (rest := []) (st' := (fun r => [.int r])) (t := 2) (fun a e => by cases e; exact ct_X2_purge d _) (by decide) rfl q2473 q2061 q2062 q97 q2063 rfl md_X2_purge rfl (by decide) rfl (by decide) dX5_applyTo_312 (fun _ => rfl) (fun r114 σ => ?_) (by decide)
      exact tj_iret dX5_applyTo_315
    | 6, h1, h2 =>
      cases h1; cases h2
      refine tj_aload_n dX5_applyTo_316 rfl ?_
      refine tj_aload_n dX5_applyTo_317 rfl ?_
      refine tj_iconst (0 : Int32) dX5_applyTo_318 rfl ?_
      refine tj_callV (as := [.int (0 : Int32)]) (rest := [va_rf l1]) (st' := (fun r => [.int r, va_rf l1])) (t := 11) (fun a e => by cases e; exact ct_X5_at d _ _) (by decide) rfl q1955 q1957 qs18 q148 q1958 rfl md_X5_at rfl (by decide) rfl (by simp [rf_cat, cat_i, cat_l, cat_f, cat_d]) dX5_applyTo_319 (fun _ => rfl) (fun r115 σ => ?_) (by decide)
      refine tj_aload_n dX5_applyTo_322 rfl ?_
      refine tj_iconst (1 : Int32) dX5_applyTo_323 rfl ?_
      refine tj_callV (as := [.int (1 : Int32)]) (rest := [.int r115, va_rf l1]) (st' := (fun r => [.int r, .int r115, va_rf l1])) (t := 11) (fun a e => by cases e; exact ct_X5_at d _ _) (by decide) rfl q1955 q1957 qs18 q148 q1958 rfl md_X5_at rfl (by decide) rfl (by simp [rf_cat, cat_i, cat_l, cat_f, cat_d]) dX5_applyTo_324 (fun _ => rfl) (fun r116 σ => ?_) (by decide)
      refine tj_callV (as := [.int r115, .int r116]) (rest := []) (st' := (fun r => [.int r])) (t := 2) (fun a e => by cases e; exact ct_X2_hireKeeper d _ _ _) (by decide) rfl q2474 q2475 q2476 q97 q2477 rfl md_X2_hireKeeper rfl (by decide) rfl (by decide) dX5_applyTo_327 (fun _ => rfl) (fun r117 σ => ?_) (by decide)
      exact tj_iret dX5_applyTo_330
    | 7, h1, h2 =>
      cases h1; cases h2
      refine tj_aload_n dX5_applyTo_331 rfl ?_
      refine tj_aload_n dX5_applyTo_332 rfl ?_
      refine tj_iconst (0 : Int32) dX5_applyTo_333 rfl ?_
      refine tj_callV (as := [.int (0 : Int32)]) (rest := [va_rf l1]) (st' := (fun r => [.int r, va_rf l1])) (t := 11) (fun a e => by cases e; exact ct_X5_at d _ _) (by decide) rfl q1955 q1957 qs18 q148 q1958 rfl md_X5_at rfl (by decide) rfl (by simp [rf_cat, cat_i, cat_l, cat_f, cat_d]) dX5_applyTo_334 (fun _ => rfl) (fun r118 σ => ?_) (by decide)
      refine tj_callV (as := [.int r118]) (rest := []) (st' := (fun r => [.int r])) (t := 2) (fun a e => by cases e; exact ct_X2_dismissKeeper d _ _) (by decide) rfl q2506 q2507 q2508 q97 q2509 rfl md_X2_dismissKeeper rfl (by decide) rfl (by decide) dX5_applyTo_337 (fun _ => rfl) (fun r119 σ => ?_) (by decide)
      exact tj_iret dX5_applyTo_340
    | _ + 8, h1, _ => simp at h1
  · refine tj_aload_n dX5_applyTo_341 rfl ?_
    refine tj_aload_n dX5_applyTo_342 rfl ?_
    refine tj_iconst (0 : Int32) dX5_applyTo_343 rfl ?_
    refine tj_callV (as := [.int (0 : Int32)]) (rest := [va_rf l1]) (st' := (fun r => [.int r, va_rf l1])) (t := 11) (fun a e => by cases e; exact ct_X5_at d _ _) (by decide) rfl q1955 q1957 qs18 q148 q1958 rfl md_X5_at rfl (by decide) rfl (by simp [rf_cat, cat_i, cat_l, cat_f, cat_d]) dX5_applyTo_344 (fun _ => rfl) (fun r120 σ => ?_) (by decide)
    refine tj_callV (as := [.int r120]) (rest := []) (st' := (fun r => [.int r])) (t := 2) (fun a e => by cases e; exact ct_X2_passHours d _ _) (by decide) rfl q2532 q2533 q2534 q97 q2535 rfl md_X2_passHours rfl (by decide) rfl (by decide) dX5_applyTo_347 (fun _ => rfl) (fun r121 σ => ?_) (by decide)
    exact tj_iret dX5_applyTo_350
theorem tj_X5_applyTo_B0 {E : tj_E} {X : tj_X} {n0 s0 : Nat} (d : Nat) (v0 : Option Nat) (v1 : Option Nat) (σ : hp_S) : tj_T E X RX5 "applyTo" cX5_applyTo 4 (some .int) (d + 1) [] n0 s0 em_i σ 0 [some (va_rf v0), some (va_rf v1), none, none] [] (fn_X5_applyTo_B0 d v0 v1) := by
  unfold fn_X5_applyTo_B0
  refine tj_aload_n dX5_applyTo_0 rfl ?_
  refine tj_getR fl_X5_7r dX5_applyTo_1 (fun v101 => ?_)
  refine tj_astore_n dX5_applyTo_4 (by decide) (rf_cat _) [some (va_rf v0), some (va_rf v1), some (va_rf v101), none] rfl ?_
  refine tj_iconst (-1 : Int32) dX5_applyTo_5 rfl ?_
  refine tj_istore_n dX5_applyTo_6 (by decide) (rf_cat _) [some (va_rf v0), some (va_rf v1), some (va_rf v101), some (.int (-1 : Int32))] rfl ?_
  refine tj_aload_n dX5_applyTo_7 rfl ?_
  refine tj_callV (as := []) (rest := []) (st' := (fun r => [.int r])) (t := 30) (fun a e => by cases e; exact ct_J9_hashCode d _) (by decide) rfl q1879 q1880 q1881 q108 q1882 rfl md_J9_hashCode rfl (by decide) rfl (by decide) dX5_applyTo_8 (fun _ => rfl) (fun r102 σ => ?_) (by decide)
  refine tj_lookup [((-1135252750 : Int32), 168), ((3321884 : Int32), 84), ((3505966 : Int32), 98), ((3701727 : Int32), 112), ((102846135 : Int32), 126), ((107032747 : Int32), 154), ((109327119 : Int32), 140), ((1671672458 : Int32), 183)] 195 dX5_applyTo_11 rfl rfl rfl rfl ?_ ?_
  · intro i t key A h1 h2
    match i, h1, h2 with
    | 0, h1, h2 =>
      cases h1; cases h2
      refine tj_aload_n dX5_applyTo_168 rfl ?_
      refine tj_ldcS (ev_t 17 rfl) dX5_applyTo_169 (fun v103 => ?_)
      refine tj_callV (as := [va_rf v103]) (rest := []) (st' := (fun r => [.int r])) (t := 30) (fun a e => by cases e; exact ct_J9_equals d _ _) (by decide) rfl q1941 q1942 q1943 q108 q1944 rfl md_J9_equals rfl (by decide) rfl (by decide) dX5_applyTo_171 (fun _ => rfl) (fun r104 σ => ?_) (by decide)
      refine tj_if_eq 195 dX5_applyTo_174 rfl (fun _ => ?_) (fun _ => ?_)
      · refine tj_wk (L' := [some (va_rf v0), some (va_rf v1), none, some (.int (-1 : Int32))]) ⟨rfl, rfl, rfl, trivial⟩ ?_
        exact tj_X5_applyTo_J195 d v0 v1 (-1 : Int32) _
      · refine tj_bipush (6 : Int32) dX5_applyTo_177 (by decide) ?_
        refine tj_istore_n dX5_applyTo_179 (by decide) (rf_cat _) [some (va_rf v0), some (va_rf v1), some (va_rf v101), some (.int (6 : Int32))] rfl ?_
        refine tj_goto 195 dX5_applyTo_180 rfl ?_
        refine tj_wk (L' := [some (va_rf v0), some (va_rf v1), none, some (.int (6 : Int32))]) ⟨rfl, rfl, rfl, trivial⟩ ?_
        exact tj_X5_applyTo_J195 d v0 v1 (6 : Int32) _
    | 1, h1, h2 =>
      cases h1; cases h2
      refine tj_aload_n dX5_applyTo_84 rfl ?_
      refine tj_ldcS (ev_t 11 rfl) dX5_applyTo_85 (fun v105 => ?_)
      refine tj_callV (as := [va_rf v105]) (rest := []) (st' := (fun r => [.int r])) (t := 30) (fun a e => by cases e; exact ct_J9_equals d _ _) (by decide) rfl q1941 q1942 q1943 q108 q1944 rfl md_J9_equals rfl (by decide) rfl (by decide) dX5_applyTo_87 (fun _ => rfl) (fun r106 σ => ?_) (by decide)
      refine tj_if_eq 195 dX5_applyTo_90 rfl (fun _ => ?_) (fun _ => ?_)
      · refine tj_wk (L' := [some (va_rf v0), some (va_rf v1), none, some (.int (-1 : Int32))]) ⟨rfl, rfl, rfl, trivial⟩ ?_
        exact tj_X5_applyTo_J195 d v0 v1 (-1 : Int32) _
      · refine tj_iconst (0 : Int32) dX5_applyTo_93 rfl ?_
        refine tj_istore_n dX5_applyTo_94 (by decide) (rf_cat _) [some (va_rf v0), some (va_rf v1), some (va_rf v101), some (.int (0 : Int32))] rfl ?_
        refine tj_goto 195 dX5_applyTo_95 rfl ?_
        refine tj_wk (L' := [some (va_rf v0), some (va_rf v1), none, some (.int (0 : Int32))]) ⟨rfl, rfl, rfl, trivial⟩ ?_
        exact tj_X5_applyTo_J195 d v0 v1 (0 : Int32) _
    | 2, h1, h2 =>
      cases h1; cases h2
      refine tj_aload_n dX5_applyTo_98 rfl ?_
      refine tj_ldcS (ev_t 12 rfl) dX5_applyTo_99 (fun v107 => ?_)
      refine tj_callV (as := [va_rf v107]) (rest := []) (st' := (fun r => [.int r])) (t := 30) (fun a e => by cases e; exact ct_J9_equals d _ _) (by decide) rfl q1941 q1942 q1943 q108 q1944 rfl md_J9_equals rfl (by decide) rfl (by decide) dX5_applyTo_101 (fun _ => rfl) (fun r108 σ => ?_) (by decide)
      refine tj_if_eq 195 dX5_applyTo_104 rfl (fun _ => ?_) (fun _ => ?_)
      · refine tj_wk (L' := [some (va_rf v0), some (va_rf v1), none, some (.int (-1 : Int32))]) ⟨rfl, rfl, rfl, trivial⟩ ?_
        exact tj_X5_applyTo_J195 d v0 v1 (-1 : Int32) _
      · refine tj_iconst (1 : Int32) dX5_applyTo_107 rfl ?_
        refine tj_istore_n dX5_applyTo_108 (by decide) (rf_cat _) [some (va_rf v0), some (va_rf v1), some (va_rf v101), some (.int (1 : Int32))] rfl ?_
        refine tj_goto 195 dX5_applyTo_109 rfl ?_
        refine tj_wk (L' := [some (va_rf v0), some (va_rf v1), none, some (.int (1 : Int32))]) ⟨rfl, rfl, rfl, trivial⟩ ?_
        exact tj_X5_applyTo_J195 d v0 v1 (1 : Int32) _
    | 3, h1, h2 =>
      cases h1; cases h2
      refine tj_aload_n dX5_applyTo_112 rfl ?_
      refine tj_ldcS (ev_t 13 rfl) dX5_applyTo_113 (fun v109 => ?_)
      refine tj_callV (as := [va_rf v109]) (rest := []) (st' := (fun r => [.int r])) (t := 30) (fun a e => by cases e; exact ct_J9_equals d _ _) (by decide) rfl q1941 q1942 q1943 q108 q1944 rfl md_J9_equals rfl (by decide) rfl (by decide) dX5_applyTo_115 (fun _ => rfl) (fun r110 σ => ?_) (by decide)
      refine tj_if_eq 195 dX5_applyTo_118 rfl (fun _ => ?_) (fun _ => ?_)
      · refine tj_wk (L' := [some (va_rf v0), some (va_rf v1), none, some (.int (-1 : Int32))]) ⟨rfl, rfl, rfl, trivial⟩ ?_
        exact tj_X5_applyTo_J195 d v0 v1 (-1 : Int32) _
      · refine tj_iconst (2 : Int32) dX5_applyTo_121 rfl ?_
        refine tj_istore_n dX5_applyTo_122 (by decide) (rf_cat _) [some (va_rf v0), some (va_rf v1), some (va_rf v101), some (.int (2 : Int32))] rfl ?_
        refine tj_goto 195 dX5_applyTo_123 rfl ?_
        refine tj_wk (L' := [some (va_rf v0), some (va_rf v1), none, some (.int (2 : Int32))]) ⟨rfl, rfl, rfl, trivial⟩ ?_
        exact tj_X5_applyTo_J195 d v0 v1 (2 : Int32) _
    | 4, h1, h2 =>
      cases h1; cases h2
      refine tj_aload_n dX5_applyTo_126 rfl ?_
      refine tj_ldcS (ev_t 14 rfl) dX5_applyTo_127 (fun v111 => ?_)
      refine tj_callV (as := [va_rf v111]) (rest := []) (st' := (fun r => [.int r])) (t := 30) (fun a e => by cases e; exact ct_J9_equals d _ _) (by decide) rfl q1941 q1942 q1943 q108 q1944 rfl md_J9_equals rfl (by decide) rfl (by decide) dX5_applyTo_129 (fun _ => rfl) (fun r112 σ => ?_) (by decide)
      refine tj_if_eq 195 dX5_applyTo_132 rfl (fun _ => ?_) (fun _ => ?_)
      · refine tj_wk (L' := [some (va_rf v0), some (va_rf v1), none, some (.int (-1 : Int32))]) ⟨rfl, rfl, rfl, trivial⟩ ?_
        exact tj_X5_applyTo_J195 d v0 v1 (-1 : Int32) _
      · refine tj_iconst (3 : Int32) dX5_applyTo_135 rfl ?_
        refine tj_istore_n dX5_applyTo_136 (by decide) (rf_cat _) [some (va_rf v0), some (va_rf v1), some (va_rf v101), some (.int (3 : Int32))] rfl ?_
        refine tj_goto 195 dX5_applyTo_137 rfl ?_
        refine tj_wk (L' := [some (va_rf v0), some (va_rf v1), none, some (.int (3 : Int32))]) ⟨rfl, rfl, rfl, trivial⟩ ?_
        exact tj_X5_applyTo_J195 d v0 v1 (3 : Int32) _
    | 5, h1, h2 =>
      cases h1; cases h2
      refine tj_aload_n dX5_applyTo_154 rfl ?_
      refine tj_ldcS (ev_t 16 rfl) dX5_applyTo_155 (fun v113 => ?_)
      refine tj_callV (as := [va_rf v113]) (rest := []) (st' := (fun r => [.int r])) (t := 30) (fun a e => by cases e; exact ct_J9_equals d _ _) (by decide) rfl q1941 q1942 q1943 q108 q1944 rfl md_J9_equals rfl (by decide) rfl (by decide) dX5_applyTo_157 (fun _ => rfl) (fun r114 σ => ?_) (by decide)
      refine tj_if_eq 195 dX5_applyTo_160 rfl (fun _ => ?_) (fun _ => ?_)
      · refine tj_wk (L' := [some (va_rf v0), some (va_rf v1), none, some (.int (-1 : Int32))]) ⟨rfl, rfl, rfl, trivial⟩ ?_
        exact tj_X5_applyTo_J195 d v0 v1 (-1 : Int32) _
      · refine tj_iconst (5 : Int32) dX5_applyTo_163 rfl ?_
        refine tj_istore_n dX5_applyTo_164 (by decide) (rf_cat _) [some (va_rf v0), some (va_rf v1), some (va_rf v101), some (.int (5 : Int32))] rfl ?_
        refine tj_goto 195 dX5_applyTo_165 rfl ?_
        refine tj_wk (L' := [some (va_rf v0), some (va_rf v1), none, some (.int (5 : Int32))]) ⟨rfl, rfl, rfl, trivial⟩ ?_
        exact tj_X5_applyTo_J195 d v0 v1 (5 : Int32) _
    | 6, h1, h2 =>
      cases h1; cases h2
      refine tj_aload_n dX5_applyTo_140 rfl ?_
      refine tj_ldcS (ev_t 15 rfl) dX5_applyTo_141 (fun v115 => ?_)
      refine tj_callV (as := [va_rf v115]) (rest := []) (st' := (fun r => [.int r])) (t := 30) (fun a e => by cases e; exact ct_J9_equals d _ _) (by decide) rfl q1941 q1942 q1943 q108 q1944 rfl md_J9_equals rfl (by decide) rfl (by decide) dX5_applyTo_143 (fun _ => rfl) (fun r116 σ => ?_) (by decide)
      refine tj_if_eq 195 dX5_applyTo_146 rfl (fun _ => ?_) (fun _ => ?_)
      · refine tj_wk (L' := [some (va_rf v0), some (va_rf v1), none, some (.int (-1 : Int32))]) ⟨rfl, rfl, rfl, trivial⟩ ?_
        exact tj_X5_applyTo_J195 d v0 v1 (-1 : Int32) _
      · refine tj_iconst (4 : Int32) dX5_applyTo_149 rfl ?_
        refine tj_istore_n dX5_applyTo_150 (by decide) (rf_cat _) [some (va_rf v0), some (va_rf v1), some (va_rf v101), some (.int (4 : Int32))] rfl ?_
        refine tj_goto 195 dX5_applyTo_151 rfl ?_
        refine tj_wk (L' := [some (va_rf v0), some (va_rf v1), none, some (.int (4 : Int32))]) ⟨rfl, rfl, rfl, trivial⟩ ?_
        exact tj_X5_applyTo_J195 d v0 v1 (4 : Int32) _
    | 7, h1, h2 =>
      cases h1; cases h2
      refine tj_aload_n dX5_applyTo_183 rfl ?_
      refine tj_ldcS (ev_t 18 rfl) dX5_applyTo_184 (fun v117 => ?_)
      refine tj_callV (as := [va_rf v117]) (rest := []) (st' := (fun r => [.int r])) (t := 30) (fun a e => by cases e; exact ct_J9_equals d _ _) (by decide) rfl q1941 q1942 q1943 q108 q1944 rfl md_J9_equals rfl (by decide) rfl (by decide) dX5_applyTo_186 (fun _ => rfl) (fun r118 σ => ?_) (by decide)
      refine tj_if_eq 195 dX5_applyTo_189 rfl (fun _ => ?_) (fun _ => ?_)
      · refine tj_wk (L' := [some (va_rf v0), some (va_rf v1), none, some (.int (-1 : Int32))]) ⟨rfl, rfl, rfl, trivial⟩ ?_
        exact tj_X5_applyTo_J195 d v0 v1 (-1 : Int32) _
      · refine tj_bipush (7 : Int32) dX5_applyTo_192 (by decide) ?_
        refine tj_istore_n dX5_applyTo_194 (by decide) (rf_cat _) [some (va_rf v0), some (va_rf v1), some (va_rf v101), some (.int (7 : Int32))] rfl ?_
        refine tj_wk (L' := [some (va_rf v0), some (va_rf v1), none, some (.int (7 : Int32))]) ⟨rfl, rfl, rfl, trivial⟩ ?_
        exact tj_X5_applyTo_J195 d v0 v1 (7 : Int32) _
    | _ + 8, h1, _ => simp at h1
  · refine tj_wk (L' := [some (va_rf v0), some (va_rf v1), none, some (.int (-1 : Int32))]) ⟨rfl, rfl, rfl, trivial⟩ ?_
    exact tj_X5_applyTo_J195 d v0 v1 (-1 : Int32) _
theorem ct_X5_applyTo : ∀ (d : Nat) (v0 : Option Nat) (v1 : Option Nat), ct_ yX5_applyTo (ws_ yX5_applyTo cX5_applyTo 4 (some .int)) d em_i [va_rf v0, va_rf v1] (fn_X5_applyTo d v0 v1)
  | 0, _, _ => ct_fail
  | d + 1, v0, v1 => ct_of [(false, va_rf v0), (false, va_rf v1)] [some (va_rf v0), some (va_rf v1), none, none] (by decide) rfl ⟨rfl, (rf_cat _), ⟨rfl, (rf_cat _), trivial⟩⟩ (fun E X n0 s0 σ => tj_X5_applyTo_B0 d v0 v1 σ)
theorem tj_X7_asPublicException_B0 {E : tj_E} {X : tj_X} {n0 s0 : Nat} (d : Nat) (v0 : Option Nat) (σ : hp_S) : tj_T E X RX7 "asPublicException" cX7_asPublicException 1 (some (.object "java/lang/RuntimeException")) (d + 1) [] n0 s0 em_r σ 0 [some (va_rf v0)] [] (fn_X7_asPublicException_B0 d v0) := by
  unfold fn_X7_asPublicException_B0
  refine tj_aload_n dX7_asPublicException_0 rfl ?_
  refine tj_getI fl_X7_7r dX7_asPublicException_1 (fun v101 => ?_)
  refine tj_lookup [((97 : Int32), 56), ((101 : Int32), 72), ((105 : Int32), 48), ((115 : Int32), 64)] 80 dX7_asPublicException_4 rfl rfl rfl rfl ?_ ?_
  · intro i t key A h1 h2
    match i, h1, h2 with
    | 0, h1, h2 =>
      cases h1; cases h2
      refine tj_mk0 ex_X7_18_2684 (by decide) dX7_asPublicException_56 dX7_asPublicException_59 dX7_asPublicException_60 (fun a102 σ => ?_)
      exact tj_aret (Or.inl ⟨_, rfl⟩) dX7_asPublicException_63
    | 1, h1, h2 =>
      cases h1; cases h2
      refine tj_mk0 ex_X7_24_2691 (by decide) dX7_asPublicException_72 dX7_asPublicException_75 dX7_asPublicException_76 (fun a103 σ => ?_)
      exact tj_aret (Or.inl ⟨_, rfl⟩) dX7_asPublicException_79
    | 2, h1, h2 =>
      cases h1; cases h2
      refine tj_mk0 ex_X7_13_2679 (by decide) dX7_asPublicException_48 dX7_asPublicException_51 dX7_asPublicException_52 (fun a104 σ => ?_)
      exact tj_aret (Or.inl ⟨_, rfl⟩) dX7_asPublicException_55
    | 3, h1, h2 =>
      cases h1; cases h2
      refine tj_mk0 ex_X7_21_2689 (by decide) dX7_asPublicException_64 dX7_asPublicException_67 dX7_asPublicException_68 (fun a105 σ => ?_)
      exact tj_aret (Or.inl ⟨_, rfl⟩) dX7_asPublicException_71
    | _ + 4, h1, _ => simp at h1
  · refine tj_mk0 ex_X7_27_2693 (by decide) dX7_asPublicException_80 dX7_asPublicException_83 dX7_asPublicException_84 (fun a106 σ => ?_)
    exact tj_aret (Or.inl ⟨_, rfl⟩) dX7_asPublicException_87
theorem ct_X7_asPublicException : ∀ (d : Nat) (v0 : Option Nat), ct_ yX7_asPublicException (ws_ yX7_asPublicException cX7_asPublicException 1 (some (.object "java/lang/RuntimeException"))) d em_r [va_rf v0] (fn_X7_asPublicException d v0)
  | 0, _ => ct_fail
  | d + 1, v0 => ct_of [(false, va_rf v0)] [some (va_rf v0)] (by decide) rfl ⟨rfl, (rf_cat _), trivial⟩ (fun E X n0 s0 σ => tj_X7_asPublicException_B0 d v0 σ)
theorem tj_X3_copy_L18_b {E : tj_E} {X : tj_X} {n0 s0 : Nat} (d : Nat) {b18 : Option Nat → Option Nat → mx_M (Option Nat)} (h18 : ∀ (l1 : Option Nat) (l2 : Option Nat) (σ : hp_S), tj_T E X RX3 "copy" cX3_copy 4 (some (.object "LionGate$Keepers")) (d + 1) [] n0 s0 em_r σ 18 [none, some (va_rf l1), some (va_rf l2), none] [] (b18 l1 l2)) (l1 : Option Nat) (l2 : Option Nat) (σ : hp_S) : tj_T E X RX3 "copy" cX3_copy 4 (some (.object "LionGate$Keepers")) (d + 1) [] n0 s0 em_r σ 18 [none, some (va_rf l1), some (va_rf l2), none] [] (fn_X3_copy_L18_b d b18 l1 l2) := by
  unfold fn_X3_copy_L18_b
  refine tj_aload_n dX3_copy_18 rfl ?_
  refine tj_callF (as := []) (rest := []) (st' := (fun r => [.int r])) (t := 17) (fun a e => by cases e; exact ct_J14_hasNext d _) (by decide) rfl q1769 q1060 q1062 q114 q1064 (ev_i 1 rfl) q1063 q1061 q1059 md_i1 rfl (by decide) rfl (by decide) dX3_copy_19 (fun _ => rfl) (fun r101 σ => ?_) (by decide)
  refine tj_if_eq 51 dX3_copy_24 rfl (fun _ => ?_) (fun _ => ?_)
  · refine tj_aload_n dX3_copy_51 rfl ?_
    exact tj_aret (Or.inl ⟨_, rfl⟩) dX3_copy_52
  · refine tj_aload_n dX3_copy_27 rfl ?_
    refine tj_callF (as := []) (rest := []) (st' := (fun r => [va_rf r])) (t := 17) (fun a e => by cases e; exact ct_J14_next d _) (by decide) rfl q1771 q1299 q1301 q114 q1303 (ev_i 2 rfl) q1302 q1300 q1059 md_i2 rfl (by decide) rfl (by decide) dX3_copy_28 (fun _ => rfl) (fun r102 σ => ?_) (by decide)
    refine tj_cast (nm := "LionGate$Keeper") q1772 ca_LionGate_Keeper dX3_copy_33 ?_
    refine tj_astore_n dX3_copy_36 (by decide) (rf_cat _) [none, some (va_rf l1), some (va_rf l2), some (va_rf r102)] rfl ?_
    refine tj_aload_n dX3_copy_37 rfl ?_
    refine tj_getR fl_X3_12r dX3_copy_38 (fun v103 => ?_)
    refine tj_aload_n dX3_copy_41 rfl ?_
    refine tj_callF (as := [va_rf r102]) (rest := []) (st' := (fun r => [.int r])) (t := 16) (fun a e => by cases e; exact ct_J4_add d _ _) (by decide) rfl q1774 q1777 q1779 q103 q1781 (ev_i 7 rfl) q1780 q1778 q1323 md_i7 rfl (by decide) rfl (by decide) dX3_copy_42 (fun _ => rfl) (fun r104 σ => ?_) (by decide)
    refine tj_pop dX3_copy_47 rfl ?_
    refine tj_goto 18 dX3_copy_48 rfl ?_
    refine tj_wk (L' := [none, some (va_rf l1), some (va_rf l2), none]) ⟨rfl, rfl, trivial⟩ ?_
    exact h18 l1 l2 _
theorem tj_X3_copy_L18 {E : tj_E} {X : tj_X} {n0 s0 : Nat} (d : Nat) : ∀ (k : Nat) (l1 : Option Nat) (l2 : Option Nat) (σ : hp_S), tj_T E X RX3 "copy" cX3_copy 4 (some (.object "LionGate$Keepers")) (d + 1) [] n0 s0 em_r σ 18 [none, some (va_rf l1), some (va_rf l2), none] [] (fn_X3_copy_L18 d k l1 l2) := by
  intro k
  induction k with
  | zero =>
    intro l1 l2 σ
    exact tj_fail
  | succ k ih =>
    intro l1 l2 σ
    exact tj_X3_copy_L18_b d ih l1 l2 σ
theorem tj_X3_copy_B0 {E : tj_E} {X : tj_X} {n0 s0 : Nat} (d : Nat) (v0 : Option Nat) (σ : hp_S) : tj_T E X RX3 "copy" cX3_copy 4 (some (.object "LionGate$Keepers")) (d + 1) [] n0 s0 em_r σ 0 [some (va_rf v0), none, none, none] [] (fn_X3_copy_B0 d v0) := by
  unfold fn_X3_copy_B0
  refine tj_new nw_X3_13 dX3_copy_0 (fun a101 σ => ?_)
  refine tj_dup dX3_copy_3 (rf_cat _) ?_
  refine tj_callI (as := []) (rest := [va_rf (some a101)]) (st' := (fun _ => [va_rf (some a101)])) (fun a e => by cases e; exact ct_X3_init d _) q1759 q231 q100 q232 rfl md_X3_init rfl (by decide) rfl (by simp [rf_cat, cat_i, cat_l, cat_f, cat_d]) dX3_copy_4 (fun _ => rfl) (fun _ σ => ?_) (by decide)
  refine tj_astore_n dX3_copy_7 (by decide) (rf_cat _) [some (va_rf v0), some (va_rf (some a101)), none, none] rfl ?_
  refine tj_aload_n dX3_copy_8 rfl ?_
  refine tj_getR fl_X3_12r dX3_copy_9 (fun v102 => ?_)
  refine tj_callF (as := []) (rest := []) (st' := (fun r => [va_rf r])) (t := 16) (fun a e => by cases e; exact ct_J4_iterator d _) (by decide) rfl q1761 q1764 q466 q103 q468 (ev_i 6 rfl) q467 q465 q1323 md_i6 rfl (by decide) rfl (by decide) dX3_copy_12 (fun _ => rfl) (fun r103 σ => ?_) (by decide)
  refine tj_astore_n dX3_copy_17 (by decide) (rf_cat _) [some (va_rf v0), some (va_rf (some a101)), some (va_rf r103), none] rfl ?_
  refine tj_wk (L' := [none, some (va_rf (some a101)), some (va_rf r103), none]) ⟨rfl, rfl, trivial⟩ ?_
  exact tj_X3_copy_L18 d mx_K (some a101) r103 _
theorem ct_X3_copy : ∀ (d : Nat) (v0 : Option Nat), ct_ yX3_copy (ws_ yX3_copy cX3_copy 4 (some (.object "LionGate$Keepers"))) d em_r [va_rf v0] (fn_X3_copy d v0)
  | 0, _ => ct_fail
  | d + 1, v0 => ct_of [(false, va_rf v0)] [some (va_rf v0), none, none, none] (by decide) rfl ⟨rfl, (rf_cat _), trivial⟩ (fun E X n0 s0 σ => tj_X3_copy_B0 d v0 σ)
theorem tj_X2_copy_L21_b {E : tj_E} {X : tj_X} {n0 s0 : Nat} (d : Nat) {b21 : Option Nat → Option Nat → Option Nat → mx_M (Option Nat)} (h21 : ∀ (l0 : Option Nat) (l1 : Option Nat) (l2 : Option Nat) (σ : hp_S), tj_T E X RX2 "copy" cX2_copy 4 (some (.object "LionGate$Queue")) (d + 1) [] n0 s0 em_r σ 21 [some (va_rf l0), some (va_rf l1), some (va_rf l2), none] [] (b21 l0 l1 l2)) (l0 : Option Nat) (l1 : Option Nat) (l2 : Option Nat) (σ : hp_S) : tj_T E X RX2 "copy" cX2_copy 4 (some (.object "LionGate$Queue")) (d + 1) [] n0 s0 em_r σ 21 [some (va_rf l0), some (va_rf l1), some (va_rf l2), none] [] (fn_X2_copy_L21_b d b21 l0 l1 l2) := by
  unfold fn_X2_copy_L21_b
  refine tj_aload_n dX2_copy_21 rfl ?_
  refine tj_callF (as := []) (rest := []) (st' := (fun r => [.int r])) (t := 22) (fun a e => by cases e; exact ct_J33_hasNext d _) (by decide) rfl q1036 q1100 q1093 q135 q1095 (ev_i 1 rfl) q1094 q1101 q1099 md_i1 rfl (by decide) rfl (by decide) dX2_copy_22 (fun _ => rfl) (fun r101 σ => ?_) (by decide)
  refine tj_if_eq 59 dX2_copy_27 rfl (fun _ => ?_) (fun _ => ?_)
  · refine tj_aload_n dX2_copy_59 rfl ?_
    refine tj_aload_n dX2_copy_60 rfl ?_
    refine tj_getR fl_X2_21 dX2_copy_61 (fun v102 => ?_)
    refine tj_callV (as := []) (rest := [va_rf l1]) (st' := (fun r => [va_rf r, va_rf l1])) (t := 3) (fun a e => by cases e; exact ct_X3_copy d _) (by decide) rfl q1754 q1755 q1756 q100 q1757 rfl md_X3_copy rfl (by decide) rfl (by simp [rf_cat, cat_i, cat_l, cat_f, cat_d]) dX2_copy_64 (fun _ => rfl) (fun r103 σ => ?_) (by decide)
    refine tj_put fl_X2_21 (nar_rf _) (fit_rf _) dX2_copy_67 (fun σ => ?_)
    refine tj_aload_n dX2_copy_70 rfl ?_
    refine tj_aload_n dX2_copy_71 rfl ?_
    refine tj_getR fl_X2_66 dX2_copy_72 (fun v104 => ?_)
    refine tj_put fl_X2_66 (nar_rf _) (fit_rf _) dX2_copy_75 (fun σ => ?_)
    refine tj_aload_n dX2_copy_78 rfl ?_
    refine tj_aload_n dX2_copy_79 rfl ?_
    refine tj_getI fl_X2_70 dX2_copy_80 (fun v105 => ?_)
    refine tj_put fl_X2_70 rfl rfl dX2_copy_83 (fun σ => ?_)
    refine tj_aload_n dX2_copy_86 rfl ?_
    refine tj_aload_n dX2_copy_87 rfl ?_
    refine tj_getI fl_X2_73 dX2_copy_88 (fun v106 => ?_)
    refine tj_put fl_X2_73 rfl rfl dX2_copy_91 (fun σ => ?_)
    refine tj_aload_n dX2_copy_94 rfl ?_
    refine tj_aload_n dX2_copy_95 rfl ?_
    refine tj_getI fl_X2_76 dX2_copy_96 (fun v107 => ?_)
    refine tj_put fl_X2_76 rfl rfl dX2_copy_99 (fun σ => ?_)
    refine tj_aload_n dX2_copy_102 rfl ?_
    refine tj_aload_n dX2_copy_103 rfl ?_
    refine tj_getI fl_X2_79 dX2_copy_104 (fun v108 => ?_)
    refine tj_put fl_X2_79 rfl rfl dX2_copy_107 (fun σ => ?_)
    refine tj_aload_n dX2_copy_110 rfl ?_
    refine tj_aload_n dX2_copy_111 rfl ?_
    refine tj_getI fl_X2_82 dX2_copy_112 (fun v109 => ?_)
    refine tj_put fl_X2_82 rfl rfl dX2_copy_115 (fun σ => ?_)
    refine tj_aload_n dX2_copy_118 rfl ?_
    refine tj_aload_n dX2_copy_119 rfl ?_
    refine tj_getI fl_X2_85 dX2_copy_120 (fun v110 => ?_)
    refine tj_put fl_X2_85 rfl rfl dX2_copy_123 (fun σ => ?_)
    refine tj_aload_n dX2_copy_126 rfl ?_
    refine tj_aload_n dX2_copy_127 rfl ?_
    refine tj_getI fl_X2_88 dX2_copy_128 (fun v111 => ?_)
    refine tj_put fl_X2_88 rfl rfl dX2_copy_131 (fun σ => ?_)
    refine tj_aload_n dX2_copy_134 rfl ?_
    refine tj_aload_n dX2_copy_135 rfl ?_
    refine tj_getI fl_X2_91 dX2_copy_136 (fun v112 => ?_)
    refine tj_put fl_X2_91 rfl rfl dX2_copy_139 (fun σ => ?_)
    refine tj_aload_n dX2_copy_142 rfl ?_
    exact tj_aret (Or.inl ⟨_, rfl⟩) dX2_copy_143
  · refine tj_aload_n dX2_copy_30 rfl ?_
    refine tj_callF (as := []) (rest := []) (st' := (fun r => [va_rf r])) (t := 22) (fun a e => by cases e; exact ct_J36_next d _) (by decide) rfl q1103 q1419 q1421 q138 q1423 (ev_i 2 rfl) q1422 q1420 q1099 md_i2 rfl (by decide) rfl (by decide) dX2_copy_31 (fun _ => rfl) (fun r113 σ => ?_) (by decide)
    refine tj_cast (nm := "LionGate$Lion") q1427 ca_LionGate_Lion dX2_copy_36 ?_
    refine tj_astore_n dX2_copy_39 (by decide) (rf_cat _) [some (va_rf l0), some (va_rf l1), some (va_rf l2), some (va_rf r113)] rfl ?_
    refine tj_aload_n dX2_copy_40 rfl ?_
    refine tj_getR fl_X2_12r dX2_copy_41 (fun v114 => ?_)
    refine tj_aload_n dX2_copy_44 rfl ?_
    refine tj_getI fl_X2_48r dX2_copy_45 (fun v115 => ?_)
    refine tj_callS (as := [.int v115]) (rest := [va_rf v114]) (st' := (fun r => [va_rf r, va_rf v114])) (ct_J27_valueOf d v115) q1428 q1429 q128 q1430 md_J27_valueOf rfl (by decide) rfl (by simp [rf_cat, cat_i, cat_l, cat_f, cat_d]) dX2_copy_48 (fun _ => rfl) (fun r116 σ => ?_) (by decide)
    refine tj_aload_n dX2_copy_51 rfl ?_
    refine tj_callV (as := [va_rf r116, va_rf r113]) (rest := []) (st' := (fun r => [va_rf r])) (t := 18) (fun a e => by cases e; exact ct_J1_put d _ _ _) (by decide) rfl q1448 q1449 q1450 q99 q1451 rfl md_J1_put rfl (by decide) rfl (by decide) dX2_copy_52 (fun _ => rfl) (fun r117 σ => ?_) (by decide)
    refine tj_pop dX2_copy_55 (rf_cat _) ?_
    refine tj_goto 21 dX2_copy_56 rfl ?_
    refine tj_wk (L' := [some (va_rf l0), some (va_rf l1), some (va_rf l2), none]) ⟨rfl, rfl, rfl, trivial⟩ ?_
    exact h21 l0 l1 l2 _
theorem tj_X2_copy_L21 {E : tj_E} {X : tj_X} {n0 s0 : Nat} (d : Nat) : ∀ (k : Nat) (l0 : Option Nat) (l1 : Option Nat) (l2 : Option Nat) (σ : hp_S), tj_T E X RX2 "copy" cX2_copy 4 (some (.object "LionGate$Queue")) (d + 1) [] n0 s0 em_r σ 21 [some (va_rf l0), some (va_rf l1), some (va_rf l2), none] [] (fn_X2_copy_L21 d k l0 l1 l2) := by
  intro k
  induction k with
  | zero =>
    intro l0 l1 l2 σ
    exact tj_fail
  | succ k ih =>
    intro l0 l1 l2 σ
    exact tj_X2_copy_L21_b d ih l0 l1 l2 σ
theorem tj_X2_copy_B0 {E : tj_E} {X : tj_X} {n0 s0 : Nat} (d : Nat) (v0 : Option Nat) (σ : hp_S) : tj_T E X RX2 "copy" cX2_copy 4 (some (.object "LionGate$Queue")) (d + 1) [] n0 s0 em_r σ 0 [some (va_rf v0), none, none, none] [] (fn_X2_copy_B0 d v0) := by
  unfold fn_X2_copy_B0
  refine tj_new nw_X2_13 dX2_copy_0 (fun a101 σ => ?_)
  refine tj_dup dX2_copy_3 (rf_cat _) ?_
  refine tj_callI (as := []) (rest := [va_rf (some a101)]) (st' := (fun _ => [va_rf (some a101)])) (fun a e => by cases e; exact ct_X2_init d _) q411 q188 q97 q189 rfl md_X2_init rfl (by decide) rfl (by simp [rf_cat, cat_i, cat_l, cat_f, cat_d]) dX2_copy_4 (fun _ => rfl) (fun _ σ => ?_) (by decide)
  refine tj_astore_n dX2_copy_7 (by decide) (rf_cat _) [some (va_rf v0), some (va_rf (some a101)), none, none] rfl ?_
  refine tj_aload_n dX2_copy_8 rfl ?_
  refine tj_getR fl_X2_12r dX2_copy_9 (fun v102 => ?_)
  refine tj_callV (as := []) (rest := []) (st' := (fun r => [va_rf r])) (t := 18) (fun a e => by cases e; exact ct_J1_values d _) (by decide) rfl q412 q413 q414 q99 q415 rfl md_J1_values rfl (by decide) rfl (by decide) dX2_copy_12 (fun _ => rfl) (fun r103 σ => ?_) (by decide)
  refine tj_callF (as := []) (rest := []) (st' := (fun r => [va_rf r])) (t := 20) (fun a e => by cases e; exact ct_J11_iterator d _) (by decide) rfl q428 q1018 q1020 q111 q1022 (ev_i 0 rfl) q1021 q1019 q1017 md_i0 rfl (by decide) rfl (by decide) dX2_copy_15 (fun _ => rfl) (fun r104 σ => ?_) (by decide)
  refine tj_astore_n dX2_copy_20 (by decide) (rf_cat _) [some (va_rf v0), some (va_rf (some a101)), some (va_rf r104), none] rfl ?_
  exact tj_X2_copy_L21 d mx_K v0 (some a101) r104 _
theorem ct_X2_copy : ∀ (d : Nat) (v0 : Option Nat), ct_ yX2_copy (ws_ yX2_copy cX2_copy 4 (some (.object "LionGate$Queue"))) d em_r [va_rf v0] (fn_X2_copy d v0)
  | 0, _ => ct_fail
  | d + 1, v0 => ct_of [(false, va_rf v0)] [some (va_rf v0), none, none, none] (by decide) rfl ⟨rfl, (rf_cat _), trivial⟩ (fun E X n0 s0 σ => tj_X2_copy_B0 d v0 σ)
theorem tj_X1_change_J27 {E : tj_E} {X : tj_X} {n0 s0 : Nat} (d : Nat) (p0 : Option Nat) (σ : hp_S) : tj_T E X RX1 "change" cX1_change 5 (some .int) (d + 1) [(8, 26, 27, 1)] n0 s0 em_i σ 27 [none, none, none, none, none] [va_rf p0] (fn_X1_change_J27 d p0) := by
  unfold fn_X1_change_J27
  refine tj_astore dX1_change_27 (by decide) trivial [none, none, none, none, some (va_rf p0)] rfl ?_
  refine tj_aload dX1_change_29 rfl ?_
  refine tj_callV (as := []) (rest := []) (st' := (fun r => [va_rf r])) (t := 13) (fun a e => by cases e; exact ct_X7_asPublicException d _) (by decide) rfl q2674 q2675 q2676 q150 q2677 rfl md_X7_asPublicException rfl (by decide) rfl (by decide) dX1_change_31 (fun _ => rfl) (fun r101 σ => ?_) (by decide)
  refine tj_athrow dX1_change_34 (fun q102 => ?_)
  exact tj_xout (by decide) (by decide)
theorem tj_X1_change_B0 {E : tj_E} {X : tj_X} {n0 s0 : Nat} (d : Nat) (v0 : Option Nat) (v1 : Option Nat) (v2 : Option Nat) (σ : hp_S) : tj_T E X RX1 "change" cX1_change 5 (some .int) (d + 1) [(8, 26, 27, 1)] n0 s0 em_i σ 0 [some (va_rf v0), some (va_rf v1), some (va_rf v2), none, none] [] (fn_X1_change_B0 d v0 v1 v2) := by
  unfold fn_X1_change_B0
  refine tj_aload_n dX1_change_0 rfl ?_
  refine tj_getR fl_X1_66 dX1_change_1 (fun v101 => ?_)
  refine tj_callV (as := []) (rest := []) (st' := (fun r => [va_rf r])) (t := 2) (fun a e => by cases e; exact ct_X2_copy d _) (by decide) rfl q406 q407 q408 q97 q409 rfl md_X2_copy rfl (by decide) rfl (by decide) dX1_change_4 (fun _ => rfl) (fun r102 σ => ?_) (by decide)
  refine tj_astore_n dX1_change_7 (by decide) (rf_cat _) [some (va_rf v0), some (va_rf v1), some (va_rf v2), some (va_rf r102), none] rfl ?_
  refine tj_aload_n dX1_change_8 rfl ?_
  refine tj_aload_n dX1_change_9 rfl ?_
  refine tj_new nw_X1_110 dX1_change_10 (fun a103 σ => ?_)
  refine tj_dup dX1_change_13 (rf_cat _) ?_
  refine tj_aload_n dX1_change_14 rfl ?_
  refine tj_aload_n dX1_change_15 rfl ?_
  refine tj_tryI (as := [va_rf v1, va_rf v2]) (rest := [va_rf (some a103), va_rf r102, va_rf v0]) (st' := (fun _ => [va_rf (some a103), va_rf r102, va_rf v0])) (fun a e => by cases e; exact ct_X5_init d _ _ _) q1864 q1865 q148 q1866 rfl md_X5_init rfl (by decide) rfl (by simp [rf_cat, cat_i, cat_l, cat_f, cat_d]) dX1_change_16 (fun _ => rfl) (fun _ σ => ?_) (fun q104 σ => ?_)
  · refine tj_aload_n dX1_change_19 rfl ?_
    refine tj_tryV (as := [va_rf r102]) (rest := [va_rf r102, va_rf v0]) (st' := (fun r => [.int r, va_rf r102, va_rf v0])) (t := 11) (fun a e => by cases e; exact ct_X5_applyTo d _ _) (by decide) rfl q1875 q1876 q1877 q148 q1878 rfl md_X5_applyTo rfl (by decide) rfl (by simp [rf_cat, cat_i, cat_l, cat_f, cat_d]) dX1_change_20 (fun _ => rfl) (fun r105 σ => ?_) (fun q106 σ => ?_)
    · refine tj_tryV (as := [va_rf r102, .int r105]) (rest := []) (st' := (fun r => [.int r])) (t := 0) (fun a e => by cases e; exact ct_X1_commit d _ _ _) (by decide) rfl q2655 q2657 qs32 q96 q2658 rfl md_X1_commit rfl (by decide) rfl (by decide) dX1_change_23 (fun _ => rfl) (fun r107 σ => ?_) (fun q108 σ => ?_)
      · exact tj_iret dX1_change_26
      · refine tj_xin [] ⟨8, 26, 27, 1⟩ [] "LionGate$ConditionFailure" cx_LionGate_ConditionFailure_13 rfl (by decide) (by decide) q405 (fun _ h => absurd h List.not_mem_nil) ?_ ?_
        · refine tj_wk (L' := [none, none, none, none, none]) trivial ?_
          exact tj_X1_change_J27 d (some q108) _
        exact tj_xfail
    · refine tj_xin [] ⟨8, 26, 27, 1⟩ [] "LionGate$ConditionFailure" cx_LionGate_ConditionFailure_13 rfl (by decide) (by decide) q405 (fun _ h => absurd h List.not_mem_nil) ?_ ?_
      · refine tj_wk (L' := [none, none, none, none, none]) trivial ?_
        exact tj_X1_change_J27 d (some q106) _
      exact tj_xfail
  · refine tj_xin [] ⟨8, 26, 27, 1⟩ [] "LionGate$ConditionFailure" cx_LionGate_ConditionFailure_13 rfl (by decide) (by decide) q405 (fun _ h => absurd h List.not_mem_nil) ?_ ?_
    · refine tj_wk (L' := [none, none, none, none, none]) trivial ?_
      exact tj_X1_change_J27 d (some q104) _
    exact tj_xfail
theorem ct_X1_change : ∀ (d : Nat) (v0 : Option Nat) (v1 : Option Nat) (v2 : Option Nat), ct_ yX1_change (wsW_ yX1_change cX1_change 5 (some .int) [(8, 26, 27, 1)]) d em_i [va_rf v0, va_rf v1, va_rf v2] (fn_X1_change d v0 v1 v2)
  | 0, _, _, _ => ct_fail
  | d + 1, v0, v1, v2 => ct_ofH [(false, va_rf v0), (false, va_rf v1), (false, va_rf v2)] [some (va_rf v0), some (va_rf v1), some (va_rf v2), none, none] (by decide) rfl ⟨rfl, (rf_cat _), ⟨rfl, (rf_cat _), ⟨rfl, (rf_cat _), trivial⟩⟩⟩ (fun E X n0 s0 σ => tj_X1_change_B0 d v0 v1 v2 σ)
theorem tj_X1_purge_B0 {E : tj_E} {X : tj_X} {n0 s0 : Nat} (d : Nat) (v0 : Option Nat) (σ : hp_S) : tj_T E X RX1 "purge" cX1_purge 1 (some .int) (d + 1) [] n0 s0 em_i σ 0 [some (va_rf v0)] [] (fn_X1_purge_B0 d v0) := by
  unfold fn_X1_purge_B0
  refine tj_aload_n dX1_purge_0 rfl ?_
  refine tj_ldcS (ev_t 1 rfl) dX1_purge_1 (fun v101 => ?_)
  refine tj_iconst (0 : Int32) dX1_purge_3 rfl ?_
  refine tj_newI q426 dX1_purge_4 (fun a102 σ => ?_)
  refine tj_callVX (as := [va_rf v101, va_rf (some a102)]) (rest := []) (st' := (fun r => [.int r])) (t := 0) (fun a e => by cases e; exact ct_X1_change d _ _ _) (by decide) rfl q401 q403 qs0 q96 q404 rfl md_X1_change rfl (by decide) rfl (by decide) dX1_purge_6 (fun _ => rfl) (fun r103 σ => ?_) (by decide)
  exact tj_iret dX1_purge_9
theorem ct_X1_purge : ∀ (d : Nat) (v0 : Option Nat), ct_ yX1_purge (ws_ yX1_purge cX1_purge 1 (some .int)) d em_i [va_rf v0] (fn_X1_purge d v0)
  | 0, _ => ct_fail
  | d + 1, v0 => ct_of [(false, va_rf v0)] [some (va_rf v0)] (by decide) rfl ⟨rfl, (rf_cat _), trivial⟩ (fun E X n0 s0 σ => tj_X1_purge_B0 d v0 σ)
theorem tj_J9_coder_B0 {E : tj_E} {X : tj_X} {n0 s0 : Nat} (d : Nat) (v0 : Option Nat) (σ : hp_S) : tj_T E X RJ9 "coder" cJ9_coder 1 (some .byte) (d + 1) [] n0 s0 em_i σ 0 [some (va_rf v0)] [] (fn_J9_coder_B0 d v0) := by
  unfold fn_J9_coder_B0
  refine tj_getsI (v := (1 : Int32)) (ev_j 0 rfl) q693 dJ9_coder_0 ?_
  refine tj_if_eq 13 dJ9_coder_3 rfl (fun _ => ?_) (fun _ => ?_)
  · refine tj_iconst (1 : Int32) dJ9_coder_13 rfl ?_
    exact tj_zpure rfl dJ9_coder_14
  · refine tj_aload_n dJ9_coder_6 rfl ?_
    refine tj_getI fl_J9_15r dJ9_coder_7 (fun v101 => ?_)
    refine tj_goto 14 dJ9_coder_10 rfl ?_
    exact tj_zret dJ9_coder_14
theorem ct_J9_coder : ∀ (d : Nat) (v0 : Option Nat), ct_ yJ9_coder (ws_ yJ9_coder cJ9_coder 1 (some .byte)) d em_i [va_rf v0] (fn_J9_coder d v0)
  | 0, _ => ct_fail
  | d + 1, v0 => ct_of [(false, va_rf v0)] [some (va_rf v0)] (by decide) rfl ⟨rfl, (rf_cat _), trivial⟩ (fun E X n0 s0 σ => tj_J9_coder_B0 d v0 σ)
theorem tj_J9_length_B0 {E : tj_E} {X : tj_X} {n0 s0 : Nat} (d : Nat) (v0 : Option Nat) (σ : hp_S) : tj_T E X RJ9 "length" cJ9_length 1 (some .int) (d + 1) [] n0 s0 em_i σ 0 [some (va_rf v0)] [] (fn_J9_length_B0 d v0) := by
  unfold fn_J9_length_B0
  refine tj_aload_n dJ9_length_0 rfl ?_
  refine tj_getR fl_J9_9r dJ9_length_1 (fun v101 => ?_)
  refine tj_alen dJ9_length_4 (fun v102 => ?_)
  refine tj_aload_n dJ9_length_5 rfl ?_
  refine tj_callV (as := []) (rest := [.int v102]) (st' := (fun r => [.int r, .int v102])) (t := 30) (fun a e => by cases e; exact ct_J9_coder d _) (by decide) rfl q689 q690 q691 q108 q692 rfl md_J9_coder rfl (by decide) rfl (by simp [rf_cat, cat_i, cat_l, cat_f, cat_d]) dJ9_length_6 (fun _ => rfl) (fun r103 σ => ?_) (by decide)
  refine tj_ishr dJ9_length_9 ?_
  exact tj_iret dJ9_length_10
theorem ct_J9_length : ∀ (d : Nat) (v0 : Option Nat), ct_ yJ9_length (ws_ yJ9_length cJ9_length 1 (some .int)) d em_i [va_rf v0] (fn_J9_length d v0)
  | 0, _ => ct_fail
  | d + 1, v0 => ct_of [(false, va_rf v0)] [some (va_rf v0)] (by decide) rfl ⟨rfl, (rf_cat _), trivial⟩ (fun E X n0 s0 σ => tj_J9_length_B0 d v0 σ)
theorem tj_X1_write_B0 {E : tj_E} {X : tj_X} {n0 s0 : Nat} (d : Nat) (v0 : Option Nat) (v1 : Option Nat) (σ : hp_S) : tj_T E X RX1 "write" cX1_write 2 (some .int) (d + 1) [] n0 s0 em_i σ 0 [some (va_rf v0), some (va_rf v1)] [] (fn_X1_write_B0 d v0 v1) := by
  unfold fn_X1_write_B0
  refine tj_aload_n dX1_write_0 rfl ?_
  refine tj_aload_n dX1_write_1 rfl ?_
  refine tj_put fl_X1_95 (nar_rf _) (fit_rf _) dX1_write_2 (fun σ => ?_)
  refine tj_aload_n dX1_write_5 rfl ?_
  refine tj_getR fl_X1_95 dX1_write_6 (fun v101 => ?_)
  refine tj_callV (as := []) (rest := []) (st' := (fun r => [.int r])) (t := 30) (fun a e => by cases e; exact ct_J9_length d _) (by decide) rfl q3036 q686 q687 q108 q688 rfl md_J9_length rfl (by decide) rfl (by decide) dX1_write_9 (fun _ => rfl) (fun r102 σ => ?_) (by decide)
  exact tj_iret dX1_write_12
theorem ct_X1_write : ∀ (d : Nat) (v0 : Option Nat) (v1 : Option Nat), ct_ yX1_write (ws_ yX1_write cX1_write 2 (some .int)) d em_i [va_rf v0, va_rf v1] (fn_X1_write d v0 v1)
  | 0, _, _ => ct_fail
  | d + 1, v0, v1 => ct_of [(false, va_rf v0), (false, va_rf v1)] [some (va_rf v0), some (va_rf v1)] (by decide) rfl ⟨rfl, (rf_cat _), ⟨rfl, (rf_cat _), trivial⟩⟩ (fun E X n0 s0 σ => tj_X1_write_B0 d v0 v1 σ)
theorem tj_J7_newCapacity_B0 {E : tj_E} {X : tj_X} {n0 s0 : Nat} (d : Nat) (v0 : Option Nat) (v1 : Int32) (σ : hp_S) : tj_T E X RJ7 "newCapacity" cJ7_newCapacity 6 (some .int) (d + 1) [] n0 s0 em_i σ 0 [some (va_rf v0), some (.int v1), none, none, none, none] [] (fn_J7_newCapacity_B0 d v0 v1) := by
  unfold fn_J7_newCapacity_B0
  refine tj_aload_n dJ7_newCapacity_0 rfl ?_
  refine tj_getR fl_J7_15 dJ7_newCapacity_1 (fun v101 => ?_)
  refine tj_alen dJ7_newCapacity_4 (fun v102 => ?_)
  refine tj_istore_n dJ7_newCapacity_5 (by decide) rfl [some (va_rf v0), some (.int v1), some (.int v102), none, none, none] rfl ?_
  refine tj_iload_n dJ7_newCapacity_6 rfl ?_
  refine tj_aload_n dJ7_newCapacity_7 rfl ?_
  refine tj_getI fl_J7_22 dJ7_newCapacity_8 (fun v103 => ?_)
  refine tj_ishl dJ7_newCapacity_11 ?_
  refine tj_topi (fun v104 => ?_)
  refine tj_istore_n dJ7_newCapacity_12 (by decide) rfl [some (va_rf v0), some (.int v1), some (.int v102), some (.int v104), none, none] rfl ?_
  refine tj_iload_n dJ7_newCapacity_13 rfl ?_
  refine tj_iload_n dJ7_newCapacity_14 rfl ?_
  refine tj_isub dJ7_newCapacity_15 ?_
  refine tj_topi (fun v105 => ?_)
  refine tj_istore dJ7_newCapacity_16 (by decide) rfl [some (va_rf v0), some (.int v1), some (.int v102), some (.int v104), some (.int v105), none] rfl ?_
  refine tj_iload_n dJ7_newCapacity_18 rfl ?_
  refine tj_iload dJ7_newCapacity_19 rfl ?_
  refine tj_iload_n dJ7_newCapacity_21 rfl ?_
  refine tj_iconst (2 : Int32) dJ7_newCapacity_22 rfl ?_
  refine tj_aload_n dJ7_newCapacity_23 rfl ?_
  refine tj_getI fl_J7_22 dJ7_newCapacity_24 (fun v106 => ?_)
  refine tj_ishl dJ7_newCapacity_27 ?_
  refine tj_iadd dJ7_newCapacity_28 ?_
  refine tj_callS (as := [.int v102, .int v105, .int (v102 + ((2 : Int32) <<< (v106 &&& 31)))]) (rest := []) (st' := (fun r => [.int r])) (ct_J21_newLength d v102 v105 _) q627 q628 q121 q629 md_J21_newLength rfl (by decide) rfl (by decide) dJ7_newCapacity_29 (fun _ => rfl) (fun r107 σ => ?_) (by decide)
  refine tj_istore dJ7_newCapacity_32 (by decide) rfl [some (va_rf v0), some (.int v1), some (.int v102), some (.int v104), some (.int v105), some (.int r107)] rfl ?_
  refine tj_iload dJ7_newCapacity_34 rfl ?_
  refine tj_ldc (v := (2147483647 : Int32)) dJ7_newCapacity_36 q637 ?_
  refine tj_icmp_ne 51 dJ7_newCapacity_38 rfl (fun _ => ?_) (fun _ => ?_)
  · exact tj_fail
  · refine tj_iload dJ7_newCapacity_51 rfl ?_
    refine tj_aload_n dJ7_newCapacity_53 rfl ?_
    refine tj_getI fl_J7_22 dJ7_newCapacity_54 (fun v108 => ?_)
    refine tj_ishr dJ7_newCapacity_57 ?_
    exact tj_iret dJ7_newCapacity_58
theorem ct_J7_newCapacity : ∀ (d : Nat) (v0 : Option Nat) (v1 : Int32), ct_ yJ7_newCapacity (ws_ yJ7_newCapacity cJ7_newCapacity 6 (some .int)) d em_i [va_rf v0, .int v1] (fn_J7_newCapacity d v0 v1)
  | 0, _, _ => ct_fail
  | d + 1, v0, v1 => ct_of [(false, va_rf v0), (false, .int v1)] [some (va_rf v0), some (.int v1), none, none, none, none] (by decide) rfl ⟨rfl, (rf_cat _), ⟨rfl, rfl, trivial⟩⟩ (fun E X n0 s0 σ => tj_J7_newCapacity_B0 d v0 v1 σ)
theorem tj_J23_copyOf_B0 {E : tj_E} {X : tj_X} {n0 s0 : Nat} (d : Nat) (v0 : Option Nat) (v1 : Int32) (σ : hp_S) : tj_T E X RJ23 "copyOf" cJ23_copyOf 3 (some (.array (.byte))) (d + 1) [] n0 s0 em_r σ 0 [some (va_rf v0), some (.int v1), none] [] (fn_J23_copyOf_B0 d v0 v1) := by
  unfold fn_J23_copyOf_B0
  refine tj_iload_n dJ23_copyOf_0 rfl ?_
  refine tj_aload_n dJ23_copyOf_1 rfl ?_
  refine tj_alen dJ23_copyOf_2 (fun v101 => ?_)
  refine tj_icmp_ne 14 dJ23_copyOf_3 rfl (fun _ => ?_) (fun _ => ?_)
  · refine tj_aload_n dJ23_copyOf_6 rfl ?_
    refine tj_clone101 q641 (by decide) dJ23_copyOf_7 (fun a102 σ => ?_)
    refine tj_cast (nm := "[B") q647 ca__B dJ23_copyOf_10 ?_
    exact tj_aret (Or.inr ⟨_, rfl⟩) dJ23_copyOf_13
  · refine tj_iload_n dJ23_copyOf_14 rfl ?_
    refine tj_newB q369 dJ23_copyOf_15 (fun a103 σ => ?_)
    refine tj_astore_n dJ23_copyOf_17 (by decide) rfl [some (va_rf v0), some (.int v1), some (va_rf (some a103))] rfl ?_
    refine tj_aload_n dJ23_copyOf_18 rfl ?_
    refine tj_iconst (0 : Int32) dJ23_copyOf_19 rfl ?_
    refine tj_aload_n dJ23_copyOf_20 rfl ?_
    refine tj_iconst (0 : Int32) dJ23_copyOf_21 rfl ?_
    refine tj_aload_n dJ23_copyOf_22 rfl ?_
    refine tj_alen dJ23_copyOf_23 (fun v104 => ?_)
    refine tj_iload_n dJ23_copyOf_24 rfl ?_
    refine tj_mmin q648 (by simp [rf_cat, cat_i, cat_l, cat_f, cat_d]) dJ23_copyOf_25 ?_
    refine tj_copy101 q651 (by decide) dJ23_copyOf_28 (fun σ => ?_)
    refine tj_aload_n dJ23_copyOf_31 rfl ?_
    exact tj_aret (Or.inr ⟨_, rfl⟩) dJ23_copyOf_32
theorem ct_J23_copyOf : ∀ (d : Nat) (v0 : Option Nat) (v1 : Int32), ct_ yJ23_copyOf (ws_ yJ23_copyOf cJ23_copyOf 3 (some (.array (.byte)))) d em_r [va_rf v0, .int v1] (fn_J23_copyOf d v0 v1)
  | 0, _, _ => ct_fail
  | d + 1, v0, v1 => ct_of [(false, va_rf v0), (false, .int v1)] [some (va_rf v0), some (.int v1), none] (by decide) rfl ⟨rfl, (rf_cat _), ⟨rfl, rfl, trivial⟩⟩ (fun E X n0 s0 σ => tj_J23_copyOf_B0 d v0 v1 σ)
theorem tj_J7_ensureCapacityInternal_B0 {E : tj_E} {X : tj_X} {n0 s0 : Nat} (d : Nat) (v0 : Option Nat) (v1 : Int32) (σ : hp_S) : tj_T E X RJ7 "ensureCapacityInternal" cJ7_ensureCapacityInternal 3 none (d + 1) [] n0 s0 em_v σ 0 [some (va_rf v0), some (.int v1), none] [] (fn_J7_ensureCapacityInternal_B0 d v0 v1) := by
  unfold fn_J7_ensureCapacityInternal_B0
  refine tj_aload_n dJ7_ensureCapacityInternal_0 rfl ?_
  refine tj_getR fl_J7_15 dJ7_ensureCapacityInternal_1 (fun v101 => ?_)
  refine tj_alen dJ7_ensureCapacityInternal_4 (fun v102 => ?_)
  refine tj_aload_n dJ7_ensureCapacityInternal_5 rfl ?_
  refine tj_getI fl_J7_22 dJ7_ensureCapacityInternal_6 (fun v103 => ?_)
  refine tj_ishr dJ7_ensureCapacityInternal_9 ?_
  refine tj_topi (fun v104 => ?_)
  refine tj_istore_n dJ7_ensureCapacityInternal_10 (by decide) rfl [some (va_rf v0), some (.int v1), some (.int v104)] rfl ?_
  refine tj_iload_n dJ7_ensureCapacityInternal_11 rfl ?_
  refine tj_iload_n dJ7_ensureCapacityInternal_12 rfl ?_
  refine tj_isub dJ7_ensureCapacityInternal_13 ?_
  refine tj_if_le 38 dJ7_ensureCapacityInternal_14 rfl (fun _ => ?_) (fun _ => ?_)
  · exact tj_vret dJ7_ensureCapacityInternal_38
  · refine tj_aload_n dJ7_ensureCapacityInternal_17 rfl ?_
    refine tj_aload_n dJ7_ensureCapacityInternal_18 rfl ?_
    refine tj_getR fl_J7_15 dJ7_ensureCapacityInternal_19 (fun v105 => ?_)
    refine tj_aload_n dJ7_ensureCapacityInternal_22 rfl ?_
    refine tj_iload_n dJ7_ensureCapacityInternal_23 rfl ?_
    refine tj_callP (as := [.int v1]) (rest := [va_rf v105, va_rf v0]) (st' := (fun r => [.int r, va_rf v105, va_rf v0])) (t := 29) (fun a e => by cases e; exact ct_J7_newCapacity d _ _) (by decide) rfl q623 q625 q106 (ev_p 4 rfl) q626 md_J7_newCapacity rfl (by decide) rfl (by simp [rf_cat, cat_i, cat_l, cat_f, cat_d]) dJ7_ensureCapacityInternal_24 (fun _ => rfl) (fun r106 σ => ?_) (by decide)
    refine tj_aload_n dJ7_ensureCapacityInternal_27 rfl ?_
    refine tj_getI fl_J7_22 dJ7_ensureCapacityInternal_28 (fun v107 => ?_)
    refine tj_ishl dJ7_ensureCapacityInternal_31 ?_
    refine tj_callS (as := [va_rf v105, .int (r106 <<< (v107 &&& 31))]) (rest := [va_rf v0]) (st' := (fun r => [va_rf r, va_rf v0])) (ct_J23_copyOf d v105 _) q638 q639 q123 q640 md_J23_copyOf rfl (by decide) rfl (by simp [rf_cat, cat_i, cat_l, cat_f, cat_d]) dJ7_ensureCapacityInternal_32 (fun _ => rfl) (fun r108 σ => ?_) (by decide)
    refine tj_put fl_J7_15 (nar_rf _) (fit_rfa _) dJ7_ensureCapacityInternal_35 (fun σ => ?_)
    exact tj_vret dJ7_ensureCapacityInternal_38
theorem ct_J7_ensureCapacityInternal : ∀ (d : Nat) (v0 : Option Nat) (v1 : Int32), ct_ yJ7_ensureCapacityInternal (ws_ yJ7_ensureCapacityInternal cJ7_ensureCapacityInternal 3 none) d em_v [va_rf v0, .int v1] (fn_J7_ensureCapacityInternal d v0 v1)
  | 0, _, _ => ct_fail
  | d + 1, v0, v1 => ct_of [(false, va_rf v0), (false, .int v1)] [some (va_rf v0), some (.int v1), none] (by decide) rfl ⟨rfl, (rf_cat _), ⟨rfl, rfl, trivial⟩⟩ (fun E X n0 s0 σ => tj_J7_ensureCapacityInternal_B0 d v0 v1 σ)
theorem tj_J7_isLatin1_B0 {E : tj_E} {X : tj_X} {n0 s0 : Nat} (d : Nat) (v0 : Option Nat) (σ : hp_S) : tj_T E X RJ7 "isLatin1" cJ7_isLatin1 1 (some .boolean) (d + 1) [] n0 s0 em_i σ 0 [some (va_rf v0)] [] (fn_J7_isLatin1_B0 d v0) := by
  unfold fn_J7_isLatin1_B0
  refine tj_getsI (v := (1 : Int32)) (ev_j 0 rfl) q346 dJ7_isLatin1_0 ?_
  refine tj_if_eq 17 dJ7_isLatin1_3 rfl (fun _ => ?_) (fun _ => ?_)
  · refine tj_iconst (0 : Int32) dJ7_isLatin1_17 rfl ?_
    exact tj_zpure rfl dJ7_isLatin1_18
  · refine tj_aload_n dJ7_isLatin1_6 rfl ?_
    refine tj_getI fl_J7_22 dJ7_isLatin1_7 (fun v101 => ?_)
    refine tj_if_ne 17 dJ7_isLatin1_10 rfl (fun _ => ?_) (fun _ => ?_)
    · refine tj_iconst (1 : Int32) dJ7_isLatin1_13 rfl ?_
      refine tj_goto 18 dJ7_isLatin1_14 rfl ?_
      exact tj_zpure rfl dJ7_isLatin1_18
    · refine tj_iconst (0 : Int32) dJ7_isLatin1_17 rfl ?_
      exact tj_zpure rfl dJ7_isLatin1_18
theorem ct_J7_isLatin1 : ∀ (d : Nat) (v0 : Option Nat), ct_ yJ7_isLatin1 (ws_ yJ7_isLatin1 cJ7_isLatin1 1 (some .boolean)) d em_i [va_rf v0] (fn_J7_isLatin1 d v0)
  | 0, _ => ct_fail
  | d + 1, v0 => ct_of [(false, va_rf v0)] [some (va_rf v0)] (by decide) rfl ⟨rfl, (rf_cat _), trivial⟩ (fun E X n0 s0 σ => tj_J7_isLatin1_B0 d v0 σ)
theorem tj_J27_getChars_J104 {E : tj_E} {X : tj_X} {n0 s0 : Nat} (d : Nat) (l2 : Option Nat) (l5 : Int32) (l6 : Int32) (σ : hp_S) : tj_T E X RJ27 "getChars" cJ27_getChars 7 (some .int) (d + 1) [] n0 s0 em_i σ 104 [none, none, some (va_rf l2), none, none, some (.int l5), some (.int l6)] [] (fn_J27_getChars_J104 d l2 l5 l6) := by
  unfold fn_J27_getChars_J104
  refine tj_iload dJ27_getChars_104 rfl ?_
  refine tj_if_eq 118 dJ27_getChars_106 rfl (fun _ => ?_) (fun _ => ?_)
  · refine tj_iload dJ27_getChars_118 rfl ?_
    exact tj_iret dJ27_getChars_120
  · refine tj_aload_n dJ27_getChars_109 rfl ?_
    refine tj_iinc (-1 : Int32) dJ27_getChars_110 rfl rfl (by decide) trivial [none, none, some (va_rf l2), none, none, some (.int (l5 + (-1 : Int32))), some (.int l6)] rfl ?_
    refine tj_iload dJ27_getChars_113 rfl ?_
    refine tj_bipush (45 : Int32) dJ27_getChars_115 (by decide) ?_
    refine tj_bast dJ27_getChars_117 (fun σ => ?_)
    refine tj_iload dJ27_getChars_118 rfl ?_
    exact tj_iret dJ27_getChars_120
theorem tj_J27_getChars_L22_b {E : tj_E} {X : tj_X} {n0 s0 : Nat} (d : Nat) {b22 : Int32 → Option Nat → Int32 → Int32 → mx_M Int32} (h22 : ∀ (l0 : Int32) (l2 : Option Nat) (l5 : Int32) (l6 : Int32) (σ : hp_S), tj_T E X RJ27 "getChars" cJ27_getChars 7 (some .int) (d + 1) [] n0 s0 em_i σ 22 [some (.int l0), none, some (va_rf l2), none, none, some (.int l5), some (.int l6)] [] (b22 l0 l2 l5 l6)) (l0 : Int32) (l2 : Option Nat) (l5 : Int32) (l6 : Int32) (σ : hp_S) : tj_T E X RJ27 "getChars" cJ27_getChars 7 (some .int) (d + 1) [] n0 s0 em_i σ 22 [some (.int l0), none, some (va_rf l2), none, none, some (.int l5), some (.int l6)] [] (fn_J27_getChars_L22_b d b22 l0 l2 l5 l6) := by
  unfold fn_J27_getChars_L22_b
  refine tj_iload_n dJ27_getChars_22 rfl ?_
  refine tj_bipush (-100 : Int32) dJ27_getChars_23 (by decide) ?_
  refine tj_icmp_gt 72 dJ27_getChars_25 rfl (fun _ => ?_) (fun _ => ?_)
  · refine tj_aload_n dJ27_getChars_72 rfl ?_
    refine tj_iinc (-1 : Int32) dJ27_getChars_73 rfl rfl (by decide) trivial [some (.int l0), none, some (va_rf l2), none, none, some (.int (l5 + (-1 : Int32))), some (.int l6)] rfl ?_
    refine tj_iload dJ27_getChars_76 rfl ?_
    refine tj_gets (ev_s 5 rfl) q741 dJ27_getChars_78 (fun v101 => ?_)
    refine tj_iload_n dJ27_getChars_81 rfl ?_
    refine tj_ineg dJ27_getChars_82 ?_
    refine tj_bald dJ27_getChars_83 (fun v102 => ?_)
    refine tj_bast dJ27_getChars_84 (fun σ => ?_)
    refine tj_iload_n dJ27_getChars_85 rfl ?_
    refine tj_bipush (-9 : Int32) dJ27_getChars_86 (by decide) ?_
    refine tj_icmp_ge 104 dJ27_getChars_88 rfl (fun _ => ?_) (fun _ => ?_)
    · refine tj_wk (L' := [none, none, some (va_rf l2), none, none, some (.int (l5 + (-1 : Int32))), some (.int l6)]) ⟨rfl, rfl, rfl, trivial⟩ ?_
      exact tj_J27_getChars_J104 d l2 _ l6 _
    · refine tj_aload_n dJ27_getChars_91 rfl ?_
      refine tj_iinc (-1 : Int32) dJ27_getChars_92 rfl rfl (by decide) trivial [some (.int l0), none, some (va_rf l2), none, none, some (.int ((l5 + (-1 : Int32)) + (-1 : Int32))), some (.int l6)] rfl ?_
      refine tj_iload dJ27_getChars_95 rfl ?_
      refine tj_gets (ev_s 6 rfl) q743 dJ27_getChars_97 (fun v103 => ?_)
      refine tj_iload_n dJ27_getChars_100 rfl ?_
      refine tj_ineg dJ27_getChars_101 ?_
      refine tj_bald dJ27_getChars_102 (fun v104 => ?_)
      refine tj_bast dJ27_getChars_103 (fun σ => ?_)
      refine tj_wk (L' := [none, none, some (va_rf l2), none, none, some (.int ((l5 + (-1 : Int32)) + (-1 : Int32))), some (.int l6)]) ⟨rfl, rfl, rfl, trivial⟩ ?_
      exact tj_J27_getChars_J104 d l2 _ l6 _
  · refine tj_iload_n dJ27_getChars_28 rfl ?_
    refine tj_bipush (100 : Int32) dJ27_getChars_29 (by decide) ?_
    refine tj_idiv dJ27_getChars_31 (fun v105 => ?_)
    refine tj_istore_n dJ27_getChars_32 (by decide) (rf_cat _) [some (.int l0), none, some (va_rf l2), some (.int v105), none, some (.int l5), some (.int l6)] rfl ?_
    refine tj_iload_n dJ27_getChars_33 rfl ?_
    refine tj_bipush (100 : Int32) dJ27_getChars_34 (by decide) ?_
    refine tj_imul dJ27_getChars_36 ?_
    refine tj_iload_n dJ27_getChars_37 rfl ?_
    refine tj_isub dJ27_getChars_38 ?_
    refine tj_topi (fun v106 => ?_)
    refine tj_istore dJ27_getChars_39 (by decide) rfl [some (.int l0), none, some (va_rf l2), some (.int v105), some (.int v106), some (.int l5), some (.int l6)] rfl ?_
    refine tj_iload_n dJ27_getChars_41 rfl ?_
    refine tj_istore_n dJ27_getChars_42 (by decide) trivial [some (.int v105), none, some (va_rf l2), some (.int v105), some (.int v106), some (.int l5), some (.int l6)] rfl ?_
    refine tj_aload_n dJ27_getChars_43 rfl ?_
    refine tj_iinc (-1 : Int32) dJ27_getChars_44 rfl rfl (by decide) rfl [some (.int v105), none, some (va_rf l2), some (.int v105), some (.int v106), some (.int (l5 + (-1 : Int32))), some (.int l6)] rfl ?_
    refine tj_iload dJ27_getChars_47 rfl ?_
    refine tj_gets (ev_s 5 rfl) q741 dJ27_getChars_49 (fun v107 => ?_)
    refine tj_iload dJ27_getChars_52 rfl ?_
    refine tj_bald dJ27_getChars_54 (fun v108 => ?_)
    refine tj_bast dJ27_getChars_55 (fun σ => ?_)
    refine tj_aload_n dJ27_getChars_56 rfl ?_
    refine tj_iinc (-1 : Int32) dJ27_getChars_57 rfl rfl (by decide) rfl [some (.int v105), none, some (va_rf l2), some (.int v105), some (.int v106), some (.int ((l5 + (-1 : Int32)) + (-1 : Int32))), some (.int l6)] rfl ?_
    refine tj_iload dJ27_getChars_60 rfl ?_
    refine tj_gets (ev_s 6 rfl) q743 dJ27_getChars_62 (fun v109 => ?_)
    refine tj_iload dJ27_getChars_65 rfl ?_
    refine tj_bald dJ27_getChars_67 (fun v110 => ?_)
    refine tj_bast dJ27_getChars_68 (fun σ => ?_)
    refine tj_goto 22 dJ27_getChars_69 rfl ?_
    refine tj_wk (L' := [some (.int v105), none, some (va_rf l2), none, none, some (.int ((l5 + (-1 : Int32)) + (-1 : Int32))), some (.int l6)]) ⟨rfl, rfl, rfl, rfl, trivial⟩ ?_
    exact h22 v105 l2 _ l6 _
theorem tj_J27_getChars_L22 {E : tj_E} {X : tj_X} {n0 s0 : Nat} (d : Nat) : ∀ (k : Nat) (l0 : Int32) (l2 : Option Nat) (l5 : Int32) (l6 : Int32) (σ : hp_S), tj_T E X RJ27 "getChars" cJ27_getChars 7 (some .int) (d + 1) [] n0 s0 em_i σ 22 [some (.int l0), none, some (va_rf l2), none, none, some (.int l5), some (.int l6)] [] (fn_J27_getChars_L22 d k l0 l2 l5 l6) := by
  intro k
  induction k with
  | zero =>
    intro l0 l2 l5 l6 σ
    exact tj_fail
  | succ k ih =>
    intro l0 l2 l5 l6 σ
    exact tj_J27_getChars_L22_b d ih l0 l2 l5 l6 σ
theorem tj_J27_getChars_J12 {E : tj_E} {X : tj_X} {n0 s0 : Nat} (d : Nat) (l0 : Int32) (l2 : Option Nat) (l5 : Int32) (p0 : Int32) (σ : hp_S) : tj_T E X RJ27 "getChars" cJ27_getChars 7 (some .int) (d + 1) [] n0 s0 em_i σ 12 [some (.int l0), none, some (va_rf l2), none, none, some (.int l5), none] [.int p0] (fn_J27_getChars_J12 d l0 l2 l5 p0) := by
  unfold fn_J27_getChars_J12
  refine tj_istore dJ27_getChars_12 (by decide) rfl [some (.int l0), none, some (va_rf l2), none, none, some (.int l5), some (.int p0)] rfl ?_
  refine tj_iload dJ27_getChars_14 rfl ?_
  refine tj_if_ne 22 dJ27_getChars_16 rfl (fun _ => ?_) (fun _ => ?_)
  · refine tj_iload_n dJ27_getChars_19 rfl ?_
    refine tj_ineg dJ27_getChars_20 ?_
    refine tj_topi (fun v101 => ?_)
    refine tj_istore_n dJ27_getChars_21 (by decide) trivial [some (.int v101), none, some (va_rf l2), none, none, some (.int l5), some (.int p0)] rfl ?_
    exact tj_J27_getChars_L22 d mx_K v101 l2 l5 p0 _
  · exact tj_J27_getChars_L22 d mx_K l0 l2 l5 p0 _
theorem tj_J27_getChars_B0 {E : tj_E} {X : tj_X} {n0 s0 : Nat} (d : Nat) (v0 : Int32) (v1 : Int32) (v2 : Option Nat) (σ : hp_S) : tj_T E X RJ27 "getChars" cJ27_getChars 7 (some .int) (d + 1) [] n0 s0 em_i σ 0 [some (.int v0), some (.int v1), some (va_rf v2), none, none, none, none] [] (fn_J27_getChars_B0 d v0 v1 v2) := by
  unfold fn_J27_getChars_B0
  refine tj_iload_n dJ27_getChars_0 rfl ?_
  refine tj_istore dJ27_getChars_1 (by decide) trivial [some (.int v0), some (.int v1), some (va_rf v2), none, none, some (.int v1), none] rfl ?_
  refine tj_iload_n dJ27_getChars_3 rfl ?_
  refine tj_if_ge 11 dJ27_getChars_4 rfl (fun _ => ?_) (fun _ => ?_)
  · refine tj_iconst (0 : Int32) dJ27_getChars_11 rfl ?_
    refine tj_wk (L' := [some (.int v0), none, some (va_rf v2), none, none, some (.int v1), none]) ⟨rfl, rfl, rfl, trivial⟩ ?_
    exact tj_J27_getChars_J12 d v0 v2 v1 (0 : Int32) _
  · refine tj_iconst (1 : Int32) dJ27_getChars_7 rfl ?_
    refine tj_goto 12 dJ27_getChars_8 rfl ?_
    refine tj_wk (L' := [some (.int v0), none, some (va_rf v2), none, none, some (.int v1), none]) ⟨rfl, rfl, rfl, trivial⟩ ?_
    exact tj_J27_getChars_J12 d v0 v2 v1 (1 : Int32) _
theorem ct_J27_getChars : ∀ (d : Nat) (v0 : Int32) (v1 : Int32) (v2 : Option Nat), ct_ yJ27_getChars (ws_ yJ27_getChars cJ27_getChars 7 (some .int)) d em_i [.int v0, .int v1, va_rf v2] (fn_J27_getChars d v0 v1 v2)
  | 0, _, _, _ => ct_fail
  | d + 1, v0, v1, v2 => ct_of [(false, .int v0), (false, .int v1), (false, va_rf v2)] [some (.int v0), some (.int v1), some (va_rf v2), none, none, none, none] (by decide) rfl ⟨rfl, rfl, ⟨rfl, rfl, ⟨rfl, (rf_cat _), trivial⟩⟩⟩ (fun E X n0 s0 σ => tj_J27_getChars_B0 d v0 v1 v2 σ)
theorem tj_J27_stringSize_L16_b {E : tj_E} {X : tj_X} {n0 s0 : Nat} (d : Nat) {b16 : Int32 → Int32 → Int32 → Int32 → mx_M Int32} (h16 : ∀ (l0 : Int32) (l1 : Int32) (l2 : Int32) (l3 : Int32) (σ : hp_S), tj_T E X RJ27 "stringSize" cJ27_stringSize 4 (some .int) (d + 1) [] n0 s0 em_i σ 16 [some (.int l0), some (.int l1), some (.int l2), some (.int l3)] [] (b16 l0 l1 l2 l3)) (l0 : Int32) (l1 : Int32) (l2 : Int32) (l3 : Int32) (σ : hp_S) : tj_T E X RJ27 "stringSize" cJ27_stringSize 4 (some .int) (d + 1) [] n0 s0 em_i σ 16 [some (.int l0), some (.int l1), some (.int l2), some (.int l3)] [] (fn_J27_stringSize_L16_b d b16 l0 l1 l2 l3) := by
  unfold fn_J27_stringSize_L16_b
  refine tj_iload_n dJ27_stringSize_16 rfl ?_
  refine tj_bipush (10 : Int32) dJ27_stringSize_17 (by decide) ?_
  refine tj_icmp_ge 42 dJ27_stringSize_19 rfl (fun _ => ?_) (fun _ => ?_)
  · refine tj_bipush (10 : Int32) dJ27_stringSize_42 (by decide) ?_
    refine tj_iload_n dJ27_stringSize_44 rfl ?_
    refine tj_iadd dJ27_stringSize_45 ?_
    exact tj_iret dJ27_stringSize_46
  · refine tj_iload_n dJ27_stringSize_22 rfl ?_
    refine tj_iload_n dJ27_stringSize_23 rfl ?_
    refine tj_icmp_le 31 dJ27_stringSize_24 rfl (fun _ => ?_) (fun _ => ?_)
    · refine tj_bipush (10 : Int32) dJ27_stringSize_31 (by decide) ?_
      refine tj_iload_n dJ27_stringSize_33 rfl ?_
      refine tj_imul dJ27_stringSize_34 ?_
      refine tj_topi (fun v101 => ?_)
      refine tj_istore_n dJ27_stringSize_35 (by decide) rfl [some (.int l0), some (.int l1), some (.int v101), some (.int l3)] rfl ?_
      refine tj_iinc (1 : Int32) dJ27_stringSize_36 rfl rfl (by decide) rfl [some (.int l0), some (.int l1), some (.int v101), some (.int (l3 + (1 : Int32)))] rfl ?_
      refine tj_goto 16 dJ27_stringSize_39 rfl ?_
      exact h16 l0 l1 v101 _ _
    · refine tj_iload_n dJ27_stringSize_27 rfl ?_
      refine tj_iload_n dJ27_stringSize_28 rfl ?_
      refine tj_iadd dJ27_stringSize_29 ?_
      exact tj_iret dJ27_stringSize_30
theorem tj_J27_stringSize_L16 {E : tj_E} {X : tj_X} {n0 s0 : Nat} (d : Nat) : ∀ (k : Nat) (l0 : Int32) (l1 : Int32) (l2 : Int32) (l3 : Int32) (σ : hp_S), tj_T E X RJ27 "stringSize" cJ27_stringSize 4 (some .int) (d + 1) [] n0 s0 em_i σ 16 [some (.int l0), some (.int l1), some (.int l2), some (.int l3)] [] (fn_J27_stringSize_L16 d k l0 l1 l2 l3) := by
  intro k
  induction k with
  | zero =>
    intro l0 l1 l2 l3 σ
    exact tj_fail
  | succ k ih =>
    intro l0 l1 l2 l3 σ
    exact tj_J27_stringSize_L16_b d ih l0 l1 l2 l3 σ
theorem tj_J27_stringSize_J11 {E : tj_E} {X : tj_X} {n0 s0 : Nat} (d : Nat) (l0 : Int32) (l1 : Int32) (σ : hp_S) : tj_T E X RJ27 "stringSize" cJ27_stringSize 4 (some .int) (d + 1) [] n0 s0 em_i σ 11 [some (.int l0), some (.int l1), none, none] [] (fn_J27_stringSize_J11 d l0 l1) := by
  unfold fn_J27_stringSize_J11
  refine tj_bipush (-10 : Int32) dJ27_stringSize_11 (by decide) ?_
  refine tj_istore_n dJ27_stringSize_13 (by decide) rfl [some (.int l0), some (.int l1), some (.int (-10 : Int32)), none] rfl ?_
  refine tj_iconst (1 : Int32) dJ27_stringSize_14 rfl ?_
  refine tj_istore_n dJ27_stringSize_15 (by decide) rfl [some (.int l0), some (.int l1), some (.int (-10 : Int32)), some (.int (1 : Int32))] rfl ?_
  exact tj_J27_stringSize_L16 d mx_K l0 l1 (-10 : Int32) (1 : Int32) _
theorem tj_J27_stringSize_B0 {E : tj_E} {X : tj_X} {n0 s0 : Nat} (d : Nat) (v0 : Int32) (σ : hp_S) : tj_T E X RJ27 "stringSize" cJ27_stringSize 4 (some .int) (d + 1) [] n0 s0 em_i σ 0 [some (.int v0), none, none, none] [] (fn_J27_stringSize_B0 d v0) := by
  unfold fn_J27_stringSize_B0
  refine tj_iconst (1 : Int32) dJ27_stringSize_0 rfl ?_
  refine tj_istore_n dJ27_stringSize_1 (by decide) rfl [some (.int v0), some (.int (1 : Int32)), none, none] rfl ?_
  refine tj_iload_n dJ27_stringSize_2 rfl ?_
  refine tj_if_lt 11 dJ27_stringSize_3 rfl (fun _ => ?_) (fun _ => ?_)
  · exact tj_J27_stringSize_J11 d v0 (1 : Int32) _
  · refine tj_iconst (0 : Int32) dJ27_stringSize_6 rfl ?_
    refine tj_istore_n dJ27_stringSize_7 (by decide) rfl [some (.int v0), some (.int (0 : Int32)), none, none] rfl ?_
    refine tj_iload_n dJ27_stringSize_8 rfl ?_
    refine tj_ineg dJ27_stringSize_9 ?_
    refine tj_topi (fun v101 => ?_)
    refine tj_istore_n dJ27_stringSize_10 (by decide) trivial [some (.int v101), some (.int (0 : Int32)), none, none] rfl ?_
    exact tj_J27_stringSize_J11 d v101 (0 : Int32) _
theorem ct_J27_stringSize : ∀ (d : Nat) (v0 : Int32), ct_ yJ27_stringSize (ws_ yJ27_stringSize cJ27_stringSize 4 (some .int)) d em_i [.int v0] (fn_J27_stringSize d v0)
  | 0, _ => ct_fail
  | d + 1, v0 => ct_of [(false, .int v0)] [some (.int v0), none, none, none] (by decide) rfl ⟨rfl, rfl, trivial⟩ (fun E X n0 s0 σ => tj_J27_stringSize_B0 d v0 σ)
theorem tj_J7_append_2_B0 {E : tj_E} {X : tj_X} {n0 s0 : Nat} (d : Nat) (v0 : Option Nat) (v1 : Int32) (σ : hp_S) : tj_T E X RJ7 "append" cJ7_append_2 4 (some (.object "java/lang/AbstractStringBuilder")) (d + 1) [] n0 s0 em_r σ 0 [some (va_rf v0), some (.int v1), none, none] [] (fn_J7_append_2_B0 d v0 v1) := by
  unfold fn_J7_append_2_B0
  refine tj_aload_n dJ7_append_2_0 rfl ?_
  refine tj_getI fl_J7_79 dJ7_append_2_1 (fun v101 => ?_)
  refine tj_istore_n dJ7_append_2_4 (by decide) rfl [some (va_rf v0), some (.int v1), some (.int v101), none] rfl ?_
  refine tj_iload_n dJ7_append_2_5 rfl ?_
  refine tj_iload_n dJ7_append_2_6 rfl ?_
  refine tj_callS (as := [.int v1]) (rest := [.int v101]) (st' := (fun r => [.int r, .int v101])) (ct_J27_stringSize d v1) q735 q736 q128 q737 md_J27_stringSize rfl (by decide) rfl (by simp [rf_cat, cat_i, cat_l, cat_f, cat_d]) dJ7_append_2_7 (fun _ => rfl) (fun r102 σ => ?_) (by decide)
  refine tj_iadd dJ7_append_2_10 ?_
  refine tj_topi (fun v103 => ?_)
  refine tj_istore_n dJ7_append_2_11 (by decide) rfl [some (va_rf v0), some (.int v1), some (.int v101), some (.int v103)] rfl ?_
  refine tj_aload_n dJ7_append_2_12 rfl ?_
  refine tj_iload_n dJ7_append_2_13 rfl ?_
  refine tj_callP (as := [.int v103]) (rest := []) (st' := (fun _ => [])) (t := 29) (fun a e => by cases e; exact ct_J7_ensureCapacityInternal d _ _) (by decide) rfl q619 q621 q106 (ev_p 1 rfl) q622 md_J7_ensureCapacityInternal rfl (by decide) rfl (by decide) dJ7_append_2_14 (fun _ => rfl) (fun _ σ => ?_) (by decide)
  refine tj_aload_n dJ7_append_2_17 rfl ?_
  refine tj_callU (as := []) (rest := []) (st' := (fun r => [.int r])) (x0 := ⟨"java/lang/AbstractStringBuilder", "isLatin1", "()Z"⟩) (owner := "java/lang/AbstractStringBuilder") (t := 29) (fun a e => by cases e; exact ct_J7_isLatin1 d _) (by decide) rfl q654 q656 q657 q655 q106 q658 rfl md_o_java_lang_AbstractStringBuilder_isLatin1 rfl (by decide) rfl (by decide) dJ7_append_2_18 (fun _ => rfl) (fun r104 σ => ?_) (by decide)
  refine tj_if_eq 37 dJ7_append_2_21 rfl (fun _ => ?_) (fun _ => ?_)
  · refine tj_iload_n dJ7_append_2_37 rfl ?_
    refine tj_iload_n dJ7_append_2_38 rfl ?_
    refine tj_iload_n dJ7_append_2_39 rfl ?_
    refine tj_aload_n dJ7_append_2_40 rfl ?_
    refine tj_getR fl_J7_15 dJ7_append_2_41 (fun v105 => ?_)
    exact tj_fail
  · refine tj_iload_n dJ7_append_2_24 rfl ?_
    refine tj_iload_n dJ7_append_2_25 rfl ?_
    refine tj_aload_n dJ7_append_2_26 rfl ?_
    refine tj_getR fl_J7_15 dJ7_append_2_27 (fun v106 => ?_)
    refine tj_callS (as := [.int v1, .int v103, va_rf v106]) (rest := []) (st' := (fun r => [.int r])) (ct_J27_getChars d v1 v103 v106) q738 q739 q128 q740 md_J27_getChars rfl (by decide) rfl (by decide) dJ7_append_2_30 (fun _ => rfl) (fun r107 σ => ?_) (by decide)
    refine tj_pop dJ7_append_2_33 rfl ?_
    refine tj_goto 48 dJ7_append_2_34 rfl ?_
    refine tj_aload_n dJ7_append_2_48 rfl ?_
    refine tj_iload_n dJ7_append_2_49 rfl ?_
    refine tj_put fl_J7_79 rfl rfl dJ7_append_2_50 (fun σ => ?_)
    refine tj_aload_n dJ7_append_2_53 rfl ?_
    exact tj_aret (Or.inl ⟨_, rfl⟩) dJ7_append_2_54
theorem ct_J7_append_2 : ∀ (d : Nat) (v0 : Option Nat) (v1 : Int32), ct_ yJ7_append_2 (ws_ yJ7_append_2 cJ7_append_2 4 (some (.object "java/lang/AbstractStringBuilder"))) d em_r [va_rf v0, .int v1] (fn_J7_append_2 d v0 v1)
  | 0, _, _ => ct_fail
  | d + 1, v0, v1 => ct_of [(false, va_rf v0), (false, .int v1)] [some (va_rf v0), some (.int v1), none, none] (by decide) rfl ⟨rfl, (rf_cat _), ⟨rfl, rfl, trivial⟩⟩ (fun E X n0 s0 σ => tj_J7_append_2_B0 d v0 v1 σ)
theorem tj_J8_append_2_B0 {E : tj_E} {X : tj_X} {n0 s0 : Nat} (d : Nat) (v0 : Option Nat) (v1 : Int32) (σ : hp_S) : tj_T E X RJ8 "append" cJ8_append_2 2 (some (.object "java/lang/StringBuilder")) (d + 1) [] n0 s0 em_r σ 0 [some (va_rf v0), some (.int v1)] [] (fn_J8_append_2_B0 d v0 v1) := by
  unfold fn_J8_append_2_B0
  refine tj_aload_n dJ8_append_2_0 rfl ?_
  refine tj_iload_n dJ8_append_2_1 rfl ?_
  refine tj_callSU (as := [.int v1]) (rest := []) (st' := (fun r => [va_rf r])) (t := 29) (fun a e => by cases e; exact ct_J7_append_2 d _ _) (by decide) rfl q732 q4336 q368 q733 q106 q734 (by decide) md_J7_append_2 rfl (by decide) rfl (by decide) dJ8_append_2_2 (fun _ => rfl) (fun r101 σ => ?_) (by decide)
  refine tj_pop dJ8_append_2_5 (rf_cat _) ?_
  refine tj_aload_n dJ8_append_2_6 rfl ?_
  exact tj_aret (Or.inl ⟨_, rfl⟩) dJ8_append_2_7
theorem ct_J8_append_2 : ∀ (d : Nat) (v0 : Option Nat) (v1 : Int32), ct_ yJ8_append_2 (ws_ yJ8_append_2 cJ8_append_2 2 (some (.object "java/lang/StringBuilder"))) d em_r [va_rf v0, .int v1] (fn_J8_append_2 d v0 v1)
  | 0, _, _ => ct_fail
  | d + 1, v0, v1 => ct_of [(false, va_rf v0), (false, .int v1)] [some (va_rf v0), some (.int v1)] (by decide) rfl ⟨rfl, (rf_cat _), ⟨rfl, rfl, trivial⟩⟩ (fun E X n0 s0 σ => tj_J8_append_2_B0 d v0 v1 σ)
theorem tj_J7_inflateIfNeededFor_B0 {E : tj_E} {X : tj_X} {n0 s0 : Nat} (d : Nat) (v0 : Option Nat) (v1 : Option Nat) (σ : hp_S) : tj_T E X RJ7 "inflateIfNeededFor" cJ7_inflateIfNeededFor 2 none (d + 1) [] n0 s0 em_v σ 0 [some (va_rf v0), some (va_rf v1)] [] (fn_J7_inflateIfNeededFor_B0 d v0 v1) := by
  unfold fn_J7_inflateIfNeededFor_B0
  refine tj_getsI (v := (1 : Int32)) (ev_j 0 rfl) q346 dJ7_inflateIfNeededFor_0 ?_
  refine tj_if_eq 21 dJ7_inflateIfNeededFor_3 rfl (fun _ => ?_) (fun _ => ?_)
  · exact tj_vret dJ7_inflateIfNeededFor_21
  · refine tj_aload_n dJ7_inflateIfNeededFor_6 rfl ?_
    refine tj_getI fl_J7_22 dJ7_inflateIfNeededFor_7 (fun v101 => ?_)
    refine tj_aload_n dJ7_inflateIfNeededFor_10 rfl ?_
    refine tj_callV (as := []) (rest := [.int v101]) (st' := (fun r => [.int r, .int v101])) (t := 30) (fun a e => by cases e; exact ct_J9_coder d _) (by decide) rfl q702 q690 q691 q108 q692 rfl md_J9_coder rfl (by decide) rfl (by simp [rf_cat, cat_i, cat_l, cat_f, cat_d]) dJ7_inflateIfNeededFor_11 (fun _ => rfl) (fun r102 σ => ?_) (by decide)
    refine tj_icmp_eq 21 dJ7_inflateIfNeededFor_14 rfl (fun _ => ?_) (fun _ => ?_)
    · exact tj_vret dJ7_inflateIfNeededFor_21
    · refine tj_aload_n dJ7_inflateIfNeededFor_17 rfl ?_
      exact tj_fail
theorem ct_J7_inflateIfNeededFor : ∀ (d : Nat) (v0 : Option Nat) (v1 : Option Nat), ct_ yJ7_inflateIfNeededFor (ws_ yJ7_inflateIfNeededFor cJ7_inflateIfNeededFor 2 none) d em_v [va_rf v0, va_rf v1] (fn_J7_inflateIfNeededFor d v0 v1)
  | 0, _, _ => ct_fail
  | d + 1, v0, v1 => ct_of [(false, va_rf v0), (false, va_rf v1)] [some (va_rf v0), some (va_rf v1)] (by decide) rfl ⟨rfl, (rf_cat _), ⟨rfl, (rf_cat _), trivial⟩⟩ (fun E X n0 s0 σ => tj_J7_inflateIfNeededFor_B0 d v0 v1 σ)
theorem tj_J9_getBytes_B0 {E : tj_E} {X : tj_X} {n0 s0 : Nat} (d : Nat) (v0 : Option Nat) (v1 : Option Nat) (v2 : Int32) (v3 : Int32) (σ : hp_S) : tj_T E X RJ9 "getBytes" cJ9_getBytes 4 none (d + 1) [] n0 s0 em_v σ 0 [some (va_rf v0), some (va_rf v1), some (.int v2), some (.int v3)] [] (fn_J9_getBytes_B0 d v0 v1 v2 v3) := by
  unfold fn_J9_getBytes_B0
  refine tj_aload_n dJ9_getBytes_0 rfl ?_
  refine tj_callV (as := []) (rest := []) (st' := (fun r => [.int r])) (t := 30) (fun a e => by cases e; exact ct_J9_coder d _) (by decide) rfl q689 q690 q691 q108 q692 rfl md_J9_coder rfl (by decide) rfl (by decide) dJ9_getBytes_1 (fun _ => rfl) (fun r101 σ => ?_) (by decide)
  refine tj_iload_n dJ9_getBytes_4 rfl ?_
  refine tj_icmp_ne 28 dJ9_getBytes_5 rfl (fun _ => ?_) (fun _ => ?_)
  · refine tj_aload_n dJ9_getBytes_8 rfl ?_
    refine tj_getR fl_J9_9r dJ9_getBytes_9 (fun v102 => ?_)
    refine tj_iconst (0 : Int32) dJ9_getBytes_12 rfl ?_
    refine tj_aload_n dJ9_getBytes_13 rfl ?_
    refine tj_iload_n dJ9_getBytes_14 rfl ?_
    refine tj_iload_n dJ9_getBytes_15 rfl ?_
    refine tj_ishl dJ9_getBytes_16 ?_
    refine tj_aload_n dJ9_getBytes_17 rfl ?_
    refine tj_getR fl_J9_9r dJ9_getBytes_18 (fun v103 => ?_)
    refine tj_alen dJ9_getBytes_21 (fun v104 => ?_)
    refine tj_copy101 q726 (by decide) dJ9_getBytes_22 (fun σ => ?_)
    refine tj_goto 43 dJ9_getBytes_25 rfl ?_
    exact tj_vret dJ9_getBytes_43
  · refine tj_aload_n dJ9_getBytes_28 rfl ?_
    refine tj_getR fl_J9_9r dJ9_getBytes_29 (fun v105 => ?_)
    refine tj_iconst (0 : Int32) dJ9_getBytes_32 rfl ?_
    refine tj_aload_n dJ9_getBytes_33 rfl ?_
    refine tj_iload_n dJ9_getBytes_34 rfl ?_
    refine tj_aload_n dJ9_getBytes_35 rfl ?_
    refine tj_getR fl_J9_9r dJ9_getBytes_36 (fun v106 => ?_)
    refine tj_alen dJ9_getBytes_39 (fun v107 => ?_)
    exact tj_fail
theorem ct_J9_getBytes : ∀ (d : Nat) (v0 : Option Nat) (v1 : Option Nat) (v2 : Int32) (v3 : Int32), ct_ yJ9_getBytes (ws_ yJ9_getBytes cJ9_getBytes 4 none) d em_v [va_rf v0, va_rf v1, .int v2, .int v3] (fn_J9_getBytes d v0 v1 v2 v3)
  | 0, _, _, _, _ => ct_fail
  | d + 1, v0, v1, v2, v3 => ct_of [(false, va_rf v0), (false, va_rf v1), (false, .int v2), (false, .int v3)] [some (va_rf v0), some (va_rf v1), some (.int v2), some (.int v3)] (by decide) rfl ⟨rfl, (rf_cat _), ⟨rfl, (rf_cat _), ⟨rfl, rfl, ⟨rfl, rfl, trivial⟩⟩⟩⟩ (fun E X n0 s0 σ => tj_J9_getBytes_B0 d v0 v1 v2 v3 σ)
theorem tj_J7_putStringAt_B0 {E : tj_E} {X : tj_X} {n0 s0 : Nat} (d : Nat) (v0 : Option Nat) (v1 : Int32) (v2 : Option Nat) (σ : hp_S) : tj_T E X RJ7 "putStringAt" cJ7_putStringAt 3 none (d + 1) [] n0 s0 em_v σ 0 [some (va_rf v0), some (.int v1), some (va_rf v2)] [] (fn_J7_putStringAt_B0 d v0 v1 v2) := by
  unfold fn_J7_putStringAt_B0
  refine tj_aload_n dJ7_putStringAt_0 rfl ?_
  refine tj_aload_n dJ7_putStringAt_1 rfl ?_
  refine tj_callP (as := [va_rf v2]) (rest := []) (st' := (fun _ => [])) (t := 29) (fun a e => by cases e; exact ct_J7_inflateIfNeededFor d _ _) (by decide) rfl q698 q700 q106 (ev_p 3 rfl) q701 md_J7_inflateIfNeededFor rfl (by decide) rfl (by decide) dJ7_putStringAt_2 (fun _ => rfl) (fun _ σ => ?_) (by decide)
  refine tj_aload_n dJ7_putStringAt_5 rfl ?_
  refine tj_aload_n dJ7_putStringAt_6 rfl ?_
  refine tj_getR fl_J7_15 dJ7_putStringAt_7 (fun v101 => ?_)
  refine tj_iload_n dJ7_putStringAt_10 rfl ?_
  refine tj_aload_n dJ7_putStringAt_11 rfl ?_
  refine tj_getI fl_J7_22 dJ7_putStringAt_12 (fun v102 => ?_)
  refine tj_callV (as := [va_rf v101, .int v1, .int v102]) (rest := []) (st' := (fun _ => [])) (t := 30) (fun a e => by cases e; exact ct_J9_getBytes d _ _ _ _) (by decide) rfl q722 q723 q724 q108 q725 rfl md_J9_getBytes rfl (by decide) rfl (by decide) dJ7_putStringAt_15 (fun _ => rfl) (fun _ σ => ?_) (by decide)
  exact tj_vret dJ7_putStringAt_18
theorem ct_J7_putStringAt : ∀ (d : Nat) (v0 : Option Nat) (v1 : Int32) (v2 : Option Nat), ct_ yJ7_putStringAt (ws_ yJ7_putStringAt cJ7_putStringAt 3 none) d em_v [va_rf v0, .int v1, va_rf v2] (fn_J7_putStringAt d v0 v1 v2)
  | 0, _, _, _ => ct_fail
  | d + 1, v0, v1, v2 => ct_of [(false, va_rf v0), (false, .int v1), (false, va_rf v2)] [some (va_rf v0), some (.int v1), some (va_rf v2)] (by decide) rfl ⟨rfl, (rf_cat _), ⟨rfl, rfl, ⟨rfl, (rf_cat _), trivial⟩⟩⟩ (fun E X n0 s0 σ => tj_J7_putStringAt_B0 d v0 v1 v2 σ)
theorem tj_J7_append_B0 {E : tj_E} {X : tj_X} {n0 s0 : Nat} (d : Nat) (v0 : Option Nat) (v1 : Option Nat) (σ : hp_S) : tj_T E X RJ7 "append" cJ7_append 3 (some (.object "java/lang/AbstractStringBuilder")) (d + 1) [] n0 s0 em_r σ 0 [some (va_rf v0), some (va_rf v1), none] [] (fn_J7_append_B0 d v0 v1) := by
  unfold fn_J7_append_B0
  refine tj_aload_n dJ7_append_0 rfl ?_
  refine tj_ifnonnull 9 dJ7_append_1 rfl (fun _ => ?_) (fun _ _ => ?_)
  · refine tj_aload_n dJ7_append_4 rfl ?_
    exact tj_fail
  · refine tj_aload_n dJ7_append_9 rfl ?_
    refine tj_callV (as := []) (rest := []) (st' := (fun r => [.int r])) (t := 30) (fun a e => by cases e; exact ct_J9_length d _) (by decide) rfl q685 q686 q687 q108 q688 rfl md_J9_length rfl (by decide) rfl (by decide) dJ7_append_10 (fun _ => rfl) (fun r101 σ => ?_) (by decide)
    refine tj_istore_n dJ7_append_13 (by decide) (rf_cat _) [some (va_rf v0), some (va_rf v1), some (.int r101)] rfl ?_
    refine tj_aload_n dJ7_append_14 rfl ?_
    refine tj_aload_n dJ7_append_15 rfl ?_
    refine tj_getI fl_J7_79 dJ7_append_16 (fun v102 => ?_)
    refine tj_iload_n dJ7_append_19 rfl ?_
    refine tj_iadd dJ7_append_20 ?_
    refine tj_callP (as := [.int (v102 + r101)]) (rest := []) (st' := (fun _ => [])) (t := 29) (fun a e => by cases e; exact ct_J7_ensureCapacityInternal d _ _) (by decide) rfl q619 q621 q106 (ev_p 1 rfl) q622 md_J7_ensureCapacityInternal rfl (by decide) rfl (by decide) dJ7_append_21 (fun _ => rfl) (fun _ σ => ?_) (by decide)
    refine tj_aload_n dJ7_append_24 rfl ?_
    refine tj_aload_n dJ7_append_25 rfl ?_
    refine tj_getI fl_J7_79 dJ7_append_26 (fun v103 => ?_)
    refine tj_aload_n dJ7_append_29 rfl ?_
    refine tj_callP (as := [.int v103, va_rf v1]) (rest := []) (st' := (fun _ => [])) (t := 29) (fun a e => by cases e; exact ct_J7_putStringAt d _ _ _) (by decide) rfl q694 q696 q106 (ev_p 5 rfl) q697 md_J7_putStringAt rfl (by decide) rfl (by decide) dJ7_append_30 (fun _ => rfl) (fun _ σ => ?_) (by decide)
    refine tj_aload_n dJ7_append_33 rfl ?_
    refine tj_dup dJ7_append_34 (rf_cat _) ?_
    refine tj_getI fl_J7_79 dJ7_append_35 (fun v104 => ?_)
    refine tj_iload_n dJ7_append_38 rfl ?_
    refine tj_iadd dJ7_append_39 ?_
    refine tj_put fl_J7_79 rfl rfl dJ7_append_40 (fun σ => ?_)
    refine tj_aload_n dJ7_append_43 rfl ?_
    exact tj_aret (Or.inl ⟨_, rfl⟩) dJ7_append_44
theorem ct_J7_append : ∀ (d : Nat) (v0 : Option Nat) (v1 : Option Nat), ct_ yJ7_append (ws_ yJ7_append cJ7_append 3 (some (.object "java/lang/AbstractStringBuilder"))) d em_r [va_rf v0, va_rf v1] (fn_J7_append d v0 v1)
  | 0, _, _ => ct_fail
  | d + 1, v0, v1 => ct_of [(false, va_rf v0), (false, va_rf v1)] [some (va_rf v0), some (va_rf v1), none] (by decide) rfl ⟨rfl, (rf_cat _), ⟨rfl, (rf_cat _), trivial⟩⟩ (fun E X n0 s0 σ => tj_J7_append_B0 d v0 v1 σ)
theorem tj_J8_append_B0 {E : tj_E} {X : tj_X} {n0 s0 : Nat} (d : Nat) (v0 : Option Nat) (v1 : Option Nat) (σ : hp_S) : tj_T E X RJ8 "append" cJ8_append 2 (some (.object "java/lang/StringBuilder")) (d + 1) [] n0 s0 em_r σ 0 [some (va_rf v0), some (va_rf v1)] [] (fn_J8_append_B0 d v0 v1) := by
  unfold fn_J8_append_B0
  refine tj_aload_n dJ8_append_0 rfl ?_
  refine tj_aload_n dJ8_append_1 rfl ?_
  refine tj_callSU (as := [va_rf v1]) (rest := []) (st' := (fun r => [va_rf r])) (t := 29) (fun a e => by cases e; exact ct_J7_append d _ _) (by decide) rfl q612 q4329 q368 q613 q106 q614 (by decide) md_J7_append rfl (by decide) rfl (by decide) dJ8_append_2 (fun _ => rfl) (fun r101 σ => ?_) (by decide)
  refine tj_pop dJ8_append_5 (rf_cat _) ?_
  refine tj_aload_n dJ8_append_6 rfl ?_
  exact tj_aret (Or.inl ⟨_, rfl⟩) dJ8_append_7
theorem ct_J8_append : ∀ (d : Nat) (v0 : Option Nat) (v1 : Option Nat), ct_ yJ8_append (ws_ yJ8_append cJ8_append 2 (some (.object "java/lang/StringBuilder"))) d em_r [va_rf v0, va_rf v1] (fn_J8_append d v0 v1)
  | 0, _, _ => ct_fail
  | d + 1, v0, v1 => ct_of [(false, va_rf v0), (false, va_rf v1)] [some (va_rf v0), some (va_rf v1)] (by decide) rfl ⟨rfl, (rf_cat _), ⟨rfl, (rf_cat _), trivial⟩⟩ (fun E X n0 s0 σ => tj_J8_append_B0 d v0 v1 σ)
theorem tj_J7_getValue_B0 {E : tj_E} {X : tj_X} {n0 s0 : Nat} (d : Nat) (v0 : Option Nat) (σ : hp_S) : tj_T E X RJ7 "getValue" cJ7_getValue 1 (some (.array (.byte))) (d + 1) [] n0 s0 em_r σ 0 [some (va_rf v0)] [] (fn_J7_getValue_B0 d v0) := by
  unfold fn_J7_getValue_B0
  refine tj_aload_n dJ7_getValue_0 rfl ?_
  refine tj_getR fl_J7_15 dJ7_getValue_1 (fun v101 => ?_)
  exact tj_aret (Or.inr ⟨_, rfl⟩) dJ7_getValue_4
theorem ct_J7_getValue : ∀ (d : Nat) (v0 : Option Nat), ct_ yJ7_getValue (ws_ yJ7_getValue cJ7_getValue 1 (some (.array (.byte)))) d em_r [va_rf v0] (fn_J7_getValue d v0)
  | 0, _ => ct_fail
  | d + 1, v0 => ct_of [(false, va_rf v0)] [some (va_rf v0)] (by decide) rfl ⟨rfl, (rf_cat _), trivial⟩ (fun E X n0 s0 σ => tj_J7_getValue_B0 d v0 σ)
theorem tj_J7_length_B0 {E : tj_E} {X : tj_X} {n0 s0 : Nat} (d : Nat) (v0 : Option Nat) (σ : hp_S) : tj_T E X RJ7 "length" cJ7_length 1 (some .int) (d + 1) [] n0 s0 em_i σ 0 [some (va_rf v0)] [] (fn_J7_length_B0 d v0) := by
  unfold fn_J7_length_B0
  refine tj_aload_n dJ7_length_0 rfl ?_
  refine tj_getI fl_J7_79 dJ7_length_1 (fun v101 => ?_)
  exact tj_iret dJ7_length_4
theorem ct_J7_length : ∀ (d : Nat) (v0 : Option Nat), ct_ yJ7_length (ws_ yJ7_length cJ7_length 1 (some .int)) d em_i [va_rf v0] (fn_J7_length d v0)
  | 0, _ => ct_fail
  | d + 1, v0 => ct_of [(false, va_rf v0)] [some (va_rf v0)] (by decide) rfl ⟨rfl, (rf_cat _), trivial⟩ (fun E X n0 s0 σ => tj_J7_length_B0 d v0 σ)
theorem tj_J8_length_B0 {E : tj_E} {X : tj_X} {n0 s0 : Nat} (d : Nat) (v0 : Option Nat) (σ : hp_S) : tj_T E X RJ8 "length" cJ8_length 1 (some .int) (d + 1) [] n0 s0 em_i σ 0 [some (va_rf v0)] [] (fn_J8_length_B0 d v0) := by
  unfold fn_J8_length_B0
  refine tj_aload_n dJ8_length_0 rfl ?_
  refine tj_callSU (as := []) (rest := []) (st' := (fun r => [.int r])) (t := 29) (fun a e => by cases e; exact ct_J7_length d _) (by decide) rfl q778 q774 q368 q773 q106 q779 (by decide) md_J7_length rfl (by decide) rfl (by decide) dJ8_length_1 (fun _ => rfl) (fun r101 σ => ?_) (by decide)
  exact tj_iret dJ8_length_4
theorem ct_J8_length : ∀ (d : Nat) (v0 : Option Nat), ct_ yJ8_length (ws_ yJ8_length cJ8_length 1 (some .int)) d em_i [va_rf v0] (fn_J8_length d v0)
  | 0, _ => ct_fail
  | d + 1, v0 => ct_of [(false, va_rf v0)] [some (va_rf v0)] (by decide) rfl ⟨rfl, (rf_cat _), trivial⟩ (fun E X n0 s0 σ => tj_J8_length_B0 d v0 σ)
theorem tj_J23_checkLength_B0 {E : tj_E} {X : tj_X} {n0 s0 : Nat} (d : Nat) (v0 : Int32) (v1 : Int32) (σ : hp_S) : tj_T E X RJ23 "checkLength" cJ23_checkLength 2 none (d + 1) [] n0 s0 em_v σ 0 [some (.int v0), some (.int v1)] [] (fn_J23_checkLength_B0 d v0 v1) := by
  unfold fn_J23_checkLength_B0
  refine tj_iload_n dJ23_checkLength_0 rfl ?_
  refine tj_iload_n dJ23_checkLength_1 rfl ?_
  refine tj_icmp_ge 37 dJ23_checkLength_2 rfl (fun _ => ?_) (fun _ => ?_)
  · exact tj_vret dJ23_checkLength_37
  · exact tj_fail
theorem ct_J23_checkLength : ∀ (d : Nat) (v0 : Int32) (v1 : Int32), ct_ yJ23_checkLength (ws_ yJ23_checkLength cJ23_checkLength 2 none) d em_v [.int v0, .int v1] (fn_J23_checkLength d v0 v1)
  | 0, _, _ => ct_fail
  | d + 1, v0, v1 => ct_of [(false, .int v0), (false, .int v1)] [some (.int v0), some (.int v1)] (by decide) rfl ⟨rfl, rfl, ⟨rfl, rfl, trivial⟩⟩ (fun E X n0 s0 σ => tj_J23_checkLength_B0 d v0 v1 σ)
theorem tj_J23_copyOfRangeByte_B0 {E : tj_E} {X : tj_X} {n0 s0 : Nat} (d : Nat) (v0 : Option Nat) (v1 : Int32) (v2 : Int32) (σ : hp_S) : tj_T E X RJ23 "copyOfRangeByte" cJ23_copyOfRangeByte 5 (some (.array (.byte))) (d + 1) [] n0 s0 em_r σ 0 [some (va_rf v0), some (.int v1), some (.int v2), none, none] [] (fn_J23_copyOfRangeByte_B0 d v0 v1 v2) := by
  unfold fn_J23_copyOfRangeByte_B0
  refine tj_iload_n dJ23_copyOfRangeByte_0 rfl ?_
  refine tj_iload_n dJ23_copyOfRangeByte_1 rfl ?_
  refine tj_callS (as := [.int v1, .int v2]) (rest := []) (st' := (fun _ => [])) (ct_J23_checkLength d v1 v2) q787 q788 q123 q789 md_J23_checkLength rfl (by decide) rfl (by decide) dJ23_copyOfRangeByte_2 (fun _ => rfl) (fun _ σ => ?_) (by decide)
  refine tj_iload_n dJ23_copyOfRangeByte_5 rfl ?_
  refine tj_iload_n dJ23_copyOfRangeByte_6 rfl ?_
  refine tj_isub dJ23_copyOfRangeByte_7 ?_
  refine tj_topi (fun v101 => ?_)
  refine tj_istore_n dJ23_copyOfRangeByte_8 (by decide) rfl [some (va_rf v0), some (.int v1), some (.int v2), some (.int v101), none] rfl ?_
  refine tj_iload_n dJ23_copyOfRangeByte_9 rfl ?_
  refine tj_newB q369 dJ23_copyOfRangeByte_10 (fun a102 σ => ?_)
  refine tj_astore dJ23_copyOfRangeByte_12 (by decide) rfl [some (va_rf v0), some (.int v1), some (.int v2), some (.int v101), some (va_rf (some a102))] rfl ?_
  refine tj_aload_n dJ23_copyOfRangeByte_14 rfl ?_
  refine tj_iload_n dJ23_copyOfRangeByte_15 rfl ?_
  refine tj_aload dJ23_copyOfRangeByte_16 rfl ?_
  refine tj_iconst (0 : Int32) dJ23_copyOfRangeByte_18 rfl ?_
  refine tj_aload_n dJ23_copyOfRangeByte_19 rfl ?_
  refine tj_alen dJ23_copyOfRangeByte_20 (fun v103 => ?_)
  refine tj_iload_n dJ23_copyOfRangeByte_21 rfl ?_
  refine tj_isub dJ23_copyOfRangeByte_22 ?_
  refine tj_iload_n dJ23_copyOfRangeByte_23 rfl ?_
  refine tj_mmin q648 (by simp [rf_cat, cat_i, cat_l, cat_f, cat_d]) dJ23_copyOfRangeByte_24 ?_
  refine tj_copy101 q651 (by decide) dJ23_copyOfRangeByte_27 (fun σ => ?_)
  refine tj_aload dJ23_copyOfRangeByte_30 rfl ?_
  exact tj_aret (Or.inr ⟨_, rfl⟩) dJ23_copyOfRangeByte_32
theorem ct_J23_copyOfRangeByte : ∀ (d : Nat) (v0 : Option Nat) (v1 : Int32) (v2 : Int32), ct_ yJ23_copyOfRangeByte (ws_ yJ23_copyOfRangeByte cJ23_copyOfRangeByte 5 (some (.array (.byte)))) d em_r [va_rf v0, .int v1, .int v2] (fn_J23_copyOfRangeByte d v0 v1 v2)
  | 0, _, _, _ => ct_fail
  | d + 1, v0, v1, v2 => ct_of [(false, va_rf v0), (false, .int v1), (false, .int v2)] [some (va_rf v0), some (.int v1), some (.int v2), none, none] (by decide) rfl ⟨rfl, (rf_cat _), ⟨rfl, rfl, ⟨rfl, rfl, trivial⟩⟩⟩ (fun E X n0 s0 σ => tj_J23_copyOfRangeByte_B0 d v0 v1 v2 σ)
theorem tj_J23_copyOfRange_J10 {E : tj_E} {X : tj_X} {n0 s0 : Nat} (d : Nat) (l0 : Option Nat) (l1 : Int32) (l2 : Int32) (σ : hp_S) : tj_T E X RJ23 "copyOfRange" cJ23_copyOfRange 3 (some (.array (.byte))) (d + 1) [] n0 s0 em_r σ 10 [some (va_rf l0), some (.int l1), some (.int l2)] [] (fn_J23_copyOfRange_J10 d l0 l1 l2) := by
  unfold fn_J23_copyOfRange_J10
  refine tj_aload_n dJ23_copyOfRange_10 rfl ?_
  refine tj_iload_n dJ23_copyOfRange_11 rfl ?_
  refine tj_iload_n dJ23_copyOfRange_12 rfl ?_
  refine tj_callS (as := [va_rf l0, .int l1, .int l2]) (rest := []) (st' := (fun r => [va_rf r])) (ct_J23_copyOfRangeByte d l0 l1 l2) q784 q785 q123 q786 md_J23_copyOfRangeByte rfl (by decide) rfl (by decide) dJ23_copyOfRange_13 (fun _ => rfl) (fun r101 σ => ?_) (by decide)
  exact tj_aret (Or.inr ⟨_, rfl⟩) dJ23_copyOfRange_16
theorem tj_J23_copyOfRange_B0 {E : tj_E} {X : tj_X} {n0 s0 : Nat} (d : Nat) (v0 : Option Nat) (v1 : Int32) (v2 : Int32) (σ : hp_S) : tj_T E X RJ23 "copyOfRange" cJ23_copyOfRange 3 (some (.array (.byte))) (d + 1) [] n0 s0 em_r σ 0 [some (va_rf v0), some (.int v1), some (.int v2)] [] (fn_J23_copyOfRange_B0 d v0 v1 v2) := by
  unfold fn_J23_copyOfRange_B0
  refine tj_iload_n dJ23_copyOfRange_0 rfl ?_
  refine tj_if_ne 10 dJ23_copyOfRange_1 rfl (fun _ => ?_) (fun _ => ?_)
  · refine tj_iload_n dJ23_copyOfRange_4 rfl ?_
    refine tj_aload_n dJ23_copyOfRange_5 rfl ?_
    refine tj_alen dJ23_copyOfRange_6 (fun v101 => ?_)
    refine tj_icmp_eq 17 dJ23_copyOfRange_7 rfl (fun _ => ?_) (fun _ => ?_)
    · refine tj_aload_n dJ23_copyOfRange_17 rfl ?_
      refine tj_clone101 q641 (by decide) dJ23_copyOfRange_18 (fun a102 σ => ?_)
      refine tj_cast (nm := "[B") q647 ca__B dJ23_copyOfRange_21 ?_
      exact tj_aret (Or.inr ⟨_, rfl⟩) dJ23_copyOfRange_24
    · exact tj_J23_copyOfRange_J10 d v0 v1 v2 _
  · exact tj_J23_copyOfRange_J10 d v0 v1 v2 _
theorem ct_J23_copyOfRange : ∀ (d : Nat) (v0 : Option Nat) (v1 : Int32) (v2 : Int32), ct_ yJ23_copyOfRange (ws_ yJ23_copyOfRange cJ23_copyOfRange 3 (some (.array (.byte)))) d em_r [va_rf v0, .int v1, .int v2] (fn_J23_copyOfRange d v0 v1 v2)
  | 0, _, _, _ => ct_fail
  | d + 1, v0, v1, v2 => ct_of [(false, va_rf v0), (false, .int v1), (false, .int v2)] [some (va_rf v0), some (.int v1), some (.int v2)] (by decide) rfl ⟨rfl, (rf_cat _), ⟨rfl, rfl, ⟨rfl, rfl, trivial⟩⟩⟩ (fun E X n0 s0 σ => tj_J23_copyOfRange_B0 d v0 v1 v2 σ)
theorem tj_J9_init_2_J79 {E : tj_E} {X : tj_X} {n0 s0 : Nat} (d : Nat) (l0 : Option Nat) (l3 : Option Nat) (l4 : Int32) (σ : hp_S) : tj_T E X RJ9 "<init>" cJ9_init_2 5 none (d + 1) [] n0 s0 em_v σ 79 [some (va_rf l0), none, none, some (va_rf l3), some (.int l4)] [] (fn_J9_init_2_J79 d l0 l3 l4) := by
  unfold fn_J9_init_2_J79
  refine tj_aload_n dJ9_init_2_79 rfl ?_
  refine tj_iconst (1 : Int32) dJ9_init_2_80 rfl ?_
  refine tj_putF fl_J9_15 rfl rfl dJ9_init_2_81 (fun σ => ?_)
  refine tj_aload_n dJ9_init_2_84 rfl ?_
  refine tj_aload_n dJ9_init_2_85 rfl ?_
  refine tj_iconst (0 : Int32) dJ9_init_2_86 rfl ?_
  refine tj_iload dJ9_init_2_87 rfl ?_
  refine tj_iconst (1 : Int32) dJ9_init_2_89 rfl ?_
  refine tj_ishl dJ9_init_2_90 ?_
  refine tj_callS (as := [va_rf l3, .int (0 : Int32), .int (l4 <<< ((1 : Int32) &&& 31))]) (rest := [va_rf l0]) (st' := (fun r => [va_rf r, va_rf l0])) (ct_J23_copyOfRange d l3 (0 : Int32) _) q781 q782 q123 q783 md_J23_copyOfRange rfl (by decide) rfl (by simp [rf_cat, cat_i, cat_l, cat_f, cat_d]) dJ9_init_2_91 (fun _ => rfl) (fun r101 σ => ?_) (by decide)
  refine tj_putF fl_J9_9 (nar_rf _) (fit_rfa _) dJ9_init_2_94 (fun σ => ?_)
  exact tj_vret dJ9_init_2_97
theorem tj_J9_init_2_B0 {E : tj_E} {X : tj_X} {n0 s0 : Nat} (d : Nat) (v0 : Option Nat) (v1 : Option Nat) (v2 : Option Nat) (σ : hp_S) : tj_T E X RJ9 "<init>" cJ9_init_2 5 none (d + 1) [] n0 s0 em_v σ 0 [some (va_rf v0), some (va_rf v1), some (va_rf v2), none, none] [] (fn_J9_init_2_B0 d v0 v1 v2) := by
  unfold fn_J9_init_2_B0
  refine tj_aload_n dJ9_init_2_0 rfl ?_
  refine tj_objInit q766 q183 q184 (by decide) dJ9_init_2_1 (fun _ _ => ?_)
  refine tj_aload_n dJ9_init_2_4 rfl ?_
  refine tj_callU (as := []) (rest := []) (st' := (fun r => [va_rf r])) (x0 := ⟨"java/lang/AbstractStringBuilder", "getValue", "()[B"⟩) (owner := "java/lang/AbstractStringBuilder") (t := 29) (fun a e => by cases e; exact ct_J7_getValue d _) (by decide) rfl q767 q769 q770 q768 q106 q771 rfl md_o_java_lang_AbstractStringBuilder_getValue rfl (by decide) rfl (by decide) dJ9_init_2_5 (fun _ => rfl) (fun r102 σ => ?_) (by decide)
  refine tj_astore_n dJ9_init_2_8 (by decide) (rf_cat _) [some (va_rf v0), some (va_rf v1), some (va_rf v2), some (va_rf r102), none] rfl ?_
  refine tj_aload_n dJ9_init_2_9 rfl ?_
  refine tj_callO (as := []) (rest := []) (st' := (fun r => [.int r])) (x0 := ⟨"java/lang/AbstractStringBuilder", "length", "()I"⟩) (owner := "java/lang/AbstractStringBuilder") (t := 29) (fun a e => by cases e; exact ct_J8_length d _) (by decide) rfl q772 q774 q775 q776 q107 q777 q773 q779 md_o_java_lang_AbstractStringBuilder_length rfl (by decide) rfl (by decide) dJ9_init_2_10 (fun _ => rfl) (fun r103 σ => ?_) (by decide)
  refine tj_istore dJ9_init_2_13 (by decide) (rf_cat _) [some (va_rf v0), some (va_rf v1), some (va_rf v2), some (va_rf r102), some (.int r103)] rfl ?_
  refine tj_aload_n dJ9_init_2_15 rfl ?_
  refine tj_callU (as := []) (rest := []) (st' := (fun r => [.int r])) (x0 := ⟨"java/lang/AbstractStringBuilder", "isLatin1", "()Z"⟩) (owner := "java/lang/AbstractStringBuilder") (t := 29) (fun a e => by cases e; exact ct_J7_isLatin1 d _) (by decide) rfl q780 q656 q657 q655 q106 q658 rfl md_o_java_lang_AbstractStringBuilder_isLatin1 rfl (by decide) rfl (by decide) dJ9_init_2_16 (fun _ => rfl) (fun r104 σ => ?_) (by decide)
  refine tj_if_eq 41 dJ9_init_2_19 rfl (fun _ => ?_) (fun _ => ?_)
  · refine tj_getsI (v := (1 : Int32)) (ev_j 0 rfl) q693 dJ9_init_2_41 ?_
    refine tj_if_eq 79 dJ9_init_2_44 rfl (fun _ => ?_) (fun _ => ?_)
    · refine tj_wk (L' := [some (va_rf v0), none, none, some (va_rf r102), some (.int r103)]) ⟨rfl, rfl, rfl, trivial⟩ ?_
      exact tj_J9_init_2_J79 d v0 r102 r103 _
    · refine tj_aload_n dJ9_init_2_47 rfl ?_
      refine tj_getI fl_J9_1048 dJ9_init_2_48 (fun v105 => ?_)
      refine tj_if_eq 79 dJ9_init_2_51 rfl (fun _ => ?_) (fun _ => ?_)
      · refine tj_wk (L' := [some (va_rf v0), none, none, some (va_rf r102), some (.int r103)]) ⟨rfl, rfl, rfl, trivial⟩ ?_
        exact tj_J9_init_2_J79 d v0 r102 r103 _
      · refine tj_aload_n dJ9_init_2_54 rfl ?_
        refine tj_aload_n dJ9_init_2_55 rfl ?_
        refine tj_iconst (0 : Int32) dJ9_init_2_56 rfl ?_
        refine tj_iload dJ9_init_2_57 rfl ?_
        exact tj_fail
  · refine tj_aload_n dJ9_init_2_22 rfl ?_
    refine tj_iconst (0 : Int32) dJ9_init_2_23 rfl ?_
    refine tj_putF fl_J9_15 rfl rfl dJ9_init_2_24 (fun σ => ?_)
    refine tj_aload_n dJ9_init_2_27 rfl ?_
    refine tj_aload_n dJ9_init_2_28 rfl ?_
    refine tj_iconst (0 : Int32) dJ9_init_2_29 rfl ?_
    refine tj_iload dJ9_init_2_30 rfl ?_
    refine tj_callS (as := [va_rf r102, .int (0 : Int32), .int r103]) (rest := [va_rf v0]) (st' := (fun r => [va_rf r, va_rf v0])) (ct_J23_copyOfRange d r102 (0 : Int32) r103) q781 q782 q123 q783 md_J23_copyOfRange rfl (by decide) rfl (by simp [rf_cat, cat_i, cat_l, cat_f, cat_d]) dJ9_init_2_32 (fun _ => rfl) (fun r106 σ => ?_) (by decide)
    refine tj_putF fl_J9_9 (nar_rf _) (fit_rfa _) dJ9_init_2_35 (fun σ => ?_)
    refine tj_goto 97 dJ9_init_2_38 rfl ?_
    exact tj_vret dJ9_init_2_97
theorem ct_J9_init_2 : ∀ (d : Nat) (v0 : Option Nat) (v1 : Option Nat) (v2 : Option Nat), ct_ yJ9_init_2 (ws_ yJ9_init_2 cJ9_init_2 5 none) d em_v [va_rf v0, va_rf v1, va_rf v2] (fn_J9_init_2 d v0 v1 v2)
  | 0, _, _, _ => ct_fail
  | d + 1, v0, v1, v2 => ct_of [(false, va_rf v0), (false, va_rf v1), (false, va_rf v2)] [some (va_rf v0), some (va_rf v1), some (va_rf v2), none, none] (by decide) rfl ⟨rfl, (rf_cat _), ⟨rfl, (rf_cat _), ⟨rfl, (rf_cat _), trivial⟩⟩⟩ (fun E X n0 s0 σ => tj_J9_init_2_B0 d v0 v1 v2 σ)
theorem tj_J9_init_B0 {E : tj_E} {X : tj_X} {n0 s0 : Nat} (d : Nat) (v0 : Option Nat) (v1 : Option Nat) (σ : hp_S) : tj_T E X RJ9 "<init>" cJ9_init 2 none (d + 1) [] n0 s0 em_v σ 0 [some (va_rf v0), some (va_rf v1)] [] (fn_J9_init_B0 d v0 v1) := by
  unfold fn_J9_init_B0
  refine tj_aload_n dJ9_init_0 rfl ?_
  refine tj_aload_n dJ9_init_1 rfl ?_
  refine tj_null dJ9_init_2 ?_
  refine tj_callI (as := [va_rf v1, va_rf none]) (rest := []) (st' := (fun _ => [])) (fun a e => by cases e; exact ct_J9_init_2 d _ _ _) q763 q764 q108 q765 rfl md_J9_init_2 rfl (by decide) rfl (by decide) dJ9_init_3 (fun _ => rfl) (fun _ σ => ?_) (by decide)
  exact tj_vret dJ9_init_6
theorem ct_J9_init : ∀ (d : Nat) (v0 : Option Nat) (v1 : Option Nat), ct_ yJ9_init (ws_ yJ9_init cJ9_init 2 none) d em_v [va_rf v0, va_rf v1] (fn_J9_init d v0 v1)
  | 0, _, _ => ct_fail
  | d + 1, v0, v1 => ct_of [(false, va_rf v0), (false, va_rf v1)] [some (va_rf v0), some (va_rf v1)] (by decide) rfl ⟨rfl, (rf_cat _), ⟨rfl, (rf_cat _), trivial⟩⟩ (fun E X n0 s0 σ => tj_J9_init_B0 d v0 v1 σ)
theorem tj_J8_toString_B0 {E : tj_E} {X : tj_X} {n0 s0 : Nat} (d : Nat) (v0 : Option Nat) (σ : hp_S) : tj_T E X RJ8 "toString" cJ8_toString 1 (some (.object "java/lang/String")) (d + 1) [] n0 s0 em_r σ 0 [some (va_rf v0)] [] (fn_J8_toString_B0 d v0) := by
  unfold fn_J8_toString_B0
  refine tj_new nw_J8_18 dJ8_toString_0 (fun a101 σ => ?_)
  refine tj_dup dJ8_toString_3 (rf_cat _) ?_
  refine tj_aload_n dJ8_toString_4 rfl ?_
  refine tj_callI (as := [va_rf v0]) (rest := [va_rf (some a101)]) (st' := (fun _ => [va_rf (some a101)])) (fun a e => by cases e; exact ct_J9_init d _ _) q760 q761 q108 q762 rfl md_J9_init rfl (by decide) rfl (by simp [rf_cat, cat_i, cat_l, cat_f, cat_d]) dJ8_toString_5 (fun _ => rfl) (fun _ σ => ?_) (by decide)
  exact tj_aret (Or.inl ⟨_, rfl⟩) dJ8_toString_8
theorem ct_J8_toString : ∀ (d : Nat) (v0 : Option Nat), ct_ yJ8_toString (ws_ yJ8_toString cJ8_toString 1 (some (.object "java/lang/String"))) d em_r [va_rf v0] (fn_J8_toString d v0)
  | 0, _ => ct_fail
  | d + 1, v0 => ct_of [(false, va_rf v0)] [some (va_rf v0)] (by decide) rfl ⟨rfl, (rf_cat _), trivial⟩ (fun E X n0 s0 σ => tj_J8_toString_B0 d v0 σ)
theorem tj_X2_ticketsText_J90 {E : tj_E} {X : tj_X} {n0 s0 : Nat} (d : Nat) {b18 : Option Nat → Option Nat → Option Nat → Int32 → mx_M (Option Nat)} (h18 : ∀ (l0 : Option Nat) (l1 : Option Nat) (l2 : Option Nat) (l3 : Int32) (σ : hp_S), tj_T E X RX2 "ticketsText" cX2_ticketsText 4 (some (.object "java/lang/String")) (d + 1) [] n0 s0 em_r σ 18 [some (va_rf l0), some (va_rf l1), some (va_rf l2), some (.int l3)] [] (b18 l0 l1 l2 l3)) (l0 : Option Nat) (l1 : Option Nat) (l2 : Option Nat) (l3 : Int32) (p0 : Option Nat) (p1 : Option Nat) (σ : hp_S) : tj_T E X RX2 "ticketsText" cX2_ticketsText 4 (some (.object "java/lang/String")) (d + 1) [] n0 s0 em_r σ 90 [some (va_rf l0), some (va_rf l1), some (va_rf l2), some (.int l3)] [va_rf p1, va_rf p0] (fn_X2_ticketsText_J90 d b18 l0 l1 l2 l3 p0 p1) := by
  unfold fn_X2_ticketsText_J90
  refine tj_callV (as := [va_rf p1]) (rest := []) (st' := (fun r => [va_rf r])) (t := 29) (fun a e => by cases e; exact ct_J8_append d _ _) (by decide) rfl q3026 q609 q610 q107 q611 rfl md_J8_append rfl (by decide) rfl (by decide) dX2_ticketsText_90 (fun _ => rfl) (fun r101 σ => ?_) (by decide)
  refine tj_pop dX2_ticketsText_93 (rf_cat _) ?_
  refine tj_iinc (1 : Int32) dX2_ticketsText_94 rfl rfl (by decide) (rf_cat _) [some (va_rf l0), some (va_rf l1), some (va_rf l2), some (.int (l3 + (1 : Int32)))] rfl ?_
  refine tj_goto 18 dX2_ticketsText_97 rfl ?_
  exact h18 l0 l1 l2 _ _
theorem tj_X2_ticketsText_J46 {E : tj_E} {X : tj_X} {n0 s0 : Nat} (d : Nat) {b18 : Option Nat → Option Nat → Option Nat → Int32 → mx_M (Option Nat)} (h18 : ∀ (l0 : Option Nat) (l1 : Option Nat) (l2 : Option Nat) (l3 : Int32) (σ : hp_S), tj_T E X RX2 "ticketsText" cX2_ticketsText 4 (some (.object "java/lang/String")) (d + 1) [] n0 s0 em_r σ 18 [some (va_rf l0), some (va_rf l1), some (va_rf l2), some (.int l3)] [] (b18 l0 l1 l2 l3)) (l0 : Option Nat) (l1 : Option Nat) (l2 : Option Nat) (l3 : Int32) (p0 : Option Nat) (p1 : Option Nat) (σ : hp_S) : tj_T E X RX2 "ticketsText" cX2_ticketsText 4 (some (.object "java/lang/String")) (d + 1) [] n0 s0 em_r σ 46 [some (va_rf l0), some (va_rf l1), some (va_rf l2), some (.int l3)] [va_rf p1, va_rf p0] (fn_X2_ticketsText_J46 d b18 l0 l1 l2 l3 p0 p1) := by
  unfold fn_X2_ticketsText_J46
  refine tj_callV (as := [va_rf p1]) (rest := []) (st' := (fun r => [va_rf r])) (t := 29) (fun a e => by cases e; exact ct_J8_append d _ _) (by decide) rfl q3026 q609 q610 q107 q611 rfl md_J8_append rfl (by decide) rfl (by decide) dX2_ticketsText_46 (fun _ => rfl) (fun r101 σ => ?_) (by decide)
  refine tj_aload_n dX2_ticketsText_49 rfl ?_
  refine tj_iload_n dX2_ticketsText_50 rfl ?_
  refine tj_callF (as := [.int l3]) (rest := [va_rf r101]) (st' := (fun r => [va_rf r, va_rf r101])) (t := 16) (fun a e => by cases e; exact ct_J4_get d _ _) (by decide) rfl q3028 q1324 q1120 q103 q1121 (ev_i 3 rfl) q1326 q1325 q1323 md_i3 rfl (by decide) rfl (by simp [rf_cat, cat_i, cat_l, cat_f, cat_d]) dX2_ticketsText_51 (fun _ => rfl) (fun r102 σ => ?_) (by decide)
  refine tj_cast (nm := "LionGate$Ticket") q2033 ca_LionGate_Ticket dX2_ticketsText_56 ?_
  refine tj_getI fl_X2_115r dX2_ticketsText_59 (fun v103 => ?_)
  refine tj_callV (as := [.int v103]) (rest := []) (st' := (fun r => [va_rf r])) (t := 29) (fun a e => by cases e; exact ct_J8_append_2 d _ _) (by decide) rfl q3029 q729 q730 q107 q731 rfl md_J8_append_2 rfl (by decide) rfl (by decide) dX2_ticketsText_62 (fun _ => rfl) (fun r104 σ => ?_) (by decide)
  refine tj_aload_n dX2_ticketsText_65 rfl ?_
  refine tj_aload_n dX2_ticketsText_66 rfl ?_
  refine tj_iload_n dX2_ticketsText_67 rfl ?_
  refine tj_callF (as := [.int l3]) (rest := [va_rf l0, va_rf r104]) (st' := (fun r => [va_rf r, va_rf l0, va_rf r104])) (t := 16) (fun a e => by cases e; exact ct_J4_get d _ _) (by decide) rfl q3028 q1324 q1120 q103 q1121 (ev_i 3 rfl) q1326 q1325 q1323 md_i3 rfl (by decide) rfl (by simp [rf_cat, cat_i, cat_l, cat_f, cat_d]) dX2_ticketsText_68 (fun _ => rfl) (fun r105 σ => ?_) (by decide)
  refine tj_cast (nm := "LionGate$Ticket") q2033 ca_LionGate_Ticket dX2_ticketsText_73 ?_
  refine tj_callV (as := [va_rf r105]) (rest := [va_rf r104]) (st' := (fun r => [.int r, va_rf r104])) (t := 2) (fun a e => by cases e; exact ct_X2_isValid d _ _) (by decide) rfl q2191 q2192 q2193 q97 q2194 rfl md_X2_isValid rfl (by decide) rfl (by simp [rf_cat, cat_i, cat_l, cat_f, cat_d]) dX2_ticketsText_76 (fun _ => rfl) (fun r106 σ => ?_) (by decide)
  refine tj_if_eq 87 dX2_ticketsText_79 rfl (fun _ => ?_) (fun _ => ?_)
  · refine tj_ldcSw (ev_t 23 rfl) dX2_ticketsText_87 (fun v107 => ?_)
    exact tj_X2_ticketsText_J90 d h18 l0 l1 l2 l3 r104 v107 _
  · refine tj_ldcS (ev_t 21 rfl) dX2_ticketsText_82 (fun v108 => ?_)
    refine tj_goto 90 dX2_ticketsText_84 rfl ?_
    exact tj_X2_ticketsText_J90 d h18 l0 l1 l2 l3 r104 v108 _
theorem tj_X2_ticketsText_L18_b {E : tj_E} {X : tj_X} {n0 s0 : Nat} (d : Nat) {b18 : Option Nat → Option Nat → Option Nat → Int32 → mx_M (Option Nat)} (h18 : ∀ (l0 : Option Nat) (l1 : Option Nat) (l2 : Option Nat) (l3 : Int32) (σ : hp_S), tj_T E X RX2 "ticketsText" cX2_ticketsText 4 (some (.object "java/lang/String")) (d + 1) [] n0 s0 em_r σ 18 [some (va_rf l0), some (va_rf l1), some (va_rf l2), some (.int l3)] [] (b18 l0 l1 l2 l3)) (l0 : Option Nat) (l1 : Option Nat) (l2 : Option Nat) (l3 : Int32) (σ : hp_S) : tj_T E X RX2 "ticketsText" cX2_ticketsText 4 (some (.object "java/lang/String")) (d + 1) [] n0 s0 em_r σ 18 [some (va_rf l0), some (va_rf l1), some (va_rf l2), some (.int l3)] [] (fn_X2_ticketsText_L18_b d b18 l0 l1 l2 l3) := by
  unfold fn_X2_ticketsText_L18_b
  refine tj_iload_n dX2_ticketsText_18 rfl ?_
  refine tj_bipush (6 : Int32) dX2_ticketsText_19 (by decide) ?_
  refine tj_aload_n dX2_ticketsText_21 rfl ?_
  refine tj_callF (as := []) (rest := [.int (6 : Int32), .int l3]) (st' := (fun r => [.int r, .int (6 : Int32), .int l3])) (t := 16) (fun a e => by cases e; exact ct_J4_size d _) (by decide) rfl q3023 q2143 q1048 q103 q1049 (ev_i 9 rfl) q2145 q2144 q1323 md_i9 rfl (by decide) rfl (by simp [rf_cat, cat_i, cat_l, cat_f, cat_d]) dX2_ticketsText_22 (fun _ => rfl) (fun r101 σ => ?_) (by decide)
  refine tj_mmin q2423 (by simp [rf_cat, cat_i, cat_l, cat_f, cat_d]) dX2_ticketsText_27 ?_
  refine tj_icmp_ge 100 dX2_ticketsText_30 rfl (fun _ => ?_) (fun _ => ?_)
  · refine tj_aload_n dX2_ticketsText_100 rfl ?_
    refine tj_callV (as := []) (rest := []) (st' := (fun r => [va_rf r])) (t := 29) (fun a e => by cases e; exact ct_J8_toString d _) (by decide) rfl q3031 q755 q756 q107 q757 rfl md_J8_toString rfl (by decide) rfl (by decide) dX2_ticketsText_101 (fun _ => rfl) (fun r102 σ => ?_) (by decide)
    exact tj_aret (Or.inl ⟨_, rfl⟩) dX2_ticketsText_104
  · refine tj_aload_n dX2_ticketsText_33 rfl ?_
    refine tj_iload_n dX2_ticketsText_34 rfl ?_
    refine tj_if_ne 43 dX2_ticketsText_35 rfl (fun _ => ?_) (fun _ => ?_)
    · refine tj_ldcS (ev_t 21 rfl) dX2_ticketsText_38 (fun v103 => ?_)
      refine tj_goto 46 dX2_ticketsText_40 rfl ?_
      exact tj_X2_ticketsText_J46 d h18 l0 l1 l2 l3 l1 v103 _
    · refine tj_ldcSw (ev_t 22 rfl) dX2_ticketsText_43 (fun v104 => ?_)
      exact tj_X2_ticketsText_J46 d h18 l0 l1 l2 l3 l1 v104 _
theorem tj_X2_ticketsText_L18 {E : tj_E} {X : tj_X} {n0 s0 : Nat} (d : Nat) : ∀ (k : Nat) (l0 : Option Nat) (l1 : Option Nat) (l2 : Option Nat) (l3 : Int32) (σ : hp_S), tj_T E X RX2 "ticketsText" cX2_ticketsText 4 (some (.object "java/lang/String")) (d + 1) [] n0 s0 em_r σ 18 [some (va_rf l0), some (va_rf l1), some (va_rf l2), some (.int l3)] [] (fn_X2_ticketsText_L18 d k l0 l1 l2 l3) := by
  intro k
  induction k with
  | zero =>
    intro l0 l1 l2 l3 σ
    exact tj_fail
  | succ k ih =>
    intro l0 l1 l2 l3 σ
    exact tj_X2_ticketsText_L18_b d ih l0 l1 l2 l3 σ
theorem tj_X2_ticketsText_B0 {E : tj_E} {X : tj_X} {n0 s0 : Nat} (d : Nat) (v0 : Option Nat) (σ : hp_S) : tj_T E X RX2 "ticketsText" cX2_ticketsText 4 (some (.object "java/lang/String")) (d + 1) [] n0 s0 em_r σ 0 [some (va_rf v0), none, none, none] [] (fn_X2_ticketsText_B0 d v0) := by
  unfold fn_X2_ticketsText_B0
  refine tj_new nw_X2_251 dX2_ticketsText_0 (fun a101 σ => ?_)
  refine tj_dup dX2_ticketsText_3 (rf_cat _) ?_
  refine tj_callI (as := []) (rest := [va_rf (some a101)]) (st' := (fun _ => [va_rf (some a101)])) (fun a e => by cases e; exact ct_J8_init d _) q3021 q340 q107 q341 rfl md_J8_init rfl (by decide) rfl (by simp [rf_cat, cat_i, cat_l, cat_f, cat_d]) dX2_ticketsText_4 (fun _ => rfl) (fun _ σ => ?_) (by decide)
  refine tj_astore_n dX2_ticketsText_7 (by decide) (rf_cat _) [some (va_rf v0), some (va_rf (some a101)), none, none] rfl ?_
  refine tj_aload_n dX2_ticketsText_8 rfl ?_
  refine tj_getR fl_X2_66 dX2_ticketsText_9 (fun v102 => ?_)
  refine tj_callSN (as := [va_rf v102]) (rest := []) (st' := (fun r => [va_rf r])) (ct_X1_inOrder d v102) q2064 q2065 q96 q2066 md_X1_inOrder rfl (by decide) rfl (by decide) dX2_ticketsText_12 (fun _ => rfl) (fun r103 σ => ?_) (by decide)
  refine tj_astore_n dX2_ticketsText_15 (by decide) (rf_cat _) [some (va_rf v0), some (va_rf (some a101)), some (va_rf r103), none] rfl ?_
  refine tj_iconst (0 : Int32) dX2_ticketsText_16 rfl ?_
  refine tj_istore_n dX2_ticketsText_17 (by decide) (rf_cat _) [some (va_rf v0), some (va_rf (some a101)), some (va_rf r103), some (.int (0 : Int32))] rfl ?_
  exact tj_X2_ticketsText_L18 d mx_K v0 (some a101) r103 (0 : Int32) _
theorem ct_X2_ticketsText : ∀ (d : Nat) (v0 : Option Nat), ct_ yX2_ticketsText (ws_ yX2_ticketsText cX2_ticketsText 4 (some (.object "java/lang/String"))) d em_r [va_rf v0] (fn_X2_ticketsText d v0)
  | 0, _ => ct_fail
  | d + 1, v0 => ct_of [(false, va_rf v0)] [some (va_rf v0), none, none, none] (by decide) rfl ⟨rfl, (rf_cat _), trivial⟩ (fun E X n0 s0 σ => tj_X2_ticketsText_B0 d v0 σ)
theorem tj_X1_renderTickets_B0 {E : tj_E} {X : tj_X} {n0 s0 : Nat} (d : Nat) (v0 : Option Nat) (σ : hp_S) : tj_T E X RX1 "renderTickets" cX1_renderTickets 1 (some .int) (d + 1) [] n0 s0 em_i σ 0 [some (va_rf v0)] [] (fn_X1_renderTickets_B0 d v0) := by
  unfold fn_X1_renderTickets_B0
  refine tj_aload_n dX1_renderTickets_0 rfl ?_
  refine tj_aload_n dX1_renderTickets_1 rfl ?_
  refine tj_getR fl_X1_66 dX1_renderTickets_2 (fun v101 => ?_)
  refine tj_callV (as := []) (rest := [va_rf v0]) (st' := (fun r => [va_rf r, va_rf v0])) (t := 2) (fun a e => by cases e; exact ct_X2_ticketsText d _) (by decide) rfl q3016 q3017 q3018 q97 q3019 rfl md_X2_ticketsText rfl (by decide) rfl (by simp [rf_cat, cat_i, cat_l, cat_f, cat_d]) dX1_renderTickets_5 (fun _ => rfl) (fun r102 σ => ?_) (by decide)
  refine tj_callV (as := [va_rf r102]) (rest := []) (st' := (fun r => [.int r])) (t := 0) (fun a e => by cases e; exact ct_X1_write d _ _) (by decide) rfl q3032 q3034 qs43 q96 q3035 rfl md_X1_write rfl (by decide) rfl (by decide) dX1_renderTickets_8 (fun _ => rfl) (fun r103 σ => ?_) (by decide)
  exact tj_iret dX1_renderTickets_11
theorem ct_X1_renderTickets : ∀ (d : Nat) (v0 : Option Nat), ct_ yX1_renderTickets (ws_ yX1_renderTickets cX1_renderTickets 1 (some .int)) d em_i [va_rf v0] (fn_X1_renderTickets d v0)
  | 0, _ => ct_fail
  | d + 1, v0 => ct_of [(false, va_rf v0)] [some (va_rf v0)] (by decide) rfl ⟨rfl, (rf_cat _), trivial⟩ (fun E X n0 s0 σ => tj_X1_renderTickets_B0 d v0 σ)
theorem tj_X1_save_B0 {E : tj_E} {X : tj_X} {n0 s0 : Nat} (d : Nat) (v0 : Option Nat) (σ : hp_S) : tj_T E X RX1 "save" cX1_save 1 (some .int) (d + 1) [] n0 s0 em_i σ 0 [some (va_rf v0)] [] (fn_X1_save_B0 d v0) := by
  unfold fn_X1_save_B0
  refine tj_aload_n dX1_save_0 rfl ?_
  refine tj_aload_n dX1_save_1 rfl ?_
  refine tj_getR fl_X1_66 dX1_save_2 (fun v101 => ?_)
  refine tj_put fl_X1_436 (nar_rf _) (fit_rf _) dX1_save_5 (fun σ => ?_)
  refine tj_aload_n dX1_save_8 rfl ?_
  refine tj_callV (as := []) (rest := []) (st' := (fun r => [.int r])) (t := 0) (fun a e => by cases e; exact ct_X1_lionCount d _) (by decide) rfl q3041 q2695 q2696 q96 q2697 rfl md_X1_lionCount rfl (by decide) rfl (by decide) dX1_save_9 (fun _ => rfl) (fun r102 σ => ?_) (by decide)
  exact tj_iret dX1_save_12
theorem ct_X1_save : ∀ (d : Nat) (v0 : Option Nat), ct_ yX1_save (ws_ yX1_save cX1_save 1 (some .int)) d em_i [va_rf v0] (fn_X1_save d v0)
  | 0, _ => ct_fail
  | d + 1, v0 => ct_of [(false, va_rf v0)] [some (va_rf v0)] (by decide) rfl ⟨rfl, (rf_cat _), trivial⟩ (fun E X n0 s0 σ => tj_X1_save_B0 d v0 σ)
theorem tj_X1_servedTotal_B0 {E : tj_E} {X : tj_X} {n0 s0 : Nat} (d : Nat) (v0 : Option Nat) (σ : hp_S) : tj_T E X RX1 "servedTotal" cX1_servedTotal 1 (some .int) (d + 1) [] n0 s0 em_i σ 0 [some (va_rf v0)] [] (fn_X1_servedTotal_B0 d v0) := by
  unfold fn_X1_servedTotal_B0
  refine tj_aload_n dX1_servedTotal_0 rfl ?_
  refine tj_getR fl_X1_66 dX1_servedTotal_1 (fun v101 => ?_)
  refine tj_getI fl_X1_328 dX1_servedTotal_4 (fun v102 => ?_)
  exact tj_iret dX1_servedTotal_7
theorem ct_X1_servedTotal : ∀ (d : Nat) (v0 : Option Nat), ct_ yX1_servedTotal (ws_ yX1_servedTotal cX1_servedTotal 1 (some .int)) d em_i [va_rf v0] (fn_X1_servedTotal d v0)
  | 0, _ => ct_fail
  | d + 1, v0 => ct_of [(false, va_rf v0)] [some (va_rf v0)] (by decide) rfl ⟨rfl, (rf_cat _), trivial⟩ (fun E X n0 s0 σ => tj_X1_servedTotal_B0 d v0 σ)
theorem tj_X2_staleCount_B0 {E : tj_E} {X : tj_X} {n0 s0 : Nat} (d : Nat) (v0 : Option Nat) (σ : hp_S) : tj_T E X RX2 "staleCount" cX2_staleCount 1 (some .int) (d + 1) [] n0 s0 em_i σ 0 [some (va_rf v0)] [] (fn_X2_staleCount_B0 d v0) := by
  unfold fn_X2_staleCount_B0
  refine tj_aload_n dX2_staleCount_0 rfl ?_
  refine tj_getI fl_X2_70 dX2_staleCount_1 (fun v101 => ?_)
  refine tj_aload_n dX2_staleCount_4 rfl ?_
  refine tj_getR fl_X2_12r dX2_staleCount_5 (fun v102 => ?_)
  refine tj_callV (as := []) (rest := [.int v101]) (st' := (fun r => [.int r, .int v101])) (t := 18) (fun a e => by cases e; exact ct_J1_size d _) (by decide) rfl q1994 q1995 q1996 q99 q1997 rfl md_J1_size rfl (by decide) rfl (by simp [rf_cat, cat_i, cat_l, cat_f, cat_d]) dX2_staleCount_8 (fun _ => rfl) (fun r103 σ => ?_) (by decide)
  refine tj_isub dX2_staleCount_11 ?_
  exact tj_iret dX2_staleCount_12
theorem ct_X2_staleCount : ∀ (d : Nat) (v0 : Option Nat), ct_ yX2_staleCount (ws_ yX2_staleCount cX2_staleCount 1 (some .int)) d em_i [va_rf v0] (fn_X2_staleCount d v0)
  | 0, _ => ct_fail
  | d + 1, v0 => ct_of [(false, va_rf v0)] [some (va_rf v0)] (by decide) rfl ⟨rfl, (rf_cat _), trivial⟩ (fun E X n0 s0 σ => tj_X2_staleCount_B0 d v0 σ)
theorem tj_X1_staleCount_B0 {E : tj_E} {X : tj_X} {n0 s0 : Nat} (d : Nat) (v0 : Option Nat) (σ : hp_S) : tj_T E X RX1 "staleCount" cX1_staleCount 1 (some .int) (d + 1) [] n0 s0 em_i σ 0 [some (va_rf v0)] [] (fn_X1_staleCount_B0 d v0) := by
  unfold fn_X1_staleCount_B0
  refine tj_aload_n dX1_staleCount_0 rfl ?_
  refine tj_getR fl_X1_66 dX1_staleCount_1 (fun v101 => ?_)
  refine tj_callV (as := []) (rest := []) (st' := (fun r => [.int r])) (t := 2) (fun a e => by cases e; exact ct_X2_staleCount d _) (by decide) rfl q2707 q2708 q2709 q97 q2710 rfl md_X2_staleCount rfl (by decide) rfl (by decide) dX1_staleCount_4 (fun _ => rfl) (fun r102 σ => ?_) (by decide)
  exact tj_iret dX1_staleCount_7
theorem ct_X1_staleCount : ∀ (d : Nat) (v0 : Option Nat), ct_ yX1_staleCount (ws_ yX1_staleCount cX1_staleCount 1 (some .int)) d em_i [va_rf v0] (fn_X1_staleCount d v0)
  | 0, _ => ct_fail
  | d + 1, v0 => ct_of [(false, va_rf v0)] [some (va_rf v0)] (by decide) rfl ⟨rfl, (rf_cat _), trivial⟩ (fun E X n0 s0 σ => tj_X1_staleCount_B0 d v0 σ)
theorem tj_X1_thrownTotal_B0 {E : tj_E} {X : tj_X} {n0 s0 : Nat} (d : Nat) (v0 : Option Nat) (σ : hp_S) : tj_T E X RX1 "thrownTotal" cX1_thrownTotal 1 (some .int) (d + 1) [] n0 s0 em_i σ 0 [some (va_rf v0)] [] (fn_X1_thrownTotal_B0 d v0) := by
  unfold fn_X1_thrownTotal_B0
  refine tj_aload_n dX1_thrownTotal_0 rfl ?_
  refine tj_getR fl_X1_66 dX1_thrownTotal_1 (fun v101 => ?_)
  refine tj_getI fl_X1_340 dX1_thrownTotal_4 (fun v102 => ?_)
  exact tj_iret dX1_thrownTotal_7
theorem ct_X1_thrownTotal : ∀ (d : Nat) (v0 : Option Nat), ct_ yX1_thrownTotal (ws_ yX1_thrownTotal cX1_thrownTotal 1 (some .int)) d em_i [va_rf v0] (fn_X1_thrownTotal d v0)
  | 0, _ => ct_fail
  | d + 1, v0 => ct_of [(false, va_rf v0)] [some (va_rf v0)] (by decide) rfl ⟨rfl, (rf_cat _), trivial⟩ (fun E X n0 s0 σ => tj_X1_thrownTotal_B0 d v0 σ)
theorem tj_X1_ticketCount_B0 {E : tj_E} {X : tj_X} {n0 s0 : Nat} (d : Nat) (v0 : Option Nat) (σ : hp_S) : tj_T E X RX1 "ticketCount" cX1_ticketCount 1 (some .int) (d + 1) [] n0 s0 em_i σ 0 [some (va_rf v0)] [] (fn_X1_ticketCount_B0 d v0) := by
  unfold fn_X1_ticketCount_B0
  refine tj_aload_n dX1_ticketCount_0 rfl ?_
  refine tj_getR fl_X1_66 dX1_ticketCount_1 (fun v101 => ?_)
  refine tj_getI fl_X1_238 dX1_ticketCount_4 (fun v102 => ?_)
  exact tj_iret dX1_ticketCount_7
theorem ct_X1_ticketCount : ∀ (d : Nat) (v0 : Option Nat), ct_ yX1_ticketCount (ws_ yX1_ticketCount cX1_ticketCount 1 (some .int)) d em_i [va_rf v0] (fn_X1_ticketCount d v0)
  | 0, _ => ct_fail
  | d + 1, v0 => ct_of [(false, va_rf v0)] [some (va_rf v0)] (by decide) rfl ⟨rfl, (rf_cat _), trivial⟩ (fun E X n0 s0 σ => tj_X1_ticketCount_B0 d v0 σ)
theorem tj_X1_ticketsByAccounts_B0 {E : tj_E} {X : tj_X} {n0 s0 : Nat} (d : Nat) (v0 : Option Nat) (σ : hp_S) : tj_T E X RX1 "ticketsByAccounts" cX1_ticketsByAccounts 1 (some .int) (d + 1) [] n0 s0 em_i σ 0 [some (va_rf v0)] [] (fn_X1_ticketsByAccounts_B0 d v0) := by
  unfold fn_X1_ticketsByAccounts_B0
  refine tj_aload_n dX1_ticketsByAccounts_0 rfl ?_
  refine tj_getR fl_X1_66 dX1_ticketsByAccounts_1 (fun v101 => ?_)
  refine tj_callV (as := []) (rest := []) (st' := (fun r => [.int r])) (t := 2) (fun a e => by cases e; exact ct_X2_ticketsByAccounts d _) (by decide) rfl q2895 q2896 q2897 q97 q2898 rfl md_X2_ticketsByAccounts rfl (by decide) rfl (by decide) dX1_ticketsByAccounts_4 (fun _ => rfl) (fun r102 σ => ?_) (by decide)
  exact tj_iret dX1_ticketsByAccounts_7
theorem ct_X1_ticketsByAccounts : ∀ (d : Nat) (v0 : Option Nat), ct_ yX1_ticketsByAccounts (ws_ yX1_ticketsByAccounts cX1_ticketsByAccounts 1 (some .int)) d em_i [va_rf v0] (fn_X1_ticketsByAccounts d v0)
  | 0, _ => ct_fail
  | d + 1, v0 => ct_of [(false, va_rf v0)] [some (va_rf v0)] (by decide) rfl ⟨rfl, (rf_cat _), trivial⟩ (fun E X n0 s0 σ => tj_X1_ticketsByAccounts_B0 d v0 σ)
theorem tj_X1_addLion_B0 {E : tj_E} {X : tj_X} {n0 s0 : Nat} (d : Nat) (v0 : Option Nat) (v1 : Int32) (v2 : Int32) (v3 : Int32) (σ : hp_S) : tj_T E X RX1 "addLion" cX1_addLion 4 (some .int) (d + 1) [] n0 s0 em_i σ 0 [some (va_rf v0), some (.int v1), some (.int v2), some (.int v3)] [] (fn_X1_addLion_B0 d v0 v1 v2 v3) := by
  unfold fn_X1_addLion_B0
  refine tj_aload_n dX1_addLion_0 rfl ?_
  refine tj_ldcS (ev_t 24 rfl) dX1_addLion_1 (fun v101 => ?_)
  refine tj_iconst (3 : Int32) dX1_addLion_3 rfl ?_
  refine tj_newI q426 dX1_addLion_4 (fun a102 σ => ?_)
  refine tj_dup dX1_addLion_6 (rf_cat _) ?_
  refine tj_iconst (0 : Int32) dX1_addLion_7 rfl ?_
  refine tj_iload_n dX1_addLion_8 rfl ?_
  refine tj_iast dX1_addLion_9 (fun σ => ?_)
  refine tj_dup dX1_addLion_10 (rf_cat _) ?_
  refine tj_iconst (1 : Int32) dX1_addLion_11 rfl ?_
  refine tj_iload_n dX1_addLion_12 rfl ?_
  refine tj_iast dX1_addLion_13 (fun σ => ?_)
  refine tj_dup dX1_addLion_14 (rf_cat _) ?_
  refine tj_iconst (2 : Int32) dX1_addLion_15 rfl ?_
  refine tj_iload_n dX1_addLion_16 rfl ?_
  refine tj_iast dX1_addLion_17 (fun σ => ?_)
  refine tj_callVX (as := [va_rf v101, va_rf (some a102)]) (rest := []) (st' := (fun r => [.int r])) (t := 0) (fun a e => by cases e; exact ct_X1_change d _ _ _) (by decide) rfl q401 q403 qs0 q96 q404 rfl md_X1_change rfl (by decide) rfl (by decide) dX1_addLion_18 (fun _ => rfl) (fun r103 σ => ?_) (by decide)
  exact tj_iret dX1_addLion_21
theorem ct_X1_addLion : ∀ (d : Nat) (v0 : Option Nat) (v1 : Int32) (v2 : Int32) (v3 : Int32), ct_ yX1_addLion (ws_ yX1_addLion cX1_addLion 4 (some .int)) d em_i [va_rf v0, .int v1, .int v2, .int v3] (fn_X1_addLion d v0 v1 v2 v3)
  | 0, _, _, _, _ => ct_fail
  | d + 1, v0, v1, v2, v3 => ct_of [(false, va_rf v0), (false, .int v1), (false, .int v2), (false, .int v3)] [some (va_rf v0), some (.int v1), some (.int v2), some (.int v3)] (by decide) rfl ⟨rfl, (rf_cat _), ⟨rfl, rfl, ⟨rfl, rfl, ⟨rfl, rfl, trivial⟩⟩⟩⟩ (fun E X n0 s0 σ => tj_X1_addLion_B0 d v0 v1 v2 v3 σ)
theorem tj_X0_addLion_B0 {E : tj_E} {X : tj_X} {n0 s0 : Nat} (d : Nat) (v0 : Option Nat) (v1 : Int32) (v2 : Int32) (v3 : Int32) (v4 : Option Nat) (σ : hp_S) : tj_T E X RX0 "addLion" cX0_addLion 6 (some .int) (d + 1) [(0, 12, 15, 13), (0, 12, 19, 15)] n0 s0 em_i σ 0 [some (va_rf v0), some (.int v1), some (.int v2), some (.int v3), some (va_rf v4), none] [] (fn_X0_addLion_B0 d v0 v1 v2 v3 v4) := by
  unfold fn_X0_addLion_B0
  refine tj_aload dX0_addLion_0 rfl ?_
  refine tj_iconst (0 : Int32) dX0_addLion_2 rfl ?_
  refine tj_aload_n dX0_addLion_3 rfl ?_
  refine tj_iload_n dX0_addLion_4 rfl ?_
  refine tj_iload_n dX0_addLion_5 rfl ?_
  refine tj_iload_n dX0_addLion_6 rfl ?_
  refine tj_tryV (as := [.int v1, .int v2, .int v3]) (rest := [.int (0 : Int32), va_rf v4]) (st' := (fun r => [.int r, .int (0 : Int32), va_rf v4])) (t := 0) (fun a e => by cases e; exact ct_X1_addLion d _ _ _ _) (by decide) rfl q3047 q3048 q3049 q96 q3050 rfl md_X1_addLion rfl (by decide) rfl (by simp [rf_cat, cat_i, cat_l, cat_f, cat_d]) dX0_addLion_7 (fun _ => rfl) (fun r101 σ => ?_) (fun q102 σ => ?_)
  · refine tj_i2l dX0_addLion_10 ?_
    refine tj_last dX0_addLion_11 (fun σ => ?_)
    refine tj_goto 23 dX0_addLion_12 rfl ?_
    refine tj_iconst (0 : Int32) dX0_addLion_23 rfl ?_
    exact tj_iret dX0_addLion_24
  · refine tj_xin [] ⟨0, 12, 15, 13⟩ [⟨0, 12, 19, 15⟩] "java/lang/IllegalArgumentException" cx_java_lang_IllegalArgumentException_35 rfl (by decide) (by decide) q3045 (fun _ h => absurd h List.not_mem_nil) ?_ ?_
    · refine tj_astore dX0_addLion_15 (by decide) (rf_cat _) [some (va_rf v0), some (.int v1), some (.int v2), some (.int v3), some (va_rf v4), some (va_rf (some q102))] rfl ?_
      refine tj_iconst (1 : Int32) dX0_addLion_17 rfl ?_
      exact tj_iret dX0_addLion_18
    refine tj_xin [⟨0, 12, 15, 13⟩] ⟨0, 12, 19, 15⟩ [] "java/lang/IllegalStateException" cx_java_lang_IllegalStateException_36 rfl (by decide) (by decide) q3046 (List.forall_mem_cons.mpr ⟨Or.inr ⟨by decide, "java/lang/IllegalArgumentException", q3045, nc_java_lang_IllegalArgumentException_36⟩, fun _ h => absurd h List.not_mem_nil⟩) ?_ ?_
    · refine tj_astore dX0_addLion_19 (by decide) (rf_cat _) [some (va_rf v0), some (.int v1), some (.int v2), some (.int v3), some (va_rf v4), some (va_rf (some q102))] rfl ?_
      refine tj_iconst (2 : Int32) dX0_addLion_21 rfl ?_
      exact tj_iret dX0_addLion_22
    exact tj_xfail
theorem ct_X0_addLion : ∀ (d : Nat) (v0 : Option Nat) (v1 : Int32) (v2 : Int32) (v3 : Int32) (v4 : Option Nat), ct_ yX0_addLion (wsW_ yX0_addLion cX0_addLion 6 (some .int) [(0, 12, 15, 13), (0, 12, 19, 15)]) d em_i [va_rf v0, .int v1, .int v2, .int v3, va_rf v4] (fn_X0_addLion d v0 v1 v2 v3 v4)
  | 0, _, _, _, _, _ => ct_fail
  | d + 1, v0, v1, v2, v3, v4 => ct_ofH [(false, va_rf v0), (false, .int v1), (false, .int v2), (false, .int v3), (false, va_rf v4)] [some (va_rf v0), some (.int v1), some (.int v2), some (.int v3), some (va_rf v4), none] (by decide) rfl ⟨rfl, (rf_cat _), ⟨rfl, rfl, ⟨rfl, rfl, ⟨rfl, rfl, ⟨rfl, (rf_cat _), trivial⟩⟩⟩⟩⟩ (fun E X n0 s0 σ => tj_X0_addLion_B0 d v0 v1 v2 v3 v4 σ)
theorem tj_X1_checkElement_B0 {E : tj_E} {X : tj_X} {n0 s0 : Nat} (d : Nat) (v0 : Int32) (σ : hp_S) : tj_T E X RX1 "checkElement" cX1_checkElement 1 none (d + 1) [] n0 s0 em_v σ 0 [some (.int v0)] [] (fn_X1_checkElement_B0 d v0) := by
  unfold fn_X1_checkElement_B0
  refine tj_iload_n dX1_checkElement_0 rfl ?_
  refine tj_if_ne 12 dX1_checkElement_1 rfl (fun _ => ?_) (fun _ => ?_)
  · refine tj_mk0 ex_X1_155_3138 (by decide) dX1_checkElement_4 dX1_checkElement_7 dX1_checkElement_8 (fun a101 σ => ?_)
    refine tj_athrow dX1_checkElement_11 (fun q102 => ?_)
    exact tj_xout (by decide) (by decide)
  · exact tj_vret dX1_checkElement_12
theorem ct_X1_checkElement : ∀ (d : Nat) (v0 : Int32), ct_ yX1_checkElement (ws_ yX1_checkElement cX1_checkElement 1 none) d em_v [.int v0] (fn_X1_checkElement d v0)
  | 0, _ => ct_fail
  | d + 1, v0 => ct_of [(false, .int v0)] [some (.int v0)] (by decide) rfl ⟨rfl, rfl, trivial⟩ (fun E X n0 s0 σ => tj_X1_checkElement_B0 d v0 σ)
theorem tj_X1_lionWith_B0 {E : tj_E} {X : tj_X} {n0 s0 : Nat} (d : Nat) (v0 : Option Nat) (v1 : Int32) (σ : hp_S) : tj_T E X RX1 "lionWith" cX1_lionWith 2 (some (.object "LionGate$Lion")) (d + 1) [] n0 s0 em_r σ 0 [some (va_rf v0), some (.int v1)] [] (fn_X1_lionWith_B0 d v0 v1) := by
  unfold fn_X1_lionWith_B0
  refine tj_aload_n dX1_lionWith_0 rfl ?_
  refine tj_getR fl_X1_66 dX1_lionWith_1 (fun v101 => ?_)
  refine tj_iload_n dX1_lionWith_4 rfl ?_
  refine tj_callV (as := [.int v1]) (rest := []) (st' := (fun r => [.int r])) (t := 2) (fun a e => by cases e; exact ct_X2_hasLion d _ _) (by decide) rfl q3178 q2196 q2197 q97 q2198 rfl md_X2_hasLion rfl (by decide) rfl (by decide) dX1_lionWith_5 (fun _ => rfl) (fun r102 σ => ?_) (by decide)
  refine tj_callS (as := [.int r102]) (rest := []) (st' := (fun _ => [])) (ct_X1_checkElement d r102) q3134 q3135 q96 q3136 md_X1_checkElement rfl (by decide) rfl (by decide) dX1_lionWith_8 (fun _ => rfl) (fun _ σ => ?_) (by decide)
  refine tj_aload_n dX1_lionWith_11 rfl ?_
  refine tj_getR fl_X1_66 dX1_lionWith_12 (fun v103 => ?_)
  refine tj_getR fl_X1_172r dX1_lionWith_15 (fun v104 => ?_)
  refine tj_iload_n dX1_lionWith_18 rfl ?_
  refine tj_callS (as := [.int v1]) (rest := [va_rf v104]) (st' := (fun r => [va_rf r, va_rf v104])) (ct_J27_valueOf d v1) q3179 q1429 q128 q1430 md_J27_valueOf rfl (by decide) rfl (by simp [rf_cat, cat_i, cat_l, cat_f, cat_d]) dX1_lionWith_19 (fun _ => rfl) (fun r105 σ => ?_) (by decide)
  refine tj_callV (as := [va_rf r105]) (rest := []) (st' := (fun r => [va_rf r])) (t := 18) (fun a e => by cases e; exact ct_J1_get d _ _) (by decide) rfl q3180 q2212 q2213 q99 q2214 rfl md_J1_get rfl (by decide) rfl (by decide) dX1_lionWith_22 (fun _ => rfl) (fun r106 σ => ?_) (by decide)
  refine tj_cast (nm := "LionGate$Lion") q3181 ca_LionGate_Lion dX1_lionWith_25 ?_
  exact tj_aret (Or.inl ⟨_, rfl⟩) dX1_lionWith_28
theorem ct_X1_lionWith : ∀ (d : Nat) (v0 : Option Nat) (v1 : Int32), ct_ yX1_lionWith (ws_ yX1_lionWith cX1_lionWith 2 (some (.object "LionGate$Lion"))) d em_r [va_rf v0, .int v1] (fn_X1_lionWith d v0 v1)
  | 0, _, _ => ct_fail
  | d + 1, v0, v1 => ct_of [(false, va_rf v0), (false, .int v1)] [some (va_rf v0), some (.int v1)] (by decide) rfl ⟨rfl, (rf_cat _), ⟨rfl, rfl, trivial⟩⟩ (fun E X n0 s0 σ => tj_X1_lionWith_B0 d v0 v1 σ)
theorem tj_X1_deadlineOf_B0 {E : tj_E} {X : tj_X} {n0 s0 : Nat} (d : Nat) (v0 : Option Nat) (v1 : Int32) (σ : hp_S) : tj_T E X RX1 "deadlineOf" cX1_deadlineOf 2 (some .int) (d + 1) [] n0 s0 em_i σ 0 [some (va_rf v0), some (.int v1)] [] (fn_X1_deadlineOf_B0 d v0 v1) := by
  unfold fn_X1_deadlineOf_B0
  refine tj_aload_n dX1_deadlineOf_0 rfl ?_
  refine tj_iload_n dX1_deadlineOf_1 rfl ?_
  refine tj_callV (as := [.int v1]) (rest := []) (st' := (fun r => [va_rf r])) (t := 0) (fun a e => by cases e; exact ct_X1_lionWith d _ _) (by decide) rfl q3174 q3176 qs44 q96 q3177 rfl md_X1_lionWith rfl (by decide) rfl (by decide) dX1_deadlineOf_2 (fun _ => rfl) (fun r101 σ => ?_) (by decide)
  refine tj_getI fl_X1_218r dX1_deadlineOf_5 (fun v102 => ?_)
  exact tj_iret dX1_deadlineOf_8
theorem ct_X1_deadlineOf : ∀ (d : Nat) (v0 : Option Nat) (v1 : Int32), ct_ yX1_deadlineOf (ws_ yX1_deadlineOf cX1_deadlineOf 2 (some .int)) d em_i [va_rf v0, .int v1] (fn_X1_deadlineOf d v0 v1)
  | 0, _, _ => ct_fail
  | d + 1, v0, v1 => ct_of [(false, va_rf v0), (false, .int v1)] [some (va_rf v0), some (.int v1)] (by decide) rfl ⟨rfl, (rf_cat _), ⟨rfl, rfl, trivial⟩⟩ (fun E X n0 s0 σ => tj_X1_deadlineOf_B0 d v0 v1 σ)
theorem tj_X0_deadlineOf_B0 {E : tj_E} {X : tj_X} {n0 s0 : Nat} (d : Nat) (v0 : Option Nat) (v1 : Int32) (v2 : Option Nat) (σ : hp_S) : tj_T E X RX0 "deadlineOf" cX0_deadlineOf 4 (some .int) (d + 1) [(0, 9, 12, 21)] n0 s0 em_i σ 0 [some (va_rf v0), some (.int v1), some (va_rf v2), none] [] (fn_X0_deadlineOf_B0 d v0 v1 v2) := by
  unfold fn_X0_deadlineOf_B0
  refine tj_aload_n dX0_deadlineOf_0 rfl ?_
  refine tj_iconst (0 : Int32) dX0_deadlineOf_1 rfl ?_
  refine tj_aload_n dX0_deadlineOf_2 rfl ?_
  refine tj_iload_n dX0_deadlineOf_3 rfl ?_
  refine tj_tryV (as := [.int v1]) (rest := [.int (0 : Int32), va_rf v2]) (st' := (fun r => [.int r, .int (0 : Int32), va_rf v2])) (t := 0) (fun a e => by cases e; exact ct_X1_deadlineOf d _ _) (by decide) rfl q3193 q3194 q3195 q96 q3196 rfl md_X1_deadlineOf rfl (by decide) rfl (by simp [rf_cat, cat_i, cat_l, cat_f, cat_d]) dX0_deadlineOf_4 (fun _ => rfl) (fun r101 σ => ?_) (fun q102 σ => ?_)
  · refine tj_i2l dX0_deadlineOf_7 ?_
    refine tj_last dX0_deadlineOf_8 (fun σ => ?_)
    refine tj_goto 15 dX0_deadlineOf_9 rfl ?_
    refine tj_iconst (0 : Int32) dX0_deadlineOf_15 rfl ?_
    exact tj_iret dX0_deadlineOf_16
  · refine tj_xin [] ⟨0, 9, 12, 21⟩ [] "java/util/NoSuchElementException" cx_java_util_NoSuchElementException_34 rfl (by decide) (by decide) q3055 (fun _ h => absurd h List.not_mem_nil) ?_ ?_
    · refine tj_astore_n dX0_deadlineOf_12 (by decide) (rf_cat _) [some (va_rf v0), some (.int v1), some (va_rf v2), some (va_rf (some q102))] rfl ?_
      refine tj_iconst (1 : Int32) dX0_deadlineOf_13 rfl ?_
      exact tj_iret dX0_deadlineOf_14
    exact tj_xfail
theorem ct_X0_deadlineOf : ∀ (d : Nat) (v0 : Option Nat) (v1 : Int32) (v2 : Option Nat), ct_ yX0_deadlineOf (wsW_ yX0_deadlineOf cX0_deadlineOf 4 (some .int) [(0, 9, 12, 21)]) d em_i [va_rf v0, .int v1, va_rf v2] (fn_X0_deadlineOf d v0 v1 v2)
  | 0, _, _, _ => ct_fail
  | d + 1, v0, v1, v2 => ct_ofH [(false, va_rf v0), (false, .int v1), (false, va_rf v2)] [some (va_rf v0), some (.int v1), some (va_rf v2), none] (by decide) rfl ⟨rfl, (rf_cat _), ⟨rfl, rfl, ⟨rfl, (rf_cat _), trivial⟩⟩⟩ (fun E X n0 s0 σ => tj_X0_deadlineOf_B0 d v0 v1 v2 σ)
theorem tj_X1_dismissKeeper_B0 {E : tj_E} {X : tj_X} {n0 s0 : Nat} (d : Nat) (v0 : Option Nat) (v1 : Int32) (σ : hp_S) : tj_T E X RX1 "dismissKeeper" cX1_dismissKeeper 2 (some .int) (d + 1) [] n0 s0 em_i σ 0 [some (va_rf v0), some (.int v1)] [] (fn_X1_dismissKeeper_B0 d v0 v1) := by
  unfold fn_X1_dismissKeeper_B0
  refine tj_aload_n dX1_dismissKeeper_0 rfl ?_
  refine tj_ldcS (ev_t 30 rfl) dX1_dismissKeeper_1 (fun v101 => ?_)
  refine tj_iconst (1 : Int32) dX1_dismissKeeper_3 rfl ?_
  refine tj_newI q426 dX1_dismissKeeper_4 (fun a102 σ => ?_)
  refine tj_dup dX1_dismissKeeper_6 (rf_cat _) ?_
  refine tj_iconst (0 : Int32) dX1_dismissKeeper_7 rfl ?_
  refine tj_iload_n dX1_dismissKeeper_8 rfl ?_
  refine tj_iast dX1_dismissKeeper_9 (fun σ => ?_)
  refine tj_callVX (as := [va_rf v101, va_rf (some a102)]) (rest := []) (st' := (fun r => [.int r])) (t := 0) (fun a e => by cases e; exact ct_X1_change d _ _ _) (by decide) rfl q401 q403 qs0 q96 q404 rfl md_X1_change rfl (by decide) rfl (by decide) dX1_dismissKeeper_10 (fun _ => rfl) (fun r103 σ => ?_) (by decide)
  exact tj_iret dX1_dismissKeeper_13
theorem ct_X1_dismissKeeper : ∀ (d : Nat) (v0 : Option Nat) (v1 : Int32), ct_ yX1_dismissKeeper (ws_ yX1_dismissKeeper cX1_dismissKeeper 2 (some .int)) d em_i [va_rf v0, .int v1] (fn_X1_dismissKeeper d v0 v1)
  | 0, _, _ => ct_fail
  | d + 1, v0, v1 => ct_of [(false, va_rf v0), (false, .int v1)] [some (va_rf v0), some (.int v1)] (by decide) rfl ⟨rfl, (rf_cat _), ⟨rfl, rfl, trivial⟩⟩ (fun E X n0 s0 σ => tj_X1_dismissKeeper_B0 d v0 v1 σ)
