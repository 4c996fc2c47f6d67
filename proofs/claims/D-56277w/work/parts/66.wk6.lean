set_option maxRecDepth 100000
theorem tj_X0_roar_B0 {E : tj_E} {X : tj_X} {n0 s0 : Nat} (d : Nat) (v0 : Option Nat) (v1 : Int32) (v2 : Int32) (v3 : Option Nat) (σ : hp_S) : tj_T E X RX0 "roar" cX0_roar 5 (some .int) (d + 1) [(0, 10, 13, 21), (0, 10, 17, 13)] n0 s0 em_i σ 0 [some (va_rf v0), some (.int v1), some (.int v2), some (va_rf v3), none] [] (fn_X0_roar_B0 d v0 v1 v2 v3) := by
  unfold fn_X0_roar_B0
  refine tj_aload_n dX0_roar_0 rfl ?_
  refine tj_iconst (0 : Int32) dX0_roar_1 rfl ?_
  refine tj_aload_n dX0_roar_2 rfl ?_
  refine tj_iload_n dX0_roar_3 rfl ?_
  refine tj_iload_n dX0_roar_4 rfl ?_
  refine tj_tryV (as := [.int v1, .int v2]) (rest := [.int (0 : Int32), va_rf v3]) (st' := (fun r => [.int r, .int (0 : Int32), va_rf v3])) (t := 0) (fun a e => by cases e; exact ct_X1_roar d _ _ _) (by decide) rfl q3056 q3057 q3058 q96 q3059 rfl md_X1_roar rfl (by decide) rfl (by simp [rf_cat, cat_i, cat_l, cat_f, cat_d]) dX0_roar_5 (fun _ => rfl) (fun r101 σ => ?_) (fun q102 σ => ?_)
  · refine tj_i2l dX0_roar_8 ?_
    refine tj_last dX0_roar_9 (fun σ => ?_)
    refine tj_goto 21 dX0_roar_10 rfl ?_
    refine tj_iconst (0 : Int32) dX0_roar_21 rfl ?_
    exact tj_iret dX0_roar_22
  · refine tj_xin [] ⟨0, 10, 13, 21⟩ [⟨0, 10, 17, 13⟩] "java/util/NoSuchElementException" cx_java_util_NoSuchElementException_34 rfl (by decide) (by decide) q3055 (fun _ h => absurd h List.not_mem_nil) ?_ ?_
    · refine tj_astore dX0_roar_13 (by decide) (rf_cat _) [some (va_rf v0), some (.int v1), some (.int v2), some (va_rf v3), some (va_rf (some q102))] rfl ?_
      refine tj_iconst (1 : Int32) dX0_roar_15 rfl ?_
      exact tj_iret dX0_roar_16
    refine tj_xin [⟨0, 10, 13, 21⟩] ⟨0, 10, 17, 13⟩ [] "java/lang/IllegalArgumentException" cx_java_lang_IllegalArgumentException_35 rfl (by decide) (by decide) q3045 (List.forall_mem_cons.mpr ⟨Or.inr ⟨by decide, "java/util/NoSuchElementException", q3055, nc_java_util_NoSuchElementException_35⟩, fun _ h => absurd h List.not_mem_nil⟩) ?_ ?_
    · refine tj_astore dX0_roar_17 (by decide) (rf_cat _) [some (va_rf v0), some (.int v1), some (.int v2), some (va_rf v3), some (va_rf (some q102))] rfl ?_
      refine tj_iconst (2 : Int32) dX0_roar_19 rfl ?_
      exact tj_iret dX0_roar_20
    exact tj_xfail
theorem ct_X0_roar : ∀ (d : Nat) (v0 : Option Nat) (v1 : Int32) (v2 : Int32) (v3 : Option Nat), ct_ yX0_roar (wsW_ yX0_roar cX0_roar 5 (some .int) [(0, 10, 13, 21), (0, 10, 17, 13)]) d em_i [va_rf v0, .int v1, .int v2, va_rf v3] (fn_X0_roar d v0 v1 v2 v3)
  | 0, _, _, _, _ => ct_fail
  | d + 1, v0, v1, v2, v3 => ct_ofH [(false, va_rf v0), (false, .int v1), (false, .int v2), (false, va_rf v3)] [some (va_rf v0), some (.int v1), some (.int v2), some (va_rf v3), none] (by decide) rfl ⟨rfl, (rf_cat _), ⟨rfl, rfl, ⟨rfl, rfl, ⟨rfl, (rf_cat _), trivial⟩⟩⟩⟩ (fun E X n0 s0 σ => tj_X0_roar_B0 d v0 v1 v2 v3 σ)
theorem tj_X17_init_B0 {E : tj_E} {X : tj_X} {n0 s0 : Nat} (d : Nat) (v0 : Option Nat) (v1 : Int32) (v2 : Option Nat) (σ : hp_S) : tj_T E X RX17 "<init>" cX17_init 3 none (d + 1) [] n0 s0 em_v σ 0 [some (va_rf v0), some (.int v1), some (va_rf v2)] [] (fn_X17_init_B0 d v0 v1 v2) := by
  unfold fn_X17_init_B0
  refine tj_aload_n dX17_init_0 rfl ?_
  refine tj_aload_n dX17_init_1 rfl ?_
  refine tj_callI (as := [va_rf v2]) (rest := []) (st' := (fun _ => [])) (fun a e => by cases e; exact ct_X6_init d _ _) q3721 q1981 q149 q1982 rfl md_X6_init rfl (by decide) rfl (by decide) dX17_init_2 (fun _ => rfl) (fun _ σ => ?_) (by decide)
  refine tj_aload_n dX17_init_5 rfl ?_
  refine tj_iload_n dX17_init_6 rfl ?_
  refine tj_putF fl_X17_7 rfl rfl dX17_init_7 (fun σ => ?_)
  exact tj_vret dX17_init_10
theorem ct_X17_init : ∀ (d : Nat) (v0 : Option Nat) (v1 : Int32) (v2 : Option Nat), ct_ yX17_init (ws_ yX17_init cX17_init 3 none) d em_v [va_rf v0, .int v1, va_rf v2] (fn_X17_init d v0 v1 v2)
  | 0, _, _, _ => ct_fail
  | d + 1, v0, v1, v2 => ct_of [(false, va_rf v0), (false, .int v1), (false, va_rf v2)] [some (va_rf v0), some (.int v1), some (va_rf v2)] (by decide) rfl ⟨rfl, (rf_cat _), ⟨rfl, rfl, ⟨rfl, (rf_cat _), trivial⟩⟩⟩ (fun E X n0 s0 σ => tj_X17_init_B0 d v0 v1 v2 σ)
theorem tj_X1_execute_J38 {E : tj_E} {X : tj_X} {n0 s0 : Nat} (d : Nat) (l3 : Int32) (p0 : Option Nat) (σ : hp_S) : tj_T E X RX1 "execute" cX1_execute 5 (some .int) (d + 1) [(20, 35, 38, 1)] n0 s0 em_i σ 38 [none, none, none, some (.int l3), none] [va_rf p0] (fn_X1_execute_J38 d l3 p0) := by
  unfold fn_X1_execute_J38
  refine tj_astore dX1_execute_38 (by decide) rfl [none, none, none, some (.int l3), some (va_rf p0)] rfl ?_
  refine tj_new nw_X1_386 dX1_execute_40 (fun a101 σ => ?_)
  refine tj_dup dX1_execute_43 (rf_cat _) ?_
  refine tj_iload_n dX1_execute_44 rfl ?_
  refine tj_aload dX1_execute_45 rfl ?_
  refine tj_callI (as := [.int l3, va_rf p0]) (rest := [va_rf (some a101)]) (st' := (fun _ => [va_rf (some a101)])) (fun a e => by cases e; exact ct_X17_init d _ _ _) q3718 q3719 q175 q3720 rfl md_X17_init rfl (by decide) rfl (by simp [rf_cat, cat_i, cat_l, cat_f, cat_d]) dX1_execute_47 (fun _ => rfl) (fun _ σ => ?_) (by decide)
  refine tj_athrow dX1_execute_50 (fun q102 => ?_)
  exact tj_xout (by decide) (by decide)
theorem tj_X1_execute_L10_b {E : tj_E} {X : tj_X} {n0 s0 : Nat} (d : Nat) {b10 : Option Nat → Option Nat → Option Nat → Int32 → mx_M Int32} (h10 : ∀ (l0 : Option Nat) (l1 : Option Nat) (l2 : Option Nat) (l3 : Int32) (σ : hp_S), tj_T E X RX1 "execute" cX1_execute 5 (some .int) (d + 1) [(20, 35, 38, 1)] n0 s0 em_i σ 10 [some (va_rf l0), some (va_rf l1), some (va_rf l2), some (.int l3), none] [] (b10 l0 l1 l2 l3)) (l0 : Option Nat) (l1 : Option Nat) (l2 : Option Nat) (l3 : Int32) (σ : hp_S) : tj_T E X RX1 "execute" cX1_execute 5 (some .int) (d + 1) [(20, 35, 38, 1)] n0 s0 em_i σ 10 [some (va_rf l0), some (va_rf l1), some (va_rf l2), some (.int l3), none] [] (fn_X1_execute_L10_b d b10 l0 l1 l2 l3) := by
  unfold fn_X1_execute_L10_b
  refine tj_iload_n dX1_execute_10 rfl ?_
  refine tj_aload_n dX1_execute_11 rfl ?_
  refine tj_callF (as := []) (rest := [.int l3]) (st' := (fun r => [.int r, .int l3])) (t := 16) (fun a e => by cases e; exact ct_J4_size d _) (by decide) rfl q2140 q2143 q1048 q103 q1049 (ev_i 9 rfl) q2145 q2144 q1323 md_i9 rfl (by decide) rfl (by simp [rf_cat, cat_i, cat_l, cat_f, cat_d]) dX1_execute_12 (fun _ => rfl) (fun r101 σ => ?_) (by decide)
  refine tj_icmp_ge 57 dX1_execute_17 rfl (fun _ => ?_) (fun _ => ?_)
  · refine tj_aload_n dX1_execute_57 rfl ?_
    refine tj_aload_n dX1_execute_58 rfl ?_
    refine tj_aload_n dX1_execute_59 rfl ?_
    refine tj_callF (as := []) (rest := [va_rf l2, va_rf l0]) (st' := (fun r => [.int r, va_rf l2, va_rf l0])) (t := 16) (fun a e => by cases e; exact ct_J4_size d _) (by decide) rfl q2140 q2143 q1048 q103 q1049 (ev_i 9 rfl) q2145 q2144 q1323 md_i9 rfl (by decide) rfl (by simp [rf_cat, cat_i, cat_l, cat_f, cat_d]) dX1_execute_60 (fun _ => rfl) (fun r102 σ => ?_) (by decide)
    refine tj_callV (as := [va_rf l2, .int r102]) (rest := []) (st' := (fun r => [.int r])) (t := 0) (fun a e => by cases e; exact ct_X1_commit d _ _ _) (by decide) rfl q2655 q2657 qs32 q96 q2658 rfl md_X1_commit rfl (by decide) rfl (by decide) dX1_execute_65 (fun _ => rfl) (fun r103 σ => ?_) (by decide)
    exact tj_iret dX1_execute_68
  · refine tj_aload_n dX1_execute_20 rfl ?_
    refine tj_iload_n dX1_execute_21 rfl ?_
    refine tj_tryF (as := [.int l3]) (rest := []) (st' := (fun r => [va_rf r])) (t := 16) (fun a e => by cases e; exact ct_J4_get d _ _) (by decide) rfl q2156 q1324 q1120 q103 q1121 (ev_i 3 rfl) q1326 q1325 q1323 md_i3 rfl (by decide) rfl (by decide) dX1_execute_22 (fun _ => rfl) (fun r104 σ => ?_) (fun q105 σ => ?_)
    · refine tj_cast (nm := "LionGate$Command") q1862 ca_LionGate_Command dX1_execute_27 ?_
      refine tj_aload_n dX1_execute_30 rfl ?_
      refine tj_tryV (as := [va_rf l2]) (rest := []) (st' := (fun r => [.int r])) (t := 11) (fun a e => by cases e; exact ct_X5_applyTo d _ _) (by decide) rfl q1875 q1876 q1877 q148 q1878 rfl md_X5_applyTo rfl (by decide) rfl (by decide) dX1_execute_31 (fun _ => rfl) (fun r106 σ => ?_) (fun q107 σ => ?_)
      · refine tj_pop dX1_execute_34 rfl ?_
        refine tj_goto 51 dX1_execute_35 rfl ?_
        refine tj_iinc (1 : Int32) dX1_execute_51 rfl rfl (by decide) (rf_cat _) [some (va_rf l0), some (va_rf l1), some (va_rf l2), some (.int (l3 + (1 : Int32))), none] rfl ?_
        refine tj_goto 10 dX1_execute_54 rfl ?_
        exact h10 l0 l1 l2 _ _
      · refine tj_xin [] ⟨20, 35, 38, 1⟩ [] "LionGate$ConditionFailure" cx_LionGate_ConditionFailure_13 rfl (by decide) (by decide) q405 (fun _ h => absurd h List.not_mem_nil) ?_ ?_
        · refine tj_wk (L' := [none, none, none, some (.int l3), none]) ⟨rfl, trivial⟩ ?_
          exact tj_X1_execute_J38 d l3 (some q107) _
        exact tj_xfail
    · refine tj_xin [] ⟨20, 35, 38, 1⟩ [] "LionGate$ConditionFailure" cx_LionGate_ConditionFailure_13 rfl (by decide) (by decide) q405 (fun _ h => absurd h List.not_mem_nil) ?_ ?_
      · refine tj_wk (L' := [none, none, none, some (.int l3), none]) ⟨rfl, trivial⟩ ?_
        exact tj_X1_execute_J38 d l3 (some q105) _
      exact tj_xfail
theorem tj_X1_execute_L10 {E : tj_E} {X : tj_X} {n0 s0 : Nat} (d : Nat) : ∀ (k : Nat) (l0 : Option Nat) (l1 : Option Nat) (l2 : Option Nat) (l3 : Int32) (σ : hp_S), tj_T E X RX1 "execute" cX1_execute 5 (some .int) (d + 1) [(20, 35, 38, 1)] n0 s0 em_i σ 10 [some (va_rf l0), some (va_rf l1), some (va_rf l2), some (.int l3), none] [] (fn_X1_execute_L10 d k l0 l1 l2 l3) := by
  intro k
  induction k with
  | zero =>
    intro l0 l1 l2 l3 σ
    exact tj_fail
  | succ k ih =>
    intro l0 l1 l2 l3 σ
    exact tj_X1_execute_L10_b d ih l0 l1 l2 l3 σ
theorem tj_X1_execute_B0 {E : tj_E} {X : tj_X} {n0 s0 : Nat} (d : Nat) (v0 : Option Nat) (v1 : Option Nat) (σ : hp_S) : tj_T E X RX1 "execute" cX1_execute 5 (some .int) (d + 1) [(20, 35, 38, 1)] n0 s0 em_i σ 0 [some (va_rf v0), some (va_rf v1), none, none, none] [] (fn_X1_execute_B0 d v0 v1) := by
  unfold fn_X1_execute_B0
  refine tj_aload_n dX1_execute_0 rfl ?_
  refine tj_getR fl_X1_66 dX1_execute_1 (fun v101 => ?_)
  refine tj_callV (as := []) (rest := []) (st' := (fun r => [va_rf r])) (t := 2) (fun a e => by cases e; exact ct_X2_copy d _) (by decide) rfl q406 q407 q408 q97 q409 rfl md_X2_copy rfl (by decide) rfl (by decide) dX1_execute_4 (fun _ => rfl) (fun r102 σ => ?_) (by decide)
  refine tj_astore_n dX1_execute_7 (by decide) (rf_cat _) [some (va_rf v0), some (va_rf v1), some (va_rf r102), none, none] rfl ?_
  refine tj_iconst (0 : Int32) dX1_execute_8 rfl ?_
  refine tj_istore_n dX1_execute_9 (by decide) (rf_cat _) [some (va_rf v0), some (va_rf v1), some (va_rf r102), some (.int (0 : Int32)), none] rfl ?_
  exact tj_X1_execute_L10 d mx_K v0 v1 r102 (0 : Int32) _
theorem ct_X1_execute : ∀ (d : Nat) (v0 : Option Nat) (v1 : Option Nat), ct_ yX1_execute (wsW_ yX1_execute cX1_execute 5 (some .int) [(20, 35, 38, 1)]) d em_i [va_rf v0, va_rf v1] (fn_X1_execute d v0 v1)
  | 0, _, _ => ct_fail
  | d + 1, v0, v1 => ct_ofH [(false, va_rf v0), (false, va_rf v1)] [some (va_rf v0), some (va_rf v1), none, none, none] (by decide) rfl ⟨rfl, (rf_cat _), ⟨rfl, (rf_cat _), trivial⟩⟩ (fun E X n0 s0 σ => tj_X1_execute_B0 d v0 v1 σ)
theorem tj_X17_index_B0 {E : tj_E} {X : tj_X} {n0 s0 : Nat} (d : Nat) (v0 : Option Nat) (σ : hp_S) : tj_T E X RX17 "index" cX17_index 1 (some .int) (d + 1) [] n0 s0 em_i σ 0 [some (va_rf v0)] [] (fn_X17_index_B0 d v0) := by
  unfold fn_X17_index_B0
  refine tj_aload_n dX17_index_0 rfl ?_
  refine tj_getI fl_X17_7r dX17_index_1 (fun v101 => ?_)
  exact tj_iret dX17_index_4
theorem ct_X17_index : ∀ (d : Nat) (v0 : Option Nat), ct_ yX17_index (ws_ yX17_index cX17_index 1 (some .int)) d em_i [va_rf v0] (fn_X17_index d v0)
  | 0, _ => ct_fail
  | d + 1, v0 => ct_of [(false, va_rf v0)] [some (va_rf v0)] (by decide) rfl ⟨rfl, (rf_cat _), trivial⟩ (fun E X n0 s0 σ => tj_X17_index_B0 d v0 σ)
theorem tj_X7_kind_B0 {E : tj_E} {X : tj_X} {n0 s0 : Nat} (d : Nat) (v0 : Option Nat) (σ : hp_S) : tj_T E X RX7 "kind" cX7_kind 1 (some .char) (d + 1) [] n0 s0 em_i σ 0 [some (va_rf v0)] [] (fn_X7_kind_B0 d v0) := by
  unfold fn_X7_kind_B0
  refine tj_aload_n dX7_kind_0 rfl ?_
  refine tj_getI fl_X7_7r dX7_kind_1 (fun v101 => ?_)
  exact tj_zret dX7_kind_4
theorem ct_X7_kind : ∀ (d : Nat) (v0 : Option Nat), ct_ yX7_kind (ws_ yX7_kind cX7_kind 1 (some .char)) d em_i [va_rf v0] (fn_X7_kind d v0)
  | 0, _ => ct_fail
  | d + 1, v0 => ct_of [(false, va_rf v0)] [some (va_rf v0)] (by decide) rfl ⟨rfl, (rf_cat _), trivial⟩ (fun E X n0 s0 σ => tj_X7_kind_B0 d v0 σ)
theorem tj_X17_kind_B0 {E : tj_E} {X : tj_X} {n0 s0 : Nat} (d : Nat) (v0 : Option Nat) (σ : hp_S) : tj_T E X RX17 "kind" cX17_kind 3 (some .char) (d + 1) [] n0 s0 em_i σ 0 [some (va_rf v0), none, none] [] (fn_X17_kind_B0 d v0) := by
  unfold fn_X17_kind_B0
  refine tj_aload_n dX17_kind_0 rfl ?_
  refine tj_cause q3795 (by decide) dX17_kind_1 (fun v101 => ?_)
  refine tj_astore_n dX17_kind_4 (by decide) trivial [some (va_rf v0), none, some (va_rf v101)] rfl ?_
  refine tj_aload_n dX17_kind_5 rfl ?_
  refine tj_inst (nm := "LionGate$ConditionFailure") q3801 ca_LionGate_ConditionFailure nc_LionGate_ConditionFailure_ dX17_kind_6 (fun v102 => ?_)
  refine tj_if_eq 24 dX17_kind_9 rfl (fun _ => ?_) (fun _ => ?_)
  · refine tj_bipush (32 : Int32) dX17_kind_24 (by decide) ?_
    exact tj_zpure rfl dX17_kind_26
  · refine tj_aload_n dX17_kind_12 rfl ?_
    refine tj_cast (nm := "LionGate$ConditionFailure") q3801 ca_LionGate_ConditionFailure dX17_kind_13 ?_
    refine tj_astore_n dX17_kind_16 (by decide) (rf_cat _) [some (va_rf v0), some (va_rf v101), some (va_rf v101)] rfl ?_
    refine tj_aload_n dX17_kind_17 rfl ?_
    refine tj_callV (as := []) (rest := []) (st' := (fun r => [.int r])) (t := 13) (fun a e => by cases e; exact ct_X7_kind d _) (by decide) rfl q3802 q3803 q3804 q150 q3805 rfl md_X7_kind rfl (by decide) rfl (by decide) dX17_kind_18 (fun _ => rfl) (fun r103 σ => ?_) (by decide)
    refine tj_goto 26 dX17_kind_21 rfl ?_
    exact tj_zret dX17_kind_26
theorem ct_X17_kind : ∀ (d : Nat) (v0 : Option Nat), ct_ yX17_kind (ws_ yX17_kind cX17_kind 3 (some .char)) d em_i [va_rf v0] (fn_X17_kind d v0)
  | 0, _ => ct_fail
  | d + 1, v0 => ct_of [(false, va_rf v0)] [some (va_rf v0), none, none] (by decide) rfl ⟨rfl, (rf_cat _), trivial⟩ (fun E X n0 s0 σ => tj_X17_kind_B0 d v0 σ)
theorem tj_X16_position_B0 {E : tj_E} {X : tj_X} {n0 s0 : Nat} (d : Nat) (v0 : Option Nat) (σ : hp_S) : tj_T E X RX16 "position" cX16_position 1 (some .int) (d + 1) [] n0 s0 em_i σ 0 [some (va_rf v0)] [] (fn_X16_position_B0 d v0) := by
  unfold fn_X16_position_B0
  refine tj_aload_n dX16_position_0 rfl ?_
  refine tj_getI fl_X16_7r dX16_position_1 (fun v101 => ?_)
  exact tj_iret dX16_position_4
theorem ct_X16_position : ∀ (d : Nat) (v0 : Option Nat), ct_ yX16_position (ws_ yX16_position cX16_position 1 (some .int)) d em_i [va_rf v0] (fn_X16_position d v0)
  | 0, _ => ct_fail
  | d + 1, v0 => ct_of [(false, va_rf v0)] [some (va_rf v0)] (by decide) rfl ⟨rfl, (rf_cat _), trivial⟩ (fun E X n0 s0 σ => tj_X16_position_B0 d v0 σ)
theorem tj_X1_note_B0 {E : tj_E} {X : tj_X} {n0 s0 : Nat} (d : Nat) (v0 : Option Nat) (v1 : Option Nat) (σ : hp_S) : tj_T E X RX1 "note" cX1_note 4 none (d + 1) [] n0 s0 em_v σ 0 [some (va_rf v0), some (va_rf v1), none, none] [] (fn_X1_note_B0 d v0 v1) := by
  unfold fn_X1_note_B0
  refine tj_aload_n dX1_note_0 rfl ?_
  refine tj_inst (nm := "LionGate$SyntaxFailure") q3448 ca_LionGate_SyntaxFailure nc_LionGate_SyntaxFailure_14 dX1_note_1 (fun v101 => ?_)
  refine tj_if_eq 23 dX1_note_4 rfl (fun _ => ?_) (fun _ => ?_)
  · refine tj_aload_n dX1_note_23 rfl ?_
    refine tj_inst (nm := "LionGate$CommandFailure") q3449 ca_LionGate_CommandFailure nc_LionGate_CommandFailure_ dX1_note_24 (fun v102 => ?_)
    refine tj_if_eq 51 dX1_note_27 rfl (fun _ => ?_) (fun _ => ?_)
    · exact tj_vret dX1_note_51
    · refine tj_aload_n dX1_note_30 rfl ?_
      refine tj_cast (nm := "LionGate$CommandFailure") q3449 ca_LionGate_CommandFailure dX1_note_31 ?_
      refine tj_astore_n dX1_note_34 (by decide) trivial [some (va_rf v0), some (va_rf v1), none, some (va_rf v1)] rfl ?_
      refine tj_aload_n dX1_note_35 rfl ?_
      refine tj_aload_n dX1_note_36 rfl ?_
      refine tj_callV (as := []) (rest := [va_rf v0]) (st' := (fun r => [.int r, va_rf v0])) (t := 14) (fun a e => by cases e; exact ct_X17_index d _) (by decide) rfl q3787 q3788 q3789 q175 q3790 rfl md_X17_index rfl (by decide) rfl (by simp [rf_cat, cat_i, cat_l, cat_f, cat_d]) dX1_note_37 (fun _ => rfl) (fun r103 σ => ?_) (by decide)
      refine tj_put fl_X1_90 rfl rfl dX1_note_40 (fun σ => ?_)
      refine tj_aload_n dX1_note_43 rfl ?_
      refine tj_aload_n dX1_note_44 rfl ?_
      refine tj_callV (as := []) (rest := [va_rf v0]) (st' := (fun r => [.int r, va_rf v0])) (t := 14) (fun a e => by cases e; exact ct_X17_kind d _) (by decide) rfl q3791 q3792 q3793 q175 q3794 rfl md_X17_kind rfl (by decide) rfl (by simp [rf_cat, cat_i, cat_l, cat_f, cat_d]) dX1_note_45 (fun _ => rfl) (fun r104 σ => ?_) (by decide)
      refine tj_putN fl_X1_403 nf_C dX1_note_48 (fun σ => ?_)
      exact tj_vret dX1_note_51
  · refine tj_aload_n dX1_note_7 rfl ?_
    refine tj_cast (nm := "LionGate$SyntaxFailure") q3448 ca_LionGate_SyntaxFailure dX1_note_8 ?_
    refine tj_astore_n dX1_note_11 (by decide) (rf_cat _) [some (va_rf v0), some (va_rf v1), some (va_rf v1), none] rfl ?_
    refine tj_aload_n dX1_note_12 rfl ?_
    refine tj_aload_n dX1_note_13 rfl ?_
    refine tj_callV (as := []) (rest := [va_rf v0]) (st' := (fun r => [.int r, va_rf v0])) (t := 15) (fun a e => by cases e; exact ct_X16_position d _) (by decide) rfl q3783 q3784 q3785 q174 q3786 rfl md_X16_position rfl (by decide) rfl (by simp [rf_cat, cat_i, cat_l, cat_f, cat_d]) dX1_note_14 (fun _ => rfl) (fun r105 σ => ?_) (by decide)
    refine tj_put fl_X1_86 rfl rfl dX1_note_17 (fun σ => ?_)
    refine tj_goto 51 dX1_note_20 rfl ?_
    exact tj_vret dX1_note_51
theorem ct_X1_note : ∀ (d : Nat) (v0 : Option Nat) (v1 : Option Nat), ct_ yX1_note (ws_ yX1_note cX1_note 4 none) d em_v [va_rf v0, va_rf v1] (fn_X1_note d v0 v1)
  | 0, _, _ => ct_fail
  | d + 1, v0, v1 => ct_of [(false, va_rf v0), (false, va_rf v1)] [some (va_rf v0), some (va_rf v1), none, none] (by decide) rfl ⟨rfl, (rf_cat _), ⟨rfl, (rf_cat _), trivial⟩⟩ (fun E X n0 s0 σ => tj_X1_note_B0 d v0 v1 σ)
theorem tj_X17_asPublicException_B0 {E : tj_E} {X : tj_X} {n0 s0 : Nat} (d : Nat) (v0 : Option Nat) (σ : hp_S) : tj_T E X RX17 "asPublicException" cX17_asPublicException 1 (some (.object "java/lang/RuntimeException")) (d + 1) [] n0 s0 em_r σ 0 [some (va_rf v0)] [] (fn_X17_asPublicException_B0 d v0) := by
  unfold fn_X17_asPublicException_B0
  refine tj_mk0 ex_X17_23_3813 (by decide) dX17_asPublicException_0 dX17_asPublicException_3 dX17_asPublicException_4 (fun a101 σ => ?_)
  exact tj_aret (Or.inl ⟨_, rfl⟩) dX17_asPublicException_7
theorem ct_X17_asPublicException : ∀ (d : Nat) (v0 : Option Nat), ct_ yX17_asPublicException (ws_ yX17_asPublicException cX17_asPublicException 1 (some (.object "java/lang/RuntimeException"))) d em_r [va_rf v0] (fn_X17_asPublicException d v0)
  | 0, _ => ct_fail
  | d + 1, v0 => ct_of [(false, va_rf v0)] [some (va_rf v0)] (by decide) rfl ⟨rfl, (rf_cat _), trivial⟩ (fun E X n0 s0 σ => tj_X17_asPublicException_B0 d v0 σ)
theorem tj_J55_init_B0 {E : tj_E} {X : tj_X} {n0 s0 : Nat} (d : Nat) (v0 : Option Nat) (σ : hp_S) : tj_T E X RJ55 "<init>" cJ55_init 1 none (d + 1) [] n0 s0 em_v σ 0 [some (va_rf v0)] [] (fn_J55_init_B0 d v0) := by
  unfold fn_J55_init_B0
  refine tj_aload_n dJ55_init_0 rfl ?_
  refine tj_callI (as := []) (rest := []) (st' := (fun _ => [])) (fun a e => by cases e; exact ct_J2_init d _) q3491 q243 q101 q244 rfl md_J2_init rfl (by decide) rfl (by decide) dJ55_init_1 (fun _ => rfl) (fun _ σ => ?_) (by decide)
  exact tj_vret dJ55_init_4
theorem ct_J55_init : ∀ (d : Nat) (v0 : Option Nat), ct_ yJ55_init (ws_ yJ55_init cJ55_init 1 none) d em_v [va_rf v0] (fn_J55_init d v0)
  | 0, _ => ct_fail
  | d + 1, v0 => ct_of [(false, va_rf v0)] [some (va_rf v0)] (by decide) rfl ⟨rfl, (rf_cat _), trivial⟩ (fun E X n0 s0 σ => tj_J55_init_B0 d v0 σ)
theorem tj_J56_init_B0 {E : tj_E} {X : tj_X} {n0 s0 : Nat} (d : Nat) (v0 : Option Nat) (σ : hp_S) : tj_T E X RJ56 "<init>" cJ56_init 1 none (d + 1) [] n0 s0 em_v σ 0 [some (va_rf v0)] [] (fn_J56_init_B0 d v0) := by
  unfold fn_J56_init_B0
  refine tj_aload_n dJ56_init_0 rfl ?_
  refine tj_callI (as := []) (rest := []) (st' := (fun _ => [])) (fun a e => by cases e; exact ct_J55_init d _) q3488 q3489 q170 q3490 rfl md_J55_init rfl (by decide) rfl (by decide) dJ56_init_1 (fun _ => rfl) (fun _ σ => ?_) (by decide)
  exact tj_vret dJ56_init_4
theorem ct_J56_init : ∀ (d : Nat) (v0 : Option Nat), ct_ yJ56_init (ws_ yJ56_init cJ56_init 1 none) d em_v [va_rf v0] (fn_J56_init d v0)
  | 0, _ => ct_fail
  | d + 1, v0 => ct_of [(false, va_rf v0)] [some (va_rf v0)] (by decide) rfl ⟨rfl, (rf_cat _), trivial⟩ (fun E X n0 s0 σ => tj_J56_init_B0 d v0 σ)
theorem tj_J58_init_B0 {E : tj_E} {X : tj_X} {n0 s0 : Nat} (d : Nat) (v0 : Option Nat) (v1 : Option Nat) (v2 : Int32) (σ : hp_S) : tj_T E X RJ58 "<init>" cJ58_init 3 none (d + 1) [] n0 s0 em_v σ 0 [some (va_rf v0), some (va_rf v1), some (.int v2)] [] (fn_J58_init_B0 d v0 v1 v2) := by
  unfold fn_J58_init_B0
  refine tj_aload_n dJ58_init_0 rfl ?_
  refine tj_callI (as := []) (rest := []) (st' := (fun _ => [])) (fun a e => by cases e; exact ct_J56_init d _) q3508 q3486 q171 q3487 rfl md_J56_init rfl (by decide) rfl (by decide) dJ58_init_1 (fun _ => rfl) (fun _ σ => ?_) (by decide)
  refine tj_aload_n dJ58_init_4 rfl ?_
  refine tj_aload_n dJ58_init_5 rfl ?_
  refine tj_putF fl_J58_7 (nar_rf _) (fit_rfa _) dJ58_init_6 (fun σ => ?_)
  refine tj_aload_n dJ58_init_9 rfl ?_
  refine tj_iload_n dJ58_init_10 rfl ?_
  refine tj_putFN fl_J58_13 nf_Z dJ58_init_11 (fun σ => ?_)
  exact tj_vret dJ58_init_14
theorem ct_J58_init : ∀ (d : Nat) (v0 : Option Nat) (v1 : Option Nat) (v2 : Int32), ct_ yJ58_init (ws_ yJ58_init cJ58_init 3 none) d em_v [va_rf v0, va_rf v1, .int v2] (fn_J58_init d v0 v1 v2)
  | 0, _, _, _ => ct_fail
  | d + 1, v0, v1, v2 => ct_of [(false, va_rf v0), (false, va_rf v1), (false, .int v2)] [some (va_rf v0), some (va_rf v1), some (.int v2)] (by decide) rfl ⟨rfl, (rf_cat _), ⟨rfl, (rf_cat _), ⟨rfl, rfl, trivial⟩⟩⟩ (fun E X n0 s0 σ => tj_J58_init_B0 d v0 v1 v2 σ)
theorem tj_J16_listFromTrustedArray_L30_b {E : tj_E} {X : tj_X} {n0 s0 : Nat} (d : Nat) {b30 : Option Nat → Option Nat → Int32 → Int32 → mx_M (Option Nat)} (h30 : ∀ (l0 : Option Nat) (l1 : Option Nat) (l2 : Int32) (l3 : Int32) (σ : hp_S), tj_T E X RJ16 "listFromTrustedArray" cJ16_listFromTrustedArray 5 (some (.object "java/util/List")) (d + 1) [] n0 s0 em_r σ 30 [some (va_rf l0), some (va_rf l1), some (.int l2), some (.int l3), none] [] (b30 l0 l1 l2 l3)) (l0 : Option Nat) (l1 : Option Nat) (l2 : Int32) (l3 : Int32) (σ : hp_S) : tj_T E X RJ16 "listFromTrustedArray" cJ16_listFromTrustedArray 5 (some (.object "java/util/List")) (d + 1) [] n0 s0 em_r σ 30 [some (va_rf l0), some (va_rf l1), some (.int l2), some (.int l3), none] [] (fn_J16_listFromTrustedArray_L30_b d b30 l0 l1 l2 l3) := by
  unfold fn_J16_listFromTrustedArray_L30_b
  refine tj_iload_n dJ16_listFromTrustedArray_30 rfl ?_
  refine tj_iload_n dJ16_listFromTrustedArray_31 rfl ?_
  refine tj_icmp_ge 52 dJ16_listFromTrustedArray_32 rfl (fun _ => ?_) (fun _ => ?_)
  · refine tj_aload_n dJ16_listFromTrustedArray_52 rfl ?_
    refine tj_alen dJ16_listFromTrustedArray_53 (fun v101 => ?_)
    refine tj_table [((0 : Int32), 80), ((1 : Int32), 86), ((2 : Int32), 99)] 115 dJ16_listFromTrustedArray_54 rfl rfl rfl rfl rfl ?_ ?_
    · intro i t key A h1 h2
      match i, h1, h2 with
      | 0, h1, h2 =>
        cases h1; cases h2
        refine tj_gets (ev_s 9 rfl) q3478 dJ16_listFromTrustedArray_80 (fun v102 => ?_)
        refine tj_goto 124 dJ16_listFromTrustedArray_83 rfl ?_
        exact tj_aret (Or.inl ⟨_, rfl⟩) dJ16_listFromTrustedArray_124
      | 1, h1, h2 =>
        cases h1; cases h2
        exact tj_fail
      | 2, h1, h2 =>
        cases h1; cases h2
        exact tj_fail
      | _ + 3, h1, _ => simp at h1
    · refine tj_new nw_J16_12 dJ16_listFromTrustedArray_115 (fun a103 σ => ?_)
      refine tj_dup dJ16_listFromTrustedArray_118 (rf_cat _) ?_
      refine tj_aload_n dJ16_listFromTrustedArray_119 rfl ?_
      refine tj_iconst (0 : Int32) dJ16_listFromTrustedArray_120 rfl ?_
      refine tj_callIN (as := [va_rf l0, .int (0 : Int32)]) (rest := [va_rf (some a103)]) (st' := (fun _ => [va_rf (some a103)])) (fun a e => by cases e; exact ct_J58_init d _ _ _) q3505 q3506 q173 q3507 rfl md_J58_init rfl (by decide) rfl (by simp [rf_cat, cat_i, cat_l, cat_f, cat_d]) dJ16_listFromTrustedArray_121 (fun _ => rfl) (fun _ σ => ?_) (by decide)
      exact tj_aret (Or.inl ⟨_, rfl⟩) dJ16_listFromTrustedArray_124
  · refine tj_aload_n dJ16_listFromTrustedArray_35 rfl ?_
    refine tj_iload_n dJ16_listFromTrustedArray_36 rfl ?_
    refine tj_aald dJ16_listFromTrustedArray_37 (fun v104 => ?_)
    refine tj_astore dJ16_listFromTrustedArray_38 (by decide) rfl [some (va_rf l0), some (va_rf l1), some (.int l2), some (.int l3), some (va_rf v104)] rfl ?_
    refine tj_aload dJ16_listFromTrustedArray_40 rfl ?_
    refine tj_callS (as := [va_rf v104]) (rest := []) (st' := (fun r => [va_rf r])) (ct_J37_requireNonNull d v104) q3477 q1721 q139 q1722 md_J37_requireNonNull rfl (by decide) rfl (by decide) dJ16_listFromTrustedArray_42 (fun _ => rfl) (fun r105 σ => ?_) (by decide)
    refine tj_pop dJ16_listFromTrustedArray_45 (rf_cat _) ?_
    refine tj_iinc (1 : Int32) dJ16_listFromTrustedArray_46 rfl rfl (by decide) rfl [some (va_rf l0), some (va_rf l1), some (.int l2), some (.int (l3 + (1 : Int32))), some (va_rf v104)] rfl ?_
    refine tj_goto 30 dJ16_listFromTrustedArray_49 rfl ?_
    refine tj_wk (L' := [some (va_rf l0), some (va_rf l1), some (.int l2), some (.int (l3 + (1 : Int32))), none]) ⟨rfl, rfl, rfl, rfl, trivial⟩ ?_
    exact h30 l0 l1 l2 _ _
theorem tj_J16_listFromTrustedArray_L30 {E : tj_E} {X : tj_X} {n0 s0 : Nat} (d : Nat) : ∀ (k : Nat) (l0 : Option Nat) (l1 : Option Nat) (l2 : Int32) (l3 : Int32) (σ : hp_S), tj_T E X RJ16 "listFromTrustedArray" cJ16_listFromTrustedArray 5 (some (.object "java/util/List")) (d + 1) [] n0 s0 em_r σ 30 [some (va_rf l0), some (va_rf l1), some (.int l2), some (.int l3), none] [] (fn_J16_listFromTrustedArray_L30 d k l0 l1 l2 l3) := by
  intro k
  induction k with
  | zero =>
    intro l0 l1 l2 l3 σ
    exact tj_fail
  | succ k ih =>
    intro l0 l1 l2 l3 σ
    exact tj_J16_listFromTrustedArray_L30_b d ih l0 l1 l2 l3 σ
theorem tj_J16_listFromTrustedArray_J23 {E : tj_E} {X : tj_X} {n0 s0 : Nat} (d : Nat) (l0 : Option Nat) (σ : hp_S) : tj_T E X RJ16 "listFromTrustedArray" cJ16_listFromTrustedArray 5 (some (.object "java/util/List")) (d + 1) [] n0 s0 em_r σ 23 [some (va_rf l0), none, none, none, none] [] (fn_J16_listFromTrustedArray_J23 d l0) := by
  unfold fn_J16_listFromTrustedArray_J23
  refine tj_aload_n dJ16_listFromTrustedArray_23 rfl ?_
  refine tj_astore_n dJ16_listFromTrustedArray_24 (by decide) (rf_cat _) [some (va_rf l0), some (va_rf l0), none, none, none] rfl ?_
  refine tj_aload_n dJ16_listFromTrustedArray_25 rfl ?_
  refine tj_alen dJ16_listFromTrustedArray_26 (fun v101 => ?_)
  refine tj_istore_n dJ16_listFromTrustedArray_27 (by decide) (rf_cat _) [some (va_rf l0), some (va_rf l0), some (.int v101), none, none] rfl ?_
  refine tj_iconst (0 : Int32) dJ16_listFromTrustedArray_28 rfl ?_
  refine tj_istore_n dJ16_listFromTrustedArray_29 (by decide) rfl [some (va_rf l0), some (va_rf l0), some (.int v101), some (.int (0 : Int32)), none] rfl ?_
  exact tj_J16_listFromTrustedArray_L30 d mx_K l0 l0 v101 (0 : Int32) _
theorem tj_J16_listFromTrustedArray_B0 {E : tj_E} {X : tj_X} {n0 s0 : Nat} (d : Nat) (v0 : Option Nat) (σ : hp_S) : tj_T E X RJ16 "listFromTrustedArray" cJ16_listFromTrustedArray 5 (some (.object "java/util/List")) (d + 1) [] n0 s0 em_r σ 0 [some (va_rf v0), none, none, none, none] [] (fn_J16_listFromTrustedArray_B0 d v0) := by
  unfold fn_J16_listFromTrustedArray_B0
  refine tj_getsI (v := (1 : Int32)) (ev_j 3 rfl) q3473 dJ16_listFromTrustedArray_0 ?_
  refine tj_if_ne 23 dJ16_listFromTrustedArray_3 rfl (fun _ => ?_) (fun _ => ?_)
  · refine tj_aload_n dJ16_listFromTrustedArray_6 rfl ?_
    refine tj_getClass q3475 (by decide) dJ16_listFromTrustedArray_7 (fun v101 => ?_)
    refine tj_ldcM (ev_m 3 rfl) q3476 dJ16_listFromTrustedArray_10 (fun v102 => ?_)
    refine tj_acmp_eq 23 dJ16_listFromTrustedArray_12 rfl (fun _ => ?_) (fun _ => ?_)
    · exact tj_J16_listFromTrustedArray_J23 d v0 _
    · exact tj_fail
  · exact tj_J16_listFromTrustedArray_J23 d v0 _
theorem ct_J16_listFromTrustedArray : ∀ (d : Nat) (v0 : Option Nat), ct_ yJ16_listFromTrustedArray (ws_ yJ16_listFromTrustedArray cJ16_listFromTrustedArray 5 (some (.object "java/util/List"))) d em_r [va_rf v0] (fn_J16_listFromTrustedArray d v0)
  | 0, _ => ct_fail
  | d + 1, v0 => ct_of [(false, va_rf v0)] [some (va_rf v0), none, none, none, none] (by decide) rfl ⟨rfl, (rf_cat _), trivial⟩ (fun E X n0 s0 σ => tj_J16_listFromTrustedArray_B0 d v0 σ)
theorem tj_J54_of_B0 {E : tj_E} {X : tj_X} {n0 s0 : Nat} (d : Nat) (v0 : Option Nat) (v1 : Option Nat) (v2 : Option Nat) (v3 : Option Nat) (v4 : Option Nat) (v5 : Option Nat) (v6 : Option Nat) (v7 : Option Nat) (v8 : Option Nat) (σ : hp_S) : tj_T E X RJ54 "of" cJ54_of 9 (some (.object "java/util/List")) (d + 1) [] n0 s0 em_r σ 0 [some (va_rf v0), some (va_rf v1), some (va_rf v2), some (va_rf v3), some (va_rf v4), some (va_rf v5), some (va_rf v6), some (va_rf v7), some (va_rf v8)] [] (fn_J54_of_B0 d v0 v1 v2 v3 v4 v5 v6 v7 v8) := by
  unfold fn_J54_of_B0
  refine tj_bipush (9 : Int32) dJ54_of_0 (by decide) ?_
  refine tj_newO q3469 dJ54_of_2 (fun a101 σ => ?_)
  refine tj_dup dJ54_of_5 (rf_cat _) ?_
  refine tj_iconst (0 : Int32) dJ54_of_6 rfl ?_
  refine tj_aload_n dJ54_of_7 rfl ?_
  refine tj_aast dJ54_of_8 (fun σ => ?_)
  refine tj_dup dJ54_of_9 (rf_cat _) ?_
  refine tj_iconst (1 : Int32) dJ54_of_10 rfl ?_
  refine tj_aload_n dJ54_of_11 rfl ?_
  refine tj_aast dJ54_of_12 (fun σ => ?_)
  refine tj_dup dJ54_of_13 (rf_cat _) ?_
  refine tj_iconst (2 : Int32) dJ54_of_14 rfl ?_
  refine tj_aload_n dJ54_of_15 rfl ?_
  refine tj_aast dJ54_of_16 (fun σ => ?_)
  refine tj_dup dJ54_of_17 (rf_cat _) ?_
  refine tj_iconst (3 : Int32) dJ54_of_18 rfl ?_
  refine tj_aload_n dJ54_of_19 rfl ?_
  refine tj_aast dJ54_of_20 (fun σ => ?_)
  refine tj_dup dJ54_of_21 (rf_cat _) ?_
  refine tj_iconst (4 : Int32) dJ54_of_22 rfl ?_
  refine tj_aload dJ54_of_23 rfl ?_
  refine tj_aast dJ54_of_25 (fun σ => ?_)
  refine tj_dup dJ54_of_26 (rf_cat _) ?_
  refine tj_iconst (5 : Int32) dJ54_of_27 rfl ?_
  refine tj_aload dJ54_of_28 rfl ?_
  refine tj_aast dJ54_of_30 (fun σ => ?_)
  refine tj_dup dJ54_of_31 (rf_cat _) ?_
  refine tj_bipush (6 : Int32) dJ54_of_32 (by decide) ?_
  refine tj_aload dJ54_of_34 rfl ?_
  refine tj_aast dJ54_of_36 (fun σ => ?_)
  refine tj_dup dJ54_of_37 (rf_cat _) ?_
  refine tj_bipush (7 : Int32) dJ54_of_38 (by decide) ?_
  refine tj_aload dJ54_of_40 rfl ?_
  refine tj_aast dJ54_of_42 (fun σ => ?_)
  refine tj_dup dJ54_of_43 (rf_cat _) ?_
  refine tj_bipush (8 : Int32) dJ54_of_44 (by decide) ?_
  refine tj_aload dJ54_of_46 rfl ?_
  refine tj_aast dJ54_of_48 (fun σ => ?_)
  refine tj_callS (as := [va_rf (some a101)]) (rest := []) (st' := (fun r => [va_rf r])) (ct_J16_listFromTrustedArray d (some a101)) q3470 q3471 q116 q3472 md_J16_listFromTrustedArray rfl (by decide) rfl (by decide) dJ54_of_49 (fun _ => rfl) (fun r102 σ => ?_) (by decide)
  exact tj_aret (Or.inl ⟨_, rfl⟩) dJ54_of_52
theorem ct_J54_of : ∀ (d : Nat) (v0 : Option Nat) (v1 : Option Nat) (v2 : Option Nat) (v3 : Option Nat) (v4 : Option Nat) (v5 : Option Nat) (v6 : Option Nat) (v7 : Option Nat) (v8 : Option Nat), ct_ yJ54_of (ws_ yJ54_of cJ54_of 9 (some (.object "java/util/List"))) d em_r [va_rf v0, va_rf v1, va_rf v2, va_rf v3, va_rf v4, va_rf v5, va_rf v6, va_rf v7, va_rf v8] (fn_J54_of d v0 v1 v2 v3 v4 v5 v6 v7 v8)
  | 0, _, _, _, _, _, _, _, _, _ => ct_fail
  | d + 1, v0, v1, v2, v3, v4, v5, v6, v7, v8 => ct_of [(false, va_rf v0), (false, va_rf v1), (false, va_rf v2), (false, va_rf v3), (false, va_rf v4), (false, va_rf v5), (false, va_rf v6), (false, va_rf v7), (false, va_rf v8)] [some (va_rf v0), some (va_rf v1), some (va_rf v2), some (va_rf v3), some (va_rf v4), some (va_rf v5), some (va_rf v6), some (va_rf v7), some (va_rf v8)] (by decide) rfl ⟨rfl, (rf_cat _), ⟨rfl, (rf_cat _), ⟨rfl, (rf_cat _), ⟨rfl, (rf_cat _), ⟨rfl, (rf_cat _), ⟨rfl, (rf_cat _), ⟨rfl, (rf_cat _), ⟨rfl, (rf_cat _), ⟨rfl, (rf_cat _), trivial⟩⟩⟩⟩⟩⟩⟩⟩⟩ (fun E X n0 s0 σ => tj_J54_of_B0 d v0 v1 v2 v3 v4 v5 v6 v7 v8 σ)
theorem tj_X15_init_B0 {E : tj_E} {X : tj_X} {n0 s0 : Nat} (d : Nat) (v0 : Option Nat) (v1 : Option Nat) (σ : hp_S) : tj_T E X RX15 "<init>" cX15_init 2 none (d + 1) [] n0 s0 em_v σ 0 [some (va_rf v0), some (va_rf v1)] [] (fn_X15_init_B0 d v0 v1) := by
  unfold fn_X15_init_B0
  refine tj_aload_n dX15_init_0 rfl ?_
  refine tj_objInit q3456 q183 q184 (by decide) dX15_init_1 (fun _ _ => ?_)
  refine tj_aload_n dX15_init_4 rfl ?_
  refine tj_ldcS (ev_t 36 rfl) dX15_init_5 (fun v102 => ?_)
  refine tj_ldcS (ev_t 37 rfl) dX15_init_7 (fun v103 => ?_)
  refine tj_ldcS (ev_t 38 rfl) dX15_init_9 (fun v104 => ?_)
  refine tj_ldcS (ev_t 39 rfl) dX15_init_11 (fun v105 => ?_)
  refine tj_ldcS (ev_t 40 rfl) dX15_init_13 (fun v106 => ?_)
  refine tj_ldcS (ev_t 41 rfl) dX15_init_15 (fun v107 => ?_)
  refine tj_ldcS (ev_t 42 rfl) dX15_init_17 (fun v108 => ?_)
  refine tj_ldcS (ev_t 43 rfl) dX15_init_19 (fun v109 => ?_)
  refine tj_ldcS (ev_t 44 rfl) dX15_init_21 (fun v110 => ?_)
  refine tj_callS (as := [va_rf v102, va_rf v103, va_rf v104, va_rf v105, va_rf v106, va_rf v107, va_rf v108, va_rf v109, va_rf v110]) (rest := [va_rf v0]) (st' := (fun r => [va_rf r, va_rf v0])) (ct_J54_of d v102 v103 v104 v105 v106 v107 v108 v109 v110) q3466 q3467 q169 q3468 md_J54_of rfl (by decide) rfl (by simp [rf_cat, cat_i, cat_l, cat_f, cat_d]) dX15_init_23 (fun _ => rfl) (fun r111 σ => ?_) (by decide)
  refine tj_putF fl_X15_31 (nar_rf _) (fit_rf _) dX15_init_26 (fun σ => ?_)
  refine tj_aload_n dX15_init_29 rfl ?_
  refine tj_aload_n dX15_init_30 rfl ?_
  refine tj_putF fl_X15_37 (nar_rf _) (fit_rf _) dX15_init_31 (fun σ => ?_)
  exact tj_vret dX15_init_34
theorem ct_X15_init : ∀ (d : Nat) (v0 : Option Nat) (v1 : Option Nat), ct_ yX15_init (ws_ yX15_init cX15_init 2 none) d em_v [va_rf v0, va_rf v1] (fn_X15_init d v0 v1)
  | 0, _, _ => ct_fail
  | d + 1, v0, v1 => ct_of [(false, va_rf v0), (false, va_rf v1)] [some (va_rf v0), some (va_rf v1)] (by decide) rfl ⟨rfl, (rf_cat _), ⟨rfl, (rf_cat _), trivial⟩⟩ (fun E X n0 s0 σ => tj_X15_init_B0 d v0 v1 σ)
theorem tj_X15_current_B0 {E : tj_E} {X : tj_X} {n0 s0 : Nat} (d : Nat) (v0 : Option Nat) (σ : hp_S) : tj_T E X RX15 "current" cX15_current 1 (some .char) (d + 1) [] n0 s0 em_i σ 0 [some (va_rf v0)] [] (fn_X15_current_B0 d v0) := by
  unfold fn_X15_current_B0
  refine tj_aload_n dX15_current_0 rfl ?_
  refine tj_getI fl_X15_41 dX15_current_1 (fun v101 => ?_)
  refine tj_aload_n dX15_current_4 rfl ?_
  refine tj_getR fl_X15_37r dX15_current_5 (fun v102 => ?_)
  refine tj_callV (as := []) (rest := [.int v101]) (st' := (fun r => [.int r, .int v101])) (t := 30) (fun a e => by cases e; exact ct_J9_length d _) (by decide) rfl q3546 q686 q687 q108 q688 rfl md_J9_length rfl (by decide) rfl (by simp [rf_cat, cat_i, cat_l, cat_f, cat_d]) dX15_current_8 (fun _ => rfl) (fun r103 σ => ?_) (by decide)
  refine tj_icmp_ge 28 dX15_current_11 rfl (fun _ => ?_) (fun _ => ?_)
  · refine tj_bipush (10 : Int32) dX15_current_28 (by decide) ?_
    exact tj_zpure rfl dX15_current_30
  · refine tj_aload_n dX15_current_14 rfl ?_
    refine tj_getR fl_X15_37r dX15_current_15 (fun v104 => ?_)
    refine tj_aload_n dX15_current_18 rfl ?_
    refine tj_getI fl_X15_41 dX15_current_19 (fun v105 => ?_)
    refine tj_callV (as := [.int v105]) (rest := []) (st' := (fun r => [.int r])) (t := 30) (fun a e => by cases e; exact ct_J9_charAt d _ _) (by decide) rfl q3547 q3398 q3399 q108 q3400 rfl md_J9_charAt rfl (by decide) rfl (by decide) dX15_current_22 (fun _ => rfl) (fun r106 σ => ?_) (by decide)
    refine tj_goto 30 dX15_current_25 rfl ?_
    exact tj_zret dX15_current_30
theorem ct_X15_current : ∀ (d : Nat) (v0 : Option Nat), ct_ yX15_current (ws_ yX15_current cX15_current 1 (some .char)) d em_i [va_rf v0] (fn_X15_current d v0)
  | 0, _ => ct_fail
  | d + 1, v0 => ct_of [(false, va_rf v0)] [some (va_rf v0)] (by decide) rfl ⟨rfl, (rf_cat _), trivial⟩ (fun E X n0 s0 σ => tj_X15_current_B0 d v0 σ)
theorem tj_X15_isAtDigit_B0 {E : tj_E} {X : tj_X} {n0 s0 : Nat} (d : Nat) (v0 : Option Nat) (σ : hp_S) : tj_T E X RX15 "isAtDigit" cX15_isAtDigit 1 (some .boolean) (d + 1) [] n0 s0 em_i σ 0 [some (va_rf v0)] [] (fn_X15_isAtDigit_B0 d v0) := by
  unfold fn_X15_isAtDigit_B0
  refine tj_aload_n dX15_isAtDigit_0 rfl ?_
  refine tj_callV (as := []) (rest := []) (st' := (fun r => [.int r])) (t := 12) (fun a e => by cases e; exact ct_X15_current d _) (by decide) rfl q3542 q3544 qs49 q168 q3545 rfl md_X15_current rfl (by decide) rfl (by decide) dX15_isAtDigit_1 (fun _ => rfl) (fun r101 σ => ?_) (by decide)
  refine tj_bipush (48 : Int32) dX15_isAtDigit_4 (by decide) ?_
  refine tj_icmp_lt 22 dX15_isAtDigit_6 rfl (fun _ => ?_) (fun _ => ?_)
  · refine tj_iconst (0 : Int32) dX15_isAtDigit_22 rfl ?_
    exact tj_zpure rfl dX15_isAtDigit_23
  · refine tj_aload_n dX15_isAtDigit_9 rfl ?_
    refine tj_callV (as := []) (rest := []) (st' := (fun r => [.int r])) (t := 12) (fun a e => by cases e; exact ct_X15_current d _) (by decide) rfl q3542 q3544 qs49 q168 q3545 rfl md_X15_current rfl (by decide) rfl (by decide) dX15_isAtDigit_10 (fun _ => rfl) (fun r102 σ => ?_) (by decide)
    refine tj_bipush (57 : Int32) dX15_isAtDigit_13 (by decide) ?_
    refine tj_icmp_gt 22 dX15_isAtDigit_15 rfl (fun _ => ?_) (fun _ => ?_)
    · refine tj_iconst (0 : Int32) dX15_isAtDigit_22 rfl ?_
      exact tj_zpure rfl dX15_isAtDigit_23
    · refine tj_iconst (1 : Int32) dX15_isAtDigit_18 rfl ?_
      refine tj_goto 23 dX15_isAtDigit_19 rfl ?_
      exact tj_zpure rfl dX15_isAtDigit_23
theorem ct_X15_isAtDigit : ∀ (d : Nat) (v0 : Option Nat), ct_ yX15_isAtDigit (ws_ yX15_isAtDigit cX15_isAtDigit 1 (some .boolean)) d em_i [va_rf v0] (fn_X15_isAtDigit d v0)
  | 0, _ => ct_fail
  | d + 1, v0 => ct_of [(false, va_rf v0)] [some (va_rf v0)] (by decide) rfl ⟨rfl, (rf_cat _), trivial⟩ (fun E X n0 s0 σ => tj_X15_isAtDigit_B0 d v0 σ)
theorem tj_X16_init_B0 {E : tj_E} {X : tj_X} {n0 s0 : Nat} (d : Nat) (v0 : Option Nat) (v1 : Int32) (σ : hp_S) : tj_T E X RX16 "<init>" cX16_init 2 none (d + 1) [] n0 s0 em_v σ 0 [some (va_rf v0), some (.int v1)] [] (fn_X16_init_B0 d v0 v1) := by
  unfold fn_X16_init_B0
  refine tj_aload_n dX16_init_0 rfl ?_
  refine tj_null dX16_init_1 ?_
  refine tj_callI (as := [va_rf none]) (rest := []) (st' := (fun _ => [])) (fun a e => by cases e; exact ct_X6_init d _ _) q3590 q1981 q149 q1982 rfl md_X6_init rfl (by decide) rfl (by decide) dX16_init_2 (fun _ => rfl) (fun _ σ => ?_) (by decide)
  refine tj_aload_n dX16_init_5 rfl ?_
  refine tj_iload_n dX16_init_6 rfl ?_
  refine tj_putF fl_X16_7 rfl rfl dX16_init_7 (fun σ => ?_)
  exact tj_vret dX16_init_10
theorem ct_X16_init : ∀ (d : Nat) (v0 : Option Nat) (v1 : Int32), ct_ yX16_init (ws_ yX16_init cX16_init 2 none) d em_v [va_rf v0, .int v1] (fn_X16_init d v0 v1)
  | 0, _, _ => ct_fail
  | d + 1, v0, v1 => ct_of [(false, va_rf v0), (false, .int v1)] [some (va_rf v0), some (.int v1)] (by decide) rfl ⟨rfl, (rf_cat _), ⟨rfl, rfl, trivial⟩⟩ (fun E X n0 s0 σ => tj_X16_init_B0 d v0 v1 σ)
theorem tj_X15_require_B0 {E : tj_E} {X : tj_X} {n0 s0 : Nat} (d : Nat) (v0 : Option Nat) (v1 : Int32) (σ : hp_S) : tj_T E X RX15 "require" cX15_require 2 none (d + 1) [] n0 s0 em_v σ 0 [some (va_rf v0), some (.int v1)] [] (fn_X15_require_B0 d v0 v1) := by
  unfold fn_X15_require_B0
  refine tj_iload_n dX15_require_0 rfl ?_
  refine tj_if_ne 16 dX15_require_1 rfl (fun _ => ?_) (fun _ => ?_)
  · refine tj_new nw_X15_55 dX15_require_4 (fun a101 σ => ?_)
    refine tj_dup dX15_require_7 (rf_cat _) ?_
    refine tj_aload_n dX15_require_8 rfl ?_
    refine tj_getI fl_X15_41 dX15_require_9 (fun v102 => ?_)
    refine tj_callI (as := [.int v102]) (rest := [va_rf (some a101)]) (st' := (fun _ => [va_rf (some a101)])) (fun a e => by cases e; exact ct_X16_init d _ _) q3587 q3588 q174 q3589 rfl md_X16_init rfl (by decide) rfl (by simp [rf_cat, cat_i, cat_l, cat_f, cat_d]) dX15_require_12 (fun _ => rfl) (fun _ σ => ?_) (by decide)
    refine tj_athrow dX15_require_15 (fun q103 => ?_)
    exact tj_xout (by decide) (by decide)
  · exact tj_vret dX15_require_16
theorem ct_X15_require : ∀ (d : Nat) (v0 : Option Nat) (v1 : Int32), ct_ yX15_require (ws_ yX15_require cX15_require 2 none) d em_v [va_rf v0, .int v1] (fn_X15_require d v0 v1)
  | 0, _, _ => ct_fail
  | d + 1, v0, v1 => ct_of [(false, va_rf v0), (false, .int v1)] [some (va_rf v0), some (.int v1)] (by decide) rfl ⟨rfl, (rf_cat _), ⟨rfl, rfl, trivial⟩⟩ (fun E X n0 s0 σ => tj_X15_require_B0 d v0 v1 σ)
theorem tj_X15_digit_B0 {E : tj_E} {X : tj_X} {n0 s0 : Nat} (d : Nat) (v0 : Option Nat) (σ : hp_S) : tj_T E X RX15 "digit" cX15_digit 1 (some .int) (d + 1) [] n0 s0 em_i σ 0 [some (va_rf v0)] [] (fn_X15_digit_B0 d v0) := by
  unfold fn_X15_digit_B0
  refine tj_aload_n dX15_digit_0 rfl ?_
  refine tj_aload_n dX15_digit_1 rfl ?_
  refine tj_callV (as := []) (rest := [va_rf v0]) (st' := (fun r => [.int r, va_rf v0])) (t := 12) (fun a e => by cases e; exact ct_X15_isAtDigit d _) (by decide) rfl q3694 q3696 qs55 q168 q3697 rfl md_X15_isAtDigit rfl (by decide) rfl (by simp [rf_cat, cat_i, cat_l, cat_f, cat_d]) dX15_digit_2 (fun _ => rfl) (fun r101 σ => ?_) (by decide)
  refine tj_callV (as := [.int r101]) (rest := []) (st' := (fun _ => [])) (t := 12) (fun a e => by cases e; exact ct_X15_require d _ _) (by decide) rfl q3574 q3576 qs51 q168 q3577 rfl md_X15_require rfl (by decide) rfl (by decide) dX15_digit_5 (fun _ => rfl) (fun _ σ => ?_) (by decide)
  refine tj_aload_n dX15_digit_8 rfl ?_
  refine tj_dup dX15_digit_9 (rf_cat _) ?_
  refine tj_getI fl_X15_41 dX15_digit_10 (fun v102 => ?_)
  refine tj_iconst (1 : Int32) dX15_digit_13 rfl ?_
  refine tj_iadd dX15_digit_14 ?_
  refine tj_put fl_X15_41 rfl rfl dX15_digit_15 (fun σ => ?_)
  refine tj_aload_n dX15_digit_18 rfl ?_
  refine tj_getR fl_X15_37r dX15_digit_19 (fun v103 => ?_)
  refine tj_aload_n dX15_digit_22 rfl ?_
  refine tj_getI fl_X15_41 dX15_digit_23 (fun v104 => ?_)
  refine tj_iconst (1 : Int32) dX15_digit_26 rfl ?_
  refine tj_isub dX15_digit_27 ?_
  refine tj_callV (as := [.int (v104 - (1 : Int32))]) (rest := []) (st' := (fun r => [.int r])) (t := 30) (fun a e => by cases e; exact ct_J9_charAt d _ _) (by decide) rfl q3547 q3398 q3399 q108 q3400 rfl md_J9_charAt rfl (by decide) rfl (by decide) dX15_digit_28 (fun _ => rfl) (fun r105 σ => ?_) (by decide)
  refine tj_bipush (48 : Int32) dX15_digit_31 (by decide) ?_
  refine tj_isub dX15_digit_33 ?_
  exact tj_iret dX15_digit_34
theorem ct_X15_digit : ∀ (d : Nat) (v0 : Option Nat), ct_ yX15_digit (ws_ yX15_digit cX15_digit 1 (some .int)) d em_i [va_rf v0] (fn_X15_digit d v0)
  | 0, _ => ct_fail
  | d + 1, v0 => ct_of [(false, va_rf v0)] [some (va_rf v0)] (by decide) rfl ⟨rfl, (rf_cat _), trivial⟩ (fun E X n0 s0 σ => tj_X15_digit_B0 d v0 σ)
theorem tj_X15_take_J14 {E : tj_E} {X : tj_X} {n0 s0 : Nat} (d : Nat) (l0 : Option Nat) (p0 : Option Nat) (p1 : Int32) (σ : hp_S) : tj_T E X RX15 "take" cX15_take 2 none (d + 1) [] n0 s0 em_v σ 14 [some (va_rf l0), none] [.int p1, va_rf p0] (fn_X15_take_J14 d l0 p0 p1) := by
  unfold fn_X15_take_J14
  refine tj_callV (as := [.int p1]) (rest := []) (st' := (fun _ => [])) (t := 12) (fun a e => by cases e; exact ct_X15_require d _ _) (by decide) rfl q3574 q3576 qs51 q168 q3577 rfl md_X15_require rfl (by decide) rfl (by decide) dX15_take_14 (fun _ => rfl) (fun _ σ => ?_) (by decide)
  refine tj_aload_n dX15_take_17 rfl ?_
  refine tj_dup dX15_take_18 (rf_cat _) ?_
  refine tj_getI fl_X15_41 dX15_take_19 (fun v101 => ?_)
  refine tj_iconst (1 : Int32) dX15_take_22 rfl ?_
  refine tj_iadd dX15_take_23 ?_
  refine tj_put fl_X15_41 rfl rfl dX15_take_24 (fun σ => ?_)
  exact tj_vret dX15_take_27
theorem tj_X15_take_B0 {E : tj_E} {X : tj_X} {n0 s0 : Nat} (d : Nat) (v0 : Option Nat) (v1 : Int32) (σ : hp_S) : tj_T E X RX15 "take" cX15_take 2 none (d + 1) [] n0 s0 em_v σ 0 [some (va_rf v0), some (.int v1)] [] (fn_X15_take_B0 d v0 v1) := by
  unfold fn_X15_take_B0
  refine tj_aload_n dX15_take_0 rfl ?_
  refine tj_aload_n dX15_take_1 rfl ?_
  refine tj_callV (as := []) (rest := [va_rf v0]) (st' := (fun r => [.int r, va_rf v0])) (t := 12) (fun a e => by cases e; exact ct_X15_current d _) (by decide) rfl q3542 q3544 qs49 q168 q3545 rfl md_X15_current rfl (by decide) rfl (by simp [rf_cat, cat_i, cat_l, cat_f, cat_d]) dX15_take_2 (fun _ => rfl) (fun r101 σ => ?_) (by decide)
  refine tj_iload_n dX15_take_5 rfl ?_
  refine tj_icmp_ne 13 dX15_take_6 rfl (fun _ => ?_) (fun _ => ?_)
  · refine tj_iconst (1 : Int32) dX15_take_9 rfl ?_
    refine tj_goto 14 dX15_take_10 rfl ?_
    refine tj_wk (L' := [some (va_rf v0), none]) ⟨rfl, trivial⟩ ?_
    exact tj_X15_take_J14 d v0 v0 (1 : Int32) _
  · refine tj_iconst (0 : Int32) dX15_take_13 rfl ?_
    refine tj_wk (L' := [some (va_rf v0), none]) ⟨rfl, trivial⟩ ?_
    exact tj_X15_take_J14 d v0 v0 (0 : Int32) _
theorem ct_X15_take : ∀ (d : Nat) (v0 : Option Nat) (v1 : Int32), ct_ yX15_take (ws_ yX15_take cX15_take 2 none) d em_v [va_rf v0, .int v1] (fn_X15_take d v0 v1)
  | 0, _, _ => ct_fail
  | d + 1, v0, v1 => ct_of [(false, va_rf v0), (false, .int v1)] [some (va_rf v0), some (.int v1)] (by decide) rfl ⟨rfl, (rf_cat _), ⟨rfl, rfl, trivial⟩⟩ (fun E X n0 s0 σ => tj_X15_take_B0 d v0 v1 σ)
theorem tj_X15_digitAfterSpace_B0 {E : tj_E} {X : tj_X} {n0 s0 : Nat} (d : Nat) (v0 : Option Nat) (σ : hp_S) : tj_T E X RX15 "digitAfterSpace" cX15_digitAfterSpace 1 (some .int) (d + 1) [] n0 s0 em_i σ 0 [some (va_rf v0)] [] (fn_X15_digitAfterSpace_B0 d v0) := by
  unfold fn_X15_digitAfterSpace_B0
  refine tj_aload_n dX15_digitAfterSpace_0 rfl ?_
  refine tj_bipush (32 : Int32) dX15_digitAfterSpace_1 (by decide) ?_
  refine tj_callV (as := [.int (32 : Int32)]) (rest := []) (st' := (fun _ => [])) (t := 12) (fun a e => by cases e; exact ct_X15_take d _ _) (by decide) rfl q3686 q3688 qs53 q168 q3689 rfl md_X15_take rfl (by decide) rfl (by decide) dX15_digitAfterSpace_3 (fun _ => rfl) (fun _ σ => ?_) (by decide)
  refine tj_aload_n dX15_digitAfterSpace_6 rfl ?_
  refine tj_callV (as := []) (rest := []) (st' := (fun r => [.int r])) (t := 12) (fun a e => by cases e; exact ct_X15_digit d _) (by decide) rfl q3690 q3692 qs54 q168 q3693 rfl md_X15_digit rfl (by decide) rfl (by decide) dX15_digitAfterSpace_7 (fun _ => rfl) (fun r101 σ => ?_) (by decide)
  exact tj_iret dX15_digitAfterSpace_10
theorem ct_X15_digitAfterSpace : ∀ (d : Nat) (v0 : Option Nat), ct_ yX15_digitAfterSpace (ws_ yX15_digitAfterSpace cX15_digitAfterSpace 1 (some .int)) d em_i [va_rf v0] (fn_X15_digitAfterSpace d v0)
  | 0, _ => ct_fail
  | d + 1, v0 => ct_of [(false, va_rf v0)] [some (va_rf v0)] (by decide) rfl ⟨rfl, (rf_cat _), trivial⟩ (fun E X n0 s0 σ => tj_X15_digitAfterSpace_B0 d v0 σ)
theorem tj_X15_numberAfter_L12_b {E : tj_E} {X : tj_X} {n0 s0 : Nat} (d : Nat) {b12 : Option Nat → Int32 → Int32 → mx_M Int32} (h12 : ∀ (l0 : Option Nat) (l2 : Int32) (l3 : Int32) (σ : hp_S), tj_T E X RX15 "numberAfter" cX15_numberAfter 4 (some .int) (d + 1) [] n0 s0 em_i σ 12 [some (va_rf l0), none, some (.int l2), some (.int l3)] [] (b12 l0 l2 l3)) (l0 : Option Nat) (l2 : Int32) (l3 : Int32) (σ : hp_S) : tj_T E X RX15 "numberAfter" cX15_numberAfter 4 (some .int) (d + 1) [] n0 s0 em_i σ 12 [some (va_rf l0), none, some (.int l2), some (.int l3)] [] (fn_X15_numberAfter_L12_b d b12 l0 l2 l3) := by
  unfold fn_X15_numberAfter_L12_b
  refine tj_iload_n dX15_numberAfter_12 rfl ?_
  refine tj_iconst (3 : Int32) dX15_numberAfter_13 rfl ?_
  refine tj_icmp_ge 40 dX15_numberAfter_14 rfl (fun _ => ?_) (fun _ => ?_)
  · refine tj_iload_n dX15_numberAfter_40 rfl ?_
    exact tj_iret dX15_numberAfter_41
  · refine tj_aload_n dX15_numberAfter_17 rfl ?_
    refine tj_callV (as := []) (rest := []) (st' := (fun r => [.int r])) (t := 12) (fun a e => by cases e; exact ct_X15_isAtDigit d _) (by decide) rfl q3694 q3696 qs55 q168 q3697 rfl md_X15_isAtDigit rfl (by decide) rfl (by decide) dX15_numberAfter_18 (fun _ => rfl) (fun r101 σ => ?_) (by decide)
    refine tj_if_eq 40 dX15_numberAfter_21 rfl (fun _ => ?_) (fun _ => ?_)
    · refine tj_iload_n dX15_numberAfter_40 rfl ?_
      exact tj_iret dX15_numberAfter_41
    · refine tj_bipush (10 : Int32) dX15_numberAfter_24 (by decide) ?_
      refine tj_iload_n dX15_numberAfter_26 rfl ?_
      refine tj_imul dX15_numberAfter_27 ?_
      refine tj_aload_n dX15_numberAfter_28 rfl ?_
      refine tj_callV (as := []) (rest := [.int ((10 : Int32) * l2)]) (st' := (fun r => [.int r, .int ((10 : Int32) * l2)])) (t := 12) (fun a e => by cases e; exact ct_X15_digit d _) (by decide) rfl q3690 q3692 qs54 q168 q3693 rfl md_X15_digit rfl (by decide) rfl (by simp [rf_cat, cat_i, cat_l, cat_f, cat_d]) dX15_numberAfter_29 (fun _ => rfl) (fun r102 σ => ?_) (by decide)
      refine tj_iadd dX15_numberAfter_32 ?_
      refine tj_topi (fun v103 => ?_)
      refine tj_istore_n dX15_numberAfter_33 (by decide) trivial [some (va_rf l0), none, some (.int v103), some (.int l3)] rfl ?_
      refine tj_iinc (1 : Int32) dX15_numberAfter_34 rfl rfl (by decide) rfl [some (va_rf l0), none, some (.int v103), some (.int (l3 + (1 : Int32)))] rfl ?_
      refine tj_goto 12 dX15_numberAfter_37 rfl ?_
      exact h12 l0 v103 _ _
theorem tj_X15_numberAfter_L12 {E : tj_E} {X : tj_X} {n0 s0 : Nat} (d : Nat) : ∀ (k : Nat) (l0 : Option Nat) (l2 : Int32) (l3 : Int32) (σ : hp_S), tj_T E X RX15 "numberAfter" cX15_numberAfter 4 (some .int) (d + 1) [] n0 s0 em_i σ 12 [some (va_rf l0), none, some (.int l2), some (.int l3)] [] (fn_X15_numberAfter_L12 d k l0 l2 l3) := by
  intro k
  induction k with
  | zero =>
    intro l0 l2 l3 σ
    exact tj_fail
  | succ k ih =>
    intro l0 l2 l3 σ
    exact tj_X15_numberAfter_L12_b d ih l0 l2 l3 σ
theorem tj_X15_numberAfter_B0 {E : tj_E} {X : tj_X} {n0 s0 : Nat} (d : Nat) (v0 : Option Nat) (v1 : Int32) (σ : hp_S) : tj_T E X RX15 "numberAfter" cX15_numberAfter 4 (some .int) (d + 1) [] n0 s0 em_i σ 0 [some (va_rf v0), some (.int v1), none, none] [] (fn_X15_numberAfter_B0 d v0 v1) := by
  unfold fn_X15_numberAfter_B0
  refine tj_aload_n dX15_numberAfter_0 rfl ?_
  refine tj_iload_n dX15_numberAfter_1 rfl ?_
  refine tj_callV (as := [.int v1]) (rest := []) (st' := (fun _ => [])) (t := 12) (fun a e => by cases e; exact ct_X15_take d _ _) (by decide) rfl q3686 q3688 qs53 q168 q3689 rfl md_X15_take rfl (by decide) rfl (by decide) dX15_numberAfter_2 (fun _ => rfl) (fun _ σ => ?_) (by decide)
  refine tj_aload_n dX15_numberAfter_5 rfl ?_
  refine tj_callV (as := []) (rest := []) (st' := (fun r => [.int r])) (t := 12) (fun a e => by cases e; exact ct_X15_digit d _) (by decide) rfl q3690 q3692 qs54 q168 q3693 rfl md_X15_digit rfl (by decide) rfl (by decide) dX15_numberAfter_6 (fun _ => rfl) (fun r101 σ => ?_) (by decide)
  refine tj_istore_n dX15_numberAfter_9 (by decide) rfl [some (va_rf v0), some (.int v1), some (.int r101), none] rfl ?_
  refine tj_iconst (1 : Int32) dX15_numberAfter_10 rfl ?_
  refine tj_istore_n dX15_numberAfter_11 (by decide) rfl [some (va_rf v0), some (.int v1), some (.int r101), some (.int (1 : Int32))] rfl ?_
  refine tj_wk (L' := [some (va_rf v0), none, some (.int r101), some (.int (1 : Int32))]) ⟨rfl, rfl, rfl, trivial⟩ ?_
  exact tj_X15_numberAfter_L12 d mx_K v0 r101 (1 : Int32) _
theorem ct_X15_numberAfter : ∀ (d : Nat) (v0 : Option Nat) (v1 : Int32), ct_ yX15_numberAfter (ws_ yX15_numberAfter cX15_numberAfter 4 (some .int)) d em_i [va_rf v0, .int v1] (fn_X15_numberAfter d v0 v1)
  | 0, _, _ => ct_fail
  | d + 1, v0, v1 => ct_of [(false, va_rf v0), (false, .int v1)] [some (va_rf v0), some (.int v1), none, none] (by decide) rfl ⟨rfl, (rf_cat _), ⟨rfl, rfl, trivial⟩⟩ (fun E X n0 s0 σ => tj_X15_numberAfter_B0 d v0 v1 σ)
theorem tj_J7_charAt_B0 {E : tj_E} {X : tj_X} {n0 s0 : Nat} (d : Nat) (v0 : Option Nat) (v1 : Int32) (σ : hp_S) : tj_T E X RJ7 "charAt" cJ7_charAt 5 (some .char) (d + 1) [] n0 s0 em_i σ 0 [some (va_rf v0), some (.int v1), none, none, none] [] (fn_J7_charAt_B0 d v0 v1) := by
  unfold fn_J7_charAt_B0
  refine tj_aload_n dJ7_charAt_0 rfl ?_
  refine tj_getI fl_J7_22 dJ7_charAt_1 (fun v101 => ?_)
  refine tj_istore_n dJ7_charAt_4 (by decide) rfl [some (va_rf v0), some (.int v1), some (.int v101), none, none] rfl ?_
  refine tj_aload_n dJ7_charAt_5 rfl ?_
  refine tj_getR fl_J7_15 dJ7_charAt_6 (fun v102 => ?_)
  refine tj_astore_n dJ7_charAt_9 (by decide) rfl [some (va_rf v0), some (.int v1), some (.int v101), some (va_rf v102), none] rfl ?_
  refine tj_aload_n dJ7_charAt_10 rfl ?_
  refine tj_getI fl_J7_79 dJ7_charAt_11 (fun v103 => ?_)
  refine tj_aload_n dJ7_charAt_14 rfl ?_
  refine tj_alen dJ7_charAt_15 (fun v104 => ?_)
  refine tj_iload_n dJ7_charAt_16 rfl ?_
  refine tj_ishr dJ7_charAt_17 ?_
  refine tj_mmin q3571 (by decide) dJ7_charAt_18 ?_
  refine tj_topi (fun v105 => ?_)
  refine tj_istore dJ7_charAt_21 (by decide) (rf_cat _) [some (va_rf v0), some (.int v1), some (.int v101), some (va_rf v102), some (.int v105)] rfl ?_
  refine tj_iload_n dJ7_charAt_23 rfl ?_
  refine tj_iload dJ7_charAt_24 rfl ?_
  refine tj_callS (as := [.int v1, .int v105]) (rest := []) (st' := (fun _ => [])) (ct_J9_checkIndex d v1 v105) q3572 q3405 q108 q3406 md_J9_checkIndex rfl (by decide) rfl (by decide) dJ7_charAt_26 (fun _ => rfl) (fun _ σ => ?_) (by decide)
  refine tj_iload_n dJ7_charAt_29 rfl ?_
  refine tj_if_ne 42 dJ7_charAt_30 rfl (fun _ => ?_) (fun _ => ?_)
  · refine tj_aload_n dJ7_charAt_33 rfl ?_
    refine tj_iload_n dJ7_charAt_34 rfl ?_
    refine tj_bald dJ7_charAt_35 (fun v106 => ?_)
    refine tj_sipush (255 : Int32) dJ7_charAt_36 (by decide) ?_
    refine tj_iand dJ7_charAt_39 ?_
    refine tj_i2c dJ7_charAt_40 ?_
    exact tj_zret dJ7_charAt_41
  · refine tj_aload_n dJ7_charAt_42 rfl ?_
    refine tj_iload_n dJ7_charAt_43 rfl ?_
    exact tj_fail
theorem ct_J7_charAt : ∀ (d : Nat) (v0 : Option Nat) (v1 : Int32), ct_ yJ7_charAt (ws_ yJ7_charAt cJ7_charAt 5 (some .char)) d em_i [va_rf v0, .int v1] (fn_J7_charAt d v0 v1)
  | 0, _, _ => ct_fail
  | d + 1, v0, v1 => ct_of [(false, va_rf v0), (false, .int v1)] [some (va_rf v0), some (.int v1), none, none, none] (by decide) rfl ⟨rfl, (rf_cat _), ⟨rfl, rfl, trivial⟩⟩ (fun E X n0 s0 σ => tj_J7_charAt_B0 d v0 v1 σ)
theorem tj_J8_charAt_B0 {E : tj_E} {X : tj_X} {n0 s0 : Nat} (d : Nat) (v0 : Option Nat) (v1 : Int32) (σ : hp_S) : tj_T E X RJ8 "charAt" cJ8_charAt 2 (some .char) (d + 1) [] n0 s0 em_i σ 0 [some (va_rf v0), some (.int v1)] [] (fn_J8_charAt_B0 d v0 v1) := by
  unfold fn_J8_charAt_B0
  refine tj_aload_n dJ8_charAt_0 rfl ?_
  refine tj_iload_n dJ8_charAt_1 rfl ?_
  refine tj_callSU (as := [.int v1]) (rest := []) (st' := (fun r => [.int r])) (t := 29) (fun a e => by cases e; exact ct_J7_charAt d _ _) (by decide) rfl q3568 q4356 q368 q3569 q106 q3570 (by decide) md_J7_charAt rfl (by decide) rfl (by decide) dJ8_charAt_2 (fun _ => rfl) (fun r101 σ => ?_) (by decide)
  exact tj_zret dJ8_charAt_5
theorem ct_J8_charAt : ∀ (d : Nat) (v0 : Option Nat) (v1 : Int32), ct_ yJ8_charAt (ws_ yJ8_charAt cJ8_charAt 2 (some .char)) d em_i [va_rf v0, .int v1] (fn_J8_charAt d v0 v1)
  | 0, _, _ => ct_fail
  | d + 1, v0, v1 => ct_of [(false, va_rf v0), (false, .int v1)] [some (va_rf v0), some (.int v1)] (by decide) rfl ⟨rfl, (rf_cat _), ⟨rfl, rfl, trivial⟩⟩ (fun E X n0 s0 σ => tj_J8_charAt_B0 d v0 v1 σ)
theorem tj_X15_begins_J49 {E : tj_E} {X : tj_X} {n0 s0 : Nat} (d : Nat) {b19 : Option Nat → Option Nat → Int32 → Int32 → mx_M Int32} (h19 : ∀ (l0 : Option Nat) (l1 : Option Nat) (l2 : Int32) (l3 : Int32) (σ : hp_S), tj_T E X RX15 "begins" cX15_begins 4 (some .boolean) (d + 1) [] n0 s0 em_i σ 19 [some (va_rf l0), some (va_rf l1), some (.int l2), some (.int l3)] [] (b19 l0 l1 l2 l3)) (l0 : Option Nat) (l1 : Option Nat) (l3 : Int32) (p0 : Int32) (σ : hp_S) : tj_T E X RX15 "begins" cX15_begins 4 (some .boolean) (d + 1) [] n0 s0 em_i σ 49 [some (va_rf l0), some (va_rf l1), none, some (.int l3)] [.int p0] (fn_X15_begins_J49 d b19 l0 l1 l3 p0) := by
  unfold fn_X15_begins_J49
  refine tj_istore_n dX15_begins_49 (by decide) (rf_cat _) [some (va_rf l0), some (va_rf l1), some (.int p0), some (.int l3)] rfl ?_
  refine tj_iinc (1 : Int32) dX15_begins_50 rfl rfl (by decide) rfl [some (va_rf l0), some (va_rf l1), some (.int p0), some (.int (l3 + (1 : Int32)))] rfl ?_
  refine tj_goto 19 dX15_begins_53 rfl ?_
  exact h19 l0 l1 p0 _ _
theorem tj_X15_begins_L19_b {E : tj_E} {X : tj_X} {n0 s0 : Nat} (d : Nat) {b19 : Option Nat → Option Nat → Int32 → Int32 → mx_M Int32} (h19 : ∀ (l0 : Option Nat) (l1 : Option Nat) (l2 : Int32) (l3 : Int32) (σ : hp_S), tj_T E X RX15 "begins" cX15_begins 4 (some .boolean) (d + 1) [] n0 s0 em_i σ 19 [some (va_rf l0), some (va_rf l1), some (.int l2), some (.int l3)] [] (b19 l0 l1 l2 l3)) (l0 : Option Nat) (l1 : Option Nat) (l2 : Int32) (l3 : Int32) (σ : hp_S) : tj_T E X RX15 "begins" cX15_begins 4 (some .boolean) (d + 1) [] n0 s0 em_i σ 19 [some (va_rf l0), some (va_rf l1), some (.int l2), some (.int l3)] [] (fn_X15_begins_L19_b d b19 l0 l1 l2 l3) := by
  unfold fn_X15_begins_L19_b
  refine tj_iload_n dX15_begins_19 rfl ?_
  refine tj_aload_n dX15_begins_20 rfl ?_
  refine tj_callV (as := []) (rest := [.int l3]) (st' := (fun r => [.int r, .int l3])) (t := 29) (fun a e => by cases e; exact ct_J8_length d _) (by decide) rfl q3563 q776 q4354 q107 q777 rfl md_J8_length rfl (by decide) rfl (by simp [rf_cat, cat_i, cat_l, cat_f, cat_d]) dX15_begins_21 (fun _ => rfl) (fun r101 σ => ?_) (by decide)
  refine tj_icmp_ge 56 dX15_begins_24 rfl (fun _ => ?_) (fun _ => ?_)
  · refine tj_iload_n dX15_begins_56 rfl ?_
    exact tj_zret dX15_begins_57
  · refine tj_iload_n dX15_begins_27 rfl ?_
    refine tj_if_eq 56 dX15_begins_28 rfl (fun _ => ?_) (fun _ => ?_)
    · refine tj_iload_n dX15_begins_56 rfl ?_
      exact tj_zret dX15_begins_57
    · refine tj_aload_n dX15_begins_31 rfl ?_
      refine tj_iload_n dX15_begins_32 rfl ?_
      refine tj_callV (as := [.int l3]) (rest := []) (st' := (fun r => [.int r])) (t := 30) (fun a e => by cases e; exact ct_J9_charAt d _ _) (by decide) rfl q3547 q3398 q3399 q108 q3400 rfl md_J9_charAt rfl (by decide) rfl (by decide) dX15_begins_33 (fun _ => rfl) (fun r102 σ => ?_) (by decide)
      refine tj_aload_n dX15_begins_36 rfl ?_
      refine tj_iload_n dX15_begins_37 rfl ?_
      refine tj_callV (as := [.int l3]) (rest := [.int r102]) (st' := (fun r => [.int r, .int r102])) (t := 29) (fun a e => by cases e; exact ct_J8_charAt d _ _) (by decide) rfl q3564 q3565 q3566 q107 q3567 rfl md_J8_charAt rfl (by decide) rfl (by simp [rf_cat, cat_i, cat_l, cat_f, cat_d]) dX15_begins_38 (fun _ => rfl) (fun r103 σ => ?_) (by decide)
      refine tj_icmp_ne 48 dX15_begins_41 rfl (fun _ => ?_) (fun _ => ?_)
      · refine tj_iconst (1 : Int32) dX15_begins_44 rfl ?_
        refine tj_goto 49 dX15_begins_45 rfl ?_
        refine tj_wk (L' := [some (va_rf l0), some (va_rf l1), none, some (.int l3)]) ⟨rfl, rfl, rfl, trivial⟩ ?_
        exact tj_X15_begins_J49 d h19 l0 l1 l3 (1 : Int32) _
      · refine tj_iconst (0 : Int32) dX15_begins_48 rfl ?_
        refine tj_wk (L' := [some (va_rf l0), some (va_rf l1), none, some (.int l3)]) ⟨rfl, rfl, rfl, trivial⟩ ?_
        exact tj_X15_begins_J49 d h19 l0 l1 l3 (0 : Int32) _
theorem tj_X15_begins_L19 {E : tj_E} {X : tj_X} {n0 s0 : Nat} (d : Nat) : ∀ (k : Nat) (l0 : Option Nat) (l1 : Option Nat) (l2 : Int32) (l3 : Int32) (σ : hp_S), tj_T E X RX15 "begins" cX15_begins 4 (some .boolean) (d + 1) [] n0 s0 em_i σ 19 [some (va_rf l0), some (va_rf l1), some (.int l2), some (.int l3)] [] (fn_X15_begins_L19 d k l0 l1 l2 l3) := by
  intro k
  induction k with
  | zero =>
    intro l0 l1 l2 l3 σ
    exact tj_fail
  | succ k ih =>
    intro l0 l1 l2 l3 σ
    exact tj_X15_begins_L19_b d ih l0 l1 l2 l3 σ
theorem tj_X15_begins_J16 {E : tj_E} {X : tj_X} {n0 s0 : Nat} (d : Nat) (l0 : Option Nat) (l1 : Option Nat) (p0 : Int32) (σ : hp_S) : tj_T E X RX15 "begins" cX15_begins 4 (some .boolean) (d + 1) [] n0 s0 em_i σ 16 [some (va_rf l0), some (va_rf l1), none, none] [.int p0] (fn_X15_begins_J16 d l0 l1 p0) := by
  unfold fn_X15_begins_J16
  refine tj_istore_n dX15_begins_16 (by decide) (rf_cat _) [some (va_rf l0), some (va_rf l1), some (.int p0), none] rfl ?_
  refine tj_iconst (0 : Int32) dX15_begins_17 rfl ?_
  refine tj_istore_n dX15_begins_18 (by decide) rfl [some (va_rf l0), some (va_rf l1), some (.int p0), some (.int (0 : Int32))] rfl ?_
  exact tj_X15_begins_L19 d mx_K l0 l1 p0 (0 : Int32) _
theorem tj_X15_begins_B0 {E : tj_E} {X : tj_X} {n0 s0 : Nat} (d : Nat) (v0 : Option Nat) (v1 : Option Nat) (σ : hp_S) : tj_T E X RX15 "begins" cX15_begins 4 (some .boolean) (d + 1) [] n0 s0 em_i σ 0 [some (va_rf v0), some (va_rf v1), none, none] [] (fn_X15_begins_B0 d v0 v1) := by
  unfold fn_X15_begins_B0
  refine tj_aload_n dX15_begins_0 rfl ?_
  refine tj_callV (as := []) (rest := []) (st' := (fun r => [.int r])) (t := 29) (fun a e => by cases e; exact ct_J8_length d _) (by decide) rfl q3563 q776 q4354 q107 q777 rfl md_J8_length rfl (by decide) rfl (by decide) dX15_begins_1 (fun _ => rfl) (fun r101 σ => ?_) (by decide)
  refine tj_aload_n dX15_begins_4 rfl ?_
  refine tj_callV (as := []) (rest := [.int r101]) (st' := (fun r => [.int r, .int r101])) (t := 30) (fun a e => by cases e; exact ct_J9_length d _) (by decide) rfl q3546 q686 q687 q108 q688 rfl md_J9_length rfl (by decide) rfl (by simp [rf_cat, cat_i, cat_l, cat_f, cat_d]) dX15_begins_5 (fun _ => rfl) (fun r102 σ => ?_) (by decide)
  refine tj_icmp_gt 15 dX15_begins_8 rfl (fun _ => ?_) (fun _ => ?_)
  · refine tj_iconst (0 : Int32) dX15_begins_15 rfl ?_
    exact tj_X15_begins_J16 d v0 v1 (0 : Int32) _
  · refine tj_iconst (1 : Int32) dX15_begins_11 rfl ?_
    refine tj_goto 16 dX15_begins_12 rfl ?_
    exact tj_X15_begins_J16 d v0 v1 (1 : Int32) _
theorem ct_X15_begins : ∀ (d : Nat) (v0 : Option Nat) (v1 : Option Nat), ct_ yX15_begins (ws_ yX15_begins cX15_begins 4 (some .boolean)) d em_i [va_rf v0, va_rf v1] (fn_X15_begins d v0 v1)
  | 0, _, _ => ct_fail
  | d + 1, v0, v1 => ct_of [(false, va_rf v0), (false, va_rf v1)] [some (va_rf v0), some (va_rf v1), none, none] (by decide) rfl ⟨rfl, (rf_cat _), ⟨rfl, (rf_cat _), trivial⟩⟩ (fun E X n0 s0 σ => tj_X15_begins_B0 d v0 v1 σ)
theorem tj_J15_init_B0 {E : tj_E} {X : tj_X} {n0 s0 : Nat} (d : Nat) (v0 : Option Nat) (v1 : Option Nat) (v2 : Int32) (σ : hp_S) : tj_T E X RJ15 "<init>" cJ15_init 3 none (d + 1) [] n0 s0 em_v σ 0 [some (va_rf v0), some (va_rf v1), some (.int v2)] [] (fn_J15_init_B0 d v0 v1 v2) := by
  unfold fn_J15_init_B0
  refine tj_aload_n dJ15_init_0 rfl ?_
  refine tj_objInit q512 q183 q184 (by decide) dJ15_init_1 (fun _ _ => ?_)
  refine tj_aload_n dJ15_init_4 rfl ?_
  refine tj_aload_n dJ15_init_5 rfl ?_
  refine tj_putF fl_J15_7 (nar_rf _) (fit_rf _) dJ15_init_6 (fun σ => ?_)
  refine tj_aload_n dJ15_init_9 rfl ?_
  refine tj_iload_n dJ15_init_10 rfl ?_
  refine tj_putF fl_J15_13 rfl rfl dJ15_init_11 (fun σ => ?_)
  refine tj_aload_n dJ15_init_14 rfl ?_
  refine tj_iconst (0 : Int32) dJ15_init_15 rfl ?_
  refine tj_put fl_J15_17 rfl rfl dJ15_init_16 (fun σ => ?_)
  refine tj_aload_n dJ15_init_19 rfl ?_
  refine tj_iconst (0 : Int32) dJ15_init_20 rfl ?_
  refine tj_putF fl_J15_20 rfl rfl dJ15_init_21 (fun σ => ?_)
  exact tj_vret dJ15_init_24
theorem ct_J15_init : ∀ (d : Nat) (v0 : Option Nat) (v1 : Option Nat) (v2 : Int32), ct_ yJ15_init (ws_ yJ15_init cJ15_init 3 none) d em_v [va_rf v0, va_rf v1, .int v2] (fn_J15_init d v0 v1 v2)
  | 0, _, _, _ => ct_fail
  | d + 1, v0, v1, v2 => ct_of [(false, va_rf v0), (false, va_rf v1), (false, .int v2)] [some (va_rf v0), some (va_rf v1), some (.int v2)] (by decide) rfl ⟨rfl, (rf_cat _), ⟨rfl, (rf_cat _), ⟨rfl, rfl, trivial⟩⟩⟩ (fun E X n0 s0 σ => tj_J15_init_B0 d v0 v1 v2 σ)
theorem tj_J58_size_B0 {E : tj_E} {X : tj_X} {n0 s0 : Nat} (d : Nat) (v0 : Option Nat) (σ : hp_S) : tj_T E X RJ58 "size" cJ58_size 1 (some .int) (d + 1) [] n0 s0 em_i σ 0 [some (va_rf v0)] [] (fn_J58_size_B0 d v0) := by
  unfold fn_J58_size_B0
  refine tj_aload_n dJ58_size_0 rfl ?_
  refine tj_getR fl_J58_7r dJ58_size_1 (fun v101 => ?_)
  refine tj_alen dJ58_size_4 (fun v102 => ?_)
  exact tj_iret dJ58_size_5
theorem ct_J58_size : ∀ (d : Nat) (v0 : Option Nat), ct_ yJ58_size (ws_ yJ58_size cJ58_size 1 (some .int)) d em_i [va_rf v0] (fn_J58_size d v0)
  | 0, _ => ct_fail
  | d + 1, v0 => ct_of [(false, va_rf v0)] [some (va_rf v0)] (by decide) rfl ⟨rfl, (rf_cat _), trivial⟩ (fun E X n0 s0 σ => tj_J58_size_B0 d v0 σ)
theorem tj_J56_iterator_B0 {E : tj_E} {X : tj_X} {n0 s0 : Nat} (d : Nat) (v0 : Option Nat) (σ : hp_S) : tj_T E X RJ56 "iterator" cJ56_iterator 1 (some (.object "java/util/Iterator")) (d + 1) [] n0 s0 em_r σ 0 [some (va_rf v0)] [] (fn_J56_iterator_B0 d v0) := by
  unfold fn_J56_iterator_B0
  refine tj_new nw_J56_61 dJ56_iterator_0 (fun a101 σ => ?_)
  refine tj_dup dJ56_iterator_3 (rf_cat _) ?_
  refine tj_aload_n dJ56_iterator_4 rfl ?_
  refine tj_aload_n dJ56_iterator_5 rfl ?_
  refine tj_callA (as := []) (rest := [va_rf v0, va_rf (some a101), va_rf (some a101)]) (st' := (fun r => [.int r, va_rf v0, va_rf (some a101), va_rf (some a101)])) (x0 := ⟨"java/util/ImmutableCollections$AbstractImmutableList", "size", "()I"⟩) (owner := "java/util/AbstractCollection") (t := 32) (fun a e => by cases e; exact ct_J58_size d _) (by decide) rfl q498 q499 q506 q507 q173 q508 q500 md_o_java_util_AbstractCollection_size rfl (by decide) rfl (by simp [rf_cat, cat_i, cat_l, cat_f, cat_d]) dJ56_iterator_6 (fun _ => rfl) (fun r102 σ => ?_) (by decide)
  refine tj_callI (as := [va_rf v0, .int r102]) (rest := [va_rf (some a101)]) (st' := (fun _ => [va_rf (some a101)])) (fun a e => by cases e; exact ct_J15_init d _ _ _) q509 q510 q115 q511 rfl md_J15_init rfl (by decide) rfl (by simp [rf_cat, cat_i, cat_l, cat_f, cat_d]) dJ56_iterator_9 (fun _ => rfl) (fun _ σ => ?_) (by decide)
  exact tj_aret (Or.inl ⟨_, rfl⟩) dJ56_iterator_12
theorem ct_J56_iterator : ∀ (d : Nat) (v0 : Option Nat), ct_ yJ56_iterator (ws_ yJ56_iterator cJ56_iterator 1 (some (.object "java/util/Iterator"))) d em_r [va_rf v0] (fn_J56_iterator d v0)
  | 0, _ => ct_fail
  | d + 1, v0 => ct_of [(false, va_rf v0)] [some (va_rf v0)] (by decide) rfl ⟨rfl, (rf_cat _), trivial⟩ (fun E X n0 s0 σ => tj_J56_iterator_B0 d v0 σ)
theorem tj_J15_hasNext_B0 {E : tj_E} {X : tj_X} {n0 s0 : Nat} (d : Nat) (v0 : Option Nat) (σ : hp_S) : tj_T E X RJ15 "hasNext" cJ15_hasNext 1 (some .boolean) (d + 1) [] n0 s0 em_i σ 0 [some (va_rf v0)] [] (fn_J15_hasNext_B0 d v0) := by
  unfold fn_J15_hasNext_B0
  refine tj_aload_n dJ15_hasNext_0 rfl ?_
  refine tj_getI fl_J15_17 dJ15_hasNext_1 (fun v101 => ?_)
  refine tj_aload_n dJ15_hasNext_4 rfl ?_
  refine tj_getI fl_J15_13r dJ15_hasNext_5 (fun v102 => ?_)
  refine tj_icmp_eq 15 dJ15_hasNext_8 rfl (fun _ => ?_) (fun _ => ?_)
  · refine tj_iconst (0 : Int32) dJ15_hasNext_15 rfl ?_
    exact tj_zpure rfl dJ15_hasNext_16
  · refine tj_iconst (1 : Int32) dJ15_hasNext_11 rfl ?_
    refine tj_goto 16 dJ15_hasNext_12 rfl ?_
    exact tj_zpure rfl dJ15_hasNext_16
theorem ct_J15_hasNext : ∀ (d : Nat) (v0 : Option Nat), ct_ yJ15_hasNext (ws_ yJ15_hasNext cJ15_hasNext 1 (some .boolean)) d em_i [va_rf v0] (fn_J15_hasNext d v0)
  | 0, _ => ct_fail
  | d + 1, v0 => ct_of [(false, va_rf v0)] [some (va_rf v0)] (by decide) rfl ⟨rfl, (rf_cat _), trivial⟩ (fun E X n0 s0 σ => tj_J15_hasNext_B0 d v0 σ)
theorem tj_J58_get_B0 {E : tj_E} {X : tj_X} {n0 s0 : Nat} (d : Nat) (v0 : Option Nat) (v1 : Int32) (σ : hp_S) : tj_T E X RJ58 "get" cJ58_get 2 (some (.object "java/lang/Object")) (d + 1) [] n0 s0 em_r σ 0 [some (va_rf v0), some (.int v1)] [] (fn_J58_get_B0 d v0 v1) := by
  unfold fn_J58_get_B0
  refine tj_aload_n dJ58_get_0 rfl ?_
  refine tj_getR fl_J58_7r dJ58_get_1 (fun v101 => ?_)
  refine tj_iload_n dJ58_get_4 rfl ?_
  refine tj_aald dJ58_get_5 (fun v102 => ?_)
  exact tj_aret (Or.inl ⟨_, rfl⟩) dJ58_get_6
theorem ct_J58_get : ∀ (d : Nat) (v0 : Option Nat) (v1 : Int32), ct_ yJ58_get (ws_ yJ58_get cJ58_get 2 (some (.object "java/lang/Object"))) d em_r [va_rf v0, .int v1] (fn_J58_get d v0 v1)
  | 0, _, _ => ct_fail
  | d + 1, v0, v1 => ct_of [(false, va_rf v0), (false, .int v1)] [some (va_rf v0), some (.int v1)] (by decide) rfl ⟨rfl, (rf_cat _), ⟨rfl, rfl, trivial⟩⟩ (fun E X n0 s0 σ => tj_J58_get_B0 d v0 v1 σ)
theorem tj_J15_next_B0 {E : tj_E} {X : tj_X} {n0 s0 : Nat} (d : Nat) (v0 : Option Nat) (σ : hp_S) : tj_T E X RJ15 "next" cJ15_next 3 (some (.object "java/lang/Object")) (d + 1) [(0, 24, 25, 30)] n0 s0 em_r σ 0 [some (va_rf v0), none, none] [] (fn_J15_next_B0 d v0) := by
  unfold fn_J15_next_B0
  refine tj_aload_n dJ15_next_0 rfl ?_
  refine tj_getI fl_J15_17 dJ15_next_1 (fun v101 => ?_)
  refine tj_istore_n dJ15_next_4 (by decide) (rf_cat _) [some (va_rf v0), some (.int v101), none] rfl ?_
  refine tj_aload_n dJ15_next_5 rfl ?_
  refine tj_getR fl_J15_7r dJ15_next_6 (fun v102 => ?_)
  refine tj_iload_n dJ15_next_9 rfl ?_
  refine tj_tryF (as := [.int v101]) (rest := []) (st' := (fun r => [va_rf r])) (t := 32) (fun a e => by cases e; exact ct_J58_get d _ _) (by decide) rfl q1320 q1349 q1351 q173 q1353 (ev_i 3 rfl) q1352 q1350 q1348 md_i3 rfl (by decide) rfl (by decide) dJ15_next_10 (fun _ => rfl) (fun r103 σ => ?_) (fun q104 σ => ?_)
  · refine tj_astore_n dJ15_next_15 (by decide) rfl [some (va_rf v0), some (.int v101), some (va_rf r103)] rfl ?_
    refine tj_aload_n dJ15_next_16 rfl ?_
    refine tj_iload_n dJ15_next_17 rfl ?_
    refine tj_iconst (1 : Int32) dJ15_next_18 rfl ?_
    refine tj_iadd dJ15_next_19 ?_
    refine tj_put fl_J15_17 rfl rfl dJ15_next_20 (fun σ => ?_)
    refine tj_aload_n dJ15_next_23 rfl ?_
    exact tj_aret (Or.inl ⟨_, rfl⟩) dJ15_next_24
  · exact tj_xfail
theorem ct_J15_next : ∀ (d : Nat) (v0 : Option Nat), ct_ yJ15_next (wsW_ yJ15_next cJ15_next 3 (some (.object "java/lang/Object")) [(0, 24, 25, 30)]) d em_r [va_rf v0] (fn_J15_next d v0)
  | 0, _ => ct_fail
  | d + 1, v0 => ct_ofH [(false, va_rf v0)] [some (va_rf v0), none, none] (by decide) rfl ⟨rfl, (rf_cat _), trivial⟩ (fun E X n0 s0 σ => tj_J15_next_B0 d v0 σ)
theorem tj_X15_beginsOne_J50 {E : tj_E} {X : tj_X} {n0 s0 : Nat} (d : Nat) {b12 : Option Nat → Int32 → Option Nat → mx_M Int32} (h12 : ∀ (l1 : Option Nat) (l2 : Int32) (l3 : Option Nat) (σ : hp_S), tj_T E X RX15 "beginsOne" cX15_beginsOne 5 (some .boolean) (d + 1) [] n0 s0 em_i σ 12 [none, some (va_rf l1), some (.int l2), some (va_rf l3), none] [] (b12 l1 l2 l3)) (l1 : Option Nat) (l3 : Option Nat) (p0 : Int32) (σ : hp_S) : tj_T E X RX15 "beginsOne" cX15_beginsOne 5 (some .boolean) (d + 1) [] n0 s0 em_i σ 50 [none, some (va_rf l1), none, some (va_rf l3), none] [.int p0] (fn_X15_beginsOne_J50 d b12 l1 l3 p0) := by
  unfold fn_X15_beginsOne_J50
  refine tj_istore_n dX15_beginsOne_50 (by decide) (rf_cat _) [none, some (va_rf l1), some (.int p0), some (va_rf l3), none] rfl ?_
  refine tj_goto 12 dX15_beginsOne_51 rfl ?_
  exact h12 l1 p0 l3 _
theorem tj_X15_beginsOne_J45 {E : tj_E} {X : tj_X} {n0 s0 : Nat} (d : Nat) {b12 : Option Nat → Int32 → Option Nat → mx_M Int32} (h12 : ∀ (l1 : Option Nat) (l2 : Int32) (l3 : Option Nat) (σ : hp_S), tj_T E X RX15 "beginsOne" cX15_beginsOne 5 (some .boolean) (d + 1) [] n0 s0 em_i σ 12 [none, some (va_rf l1), some (.int l2), some (va_rf l3), none] [] (b12 l1 l2 l3)) (l1 : Option Nat) (l3 : Option Nat) (σ : hp_S) : tj_T E X RX15 "beginsOne" cX15_beginsOne 5 (some .boolean) (d + 1) [] n0 s0 em_i σ 45 [none, some (va_rf l1), none, some (va_rf l3), none] [] (fn_X15_beginsOne_J45 d b12 l1 l3) := by
  unfold fn_X15_beginsOne_J45
  refine tj_iconst (1 : Int32) dX15_beginsOne_45 rfl ?_
  refine tj_goto 50 dX15_beginsOne_46 rfl ?_
  exact tj_X15_beginsOne_J50 d h12 l1 l3 (1 : Int32) _
theorem tj_X15_beginsOne_L12_b {E : tj_E} {X : tj_X} {n0 s0 : Nat} (d : Nat) {b12 : Option Nat → Int32 → Option Nat → mx_M Int32} (h12 : ∀ (l1 : Option Nat) (l2 : Int32) (l3 : Option Nat) (σ : hp_S), tj_T E X RX15 "beginsOne" cX15_beginsOne 5 (some .boolean) (d + 1) [] n0 s0 em_i σ 12 [none, some (va_rf l1), some (.int l2), some (va_rf l3), none] [] (b12 l1 l2 l3)) (l1 : Option Nat) (l2 : Int32) (l3 : Option Nat) (σ : hp_S) : tj_T E X RX15 "beginsOne" cX15_beginsOne 5 (some .boolean) (d + 1) [] n0 s0 em_i σ 12 [none, some (va_rf l1), some (.int l2), some (va_rf l3), none] [] (fn_X15_beginsOne_L12_b d b12 l1 l2 l3) := by
  unfold fn_X15_beginsOne_L12_b
  refine tj_aload_n dX15_beginsOne_12 rfl ?_
  refine tj_callF (as := []) (rest := []) (st' := (fun r => [.int r])) (t := 33) (fun a e => by cases e; exact ct_J15_hasNext d _) (by decide) rfl q3556 q1069 q1071 q115 q1073 (ev_i 1 rfl) q1072 q1070 q1068 md_i1 rfl (by decide) rfl (by decide) dX15_beginsOne_13 (fun _ => rfl) (fun r101 σ => ?_) (by decide)
  refine tj_if_eq 54 dX15_beginsOne_18 rfl (fun _ => ?_) (fun _ => ?_)
  · refine tj_iload_n dX15_beginsOne_54 rfl ?_
    exact tj_zret dX15_beginsOne_55
  · refine tj_aload_n dX15_beginsOne_21 rfl ?_
    refine tj_callFX (as := []) (rest := []) (st' := (fun r => [va_rf r])) (t := 33) (fun a e => by cases e; exact ct_J15_next d _) (by decide) rfl q3558 q1314 q1316 q115 q1318 (ev_i 2 rfl) q1317 q1315 q1068 md_i2 rfl (by decide) rfl (by decide) dX15_beginsOne_22 (fun _ => rfl) (fun r102 σ => ?_) (by decide)
    refine tj_cast (nm := "java/lang/String") q3559 ca_java_lang_String dX15_beginsOne_27 ?_
    refine tj_astore dX15_beginsOne_30 (by decide) (rf_cat _) [none, some (va_rf l1), some (.int l2), some (va_rf l3), some (va_rf r102)] rfl ?_
    refine tj_iload_n dX15_beginsOne_32 rfl ?_
    refine tj_if_ne 45 dX15_beginsOne_33 rfl (fun _ => ?_) (fun _ => ?_)
    · refine tj_aload dX15_beginsOne_36 rfl ?_
      refine tj_aload_n dX15_beginsOne_38 rfl ?_
      refine tj_callS (as := [va_rf r102, va_rf l1]) (rest := []) (st' := (fun r => [.int r])) (ct_X15_begins d r102 l1) q3560 q3561 q168 q3562 md_X15_begins rfl (by decide) rfl (by decide) dX15_beginsOne_39 (fun _ => rfl) (fun r103 σ => ?_) (by decide)
      refine tj_if_eq 49 dX15_beginsOne_42 rfl (fun _ => ?_) (fun _ => ?_)
      · refine tj_iconst (0 : Int32) dX15_beginsOne_49 rfl ?_
        refine tj_wk (L' := [none, some (va_rf l1), none, some (va_rf l3), none]) ⟨rfl, rfl, trivial⟩ ?_
        exact tj_X15_beginsOne_J50 d h12 l1 l3 (0 : Int32) _
      · refine tj_wk (L' := [none, some (va_rf l1), none, some (va_rf l3), none]) ⟨rfl, rfl, trivial⟩ ?_
        exact tj_X15_beginsOne_J45 d h12 l1 l3 _
    · refine tj_wk (L' := [none, some (va_rf l1), none, some (va_rf l3), none]) ⟨rfl, rfl, trivial⟩ ?_
      exact tj_X15_beginsOne_J45 d h12 l1 l3 _
theorem tj_X15_beginsOne_L12 {E : tj_E} {X : tj_X} {n0 s0 : Nat} (d : Nat) : ∀ (k : Nat) (l1 : Option Nat) (l2 : Int32) (l3 : Option Nat) (σ : hp_S), tj_T E X RX15 "beginsOne" cX15_beginsOne 5 (some .boolean) (d + 1) [] n0 s0 em_i σ 12 [none, some (va_rf l1), some (.int l2), some (va_rf l3), none] [] (fn_X15_beginsOne_L12 d k l1 l2 l3) := by
  intro k
  induction k with
  | zero =>
    intro l1 l2 l3 σ
    exact tj_fail
  | succ k ih =>
    intro l1 l2 l3 σ
    exact tj_X15_beginsOne_L12_b d ih l1 l2 l3 σ
theorem tj_X15_beginsOne_B0 {E : tj_E} {X : tj_X} {n0 s0 : Nat} (d : Nat) (v0 : Option Nat) (v1 : Option Nat) (σ : hp_S) : tj_T E X RX15 "beginsOne" cX15_beginsOne 5 (some .boolean) (d + 1) [] n0 s0 em_i σ 0 [some (va_rf v0), some (va_rf v1), none, none, none] [] (fn_X15_beginsOne_B0 d v0 v1) := by
  unfold fn_X15_beginsOne_B0
  refine tj_iconst (0 : Int32) dX15_beginsOne_0 rfl ?_
  refine tj_istore_n dX15_beginsOne_1 (by decide) (rf_cat _) [some (va_rf v0), some (va_rf v1), some (.int (0 : Int32)), none, none] rfl ?_
  refine tj_aload_n dX15_beginsOne_2 rfl ?_
  refine tj_getR fl_X15_31r dX15_beginsOne_3 (fun v101 => ?_)
  refine tj_callF (as := []) (rest := []) (st' := (fun r => [va_rf r])) (t := 32) (fun a e => by cases e; exact ct_J56_iterator d _) (by decide) rfl q3554 q1766 q493 q171 q495 (ev_i 6 rfl) q494 q528 q1348 md_i6 rfl (by decide) rfl (by decide) dX15_beginsOne_6 (fun _ => rfl) (fun r102 σ => ?_) (by decide)
  refine tj_astore_n dX15_beginsOne_11 (by decide) rfl [some (va_rf v0), some (va_rf v1), some (.int (0 : Int32)), some (va_rf r102), none] rfl ?_
  refine tj_wk (L' := [none, some (va_rf v1), some (.int (0 : Int32)), some (va_rf r102), none]) ⟨rfl, rfl, rfl, trivial⟩ ?_
  exact tj_X15_beginsOne_L12 d mx_K v1 (0 : Int32) r102 _
theorem ct_X15_beginsOne : ∀ (d : Nat) (v0 : Option Nat) (v1 : Option Nat), ct_ yX15_beginsOne (ws_ yX15_beginsOne cX15_beginsOne 5 (some .boolean)) d em_i [va_rf v0, va_rf v1] (fn_X15_beginsOne d v0 v1)
  | 0, _, _ => ct_fail
  | d + 1, v0, v1 => ct_of [(false, va_rf v0), (false, va_rf v1)] [some (va_rf v0), some (va_rf v1), none, none, none] (by decide) rfl ⟨rfl, (rf_cat _), ⟨rfl, (rf_cat _), trivial⟩⟩ (fun E X n0 s0 σ => tj_X15_beginsOne_B0 d v0 v1 σ)
theorem tj_J25_canEncode_B0 {E : tj_E} {X : tj_X} {n0 s0 : Nat} (d : Nat) (v0 : Int32) (σ : hp_S) : tj_T E X RJ25 "canEncode" cJ25_canEncode 1 (some .boolean) (d + 1) [] n0 s0 em_i σ 0 [some (.int v0)] [] (fn_J25_canEncode_B0 d v0) := by
  unfold fn_J25_canEncode_B0
  refine tj_iload_n dJ25_canEncode_0 rfl ?_
  refine tj_sipush (255 : Int32) dJ25_canEncode_1 (by decide) ?_
  refine tj_icmp_gt 11 dJ25_canEncode_4 rfl (fun _ => ?_) (fun _ => ?_)
  · refine tj_iconst (0 : Int32) dJ25_canEncode_11 rfl ?_
    exact tj_zpure rfl dJ25_canEncode_12
  · refine tj_iconst (1 : Int32) dJ25_canEncode_7 rfl ?_
    refine tj_goto 12 dJ25_canEncode_8 rfl ?_
    exact tj_zpure rfl dJ25_canEncode_12
theorem ct_J25_canEncode : ∀ (d : Nat) (v0 : Int32), ct_ yJ25_canEncode (ws_ yJ25_canEncode cJ25_canEncode 1 (some .boolean)) d em_i [.int v0] (fn_J25_canEncode d v0)
  | 0, _ => ct_fail
  | d + 1, v0 => ct_of [(false, .int v0)] [some (.int v0)] (by decide) rfl ⟨rfl, rfl, trivial⟩ (fun E X n0 s0 σ => tj_J25_canEncode_B0 d v0 σ)
theorem tj_J7_append_3_J45 {E : tj_E} {X : tj_X} {n0 s0 : Nat} (d : Nat) (l0 : Option Nat) (l1 : Int32) (σ : hp_S) : tj_T E X RJ7 "append" cJ7_append_3 2 (some (.object "java/lang/AbstractStringBuilder")) (d + 1) [] n0 s0 em_r σ 45 [some (va_rf l0), some (.int l1)] [] (fn_J7_append_3_J45 d l0 l1) := by
  unfold fn_J7_append_3_J45
  refine tj_aload_n dJ7_append_3_45 rfl ?_
  refine tj_callU (as := []) (rest := []) (st' := (fun r => [.int r])) (x0 := ⟨"java/lang/AbstractStringBuilder", "isLatin1", "()Z"⟩) (owner := "java/lang/AbstractStringBuilder") (t := 29) (fun a e => by cases e; exact ct_J7_isLatin1 d _) (by decide) rfl q654 q656 q657 q655 q106 q658 rfl md_o_java_lang_AbstractStringBuilder_isLatin1 rfl (by decide) rfl (by decide) dJ7_append_3_46 (fun _ => rfl) (fun r101 σ => ?_) (by decide)
  refine tj_if_eq 56 dJ7_append_3_49 rfl (fun _ => ?_) (fun _ => ?_)
  · refine tj_aload_n dJ7_append_3_56 rfl ?_
    refine tj_getR fl_J7_15 dJ7_append_3_57 (fun v102 => ?_)
    refine tj_aload_n dJ7_append_3_60 rfl ?_
    refine tj_dup dJ7_append_3_61 (rf_cat _) ?_
    refine tj_getI fl_J7_79 dJ7_append_3_62 (fun v103 => ?_)
    refine tj_dup_x1 dJ7_append_3_65 rfl (rf_cat _) ?_
    refine tj_iconst (1 : Int32) dJ7_append_3_66 rfl ?_
    refine tj_iadd dJ7_append_3_67 ?_
    refine tj_put fl_J7_79 rfl rfl dJ7_append_3_68 (fun σ => ?_)
    refine tj_iload_n dJ7_append_3_71 rfl ?_
    exact tj_fail
  · refine tj_aload_n dJ7_append_3_52 rfl ?_
    exact tj_fail
theorem tj_J7_append_3_B0 {E : tj_E} {X : tj_X} {n0 s0 : Nat} (d : Nat) (v0 : Option Nat) (v1 : Int32) (σ : hp_S) : tj_T E X RJ7 "append" cJ7_append_3 2 (some (.object "java/lang/AbstractStringBuilder")) (d + 1) [] n0 s0 em_r σ 0 [some (va_rf v0), some (.int v1)] [] (fn_J7_append_3_B0 d v0 v1) := by
  unfold fn_J7_append_3_B0
  refine tj_aload_n dJ7_append_3_0 rfl ?_
  refine tj_aload_n dJ7_append_3_1 rfl ?_
  refine tj_getI fl_J7_79 dJ7_append_3_2 (fun v101 => ?_)
  refine tj_iconst (1 : Int32) dJ7_append_3_5 rfl ?_
  refine tj_iadd dJ7_append_3_6 ?_
  refine tj_callP (as := [.int (v101 + (1 : Int32))]) (rest := []) (st' := (fun _ => [])) (t := 29) (fun a e => by cases e; exact ct_J7_ensureCapacityInternal d _ _) (by decide) rfl q619 q621 q106 (ev_p 1 rfl) q622 md_J7_ensureCapacityInternal rfl (by decide) rfl (by decide) dJ7_append_3_7 (fun _ => rfl) (fun _ σ => ?_) (by decide)
  refine tj_aload_n dJ7_append_3_10 rfl ?_
  refine tj_callU (as := []) (rest := []) (st' := (fun r => [.int r])) (x0 := ⟨"java/lang/AbstractStringBuilder", "isLatin1", "()Z"⟩) (owner := "java/lang/AbstractStringBuilder") (t := 29) (fun a e => by cases e; exact ct_J7_isLatin1 d _) (by decide) rfl q654 q656 q657 q655 q106 q658 rfl md_o_java_lang_AbstractStringBuilder_isLatin1 rfl (by decide) rfl (by decide) dJ7_append_3_11 (fun _ => rfl) (fun r102 σ => ?_) (by decide)
  refine tj_if_eq 45 dJ7_append_3_14 rfl (fun _ => ?_) (fun _ => ?_)
  · exact tj_J7_append_3_J45 d v0 v1 _
  · refine tj_iload_n dJ7_append_3_17 rfl ?_
    refine tj_callS (as := [.int v1]) (rest := []) (st' := (fun r => [.int r])) (ct_J25_canEncode d v1) q3435 q3436 q126 q3437 md_J25_canEncode rfl (by decide) rfl (by decide) dJ7_append_3_18 (fun _ => rfl) (fun r103 σ => ?_) (by decide)
    refine tj_if_eq 45 dJ7_append_3_21 rfl (fun _ => ?_) (fun _ => ?_)
    · exact tj_J7_append_3_J45 d v0 v1 _
    · refine tj_aload_n dJ7_append_3_24 rfl ?_
      refine tj_getR fl_J7_15 dJ7_append_3_25 (fun v104 => ?_)
      refine tj_aload_n dJ7_append_3_28 rfl ?_
      refine tj_dup dJ7_append_3_29 (rf_cat _) ?_
      refine tj_getI fl_J7_79 dJ7_append_3_30 (fun v105 => ?_)
      refine tj_dup_x1 dJ7_append_3_33 rfl (rf_cat _) ?_
      refine tj_iconst (1 : Int32) dJ7_append_3_34 rfl ?_
      refine tj_iadd dJ7_append_3_35 ?_
      refine tj_put fl_J7_79 rfl rfl dJ7_append_3_36 (fun σ => ?_)
      refine tj_iload_n dJ7_append_3_39 rfl ?_
      refine tj_i2b dJ7_append_3_40 ?_
      refine tj_bast dJ7_append_3_41 (fun σ => ?_)
      refine tj_goto 75 dJ7_append_3_42 rfl ?_
      refine tj_aload_n dJ7_append_3_75 rfl ?_
      exact tj_aret (Or.inl ⟨_, rfl⟩) dJ7_append_3_76
theorem ct_J7_append_3 : ∀ (d : Nat) (v0 : Option Nat) (v1 : Int32), ct_ yJ7_append_3 (ws_ yJ7_append_3 cJ7_append_3 2 (some (.object "java/lang/AbstractStringBuilder"))) d em_r [va_rf v0, .int v1] (fn_J7_append_3 d v0 v1)
  | 0, _, _ => ct_fail
  | d + 1, v0, v1 => ct_of [(false, va_rf v0), (false, .int v1)] [some (va_rf v0), some (.int v1)] (by decide) rfl ⟨rfl, (rf_cat _), ⟨rfl, rfl, trivial⟩⟩ (fun E X n0 s0 σ => tj_J7_append_3_B0 d v0 v1 σ)
theorem tj_J8_append_3_B0 {E : tj_E} {X : tj_X} {n0 s0 : Nat} (d : Nat) (v0 : Option Nat) (v1 : Int32) (σ : hp_S) : tj_T E X RJ8 "append" cJ8_append_3 2 (some (.object "java/lang/StringBuilder")) (d + 1) [] n0 s0 em_r σ 0 [some (va_rf v0), some (.int v1)] [] (fn_J8_append_3_B0 d v0 v1) := by
  unfold fn_J8_append_3_B0
  refine tj_aload_n dJ8_append_3_0 rfl ?_
  refine tj_iload_n dJ8_append_3_1 rfl ?_
  refine tj_callSU (as := [.int v1]) (rest := []) (st' := (fun r => [va_rf r])) (t := 29) (fun a e => by cases e; exact ct_J7_append_3 d _ _) (by decide) rfl q3432 q4355 q368 q3433 q106 q3434 (by decide) md_J7_append_3 rfl (by decide) rfl (by decide) dJ8_append_3_2 (fun _ => rfl) (fun r101 σ => ?_) (by decide)
  refine tj_pop dJ8_append_3_5 (rf_cat _) ?_
  refine tj_aload_n dJ8_append_3_6 rfl ?_
  exact tj_aret (Or.inl ⟨_, rfl⟩) dJ8_append_3_7
theorem ct_J8_append_3 : ∀ (d : Nat) (v0 : Option Nat) (v1 : Int32), ct_ yJ8_append_3 (ws_ yJ8_append_3 cJ8_append_3 2 (some (.object "java/lang/StringBuilder"))) d em_r [va_rf v0, .int v1] (fn_J8_append_3 d v0 v1)
  | 0, _, _ => ct_fail
  | d + 1, v0, v1 => ct_of [(false, va_rf v0), (false, .int v1)] [some (va_rf v0), some (.int v1)] (by decide) rfl ⟨rfl, (rf_cat _), ⟨rfl, rfl, trivial⟩⟩ (fun E X n0 s0 σ => tj_J8_append_3_B0 d v0 v1 σ)
theorem tj_J37_equals_B0 {E : tj_E} {X : tj_X} {n0 s0 : Nat} (d : Nat) (v0 : Option Nat) (v1 : Option Nat) (σ : hp_S) : tj_T E X RJ37 "equals" cJ37_equals 2 (some .boolean) (d + 1) [] n0 s0 em_i σ 0 [some (va_rf v0), some (va_rf v1)] [] (fn_J37_equals_B0 d v0 v1) := by
  unfold fn_J37_equals_B0
  refine tj_aload_n dJ37_equals_0 rfl ?_
  refine tj_aload_n dJ37_equals_1 rfl ?_
  refine tj_acmp_eq 17 dJ37_equals_2 rfl (fun _ => ?_) (fun _ => ?_)
  · refine tj_iconst (1 : Int32) dJ37_equals_17 rfl ?_
    refine tj_goto 22 dJ37_equals_18 rfl ?_
    exact tj_zpure rfl dJ37_equals_22
  · refine tj_aload_n dJ37_equals_5 rfl ?_
    refine tj_ifnull 21 dJ37_equals_6 rfl (fun _ => ?_) (fun _ _ => ?_)
    · refine tj_iconst (0 : Int32) dJ37_equals_21 rfl ?_
      exact tj_zpure rfl dJ37_equals_22
    · refine tj_aload_n dJ37_equals_9 rfl ?_
      refine tj_aload_n dJ37_equals_10 rfl ?_
      refine tj_callO (as := [va_rf v1]) (rest := []) (st' := (fun r => [.int r])) (x0 := ⟨"java/lang/Object", "equals", "(Ljava/lang/Object;)Z"⟩) (owner := "java/lang/Object") (t := 30) (fun a e => by cases e; exact ct_J9_equals d _ _) (by decide) rfl q3667 q3617 q3643 q1942 q108 q1944 q3616 q3649 md_o_java_lang_Object_equals rfl (by decide) rfl (by decide) dJ37_equals_11 (fun _ => rfl) (fun r101 σ => ?_) (by decide)
      refine tj_if_eq 21 dJ37_equals_14 rfl (fun _ => ?_) (fun _ => ?_)
      · refine tj_iconst (0 : Int32) dJ37_equals_21 rfl ?_
        exact tj_zpure rfl dJ37_equals_22
      · refine tj_iconst (1 : Int32) dJ37_equals_17 rfl ?_
        refine tj_goto 22 dJ37_equals_18 rfl ?_
        exact tj_zpure rfl dJ37_equals_22
theorem ct_J37_equals : ∀ (d : Nat) (v0 : Option Nat) (v1 : Option Nat), ct_ yJ37_equals (ws_ yJ37_equals cJ37_equals 2 (some .boolean)) d em_i [va_rf v0, va_rf v1] (fn_J37_equals d v0 v1)
  | 0, _, _ => ct_fail
  | d + 1, v0, v1 => ct_of [(false, va_rf v0), (false, va_rf v1)] [some (va_rf v0), some (va_rf v1)] (by decide) rfl ⟨rfl, (rf_cat _), ⟨rfl, (rf_cat _), trivial⟩⟩ (fun E X n0 s0 σ => tj_J37_equals_B0 d v0 v1 σ)
theorem tj_J58_indexOf_L26_b {E : tj_E} {X : tj_X} {n0 s0 : Nat} (d : Nat) {b26 : Option Nat → Option Nat → Int32 → mx_M Int32} (h26 : ∀ (l1 : Option Nat) (l2 : Option Nat) (l3 : Int32) (σ : hp_S), tj_T E X RJ58 "indexOf" cJ58_indexOf 4 (some .int) (d + 1) [] n0 s0 em_i σ 26 [none, some (va_rf l1), some (va_rf l2), some (.int l3)] [] (b26 l1 l2 l3)) (l1 : Option Nat) (l2 : Option Nat) (l3 : Int32) (σ : hp_S) : tj_T E X RJ58 "indexOf" cJ58_indexOf 4 (some .int) (d + 1) [] n0 s0 em_i σ 26 [none, some (va_rf l1), some (va_rf l2), some (.int l3)] [] (fn_J58_indexOf_L26_b d b26 l1 l2 l3) := by
  unfold fn_J58_indexOf_L26_b
  refine tj_iload_n dJ58_indexOf_26 rfl ?_
  refine tj_aload_n dJ58_indexOf_27 rfl ?_
  refine tj_alen dJ58_indexOf_28 (fun v101 => ?_)
  refine tj_icmp_ge 50 dJ58_indexOf_29 rfl (fun _ => ?_) (fun _ => ?_)
  · refine tj_iconst (-1 : Int32) dJ58_indexOf_50 rfl ?_
    exact tj_iret dJ58_indexOf_51
  · refine tj_aload_n dJ58_indexOf_32 rfl ?_
    refine tj_aload_n dJ58_indexOf_33 rfl ?_
    refine tj_iload_n dJ58_indexOf_34 rfl ?_
    refine tj_aald dJ58_indexOf_35 (fun v102 => ?_)
    refine tj_callS (as := [va_rf l1, va_rf v102]) (rest := []) (st' := (fun r => [.int r])) (ct_J37_equals d l1 v102) q3664 q3665 q139 q3666 md_J37_equals rfl (by decide) rfl (by decide) dJ58_indexOf_36 (fun _ => rfl) (fun r103 σ => ?_) (by decide)
    refine tj_if_eq 44 dJ58_indexOf_39 rfl (fun _ => ?_) (fun _ => ?_)
    · refine tj_iinc (1 : Int32) dJ58_indexOf_44 rfl rfl (by decide) (rf_cat _) [none, some (va_rf l1), some (va_rf l2), some (.int (l3 + (1 : Int32)))] rfl ?_
      refine tj_goto 26 dJ58_indexOf_47 rfl ?_
      exact h26 l1 l2 _ _
    · refine tj_iload_n dJ58_indexOf_42 rfl ?_
      exact tj_iret dJ58_indexOf_43
theorem tj_J58_indexOf_L26 {E : tj_E} {X : tj_X} {n0 s0 : Nat} (d : Nat) : ∀ (k : Nat) (l1 : Option Nat) (l2 : Option Nat) (l3 : Int32) (σ : hp_S), tj_T E X RJ58 "indexOf" cJ58_indexOf 4 (some .int) (d + 1) [] n0 s0 em_i σ 26 [none, some (va_rf l1), some (va_rf l2), some (.int l3)] [] (fn_J58_indexOf_L26 d k l1 l2 l3) := by
  intro k
  induction k with
  | zero =>
    intro l1 l2 l3 σ
    exact tj_fail
  | succ k ih =>
    intro l1 l2 l3 σ
    exact tj_J58_indexOf_L26_b d ih l1 l2 l3 σ
theorem tj_J58_indexOf_J19 {E : tj_E} {X : tj_X} {n0 s0 : Nat} (d : Nat) (l0 : Option Nat) (l1 : Option Nat) (σ : hp_S) : tj_T E X RJ58 "indexOf" cJ58_indexOf 4 (some .int) (d + 1) [] n0 s0 em_i σ 19 [some (va_rf l0), some (va_rf l1), none, none] [] (fn_J58_indexOf_J19 d l0 l1) := by
  unfold fn_J58_indexOf_J19
  refine tj_aload_n dJ58_indexOf_19 rfl ?_
  refine tj_getR fl_J58_7r dJ58_indexOf_20 (fun v101 => ?_)
  refine tj_astore_n dJ58_indexOf_23 (by decide) (rf_cat _) [some (va_rf l0), some (va_rf l1), some (va_rf v101), none] rfl ?_
  refine tj_iconst (0 : Int32) dJ58_indexOf_24 rfl ?_
  refine tj_istore_n dJ58_indexOf_25 (by decide) (rf_cat _) [some (va_rf l0), some (va_rf l1), some (va_rf v101), some (.int (0 : Int32))] rfl ?_
  refine tj_wk (L' := [none, some (va_rf l1), some (va_rf v101), some (.int (0 : Int32))]) ⟨rfl, rfl, rfl, trivial⟩ ?_
  exact tj_J58_indexOf_L26 d mx_K l1 v101 (0 : Int32) _
theorem tj_J58_indexOf_B0 {E : tj_E} {X : tj_X} {n0 s0 : Nat} (d : Nat) (v0 : Option Nat) (v1 : Option Nat) (σ : hp_S) : tj_T E X RJ58 "indexOf" cJ58_indexOf 4 (some .int) (d + 1) [] n0 s0 em_i σ 0 [some (va_rf v0), some (va_rf v1), none, none] [] (fn_J58_indexOf_B0 d v0 v1) := by
  unfold fn_J58_indexOf_B0
  refine tj_aload_n dJ58_indexOf_0 rfl ?_
  refine tj_getI fl_J58_13r dJ58_indexOf_1 (fun v101 => ?_)
  refine tj_if_ne 19 dJ58_indexOf_4 rfl (fun _ => ?_) (fun _ => ?_)
  · refine tj_aload_n dJ58_indexOf_7 rfl ?_
    refine tj_ifnonnull 19 dJ58_indexOf_8 rfl (fun _ => ?_) (fun _ _ => ?_)
    · exact tj_fail
    · exact tj_J58_indexOf_J19 d v0 v1 _
  · exact tj_J58_indexOf_J19 d v0 v1 _
theorem ct_J58_indexOf : ∀ (d : Nat) (v0 : Option Nat) (v1 : Option Nat), ct_ yJ58_indexOf (ws_ yJ58_indexOf cJ58_indexOf 4 (some .int)) d em_i [va_rf v0, va_rf v1] (fn_J58_indexOf d v0 v1)
  | 0, _, _ => ct_fail
  | d + 1, v0, v1 => ct_of [(false, va_rf v0), (false, va_rf v1)] [some (va_rf v0), some (va_rf v1), none, none] (by decide) rfl ⟨rfl, (rf_cat _), ⟨rfl, (rf_cat _), trivial⟩⟩ (fun E X n0 s0 σ => tj_J58_indexOf_B0 d v0 v1 σ)
theorem tj_J56_contains_B0 {E : tj_E} {X : tj_X} {n0 s0 : Nat} (d : Nat) (v0 : Option Nat) (v1 : Option Nat) (σ : hp_S) : tj_T E X RJ56 "contains" cJ56_contains 2 (some .boolean) (d + 1) [] n0 s0 em_i σ 0 [some (va_rf v0), some (va_rf v1)] [] (fn_J56_contains_B0 d v0 v1) := by
  unfold fn_J56_contains_B0
  refine tj_aload_n dJ56_contains_0 rfl ?_
  refine tj_aload_n dJ56_contains_1 rfl ?_
  refine tj_callAI (st' := (fun r => [.int r])) (fun a e => by cases e; exact ct_J58_indexOf d _ _) rfl q3661 q3662 q173 q3663 q3656 (by decide) rfl (by decide) dJ56_contains_2 (fun _ => rfl) (fun r101 σ => ?_) (by decide)
  refine tj_if_lt 12 dJ56_contains_5 rfl (fun _ => ?_) (fun _ => ?_)
  · refine tj_iconst (0 : Int32) dJ56_contains_12 rfl ?_
    exact tj_zpure rfl dJ56_contains_13
  · refine tj_iconst (1 : Int32) dJ56_contains_8 rfl ?_
    refine tj_goto 13 dJ56_contains_9 rfl ?_
    exact tj_zpure rfl dJ56_contains_13
theorem ct_J56_contains : ∀ (d : Nat) (v0 : Option Nat) (v1 : Option Nat), ct_ yJ56_contains (ws_ yJ56_contains cJ56_contains 2 (some .boolean)) d em_i [va_rf v0, va_rf v1] (fn_J56_contains d v0 v1)
  | 0, _, _ => ct_fail
  | d + 1, v0, v1 => ct_of [(false, va_rf v0), (false, va_rf v1)] [some (va_rf v0), some (va_rf v1)] (by decide) rfl ⟨rfl, (rf_cat _), ⟨rfl, (rf_cat _), trivial⟩⟩ (fun E X n0 s0 σ => tj_J56_contains_B0 d v0 v1 σ)
theorem tj_X15_word_J57 {E : tj_E} {X : tj_X} {n0 s0 : Nat} (d : Nat) (l0 : Option Nat) (l1 : Option Nat) (σ : hp_S) : tj_T E X RX15 "word" cX15_word 2 (some (.object "java/lang/String")) (d + 1) [] n0 s0 em_r σ 57 [some (va_rf l0), some (va_rf l1)] [] (fn_X15_word_J57 d l0 l1) := by
  unfold fn_X15_word_J57
  refine tj_aload_n dX15_word_57 rfl ?_
  refine tj_aload_n dX15_word_58 rfl ?_
  refine tj_getR fl_X15_31r dX15_word_59 (fun v101 => ?_)
  refine tj_aload_n dX15_word_62 rfl ?_
  refine tj_callV (as := []) (rest := [va_rf v101, va_rf l0]) (st' := (fun r => [va_rf r, va_rf v101, va_rf l0])) (t := 29) (fun a e => by cases e; exact ct_J8_toString d _) (by decide) rfl q3596 q755 q756 q107 q757 rfl md_J8_toString rfl (by decide) rfl (by simp [rf_cat, cat_i, cat_l, cat_f, cat_d]) dX15_word_63 (fun _ => rfl) (fun r102 σ => ?_) (by decide)
  refine tj_callF (as := [va_rf r102]) (rest := [va_rf l0]) (st' := (fun r => [.int r, va_rf l0])) (t := 32) (fun a e => by cases e; exact ct_J56_contains d _ _) (by decide) rfl q3598 q3668 q3652 q171 q3654 (ev_i 15 rfl) q3653 q3669 q1348 md_i15 rfl (by decide) rfl (by simp [rf_cat, cat_i, cat_l, cat_f, cat_d]) dX15_word_66 (fun _ => rfl) (fun r103 σ => ?_) (by decide)
  refine tj_callV (as := [.int r103]) (rest := []) (st' := (fun _ => [])) (t := 12) (fun a e => by cases e; exact ct_X15_require d _ _) (by decide) rfl q3574 q3576 qs51 q168 q3577 rfl md_X15_require rfl (by decide) rfl (by decide) dX15_word_71 (fun _ => rfl) (fun _ σ => ?_) (by decide)
  refine tj_aload_n dX15_word_74 rfl ?_
  refine tj_callV (as := []) (rest := []) (st' := (fun r => [va_rf r])) (t := 29) (fun a e => by cases e; exact ct_J8_toString d _) (by decide) rfl q3596 q755 q756 q107 q757 rfl md_J8_toString rfl (by decide) rfl (by decide) dX15_word_75 (fun _ => rfl) (fun r104 σ => ?_) (by decide)
  exact tj_aret (Or.inl ⟨_, rfl⟩) dX15_word_78
theorem tj_X15_word_L8_b {E : tj_E} {X : tj_X} {n0 s0 : Nat} (d : Nat) {b8 : Option Nat → Option Nat → mx_M (Option Nat)} (h8 : ∀ (l0 : Option Nat) (l1 : Option Nat) (σ : hp_S), tj_T E X RX15 "word" cX15_word 2 (some (.object "java/lang/String")) (d + 1) [] n0 s0 em_r σ 8 [some (va_rf l0), some (va_rf l1)] [] (b8 l0 l1)) (l0 : Option Nat) (l1 : Option Nat) (σ : hp_S) : tj_T E X RX15 "word" cX15_word 2 (some (.object "java/lang/String")) (d + 1) [] n0 s0 em_r σ 8 [some (va_rf l0), some (va_rf l1)] [] (fn_X15_word_L8_b d b8 l0 l1) := by
  unfold fn_X15_word_L8_b
  refine tj_aload_n dX15_word_8 rfl ?_
  refine tj_callV (as := []) (rest := []) (st' := (fun r => [.int r])) (t := 12) (fun a e => by cases e; exact ct_X15_current d _) (by decide) rfl q3542 q3544 qs49 q168 q3545 rfl md_X15_current rfl (by decide) rfl (by decide) dX15_word_9 (fun _ => rfl) (fun r101 σ => ?_) (by decide)
  refine tj_bipush (97 : Int32) dX15_word_12 (by decide) ?_
  refine tj_icmp_lt 57 dX15_word_14 rfl (fun _ => ?_) (fun _ => ?_)
  · exact tj_X15_word_J57 d l0 l1 _
  · refine tj_aload_n dX15_word_17 rfl ?_
    refine tj_callV (as := []) (rest := []) (st' := (fun r => [.int r])) (t := 12) (fun a e => by cases e; exact ct_X15_current d _) (by decide) rfl q3542 q3544 qs49 q168 q3545 rfl md_X15_current rfl (by decide) rfl (by decide) dX15_word_18 (fun _ => rfl) (fun r102 σ => ?_) (by decide)
    refine tj_bipush (122 : Int32) dX15_word_21 (by decide) ?_
    refine tj_icmp_gt 57 dX15_word_23 rfl (fun _ => ?_) (fun _ => ?_)
    · exact tj_X15_word_J57 d l0 l1 _
    · refine tj_aload_n dX15_word_26 rfl ?_
      refine tj_aload_n dX15_word_27 rfl ?_
      refine tj_callV (as := []) (rest := [va_rf l1]) (st' := (fun r => [.int r, va_rf l1])) (t := 12) (fun a e => by cases e; exact ct_X15_current d _) (by decide) rfl q3542 q3544 qs49 q168 q3545 rfl md_X15_current rfl (by decide) rfl (by simp [rf_cat, cat_i, cat_l, cat_f, cat_d]) dX15_word_28 (fun _ => rfl) (fun r103 σ => ?_) (by decide)
      refine tj_callV (as := [.int r103]) (rest := []) (st' := (fun r => [va_rf r])) (t := 29) (fun a e => by cases e; exact ct_J8_append_3 d _ _) (by decide) rfl q3548 q3429 q3430 q107 q3431 rfl md_J8_append_3 rfl (by decide) rfl (by decide) dX15_word_31 (fun _ => rfl) (fun r104 σ => ?_) (by decide)
      refine tj_pop dX15_word_34 (rf_cat _) ?_
      refine tj_aload_n dX15_word_35 rfl ?_
      refine tj_aload_n dX15_word_36 rfl ?_
      refine tj_aload_n dX15_word_37 rfl ?_
      refine tj_callV (as := [va_rf l1]) (rest := [va_rf l0]) (st' := (fun r => [.int r, va_rf l0])) (t := 12) (fun a e => by cases e; exact ct_X15_beginsOne d _ _) (by decide) rfl q3549 q3551 qs50 q168 q3552 rfl md_X15_beginsOne rfl (by decide) rfl (by simp [rf_cat, cat_i, cat_l, cat_f, cat_d]) dX15_word_38 (fun _ => rfl) (fun r105 σ => ?_) (by decide)
      refine tj_callV (as := [.int r105]) (rest := []) (st' := (fun _ => [])) (t := 12) (fun a e => by cases e; exact ct_X15_require d _ _) (by decide) rfl q3574 q3576 qs51 q168 q3577 rfl md_X15_require rfl (by decide) rfl (by decide) dX15_word_41 (fun _ => rfl) (fun _ σ => ?_) (by decide)
      refine tj_aload_n dX15_word_44 rfl ?_
      refine tj_dup dX15_word_45 (rf_cat _) ?_
      refine tj_getI fl_X15_41 dX15_word_46 (fun v106 => ?_)
      refine tj_iconst (1 : Int32) dX15_word_49 rfl ?_
      refine tj_iadd dX15_word_50 ?_
      refine tj_put fl_X15_41 rfl rfl dX15_word_51 (fun σ => ?_)
      refine tj_goto 8 dX15_word_54 rfl ?_
      exact h8 l0 l1 _
theorem tj_X15_word_L8 {E : tj_E} {X : tj_X} {n0 s0 : Nat} (d : Nat) : ∀ (k : Nat) (l0 : Option Nat) (l1 : Option Nat) (σ : hp_S), tj_T E X RX15 "word" cX15_word 2 (some (.object "java/lang/String")) (d + 1) [] n0 s0 em_r σ 8 [some (va_rf l0), some (va_rf l1)] [] (fn_X15_word_L8 d k l0 l1) := by
  intro k
  induction k with
  | zero =>
    intro l0 l1 σ
    exact tj_fail
  | succ k ih =>
    intro l0 l1 σ
    exact tj_X15_word_L8_b d ih l0 l1 σ
theorem tj_X15_word_B0 {E : tj_E} {X : tj_X} {n0 s0 : Nat} (d : Nat) (v0 : Option Nat) (σ : hp_S) : tj_T E X RX15 "word" cX15_word 2 (some (.object "java/lang/String")) (d + 1) [] n0 s0 em_r σ 0 [some (va_rf v0), none] [] (fn_X15_word_B0 d v0) := by
  unfold fn_X15_word_B0
  refine tj_new nw_X15_80 dX15_word_0 (fun a101 σ => ?_)
  refine tj_dup dX15_word_3 (rf_cat _) ?_
  refine tj_callI (as := []) (rest := [va_rf (some a101)]) (st' := (fun _ => [va_rf (some a101)])) (fun a e => by cases e; exact ct_J8_init d _) q3541 q340 q107 q341 rfl md_J8_init rfl (by decide) rfl (by simp [rf_cat, cat_i, cat_l, cat_f, cat_d]) dX15_word_4 (fun _ => rfl) (fun _ σ => ?_) (by decide)
  refine tj_astore_n dX15_word_7 (by decide) (rf_cat _) [some (va_rf v0), some (va_rf (some a101))] rfl ?_
  exact tj_X15_word_L8 d mx_K v0 (some a101) _
theorem ct_X15_word : ∀ (d : Nat) (v0 : Option Nat), ct_ yX15_word (ws_ yX15_word cX15_word 2 (some (.object "java/lang/String"))) d em_r [va_rf v0] (fn_X15_word d v0)
  | 0, _ => ct_fail
  | d + 1, v0 => ct_of [(false, va_rf v0)] [some (va_rf v0), none] (by decide) rfl ⟨rfl, (rf_cat _), trivial⟩ (fun E X n0 s0 σ => tj_X15_word_B0 d v0 σ)
theorem tj_X15_command_J265 {E : tj_E} {X : tj_X} {n0 s0 : Nat} (d : Nat) (l0 : Option Nat) (l1 : Option Nat) (σ : hp_S) : tj_T E X RX15 "command" cX15_command 8 (some (.object "LionGate$Command")) (d + 1) [] n0 s0 em_r σ 265 [some (va_rf l0), some (va_rf l1), none, none, none, none, none, none] [] (fn_X15_command_J265 d l0 l1) := by
  unfold fn_X15_command_J265
  refine tj_aload_n dX15_command_265 rfl ?_
  refine tj_bipush (32 : Int32) dX15_command_266 (by decide) ?_
  refine tj_callV (as := [.int (32 : Int32)]) (rest := []) (st' := (fun r => [.int r])) (t := 12) (fun a e => by cases e; exact ct_X15_numberAfter d _ _) (by decide) rfl q3682 q3684 qs52 q168 q3685 rfl md_X15_numberAfter rfl (by decide) rfl (by decide) dX15_command_268 (fun _ => rfl) (fun r101 σ => ?_) (by decide)
  refine tj_istore dX15_command_271 (by decide) trivial [some (va_rf l0), some (va_rf l1), none, none, none, none, some (.int r101), none] rfl ?_
  refine tj_new nw_X15_133 dX15_command_273 (fun a102 σ => ?_)
  refine tj_dup dX15_command_276 (rf_cat _) ?_
  refine tj_aload_n dX15_command_277 rfl ?_
  refine tj_iconst (2 : Int32) dX15_command_278 rfl ?_
  refine tj_newI q426 dX15_command_279 (fun a103 σ => ?_)
  refine tj_dup dX15_command_281 (rf_cat _) ?_
  refine tj_iconst (0 : Int32) dX15_command_282 rfl ?_
  refine tj_iload dX15_command_283 rfl ?_
  refine tj_iast dX15_command_285 (fun σ => ?_)
  refine tj_dup dX15_command_286 (rf_cat _) ?_
  refine tj_iconst (1 : Int32) dX15_command_287 rfl ?_
  refine tj_aload_n dX15_command_288 rfl ?_
  refine tj_bipush (32 : Int32) dX15_command_289 (by decide) ?_
  refine tj_callV (as := [.int (32 : Int32)]) (rest := [.int (1 : Int32), va_rf (some a103), va_rf (some a103), va_rf l1, va_rf (some a102), va_rf (some a102)]) (st' := (fun r => [.int r, .int (1 : Int32), va_rf (some a103), va_rf (some a103), va_rf l1, va_rf (some a102), va_rf (some a102)])) (t := 12) (fun a e => by cases e; exact ct_X15_numberAfter d _ _) (by decide) rfl q3682 q3684 qs52 q168 q3685 rfl md_X15_numberAfter rfl (by decide) rfl (by simp [rf_cat, cat_i, cat_l, cat_f, cat_d]) dX15_command_291 (fun _ => rfl) (fun r104 σ => ?_) (by decide)
  refine tj_iast dX15_command_294 (fun σ => ?_)
  refine tj_callI (as := [va_rf l1, va_rf (some a103)]) (rest := [va_rf (some a102)]) (st' := (fun _ => [va_rf (some a102)])) (fun a e => by cases e; exact ct_X5_init d _ _ _) q3703 q1865 q148 q1866 rfl md_X5_init rfl (by decide) rfl (by simp [rf_cat, cat_i, cat_l, cat_f, cat_d]) dX15_command_295 (fun _ => rfl) (fun _ σ => ?_) (by decide)
  exact tj_aret (Or.inl ⟨_, rfl⟩) dX15_command_298
theorem tj_X15_command_J352 {E : tj_E} {X : tj_X} {n0 s0 : Nat} (d : Nat) (l0 : Option Nat) (l1 : Option Nat) (σ : hp_S) : tj_T E X RX15 "command" cX15_command 8 (some (.object "LionGate$Command")) (d + 1) [] n0 s0 em_r σ 352 [some (va_rf l0), some (va_rf l1), none, none, none, none, none, none] [] (fn_X15_command_J352 d l0 l1) := by
  unfold fn_X15_command_J352
  refine tj_new nw_X15_133 dX15_command_352 (fun a101 σ => ?_)
  refine tj_dup dX15_command_355 (rf_cat _) ?_
  refine tj_aload_n dX15_command_356 rfl ?_
  refine tj_iconst (1 : Int32) dX15_command_357 rfl ?_
  refine tj_newI q426 dX15_command_358 (fun a102 σ => ?_)
  refine tj_dup dX15_command_360 (rf_cat _) ?_
  refine tj_iconst (0 : Int32) dX15_command_361 rfl ?_
  refine tj_aload_n dX15_command_362 rfl ?_
  refine tj_bipush (32 : Int32) dX15_command_363 (by decide) ?_
  refine tj_callV (as := [.int (32 : Int32)]) (rest := [.int (0 : Int32), va_rf (some a102), va_rf (some a102), va_rf l1, va_rf (some a101), va_rf (some a101)]) (st' := (fun r => [.int r, .int (0 : Int32), va_rf (some a102), va_rf (some a102), va_rf l1, va_rf (some a101), va_rf (some a101)])) (t := 12) (fun a e => by cases e; exact ct_X15_numberAfter d _ _) (by decide) rfl q3682 q3684 qs52 q168 q3685 rfl md_X15_numberAfter rfl (by decide) rfl (by simp [rf_cat, cat_i, cat_l, cat_f, cat_d]) dX15_command_365 (fun _ => rfl) (fun r103 σ => ?_) (by decide)
  refine tj_iast dX15_command_368 (fun σ => ?_)
  refine tj_callI (as := [va_rf l1, va_rf (some a102)]) (rest := [va_rf (some a101)]) (st' := (fun _ => [va_rf (some a101)])) (fun a e => by cases e; exact ct_X5_init d _ _ _) q3703 q1865 q148 q1866 rfl md_X5_init rfl (by decide) rfl (by simp [rf_cat, cat_i, cat_l, cat_f, cat_d]) dX15_command_369 (fun _ => rfl) (fun _ σ => ?_) (by decide)
  exact tj_aret (Or.inl ⟨_, rfl⟩) dX15_command_372
theorem tj_X15_command_J176 {E : tj_E} {X : tj_X} {n0 s0 : Nat} (d : Nat) (l0 : Option Nat) (l1 : Option Nat) (l3 : Int32) (σ : hp_S) : tj_T E X RX15 "command" cX15_command 8 (some (.object "LionGate$Command")) (d + 1) [] n0 s0 em_r σ 176 [some (va_rf l0), some (va_rf l1), none, some (.int l3), none, none, none, none] [] (fn_X15_command_J176 d l0 l1 l3) := by
  unfold fn_X15_command_J176
  refine tj_iload_n dX15_command_176 rfl ?_
  refine tj_table [((0 : Int32), 220), ((1 : Int32), 265), ((2 : Int32), 265), ((3 : Int32), 299), ((4 : Int32), 333), ((5 : Int32), 352), ((6 : Int32), 352)] 373 dX15_command_177 rfl rfl rfl rfl rfl ?_ ?_
  · intro i t key A h1 h2
    match i, h1, h2 with
    | 0, h1, h2 =>
      cases h1; cases h2
      refine tj_aload_n dX15_command_220 rfl ?_
      refine tj_bipush (32 : Int32) dX15_command_221 (by decide) ?_
      refine tj_callV (as := [.int (32 : Int32)]) (rest := []) (st' := (fun r => [.int r])) (t := 12) (fun a e => by cases e; exact ct_X15_numberAfter d _ _) (by decide) rfl q3682 q3684 qs52 q168 q3685 rfl md_X15_numberAfter rfl (by decide) rfl (by decide) dX15_command_223 (fun _ => rfl) (fun r101 σ => ?_) (by decide)
      refine tj_istore dX15_command_226 (by decide) rfl [some (va_rf l0), some (va_rf l1), none, some (.int l3), some (.int r101), none, none, none] rfl ?_
      refine tj_aload_n dX15_command_228 rfl ?_
      refine tj_callV (as := []) (rest := []) (st' := (fun r => [.int r])) (t := 12) (fun a e => by cases e; exact ct_X15_digitAfterSpace d _) (by decide) rfl q3698 q3700 qs56 q168 q3701 rfl md_X15_digitAfterSpace rfl (by decide) rfl (by decide) dX15_command_229 (fun _ => rfl) (fun r102 σ => ?_) (by decide)
      refine tj_istore dX15_command_232 (by decide) rfl [some (va_rf l0), some (va_rf l1), none, some (.int l3), some (.int r101), some (.int r102), none, none] rfl ?_
      refine tj_new nw_X15_133 dX15_command_234 (fun a103 σ => ?_)
      refine tj_dup dX15_command_237 (rf_cat _) ?_
      refine tj_aload_n dX15_command_238 rfl ?_
      refine tj_iconst (3 : Int32) dX15_command_239 rfl ?_
      refine tj_newI q426 dX15_command_240 (fun a104 σ => ?_)
      refine tj_dup dX15_command_242 (rf_cat _) ?_
      refine tj_iconst (0 : Int32) dX15_command_243 rfl ?_
      refine tj_iload dX15_command_244 rfl ?_
      refine tj_iast dX15_command_246 (fun σ => ?_)
      refine tj_dup dX15_command_247 (rf_cat _) ?_
      refine tj_iconst (1 : Int32) dX15_command_248 rfl ?_
      refine tj_iload dX15_command_249 rfl ?_
      refine tj_iast dX15_command_251 (fun σ => ?_)
      refine tj_dup dX15_command_252 (rf_cat _) ?_
      refine tj_iconst (2 : Int32) dX15_command_253 rfl ?_
      refine tj_aload_n dX15_command_254 rfl ?_
      refine tj_bipush (32 : Int32) dX15_command_255 (by decide) ?_
      refine tj_callV (as := [.int (32 : Int32)]) (rest := [.int (2 : Int32), va_rf (some a104), va_rf (some a104), va_rf l1, va_rf (some a103), va_rf (some a103)]) (st' := (fun r => [.int r, .int (2 : Int32), va_rf (some a104), va_rf (some a104), va_rf l1, va_rf (some a103), va_rf (some a103)])) (t := 12) (fun a e => by cases e; exact ct_X15_numberAfter d _ _) (by decide) rfl q3682 q3684 qs52 q168 q3685 rfl md_X15_numberAfter rfl (by decide) rfl (by simp [rf_cat, cat_i, cat_l, cat_f, cat_d]) dX15_command_257 (fun _ => rfl) (fun r105 σ => ?_) (by decide)
      refine tj_iast dX15_command_260 (fun σ => ?_)
      refine tj_callI (as := [va_rf l1, va_rf (some a104)]) (rest := [va_rf (some a103)]) (st' := (fun _ => [va_rf (some a103)])) (fun a e => by cases e; exact ct_X5_init d _ _ _) q3703 q1865 q148 q1866 rfl md_X5_init rfl (by decide) rfl (by simp [rf_cat, cat_i, cat_l, cat_f, cat_d]) dX15_command_261 (fun _ => rfl) (fun _ σ => ?_) (by decide)
      exact tj_aret (Or.inl ⟨_, rfl⟩) dX15_command_264
    | 1, h1, h2 =>
      cases h1; cases h2
      refine tj_wk (L' := [some (va_rf l0), some (va_rf l1), none, none, none, none, none, none]) ⟨rfl, rfl, trivial⟩ ?_
      exact tj_X15_command_J265 d l0 l1 _
    | 2, h1, h2 =>
      cases h1; cases h2
      refine tj_wk (L' := [some (va_rf l0), some (va_rf l1), none, none, none, none, none, none]) ⟨rfl, rfl, trivial⟩ ?_
      exact tj_X15_command_J265 d l0 l1 _
    | 3, h1, h2 =>
      cases h1; cases h2
      refine tj_aload_n dX15_command_299 rfl ?_
      refine tj_bipush (32 : Int32) dX15_command_300 (by decide) ?_
      refine tj_callV (as := [.int (32 : Int32)]) (rest := []) (st' := (fun r => [.int r])) (t := 12) (fun a e => by cases e; exact ct_X15_numberAfter d _ _) (by decide) rfl q3682 q3684 qs52 q168 q3685 rfl md_X15_numberAfter rfl (by decide) rfl (by decide) dX15_command_302 (fun _ => rfl) (fun r106 σ => ?_) (by decide)
      refine tj_istore dX15_command_305 (by decide) trivial [some (va_rf l0), some (va_rf l1), none, some (.int l3), none, none, none, some (.int r106)] rfl ?_
      refine tj_new nw_X15_133 dX15_command_307 (fun a107 σ => ?_)
      refine tj_dup dX15_command_310 (rf_cat _) ?_
      refine tj_aload_n dX15_command_311 rfl ?_
      refine tj_iconst (2 : Int32) dX15_command_312 rfl ?_
      refine tj_newI q426 dX15_command_313 (fun a108 σ => ?_)
      refine tj_dup dX15_command_315 (rf_cat _) ?_
      refine tj_iconst (0 : Int32) dX15_command_316 rfl ?_
      refine tj_iload dX15_command_317 rfl ?_
      refine tj_iast dX15_command_319 (fun σ => ?_)
      refine tj_dup dX15_command_320 (rf_cat _) ?_
      refine tj_iconst (1 : Int32) dX15_command_321 rfl ?_
      refine tj_aload_n dX15_command_322 rfl ?_
      refine tj_bipush (45 : Int32) dX15_command_323 (by decide) ?_
      refine tj_callV (as := [.int (45 : Int32)]) (rest := [.int (1 : Int32), va_rf (some a108), va_rf (some a108), va_rf l1, va_rf (some a107), va_rf (some a107)]) (st' := (fun r => [.int r, .int (1 : Int32), va_rf (some a108), va_rf (some a108), va_rf l1, va_rf (some a107), va_rf (some a107)])) (t := 12) (fun a e => by cases e; exact ct_X15_numberAfter d _ _) (by decide) rfl q3682 q3684 qs52 q168 q3685 rfl md_X15_numberAfter rfl (by decide) rfl (by simp [rf_cat, cat_i, cat_l, cat_f, cat_d]) dX15_command_325 (fun _ => rfl) (fun r109 σ => ?_) (by decide)
      refine tj_iast dX15_command_328 (fun σ => ?_)
      refine tj_callI (as := [va_rf l1, va_rf (some a108)]) (rest := [va_rf (some a107)]) (st' := (fun _ => [va_rf (some a107)])) (fun a e => by cases e; exact ct_X5_init d _ _ _) q3703 q1865 q148 q1866 rfl md_X5_init rfl (by decide) rfl (by simp [rf_cat, cat_i, cat_l, cat_f, cat_d]) dX15_command_329 (fun _ => rfl) (fun _ σ => ?_) (by decide)
      exact tj_aret (Or.inl ⟨_, rfl⟩) dX15_command_332
    | 4, h1, h2 =>
      cases h1; cases h2
      refine tj_new nw_X15_133 dX15_command_333 (fun a110 σ => ?_)
      refine tj_dup dX15_command_336 (rf_cat _) ?_
      refine tj_aload_n dX15_command_337 rfl ?_
      refine tj_iconst (1 : Int32) dX15_command_338 rfl ?_
      refine tj_newI q426 dX15_command_339 (fun a111 σ => ?_)
      refine tj_dup dX15_command_341 (rf_cat _) ?_
      refine tj_iconst (0 : Int32) dX15_command_342 rfl ?_
      refine tj_aload_n dX15_command_343 rfl ?_
      refine tj_callV (as := []) (rest := [.int (0 : Int32), va_rf (some a111), va_rf (some a111), va_rf l1, va_rf (some a110), va_rf (some a110)]) (st' := (fun r => [.int r, .int (0 : Int32), va_rf (some a111), va_rf (some a111), va_rf l1, va_rf (some a110), va_rf (some a110)])) (t := 12) (fun a e => by cases e; exact ct_X15_digitAfterSpace d _) (by decide) rfl q3698 q3700 qs56 q168 q3701 rfl md_X15_digitAfterSpace rfl (by decide) rfl (by simp [rf_cat, cat_i, cat_l, cat_f, cat_d]) dX15_command_344 (fun _ => rfl) (fun r112 σ => ?_) (by decide)
      refine tj_iast dX15_command_347 (fun σ => ?_)
      refine tj_callI (as := [va_rf l1, va_rf (some a111)]) (rest := [va_rf (some a110)]) (st' := (fun _ => [va_rf (some a110)])) (fun a e => by cases e; exact ct_X5_init d _ _ _) q3703 q1865 q148 q1866 rfl md_X5_init rfl (by decide) rfl (by simp [rf_cat, cat_i, cat_l, cat_f, cat_d]) dX15_command_348 (fun _ => rfl) (fun _ σ => ?_) (by decide)
      exact tj_aret (Or.inl ⟨_, rfl⟩) dX15_command_351
    | 5, h1, h2 =>
      cases h1; cases h2
      refine tj_wk (L' := [some (va_rf l0), some (va_rf l1), none, none, none, none, none, none]) ⟨rfl, rfl, trivial⟩ ?_
      exact tj_X15_command_J352 d l0 l1 _
    | 6, h1, h2 =>
      cases h1; cases h2
      refine tj_wk (L' := [some (va_rf l0), some (va_rf l1), none, none, none, none, none, none]) ⟨rfl, rfl, trivial⟩ ?_
      exact tj_X15_command_J352 d l0 l1 _
    | _ + 7, h1, _ => simp at h1
  · refine tj_new nw_X15_133 dX15_command_373 (fun a113 σ => ?_)
    refine tj_dup dX15_command_376 (rf_cat _) ?_
    refine tj_aload_n dX15_command_377 rfl ?_
    refine tj_iconst (0 : Int32) dX15_command_378 rfl ?_
    refine tj_newI q426 dX15_command_379 (fun a114 σ => ?_)
    refine tj_callI (as := [va_rf l1, va_rf (some a114)]) (rest := [va_rf (some a113)]) (st' := (fun _ => [va_rf (some a113)])) (fun a e => by cases e; exact ct_X5_init d _ _ _) q3703 q1865 q148 q1866 rfl md_X5_init rfl (by decide) rfl (by simp [rf_cat, cat_i, cat_l, cat_f, cat_d]) dX15_command_381 (fun _ => rfl) (fun _ σ => ?_) (by decide)
    exact tj_aret (Or.inl ⟨_, rfl⟩) dX15_command_384
theorem tj_X15_command_B0 {E : tj_E} {X : tj_X} {n0 s0 : Nat} (d : Nat) (v0 : Option Nat) (σ : hp_S) : tj_T E X RX15 "command" cX15_command 8 (some (.object "LionGate$Command")) (d + 1) [] n0 s0 em_r σ 0 [some (va_rf v0), none, none, none, none, none, none, none] [] (fn_X15_command_B0 d v0) := by
  unfold fn_X15_command_B0
  refine tj_aload_n dX15_command_0 rfl ?_
  refine tj_callV (as := []) (rest := []) (st' := (fun r => [va_rf r])) (t := 12) (fun a e => by cases e; exact ct_X15_word d _) (by decide) rfl q3536 q3538 qs48 q168 q3539 rfl md_X15_word rfl (by decide) rfl (by decide) dX15_command_1 (fun _ => rfl) (fun r101 σ => ?_) (by decide)
  refine tj_astore_n dX15_command_4 (by decide) (rf_cat _) [some (va_rf v0), some (va_rf r101), none, none, none, none, none, none] rfl ?_
  refine tj_aload_n dX15_command_5 rfl ?_
  refine tj_astore_n dX15_command_6 (by decide) (rf_cat _) [some (va_rf v0), some (va_rf r101), some (va_rf r101), none, none, none, none, none] rfl ?_
  refine tj_iconst (-1 : Int32) dX15_command_7 rfl ?_
  refine tj_istore_n dX15_command_8 (by decide) (rf_cat _) [some (va_rf v0), some (va_rf r101), some (va_rf r101), some (.int (-1 : Int32)), none, none, none, none] rfl ?_
  refine tj_aload_n dX15_command_9 rfl ?_
  refine tj_callV (as := []) (rest := []) (st' := (fun r => [.int r])) (t := 30) (fun a e => by cases e; exact ct_J9_hashCode d _) (by decide) rfl q3680 q1880 q1881 q108 q1882 rfl md_J9_hashCode rfl (by decide) rfl (by decide) dX15_command_10 (fun _ => rfl) (fun r102 σ => ?_) (by decide)
  refine tj_lookup [((-1135252750 : Int32), 122), ((3321884 : Int32), 80), ((3505966 : Int32), 94), ((3641717 : Int32), 164), ((3701727 : Int32), 108), ((102846135 : Int32), 150), ((1671672458 : Int32), 136)] 176 dX15_command_13 rfl rfl rfl rfl ?_ ?_
  · intro i t key A h1 h2
    match i, h1, h2 with
    | 0, h1, h2 =>
      cases h1; cases h2
      refine tj_aload_n dX15_command_122 rfl ?_
      refine tj_ldcS (ev_t 42 rfl) dX15_command_123 (fun v103 => ?_)
      refine tj_callV (as := [va_rf v103]) (rest := []) (st' := (fun r => [.int r])) (t := 30) (fun a e => by cases e; exact ct_J9_equals d _ _) (by decide) rfl q3681 q1942 q1943 q108 q1944 rfl md_J9_equals rfl (by decide) rfl (by decide) dX15_command_125 (fun _ => rfl) (fun r104 σ => ?_) (by decide)
      refine tj_if_eq 176 dX15_command_128 rfl (fun _ => ?_) (fun _ => ?_)
      · refine tj_wk (L' := [some (va_rf v0), some (va_rf r101), none, some (.int (-1 : Int32)), none, none, none, none]) ⟨rfl, rfl, rfl, trivial⟩ ?_
        exact tj_X15_command_J176 d v0 r101 (-1 : Int32) _
      · refine tj_iconst (3 : Int32) dX15_command_131 rfl ?_
        refine tj_istore_n dX15_command_132 (by decide) (rf_cat _) [some (va_rf v0), some (va_rf r101), some (va_rf r101), some (.int (3 : Int32)), none, none, none, none] rfl ?_
        refine tj_goto 176 dX15_command_133 rfl ?_
        refine tj_wk (L' := [some (va_rf v0), some (va_rf r101), none, some (.int (3 : Int32)), none, none, none, none]) ⟨rfl, rfl, rfl, trivial⟩ ?_
        exact tj_X15_command_J176 d v0 r101 (3 : Int32) _
    | 1, h1, h2 =>
      cases h1; cases h2
      refine tj_aload_n dX15_command_80 rfl ?_
      refine tj_ldcS (ev_t 36 rfl) dX15_command_81 (fun v105 => ?_)
      refine tj_callV (as := [va_rf v105]) (rest := []) (st' := (fun r => [.int r])) (t := 30) (fun a e => by cases e; exact ct_J9_equals d _ _) (by decide) rfl q3681 q1942 q1943 q108 q1944 rfl md_J9_equals rfl (by decide) rfl (by decide) dX15_command_83 (fun _ => rfl) (fun r106 σ => ?_) (by decide)
      refine tj_if_eq 176 dX15_command_86 rfl (fun _ => ?_) (fun _ => ?_)
      · refine tj_wk (L' := [some (va_rf v0), some (va_rf r101), none, some (.int (-1 : Int32)), none, none, none, none]) ⟨rfl, rfl, rfl, trivial⟩ ?_
        exact tj_X15_command_J176 d v0 r101 (-1 : Int32) _
      · refine tj_iconst (0 : Int32) dX15_command_89 rfl ?_
        refine tj_istore_n dX15_command_90 (by decide) (rf_cat _) [some (va_rf v0), some (va_rf r101), some (va_rf r101), some (.int (0 : Int32)), none, none, none, none] rfl ?_
        refine tj_goto 176 dX15_command_91 rfl ?_
        refine tj_wk (L' := [some (va_rf v0), some (va_rf r101), none, some (.int (0 : Int32)), none, none, none, none]) ⟨rfl, rfl, rfl, trivial⟩ ?_
        exact tj_X15_command_J176 d v0 r101 (0 : Int32) _
    | 2, h1, h2 =>
      cases h1; cases h2
      refine tj_aload_n dX15_command_94 rfl ?_
      refine tj_ldcS (ev_t 37 rfl) dX15_command_95 (fun v107 => ?_)
      refine tj_callV (as := [va_rf v107]) (rest := []) (st' := (fun r => [.int r])) (t := 30) (fun a e => by cases e; exact ct_J9_equals d _ _) (by decide) rfl q3681 q1942 q1943 q108 q1944 rfl md_J9_equals rfl (by decide) rfl (by decide) dX15_command_97 (fun _ => rfl) (fun r108 σ => ?_) (by decide)
      refine tj_if_eq 176 dX15_command_100 rfl (fun _ => ?_) (fun _ => ?_)
      · refine tj_wk (L' := [some (va_rf v0), some (va_rf r101), none, some (.int (-1 : Int32)), none, none, none, none]) ⟨rfl, rfl, rfl, trivial⟩ ?_
        exact tj_X15_command_J176 d v0 r101 (-1 : Int32) _
      · refine tj_iconst (1 : Int32) dX15_command_103 rfl ?_
        refine tj_istore_n dX15_command_104 (by decide) (rf_cat _) [some (va_rf v0), some (va_rf r101), some (va_rf r101), some (.int (1 : Int32)), none, none, none, none] rfl ?_
        refine tj_goto 176 dX15_command_105 rfl ?_
        refine tj_wk (L' := [some (va_rf v0), some (va_rf r101), none, some (.int (1 : Int32)), none, none, none, none]) ⟨rfl, rfl, rfl, trivial⟩ ?_
        exact tj_X15_command_J176 d v0 r101 (1 : Int32) _
    | 3, h1, h2 =>
      cases h1; cases h2
      refine tj_aload_n dX15_command_164 rfl ?_
      refine tj_ldcS (ev_t 44 rfl) dX15_command_165 (fun v109 => ?_)
      refine tj_callV (as := [va_rf v109]) (rest := []) (st' := (fun r => [.int r])) (t := 30) (fun a e => by cases e; exact ct_J9_equals d _ _) (by decide) rfl q3681 q1942 q1943 q108 q1944 rfl md_J9_equals rfl (by decide) rfl (by decide) dX15_command_167 (fun _ => rfl) (fun r110 σ => ?_) (by decide)
      refine tj_if_eq 176 dX15_command_170 rfl (fun _ => ?_) (fun _ => ?_)
      · refine tj_wk (L' := [some (va_rf v0), some (va_rf r101), none, some (.int (-1 : Int32)), none, none, none, none]) ⟨rfl, rfl, rfl, trivial⟩ ?_
        exact tj_X15_command_J176 d v0 r101 (-1 : Int32) _
      · refine tj_bipush (6 : Int32) dX15_command_173 (by decide) ?_
        refine tj_istore_n dX15_command_175 (by decide) (rf_cat _) [some (va_rf v0), some (va_rf r101), some (va_rf r101), some (.int (6 : Int32)), none, none, none, none] rfl ?_
        refine tj_wk (L' := [some (va_rf v0), some (va_rf r101), none, some (.int (6 : Int32)), none, none, none, none]) ⟨rfl, rfl, rfl, trivial⟩ ?_
        exact tj_X15_command_J176 d v0 r101 (6 : Int32) _
    | 4, h1, h2 =>
      cases h1; cases h2
      refine tj_aload_n dX15_command_108 rfl ?_
      refine tj_ldcS (ev_t 38 rfl) dX15_command_109 (fun v111 => ?_)
      refine tj_callV (as := [va_rf v111]) (rest := []) (st' := (fun r => [.int r])) (t := 30) (fun a e => by cases e; exact ct_J9_equals d _ _) (by decide) rfl q3681 q1942 q1943 q108 q1944 rfl md_J9_equals rfl (by decide) rfl (by decide) dX15_command_111 (fun _ => rfl) (fun r112 σ => ?_) (by decide)
      refine tj_if_eq 176 dX15_command_114 rfl (fun _ => ?_) (fun _ => ?_)
      · refine tj_wk (L' := [some (va_rf v0), some (va_rf r101), none, some (.int (-1 : Int32)), none, none, none, none]) ⟨rfl, rfl, rfl, trivial⟩ ?_
        exact tj_X15_command_J176 d v0 r101 (-1 : Int32) _
      · refine tj_iconst (2 : Int32) dX15_command_117 rfl ?_
        refine tj_istore_n dX15_command_118 (by decide) (rf_cat _) [some (va_rf v0), some (va_rf r101), some (va_rf r101), some (.int (2 : Int32)), none, none, none, none] rfl ?_
        refine tj_goto 176 dX15_command_119 rfl ?_
        refine tj_wk (L' := [some (va_rf v0), some (va_rf r101), none, some (.int (2 : Int32)), none, none, none, none]) ⟨rfl, rfl, rfl, trivial⟩ ?_
        exact tj_X15_command_J176 d v0 r101 (2 : Int32) _
    | 5, h1, h2 =>
      cases h1; cases h2
      refine tj_aload_n dX15_command_150 rfl ?_
      refine tj_ldcS (ev_t 39 rfl) dX15_command_151 (fun v113 => ?_)
      refine tj_callV (as := [va_rf v113]) (rest := []) (st' := (fun r => [.int r])) (t := 30) (fun a e => by cases e; exact ct_J9_equals d _ _) (by decide) rfl q3681 q1942 q1943 q108 q1944 rfl md_J9_equals rfl (by decide) rfl (by decide) dX15_command_153 (fun _ => rfl) (fun r114 σ => ?_) (by decide)
      refine tj_if_eq 176 dX15_command_156 rfl (fun _ => ?_) (fun _ => ?_)
      · refine tj_wk (L' := [some (va_rf v0), some (va_rf r101), none, some (.int (-1 : Int32)), none, none, none, none]) ⟨rfl, rfl, rfl, trivial⟩ ?_
        exact tj_X15_command_J176 d v0 r101 (-1 : Int32) _
      · refine tj_iconst (5 : Int32) dX15_command_159 rfl ?_
        refine tj_istore_n dX15_command_160 (by decide) (rf_cat _) [some (va_rf v0), some (va_rf r101), some (va_rf r101), some (.int (5 : Int32)), none, none, none, none] rfl ?_
        refine tj_goto 176 dX15_command_161 rfl ?_
        refine tj_wk (L' := [some (va_rf v0), some (va_rf r101), none, some (.int (5 : Int32)), none, none, none, none]) ⟨rfl, rfl, rfl, trivial⟩ ?_
        exact tj_X15_command_J176 d v0 r101 (5 : Int32) _
    | 6, h1, h2 =>
      cases h1; cases h2
      refine tj_aload_n dX15_command_136 rfl ?_
      refine tj_ldcS (ev_t 43 rfl) dX15_command_137 (fun v115 => ?_)
      refine tj_callV (as := [va_rf v115]) (rest := []) (st' := (fun r => [.int r])) (t := 30) (fun a e => by cases e; exact ct_J9_equals d _ _) (by decide) rfl q3681 q1942 q1943 q108 q1944 rfl md_J9_equals rfl (by decide) rfl (by decide) dX15_command_139 (fun _ => rfl) (fun r116 σ => ?_) (by decide)
      refine tj_if_eq 176 dX15_command_142 rfl (fun _ => ?_) (fun _ => ?_)
      · refine tj_wk (L' := [some (va_rf v0), some (va_rf r101), none, some (.int (-1 : Int32)), none, none, none, none]) ⟨rfl, rfl, rfl, trivial⟩ ?_
        exact tj_X15_command_J176 d v0 r101 (-1 : Int32) _
      · refine tj_iconst (4 : Int32) dX15_command_145 rfl ?_
        refine tj_istore_n dX15_command_146 (by decide) (rf_cat _) [some (va_rf v0), some (va_rf r101), some (va_rf r101), some (.int (4 : Int32)), none, none, none, none] rfl ?_
        refine tj_goto 176 dX15_command_147 rfl ?_
        refine tj_wk (L' := [some (va_rf v0), some (va_rf r101), none, some (.int (4 : Int32)), none, none, none, none]) ⟨rfl, rfl, rfl, trivial⟩ ?_
        exact tj_X15_command_J176 d v0 r101 (4 : Int32) _
    | _ + 7, h1, _ => simp at h1
  · refine tj_wk (L' := [some (va_rf v0), some (va_rf r101), none, some (.int (-1 : Int32)), none, none, none, none]) ⟨rfl, rfl, rfl, trivial⟩ ?_
    exact tj_X15_command_J176 d v0 r101 (-1 : Int32) _
theorem ct_X15_command : ∀ (d : Nat) (v0 : Option Nat), ct_ yX15_command (ws_ yX15_command cX15_command 8 (some (.object "LionGate$Command"))) d em_r [va_rf v0] (fn_X15_command d v0)
  | 0, _ => ct_fail
  | d + 1, v0 => ct_of [(false, va_rf v0)] [some (va_rf v0), none, none, none, none, none, none, none] (by decide) rfl ⟨rfl, (rf_cat _), trivial⟩ (fun E X n0 s0 σ => tj_X15_command_B0 d v0 σ)
theorem tj_X15_commands_L19_b {E : tj_E} {X : tj_X} {n0 s0 : Nat} (d : Nat) {b19 : Option Nat → Option Nat → mx_M (Option Nat)} (h19 : ∀ (l0 : Option Nat) (l1 : Option Nat) (σ : hp_S), tj_T E X RX15 "commands" cX15_commands 2 (some (.object "java/util/List")) (d + 1) [] n0 s0 em_r σ 19 [some (va_rf l0), some (va_rf l1)] [] (b19 l0 l1)) (l0 : Option Nat) (l1 : Option Nat) (σ : hp_S) : tj_T E X RX15 "commands" cX15_commands 2 (some (.object "java/util/List")) (d + 1) [] n0 s0 em_r σ 19 [some (va_rf l0), some (va_rf l1)] [] (fn_X15_commands_L19_b d b19 l0 l1) := by
  unfold fn_X15_commands_L19_b
  refine tj_aload_n dX15_commands_19 rfl ?_
  refine tj_getI fl_X15_41 dX15_commands_20 (fun v101 => ?_)
  refine tj_aload_n dX15_commands_23 rfl ?_
  refine tj_getR fl_X15_37r dX15_commands_24 (fun v102 => ?_)
  refine tj_callV (as := []) (rest := [.int v101]) (st' := (fun r => [.int r, .int v101])) (t := 30) (fun a e => by cases e; exact ct_J9_length d _) (by decide) rfl q3546 q686 q687 q108 q688 rfl md_J9_length rfl (by decide) rfl (by simp [rf_cat, cat_i, cat_l, cat_f, cat_d]) dX15_commands_27 (fun _ => rfl) (fun r103 σ => ?_) (by decide)
  refine tj_icmp_ge 53 dX15_commands_30 rfl (fun _ => ?_) (fun _ => ?_)
  · refine tj_aload_n dX15_commands_53 rfl ?_
    exact tj_aret (Or.inl ⟨_, rfl⟩) dX15_commands_54
  · refine tj_aload_n dX15_commands_33 rfl ?_
    refine tj_bipush (59 : Int32) dX15_commands_34 (by decide) ?_
    refine tj_callV (as := [.int (59 : Int32)]) (rest := []) (st' := (fun _ => [])) (t := 12) (fun a e => by cases e; exact ct_X15_take d _ _) (by decide) rfl q3686 q3688 qs53 q168 q3689 rfl md_X15_take rfl (by decide) rfl (by decide) dX15_commands_36 (fun _ => rfl) (fun _ σ => ?_) (by decide)
    refine tj_aload_n dX15_commands_39 rfl ?_
    refine tj_aload_n dX15_commands_40 rfl ?_
    refine tj_callV (as := []) (rest := [va_rf l1]) (st' := (fun r => [va_rf r, va_rf l1])) (t := 12) (fun a e => by cases e; exact ct_X15_command d _) (by decide) rfl q3532 q3534 qs47 q168 q3535 rfl md_X15_command rfl (by decide) rfl (by simp [rf_cat, cat_i, cat_l, cat_f, cat_d]) dX15_commands_41 (fun _ => rfl) (fun r104 σ => ?_) (by decide)
    refine tj_callF (as := [va_rf r104]) (rest := []) (st' := (fun r => [.int r])) (t := 16) (fun a e => by cases e; exact ct_J4_add d _ _) (by decide) rfl q3705 q1777 q1779 q103 q1781 (ev_i 7 rfl) q1780 q1778 q1323 md_i7 rfl (by decide) rfl (by decide) dX15_commands_44 (fun _ => rfl) (fun r105 σ => ?_) (by decide)
    refine tj_pop dX15_commands_49 rfl ?_
    refine tj_goto 19 dX15_commands_50 rfl ?_
    exact h19 l0 l1 _
theorem tj_X15_commands_L19 {E : tj_E} {X : tj_X} {n0 s0 : Nat} (d : Nat) : ∀ (k : Nat) (l0 : Option Nat) (l1 : Option Nat) (σ : hp_S), tj_T E X RX15 "commands" cX15_commands 2 (some (.object "java/util/List")) (d + 1) [] n0 s0 em_r σ 19 [some (va_rf l0), some (va_rf l1)] [] (fn_X15_commands_L19 d k l0 l1) := by
  intro k
  induction k with
  | zero =>
    intro l0 l1 σ
    exact tj_fail
  | succ k ih =>
    intro l0 l1 σ
    exact tj_X15_commands_L19_b d ih l0 l1 σ
theorem tj_X15_commands_B0 {E : tj_E} {X : tj_X} {n0 s0 : Nat} (d : Nat) (v0 : Option Nat) (σ : hp_S) : tj_T E X RX15 "commands" cX15_commands 2 (some (.object "java/util/List")) (d + 1) [] n0 s0 em_r σ 0 [some (va_rf v0), none] [] (fn_X15_commands_B0 d v0) := by
  unfold fn_X15_commands_B0
  refine tj_new nw_X15_138 dX15_commands_0 (fun a101 σ => ?_)
  refine tj_dup dX15_commands_3 (rf_cat _) ?_
  refine tj_callI (as := []) (rest := [va_rf (some a101)]) (st' := (fun _ => [va_rf (some a101)])) (fun a e => by cases e; exact ct_J4_init d _) q3531 q237 q103 q238 rfl md_J4_init rfl (by decide) rfl (by simp [rf_cat, cat_i, cat_l, cat_f, cat_d]) dX15_commands_4 (fun _ => rfl) (fun _ σ => ?_) (by decide)
  refine tj_astore_n dX15_commands_7 (by decide) (rf_cat _) [some (va_rf v0), some (va_rf (some a101))] rfl ?_
  refine tj_aload_n dX15_commands_8 rfl ?_
  refine tj_aload_n dX15_commands_9 rfl ?_
  refine tj_callV (as := []) (rest := [va_rf (some a101)]) (st' := (fun r => [va_rf r, va_rf (some a101)])) (t := 12) (fun a e => by cases e; exact ct_X15_command d _) (by decide) rfl q3532 q3534 qs47 q168 q3535 rfl md_X15_command rfl (by decide) rfl (by simp [rf_cat, cat_i, cat_l, cat_f, cat_d]) dX15_commands_10 (fun _ => rfl) (fun r102 σ => ?_) (by decide)
  refine tj_callF (as := [va_rf r102]) (rest := []) (st' := (fun r => [.int r])) (t := 16) (fun a e => by cases e; exact ct_J4_add d _ _) (by decide) rfl q3705 q1777 q1779 q103 q1781 (ev_i 7 rfl) q1780 q1778 q1323 md_i7 rfl (by decide) rfl (by decide) dX15_commands_13 (fun _ => rfl) (fun r103 σ => ?_) (by decide)
  refine tj_pop dX15_commands_18 rfl ?_
  exact tj_X15_commands_L19 d mx_K v0 (some a101) _
theorem ct_X15_commands : ∀ (d : Nat) (v0 : Option Nat), ct_ yX15_commands (ws_ yX15_commands cX15_commands 2 (some (.object "java/util/List"))) d em_r [va_rf v0] (fn_X15_commands d v0)
  | 0, _ => ct_fail
  | d + 1, v0 => ct_of [(false, va_rf v0)] [some (va_rf v0), none] (by decide) rfl ⟨rfl, (rf_cat _), trivial⟩ (fun E X n0 s0 σ => tj_X15_commands_B0 d v0 σ)
theorem tj_X16_asPublicException_B0 {E : tj_E} {X : tj_X} {n0 s0 : Nat} (d : Nat) (v0 : Option Nat) (σ : hp_S) : tj_T E X RX16 "asPublicException" cX16_asPublicException 1 (some (.object "java/lang/RuntimeException")) (d + 1) [] n0 s0 em_r σ 0 [some (va_rf v0)] [] (fn_X16_asPublicException_B0 d v0) := by
  unfold fn_X16_asPublicException_B0
  refine tj_mk0 ex_X16_13_3819 (by decide) dX16_asPublicException_0 dX16_asPublicException_3 dX16_asPublicException_4 (fun a101 σ => ?_)
  exact tj_aret (Or.inl ⟨_, rfl⟩) dX16_asPublicException_7
theorem ct_X16_asPublicException : ∀ (d : Nat) (v0 : Option Nat), ct_ yX16_asPublicException (ws_ yX16_asPublicException cX16_asPublicException 1 (some (.object "java/lang/RuntimeException"))) d em_r [va_rf v0] (fn_X16_asPublicException d v0)
  | 0, _ => ct_fail
  | d + 1, v0 => ct_of [(false, va_rf v0)] [some (va_rf v0)] (by decide) rfl ⟨rfl, (rf_cat _), trivial⟩ (fun E X n0 s0 σ => tj_X16_asPublicException_B0 d v0 σ)
theorem tj_J23_rangeCheck_B0 {E : tj_E} {X : tj_X} {n0 s0 : Nat} (d : Nat) (v0 : Int32) (v1 : Int32) (v2 : Int32) (σ : hp_S) : tj_T E X RJ23 "rangeCheck" cJ23_rangeCheck 3 none (d + 1) [] n0 s0 em_v σ 0 [some (.int v0), some (.int v1), some (.int v2)] [] (fn_J23_rangeCheck_B0 d v0 v1 v2) := by
  unfold fn_J23_rangeCheck_B0
  refine tj_iload_n dJ23_rangeCheck_0 rfl ?_
  refine tj_iload_n dJ23_rangeCheck_1 rfl ?_
  refine tj_icmp_le 46 dJ23_rangeCheck_2 rfl (fun _ => ?_) (fun _ => ?_)
  · refine tj_iload_n dJ23_rangeCheck_46 rfl ?_
    refine tj_if_ge 59 dJ23_rangeCheck_47 rfl (fun _ => ?_) (fun _ => ?_)
    · refine tj_iload_n dJ23_rangeCheck_59 rfl ?_
      refine tj_iload_n dJ23_rangeCheck_60 rfl ?_
      refine tj_icmp_le 73 dJ23_rangeCheck_61 rfl (fun _ => ?_) (fun _ => ?_)
      · exact tj_vret dJ23_rangeCheck_73
      · exact tj_fail
    · exact tj_fail
  · exact tj_fail
theorem ct_J23_rangeCheck : ∀ (d : Nat) (v0 : Int32) (v1 : Int32) (v2 : Int32), ct_ yJ23_rangeCheck (ws_ yJ23_rangeCheck cJ23_rangeCheck 3 none) d em_v [.int v0, .int v1, .int v2] (fn_J23_rangeCheck d v0 v1 v2)
  | 0, _, _, _ => ct_fail
  | d + 1, v0, v1, v2 => ct_of [(false, .int v0), (false, .int v1), (false, .int v2)] [some (.int v0), some (.int v1), some (.int v2)] (by decide) rfl ⟨rfl, rfl, ⟨rfl, rfl, ⟨rfl, rfl, trivial⟩⟩⟩ (fun E X n0 s0 σ => tj_J23_rangeCheck_B0 d v0 v1 v2 σ)
theorem tj_J23_fill_L10_b {E : tj_E} {X : tj_X} {n0 s0 : Nat} (d : Nat) {b10 : Option Nat → Int32 → Int32 → Int32 → mx_M Unit} (h10 : ∀ (l0 : Option Nat) (l2 : Int32) (l3 : Int32) (l4 : Int32) (σ : hp_S), tj_T E X RJ23 "fill" cJ23_fill 5 none (d + 1) [] n0 s0 em_v σ 10 [some (va_rf l0), none, some (.int l2), some (.int l3), some (.int l4)] [] (b10 l0 l2 l3 l4)) (l0 : Option Nat) (l2 : Int32) (l3 : Int32) (l4 : Int32) (σ : hp_S) : tj_T E X RJ23 "fill" cJ23_fill 5 none (d + 1) [] n0 s0 em_v σ 10 [some (va_rf l0), none, some (.int l2), some (.int l3), some (.int l4)] [] (fn_J23_fill_L10_b d b10 l0 l2 l3 l4) := by
  unfold fn_J23_fill_L10_b
  refine tj_iload dJ23_fill_10 rfl ?_
  refine tj_iload_n dJ23_fill_12 rfl ?_
  refine tj_icmp_ge 27 dJ23_fill_13 rfl (fun _ => ?_) (fun _ => ?_)
  · exact tj_vret dJ23_fill_27
  · refine tj_aload_n dJ23_fill_16 rfl ?_
    refine tj_iload dJ23_fill_17 rfl ?_
    refine tj_iload_n dJ23_fill_19 rfl ?_
    refine tj_bast dJ23_fill_20 (fun σ => ?_)
    refine tj_iinc (1 : Int32) dJ23_fill_21 rfl rfl (by decide) rfl [some (va_rf l0), none, some (.int l2), some (.int l3), some (.int (l4 + (1 : Int32)))] rfl ?_
    refine tj_goto 10 dJ23_fill_24 rfl ?_
    exact h10 l0 l2 l3 _ _
theorem tj_J23_fill_L10 {E : tj_E} {X : tj_X} {n0 s0 : Nat} (d : Nat) : ∀ (k : Nat) (l0 : Option Nat) (l2 : Int32) (l3 : Int32) (l4 : Int32) (σ : hp_S), tj_T E X RJ23 "fill" cJ23_fill 5 none (d + 1) [] n0 s0 em_v σ 10 [some (va_rf l0), none, some (.int l2), some (.int l3), some (.int l4)] [] (fn_J23_fill_L10 d k l0 l2 l3 l4) := by
  intro k
  induction k with
  | zero =>
    intro l0 l2 l3 l4 σ
    exact tj_fail
  | succ k ih =>
    intro l0 l2 l3 l4 σ
    exact tj_J23_fill_L10_b d ih l0 l2 l3 l4 σ
theorem tj_J23_fill_B0 {E : tj_E} {X : tj_X} {n0 s0 : Nat} (d : Nat) (v0 : Option Nat) (v1 : Int32) (v2 : Int32) (v3 : Int32) (σ : hp_S) : tj_T E X RJ23 "fill" cJ23_fill 5 none (d + 1) [] n0 s0 em_v σ 0 [some (va_rf v0), some (.int v1), some (.int v2), some (.int v3), none] [] (fn_J23_fill_B0 d v0 v1 v2 v3) := by
  unfold fn_J23_fill_B0
  refine tj_aload_n dJ23_fill_0 rfl ?_
  refine tj_alen dJ23_fill_1 (fun v101 => ?_)
  refine tj_iload_n dJ23_fill_2 rfl ?_
  refine tj_iload_n dJ23_fill_3 rfl ?_
  refine tj_callS (as := [.int v101, .int v1, .int v2]) (rest := []) (st' := (fun _ => [])) (ct_J23_rangeCheck d v101 v1 v2) q3759 q3760 q123 q3761 md_J23_rangeCheck rfl (by decide) rfl (by decide) dJ23_fill_4 (fun _ => rfl) (fun _ σ => ?_) (by decide)
  refine tj_iload_n dJ23_fill_7 rfl ?_
  refine tj_istore dJ23_fill_8 (by decide) rfl [some (va_rf v0), some (.int v1), some (.int v2), some (.int v3), some (.int v1)] rfl ?_
  refine tj_wk (L' := [some (va_rf v0), none, some (.int v2), some (.int v3), some (.int v1)]) ⟨rfl, rfl, rfl, rfl, trivial⟩ ?_
  exact tj_J23_fill_L10 d mx_K v0 v2 v3 v1 _
theorem ct_J23_fill : ∀ (d : Nat) (v0 : Option Nat) (v1 : Int32) (v2 : Int32) (v3 : Int32), ct_ yJ23_fill (ws_ yJ23_fill cJ23_fill 5 none) d em_v [va_rf v0, .int v1, .int v2, .int v3] (fn_J23_fill d v0 v1 v2 v3)
  | 0, _, _, _, _ => ct_fail
  | d + 1, v0, v1, v2, v3 => ct_of [(false, va_rf v0), (false, .int v1), (false, .int v2), (false, .int v3)] [some (va_rf v0), some (.int v1), some (.int v2), some (.int v3), none] (by decide) rfl ⟨rfl, (rf_cat _), ⟨rfl, rfl, ⟨rfl, rfl, ⟨rfl, rfl, trivial⟩⟩⟩⟩ (fun E X n0 s0 σ => tj_J23_fill_B0 d v0 v1 v2 v3 σ)
theorem tj_J25_fillNull_B0 {E : tj_E} {X : tj_X} {n0 s0 : Nat} (d : Nat) (v0 : Option Nat) (v1 : Int32) (v2 : Int32) (σ : hp_S) : tj_T E X RJ25 "fillNull" cJ25_fillNull 3 none (d + 1) [] n0 s0 em_v σ 0 [some (va_rf v0), some (.int v1), some (.int v2)] [] (fn_J25_fillNull_B0 d v0 v1 v2) := by
  unfold fn_J25_fillNull_B0
  refine tj_aload_n dJ25_fillNull_0 rfl ?_
  refine tj_iload_n dJ25_fillNull_1 rfl ?_
  refine tj_iload_n dJ25_fillNull_2 rfl ?_
  refine tj_iconst (0 : Int32) dJ25_fillNull_3 rfl ?_
  refine tj_callS (as := [va_rf v0, .int v1, .int v2, .int (0 : Int32)]) (rest := []) (st' := (fun _ => [])) (ct_J23_fill d v0 v1 v2 (0 : Int32)) q3756 q3757 q123 q3758 md_J23_fill rfl (by decide) rfl (by decide) dJ25_fillNull_4 (fun _ => rfl) (fun _ σ => ?_) (by decide)
  exact tj_vret dJ25_fillNull_7
theorem ct_J25_fillNull : ∀ (d : Nat) (v0 : Option Nat) (v1 : Int32) (v2 : Int32), ct_ yJ25_fillNull (ws_ yJ25_fillNull cJ25_fillNull 3 none) d em_v [va_rf v0, .int v1, .int v2] (fn_J25_fillNull d v0 v1 v2)
  | 0, _, _, _ => ct_fail
  | d + 1, v0, v1, v2 => ct_of [(false, va_rf v0), (false, .int v1), (false, .int v2)] [some (va_rf v0), some (.int v1), some (.int v2)] (by decide) rfl ⟨rfl, (rf_cat _), ⟨rfl, rfl, ⟨rfl, rfl, trivial⟩⟩⟩ (fun E X n0 s0 σ => tj_J25_fillNull_B0 d v0 v1 v2 σ)
theorem tj_J7_setLength_B0 {E : tj_E} {X : tj_X} {n0 s0 : Nat} (d : Nat) (v0 : Option Nat) (v1 : Int32) (σ : hp_S) : tj_T E X RJ7 "setLength" cJ7_setLength 2 none (d + 1) [] n0 s0 em_v σ 0 [some (va_rf v0), some (.int v1)] [] (fn_J7_setLength_B0 d v0 v1) := by
  unfold fn_J7_setLength_B0
  refine tj_iload_n dJ7_setLength_0 rfl ?_
  refine tj_if_ge 13 dJ7_setLength_1 rfl (fun _ => ?_) (fun _ => ?_)
  · refine tj_aload_n dJ7_setLength_13 rfl ?_
    refine tj_iload_n dJ7_setLength_14 rfl ?_
    refine tj_callP (as := [.int v1]) (rest := []) (st' := (fun _ => [])) (t := 29) (fun a e => by cases e; exact ct_J7_ensureCapacityInternal d _ _) (by decide) rfl q619 q621 q106 (ev_p 1 rfl) q622 md_J7_ensureCapacityInternal rfl (by decide) rfl (by decide) dJ7_setLength_15 (fun _ => rfl) (fun _ σ => ?_) (by decide)
    refine tj_aload_n dJ7_setLength_18 rfl ?_
    refine tj_getI fl_J7_79 dJ7_setLength_19 (fun v101 => ?_)
    refine tj_iload_n dJ7_setLength_22 rfl ?_
    refine tj_icmp_ge 63 dJ7_setLength_23 rfl (fun _ => ?_) (fun _ => ?_)
    · refine tj_aload_n dJ7_setLength_63 rfl ?_
      refine tj_getI fl_J7_79 dJ7_setLength_64 (fun v102 => ?_)
      refine tj_iload_n dJ7_setLength_67 rfl ?_
      refine tj_icmp_le 76 dJ7_setLength_68 rfl (fun _ => ?_) (fun _ => ?_)
      · refine tj_aload_n dJ7_setLength_76 rfl ?_
        refine tj_iload_n dJ7_setLength_77 rfl ?_
        refine tj_put fl_J7_79 rfl rfl dJ7_setLength_78 (fun σ => ?_)
        exact tj_vret dJ7_setLength_81
      · refine tj_aload_n dJ7_setLength_71 rfl ?_
        refine tj_iconst (1 : Int32) dJ7_setLength_72 rfl ?_
        refine tj_put fl_J7_73 rfl rfl dJ7_setLength_73 (fun σ => ?_)
        refine tj_aload_n dJ7_setLength_76 rfl ?_
        refine tj_iload_n dJ7_setLength_77 rfl ?_
        refine tj_put fl_J7_79 rfl rfl dJ7_setLength_78 (fun σ => ?_)
        exact tj_vret dJ7_setLength_81
    · refine tj_aload_n dJ7_setLength_26 rfl ?_
      refine tj_callU (as := []) (rest := []) (st' := (fun r => [.int r])) (x0 := ⟨"java/lang/AbstractStringBuilder", "isLatin1", "()Z"⟩) (owner := "java/lang/AbstractStringBuilder") (t := 29) (fun a e => by cases e; exact ct_J7_isLatin1 d _) (by decide) rfl q654 q656 q657 q655 q106 q658 rfl md_o_java_lang_AbstractStringBuilder_isLatin1 rfl (by decide) rfl (by decide) dJ7_setLength_27 (fun _ => rfl) (fun r103 σ => ?_) (by decide)
      refine tj_if_eq 48 dJ7_setLength_30 rfl (fun _ => ?_) (fun _ => ?_)
      · refine tj_aload_n dJ7_setLength_48 rfl ?_
        refine tj_getR fl_J7_15 dJ7_setLength_49 (fun v104 => ?_)
        refine tj_aload_n dJ7_setLength_52 rfl ?_
        refine tj_getI fl_J7_79 dJ7_setLength_53 (fun v105 => ?_)
        refine tj_iload_n dJ7_setLength_56 rfl ?_
        exact tj_fail
      · refine tj_aload_n dJ7_setLength_33 rfl ?_
        refine tj_getR fl_J7_15 dJ7_setLength_34 (fun v106 => ?_)
        refine tj_aload_n dJ7_setLength_37 rfl ?_
        refine tj_getI fl_J7_79 dJ7_setLength_38 (fun v107 => ?_)
        refine tj_iload_n dJ7_setLength_41 rfl ?_
        refine tj_callS (as := [va_rf v106, .int v107, .int v1]) (rest := []) (st' := (fun _ => [])) (ct_J25_fillNull d v106 v107 v1) q3753 q3754 q126 q3755 md_J25_fillNull rfl (by decide) rfl (by decide) dJ7_setLength_42 (fun _ => rfl) (fun _ σ => ?_) (by decide)
        refine tj_goto 76 dJ7_setLength_45 rfl ?_
        refine tj_aload_n dJ7_setLength_76 rfl ?_
        refine tj_iload_n dJ7_setLength_77 rfl ?_
        refine tj_put fl_J7_79 rfl rfl dJ7_setLength_78 (fun σ => ?_)
        exact tj_vret dJ7_setLength_81
  · exact tj_fail
theorem ct_J7_setLength : ∀ (d : Nat) (v0 : Option Nat) (v1 : Int32), ct_ yJ7_setLength (ws_ yJ7_setLength cJ7_setLength 2 none) d em_v [va_rf v0, .int v1] (fn_J7_setLength d v0 v1)
  | 0, _, _ => ct_fail
  | d + 1, v0, v1 => ct_of [(false, va_rf v0), (false, .int v1)] [some (va_rf v0), some (.int v1)] (by decide) rfl ⟨rfl, (rf_cat _), ⟨rfl, rfl, trivial⟩⟩ (fun E X n0 s0 σ => tj_J7_setLength_B0 d v0 v1 σ)
theorem tj_J8_setLength_B0 {E : tj_E} {X : tj_X} {n0 s0 : Nat} (d : Nat) (v0 : Option Nat) (v1 : Int32) (σ : hp_S) : tj_T E X RJ8 "setLength" cJ8_setLength 2 none (d + 1) [] n0 s0 em_v σ 0 [some (va_rf v0), some (.int v1)] [] (fn_J8_setLength_B0 d v0 v1) := by
  unfold fn_J8_setLength_B0
  refine tj_aload_n dJ8_setLength_0 rfl ?_
  refine tj_iload_n dJ8_setLength_1 rfl ?_
  refine tj_callSU (as := [.int v1]) (rest := []) (st' := (fun _ => [])) (t := 29) (fun a e => by cases e; exact ct_J7_setLength d _ _) (by decide) rfl q3731 q4357 q368 q3732 q106 q3733 (by decide) md_J7_setLength rfl (by decide) rfl (by decide) dJ8_setLength_2 (fun _ => rfl) (fun _ σ => ?_) (by decide)
  exact tj_vret dJ8_setLength_5
theorem ct_J8_setLength : ∀ (d : Nat) (v0 : Option Nat) (v1 : Int32), ct_ yJ8_setLength (ws_ yJ8_setLength cJ8_setLength 2 none) d em_v [va_rf v0, .int v1] (fn_J8_setLength d v0 v1)
  | 0, _, _ => ct_fail
  | d + 1, v0, v1 => ct_of [(false, va_rf v0), (false, .int v1)] [some (va_rf v0), some (.int v1)] (by decide) rfl ⟨rfl, (rf_cat _), ⟨rfl, rfl, trivial⟩⟩ (fun E X n0 s0 σ => tj_J8_setLength_B0 d v0 v1 σ)
