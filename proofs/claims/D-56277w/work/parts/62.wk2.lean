set_option maxRecDepth 100000
theorem tj_X5_init_B0 {E : tj_E} {X : tj_X} {n0 s0 : Nat} (d : Nat) (v0 : Option Nat) (v1 : Option Nat) (v2 : Option Nat) (σ : hp_S) : tj_T E X RX5 "<init>" cX5_init 3 none (d + 1) [] n0 s0 em_v σ 0 [some (va_rf v0), some (va_rf v1), some (va_rf v2)] [] (fn_X5_init_B0 d v0 v1 v2) := by
  unfold fn_X5_init_B0
  refine tj_aload_n dX5_init_0 rfl ?_
  refine tj_objInit q1867 q183 q184 (by decide) dX5_init_1 (fun _ _ => ?_)
  refine tj_aload_n dX5_init_4 rfl ?_
  refine tj_aload_n dX5_init_5 rfl ?_
  refine tj_putF fl_X5_7 (nar_rf _) (fit_rf _) dX5_init_6 (fun σ => ?_)
  refine tj_aload_n dX5_init_9 rfl ?_
  refine tj_aload_n dX5_init_10 rfl ?_
  refine tj_putF fl_X5_13 (nar_rf _) (fit_rfa _) dX5_init_11 (fun σ => ?_)
  exact tj_vret dX5_init_14
theorem ct_X5_init : ∀ (d : Nat) (v0 : Option Nat) (v1 : Option Nat) (v2 : Option Nat), ct_ yX5_init (ws_ yX5_init cX5_init 3 none) d em_v [va_rf v0, va_rf v1, va_rf v2] (fn_X5_init d v0 v1 v2)
  | 0, _, _, _ => ct_fail
  | d + 1, v0, v1, v2 => ct_of [(false, va_rf v0), (false, va_rf v1), (false, va_rf v2)] [some (va_rf v0), some (va_rf v1), some (va_rf v2)] (by decide) rfl ⟨rfl, (rf_cat _), ⟨rfl, (rf_cat _), ⟨rfl, (rf_cat _), trivial⟩⟩⟩ (fun E X n0 s0 σ => tj_X5_init_B0 d v0 v1 v2 σ)
theorem tj_X5_at_B0 {E : tj_E} {X : tj_X} {n0 s0 : Nat} (d : Nat) (v0 : Option Nat) (v1 : Int32) (σ : hp_S) : tj_T E X RX5 "at" cX5_at 2 (some .int) (d + 1) [] n0 s0 em_i σ 0 [some (va_rf v0), some (.int v1)] [] (fn_X5_at_B0 d v0 v1) := by
  unfold fn_X5_at_B0
  refine tj_aload_n dX5_at_0 rfl ?_
  refine tj_getR fl_X5_13r dX5_at_1 (fun v101 => ?_)
  refine tj_iload_n dX5_at_4 rfl ?_
  refine tj_iald dX5_at_5 (fun v102 => ?_)
  exact tj_iret dX5_at_6
theorem ct_X5_at : ∀ (d : Nat) (v0 : Option Nat) (v1 : Int32), ct_ yX5_at (ws_ yX5_at cX5_at 2 (some .int)) d em_i [va_rf v0, .int v1] (fn_X5_at d v0 v1)
  | 0, _, _ => ct_fail
  | d + 1, v0, v1 => ct_of [(false, va_rf v0), (false, .int v1)] [some (va_rf v0), some (.int v1)] (by decide) rfl ⟨rfl, (rf_cat _), ⟨rfl, rfl, trivial⟩⟩ (fun E X n0 s0 σ => tj_X5_at_B0 d v0 v1 σ)
theorem tj_J17_init_4_B0 {E : tj_E} {X : tj_X} {n0 s0 : Nat} (d : Nat) (v0 : Option Nat) (v1 : Option Nat) (v2 : Option Nat) (σ : hp_S) : tj_T E X RJ17 "<init>" cJ17_init_4 3 none (d + 1) [] n0 s0 em_v σ 0 [some (va_rf v0), some (va_rf v1), some (va_rf v2)] [] (fn_J17_init_4_B0 d v0 v1 v2) := by
  unfold fn_J17_init_4_B0
  refine tj_aload_n dJ17_init_4_0 rfl ?_
  refine tj_objInit q576 q183 q184 (by decide) dJ17_init_4_1 (fun _ _ => ?_)
  refine tj_aload_n dJ17_init_4_4 rfl ?_
  refine tj_aload_n dJ17_init_4_5 rfl ?_
  refine tj_put fl_J17_7 (nar_rf _) (fit_rf _) dJ17_init_4_6 (fun σ => ?_)
  refine tj_aload_n dJ17_init_4_9 rfl ?_
  refine tj_gets (ev_s 2 rfl) q577 dJ17_init_4_10 (fun v102 => ?_)
  refine tj_put fl_J17_17 (nar_rf _) (fit_rfa _) dJ17_init_4_13 (fun σ => ?_)
  refine tj_aload_n dJ17_init_4_16 rfl ?_
  refine tj_gets (ev_s 3 rfl) q579 dJ17_init_4_17 (fun v103 => ?_)
  refine tj_put fl_J17_24 (nar_rf _) (fit_rf _) dJ17_init_4_20 (fun σ => ?_)
  refine tj_aload_n dJ17_init_4_23 rfl ?_
  refine tj_fill q581 (by decide) dJ17_init_4_24 ?_
  refine tj_pop dJ17_init_4_27 (rf_cat _) ?_
  refine tj_aload_n dJ17_init_4_28 rfl ?_
  refine tj_aload_n dJ17_init_4_29 rfl ?_
  refine tj_put fl_J17_31 (nar_rf _) (fit_rf _) dJ17_init_4_30 (fun σ => ?_)
  refine tj_aload_n dJ17_init_4_33 rfl ?_
  refine tj_aload_n dJ17_init_4_34 rfl ?_
  refine tj_put fl_J17_7 (nar_rf _) (fit_rf _) dJ17_init_4_35 (fun σ => ?_)
  exact tj_vret dJ17_init_4_38
theorem ct_J17_init_4 : ∀ (d : Nat) (v0 : Option Nat) (v1 : Option Nat) (v2 : Option Nat), ct_ yJ17_init_4 (ws_ yJ17_init_4 cJ17_init_4 3 none) d em_v [va_rf v0, va_rf v1, va_rf v2] (fn_J17_init_4 d v0 v1 v2)
  | 0, _, _, _ => ct_fail
  | d + 1, v0, v1, v2 => ct_of [(false, va_rf v0), (false, va_rf v1), (false, va_rf v2)] [some (va_rf v0), some (va_rf v1), some (va_rf v2)] (by decide) rfl ⟨rfl, (rf_cat _), ⟨rfl, (rf_cat _), ⟨rfl, (rf_cat _), trivial⟩⟩⟩ (fun E X n0 s0 σ => tj_J17_init_4_B0 d v0 v1 v2 σ)
theorem tj_J18_init_4_B0 {E : tj_E} {X : tj_X} {n0 s0 : Nat} (d : Nat) (v0 : Option Nat) (v1 : Option Nat) (v2 : Option Nat) (σ : hp_S) : tj_T E X RJ18 "<init>" cJ18_init_4 3 none (d + 1) [] n0 s0 em_v σ 0 [some (va_rf v0), some (va_rf v1), some (va_rf v2)] [] (fn_J18_init_4_B0 d v0 v1 v2) := by
  unfold fn_J18_init_4_B0
  refine tj_aload_n dJ18_init_4_0 rfl ?_
  refine tj_aload_n dJ18_init_4_1 rfl ?_
  refine tj_aload_n dJ18_init_4_2 rfl ?_
  refine tj_callI (as := [va_rf v1, va_rf v2]) (rest := []) (st' := (fun _ => [])) (fun a e => by cases e; exact ct_J17_init_4 d _ _ _) q1986 q1987 q117 q1988 rfl md_J17_init_4 rfl (by decide) rfl (by decide) dJ18_init_4_3 (fun _ => rfl) (fun _ σ => ?_) (by decide)
  exact tj_vret dJ18_init_4_6
theorem ct_J18_init_4 : ∀ (d : Nat) (v0 : Option Nat) (v1 : Option Nat) (v2 : Option Nat), ct_ yJ18_init_4 (ws_ yJ18_init_4 cJ18_init_4 3 none) d em_v [va_rf v0, va_rf v1, va_rf v2] (fn_J18_init_4 d v0 v1 v2)
  | 0, _, _, _ => ct_fail
  | d + 1, v0, v1, v2 => ct_of [(false, va_rf v0), (false, va_rf v1), (false, va_rf v2)] [some (va_rf v0), some (va_rf v1), some (va_rf v2)] (by decide) rfl ⟨rfl, (rf_cat _), ⟨rfl, (rf_cat _), ⟨rfl, (rf_cat _), trivial⟩⟩⟩ (fun E X n0 s0 σ => tj_J18_init_4_B0 d v0 v1 v2 σ)
theorem tj_X6_init_B0 {E : tj_E} {X : tj_X} {n0 s0 : Nat} (d : Nat) (v0 : Option Nat) (v1 : Option Nat) (σ : hp_S) : tj_T E X RX6 "<init>" cX6_init 2 none (d + 1) [] n0 s0 em_v σ 0 [some (va_rf v0), some (va_rf v1)] [] (fn_X6_init_B0 d v0 v1) := by
  unfold fn_X6_init_B0
  refine tj_aload_n dX6_init_0 rfl ?_
  refine tj_null dX6_init_1 ?_
  refine tj_aload_n dX6_init_2 rfl ?_
  refine tj_callI (as := [va_rf none, va_rf v1]) (rest := []) (st' := (fun _ => [])) (fun a e => by cases e; exact ct_J18_init_4 d _ _ _) q1983 q1984 q118 q1985 rfl md_J18_init_4 rfl (by decide) rfl (by decide) dX6_init_3 (fun _ => rfl) (fun _ σ => ?_) (by decide)
  exact tj_vret dX6_init_6
theorem ct_X6_init : ∀ (d : Nat) (v0 : Option Nat) (v1 : Option Nat), ct_ yX6_init (ws_ yX6_init cX6_init 2 none) d em_v [va_rf v0, va_rf v1] (fn_X6_init d v0 v1)
  | 0, _, _ => ct_fail
  | d + 1, v0, v1 => ct_of [(false, va_rf v0), (false, va_rf v1)] [some (va_rf v0), some (va_rf v1)] (by decide) rfl ⟨rfl, (rf_cat _), ⟨rfl, (rf_cat _), trivial⟩⟩ (fun E X n0 s0 σ => tj_X6_init_B0 d v0 v1 σ)
theorem tj_X7_init_B0 {E : tj_E} {X : tj_X} {n0 s0 : Nat} (d : Nat) (v0 : Option Nat) (v1 : Int32) (σ : hp_S) : tj_T E X RX7 "<init>" cX7_init 2 none (d + 1) [] n0 s0 em_v σ 0 [some (va_rf v0), some (.int v1)] [] (fn_X7_init_B0 d v0 v1) := by
  unfold fn_X7_init_B0
  refine tj_aload_n dX7_init_0 rfl ?_
  refine tj_null dX7_init_1 ?_
  refine tj_callI (as := [va_rf none]) (rest := []) (st' := (fun _ => [])) (fun a e => by cases e; exact ct_X6_init d _ _) q1980 q1981 q149 q1982 rfl md_X6_init rfl (by decide) rfl (by decide) dX7_init_2 (fun _ => rfl) (fun _ σ => ?_) (by decide)
  refine tj_aload_n dX7_init_5 rfl ?_
  refine tj_iload_n dX7_init_6 rfl ?_
  refine tj_putFN fl_X7_7 nf_C dX7_init_7 (fun σ => ?_)
  exact tj_vret dX7_init_10
theorem ct_X7_init : ∀ (d : Nat) (v0 : Option Nat) (v1 : Int32), ct_ yX7_init (ws_ yX7_init cX7_init 2 none) d em_v [va_rf v0, .int v1] (fn_X7_init d v0 v1)
  | 0, _, _ => ct_fail
  | d + 1, v0, v1 => ct_of [(false, va_rf v0), (false, .int v1)] [some (va_rf v0), some (.int v1)] (by decide) rfl ⟨rfl, (rf_cat _), ⟨rfl, rfl, trivial⟩⟩ (fun E X n0 s0 σ => tj_X7_init_B0 d v0 v1 σ)
theorem tj_X1_demand_B0 {E : tj_E} {X : tj_X} {n0 s0 : Nat} (d : Nat) (v0 : Int32) (v1 : Int32) (σ : hp_S) : tj_T E X RX1 "demand" cX1_demand 2 none (d + 1) [] n0 s0 em_v σ 0 [some (.int v0), some (.int v1)] [] (fn_X1_demand_B0 d v0 v1) := by
  unfold fn_X1_demand_B0
  refine tj_iload_n dX1_demand_0 rfl ?_
  refine tj_if_ne 13 dX1_demand_1 rfl (fun _ => ?_) (fun _ => ?_)
  · refine tj_new nw_X1_1 dX1_demand_4 (fun a101 σ => ?_)
    refine tj_dup dX1_demand_7 (rf_cat _) ?_
    refine tj_iload_n dX1_demand_8 rfl ?_
    refine tj_callI (as := [.int v1]) (rest := [va_rf (some a101)]) (st' := (fun _ => [va_rf (some a101)])) (fun a e => by cases e; exact ct_X7_init d _ _) q1977 q1978 q150 q1979 rfl md_X7_init rfl (by decide) rfl (by simp [rf_cat, cat_i, cat_l, cat_f, cat_d]) dX1_demand_9 (fun _ => rfl) (fun _ σ => ?_) (by decide)
    refine tj_athrow dX1_demand_12 (fun q102 => ?_)
    exact tj_xout (by decide) (by decide)
  · exact tj_vret dX1_demand_13
theorem ct_X1_demand : ∀ (d : Nat) (v0 : Int32) (v1 : Int32), ct_ yX1_demand (ws_ yX1_demand cX1_demand 2 none) d em_v [.int v0, .int v1] (fn_X1_demand d v0 v1)
  | 0, _, _ => ct_fail
  | d + 1, v0, v1 => ct_of [(false, .int v0), (false, .int v1)] [some (.int v0), some (.int v1)] (by decide) rfl ⟨rfl, rfl, ⟨rfl, rfl, trivial⟩⟩ (fun E X n0 s0 σ => tj_X1_demand_B0 d v0 v1 σ)
theorem tj_X1_isBetween_B0 {E : tj_E} {X : tj_X} {n0 s0 : Nat} (d : Nat) (v0 : Int32) (v1 : Int32) (v2 : Int32) (σ : hp_S) : tj_T E X RX1 "isBetween" cX1_isBetween 3 (some .boolean) (d + 1) [] n0 s0 em_i σ 0 [some (.int v0), some (.int v1), some (.int v2)] [] (fn_X1_isBetween_B0 d v0 v1 v2) := by
  unfold fn_X1_isBetween_B0
  refine tj_iload_n dX1_isBetween_0 rfl ?_
  refine tj_iload_n dX1_isBetween_1 rfl ?_
  refine tj_icmp_lt 14 dX1_isBetween_2 rfl (fun _ => ?_) (fun _ => ?_)
  · refine tj_iconst (0 : Int32) dX1_isBetween_14 rfl ?_
    exact tj_zpure rfl dX1_isBetween_15
  · refine tj_iload_n dX1_isBetween_5 rfl ?_
    refine tj_iload_n dX1_isBetween_6 rfl ?_
    refine tj_icmp_gt 14 dX1_isBetween_7 rfl (fun _ => ?_) (fun _ => ?_)
    · refine tj_iconst (0 : Int32) dX1_isBetween_14 rfl ?_
      exact tj_zpure rfl dX1_isBetween_15
    · refine tj_iconst (1 : Int32) dX1_isBetween_10 rfl ?_
      refine tj_goto 15 dX1_isBetween_11 rfl ?_
      exact tj_zpure rfl dX1_isBetween_15
theorem ct_X1_isBetween : ∀ (d : Nat) (v0 : Int32) (v1 : Int32) (v2 : Int32), ct_ yX1_isBetween (ws_ yX1_isBetween cX1_isBetween 3 (some .boolean)) d em_i [.int v0, .int v1, .int v2] (fn_X1_isBetween d v0 v1 v2)
  | 0, _, _, _ => ct_fail
  | d + 1, v0, v1, v2 => ct_of [(false, .int v0), (false, .int v1), (false, .int v2)] [some (.int v0), some (.int v1), some (.int v2)] (by decide) rfl ⟨rfl, rfl, ⟨rfl, rfl, ⟨rfl, rfl, trivial⟩⟩⟩ (fun E X n0 s0 σ => tj_X1_isBetween_B0 d v0 v1 v2 σ)
theorem tj_X8_init_B0 {E : tj_E} {X : tj_X} {n0 s0 : Nat} (d : Nat) (v0 : Option Nat) (v1 : Int32) (v2 : Int32) (v3 : Int32) (v4 : Option Nat) (σ : hp_S) : tj_T E X RX8 "<init>" cX8_init 5 none (d + 1) [] n0 s0 em_v σ 0 [some (va_rf v0), some (.int v1), some (.int v2), some (.int v3), some (va_rf v4)] [] (fn_X8_init_B0 d v0 v1 v2 v3 v4) := by
  unfold fn_X8_init_B0
  refine tj_aload_n dX8_init_0 rfl ?_
  refine tj_objInit q2002 q183 q184 (by decide) dX8_init_1 (fun _ _ => ?_)
  refine tj_aload_n dX8_init_4 rfl ?_
  refine tj_iload_n dX8_init_5 rfl ?_
  refine tj_putF fl_X8_7 rfl rfl dX8_init_6 (fun σ => ?_)
  refine tj_aload_n dX8_init_9 rfl ?_
  refine tj_iload_n dX8_init_10 rfl ?_
  refine tj_putF fl_X8_13 rfl rfl dX8_init_11 (fun σ => ?_)
  refine tj_aload_n dX8_init_14 rfl ?_
  refine tj_iload_n dX8_init_15 rfl ?_
  refine tj_putF fl_X8_16 rfl rfl dX8_init_16 (fun σ => ?_)
  refine tj_aload_n dX8_init_19 rfl ?_
  refine tj_aload dX8_init_20 rfl ?_
  refine tj_putF fl_X8_19 (nar_rf _) (fit_rf _) dX8_init_22 (fun σ => ?_)
  exact tj_vret dX8_init_25
theorem ct_X8_init : ∀ (d : Nat) (v0 : Option Nat) (v1 : Int32) (v2 : Int32) (v3 : Int32) (v4 : Option Nat), ct_ yX8_init (ws_ yX8_init cX8_init 5 none) d em_v [va_rf v0, .int v1, .int v2, .int v3, va_rf v4] (fn_X8_init d v0 v1 v2 v3 v4)
  | 0, _, _, _, _, _ => ct_fail
  | d + 1, v0, v1, v2, v3, v4 => ct_of [(false, va_rf v0), (false, .int v1), (false, .int v2), (false, .int v3), (false, va_rf v4)] [some (va_rf v0), some (.int v1), some (.int v2), some (.int v3), some (va_rf v4)] (by decide) rfl ⟨rfl, (rf_cat _), ⟨rfl, rfl, ⟨rfl, rfl, ⟨rfl, rfl, ⟨rfl, (rf_cat _), trivial⟩⟩⟩⟩⟩ (fun E X n0 s0 σ => tj_X8_init_B0 d v0 v1 v2 v3 v4 σ)
theorem tj_X8_with_B0 {E : tj_E} {X : tj_X} {n0 s0 : Nat} (d : Nat) (v0 : Option Nat) (v1 : Option Nat) (σ : hp_S) : tj_T E X RX8 "with" cX8_with 2 (some (.object "LionGate$Lion")) (d + 1) [] n0 s0 em_r σ 0 [some (va_rf v0), some (va_rf v1)] [] (fn_X8_with_B0 d v0 v1) := by
  unfold fn_X8_with_B0
  refine tj_new nw_X8_8 dX8_with_0 (fun a101 σ => ?_)
  refine tj_dup dX8_with_3 (rf_cat _) ?_
  refine tj_aload_n dX8_with_4 rfl ?_
  refine tj_getI fl_X8_7r dX8_with_5 (fun v102 => ?_)
  refine tj_aload_n dX8_with_8 rfl ?_
  refine tj_getI fl_X8_13r dX8_with_9 (fun v103 => ?_)
  refine tj_aload_n dX8_with_12 rfl ?_
  refine tj_getI fl_X8_16r dX8_with_13 (fun v104 => ?_)
  refine tj_aload_n dX8_with_16 rfl ?_
  refine tj_callI (as := [.int v102, .int v103, .int v104, va_rf v1]) (rest := [va_rf (some a101)]) (st' := (fun _ => [va_rf (some a101)])) (fun a e => by cases e; exact ct_X8_init d _ _ _ _ _) q2059 q2000 q151 q2001 rfl md_X8_init rfl (by decide) rfl (by simp [rf_cat, cat_i, cat_l, cat_f, cat_d]) dX8_with_17 (fun _ => rfl) (fun _ σ => ?_) (by decide)
  exact tj_aret (Or.inl ⟨_, rfl⟩) dX8_with_20
theorem ct_X8_with : ∀ (d : Nat) (v0 : Option Nat) (v1 : Option Nat), ct_ yX8_with (ws_ yX8_with cX8_with 2 (some (.object "LionGate$Lion"))) d em_r [va_rf v0, va_rf v1] (fn_X8_with d v0 v1)
  | 0, _, _ => ct_fail
  | d + 1, v0, v1 => ct_of [(false, va_rf v0), (false, va_rf v1)] [some (va_rf v0), some (va_rf v1)] (by decide) rfl ⟨rfl, (rf_cat _), ⟨rfl, (rf_cat _), trivial⟩⟩ (fun E X n0 s0 σ => tj_X8_with_B0 d v0 v1 σ)
theorem tj_J13_init_B0 {E : tj_E} {X : tj_X} {n0 s0 : Nat} (d : Nat) (v0 : Option Nat) (σ : hp_S) : tj_T E X RJ13 "<init>" cJ13_init 1 none (d + 1) [] n0 s0 em_v σ 0 [some (va_rf v0)] [] (fn_J13_init_B0 d v0) := by
  unfold fn_J13_init_B0
  refine tj_aload_n dJ13_init_0 rfl ?_
  refine tj_callI (as := []) (rest := []) (st' := (fun _ => [])) (fun a e => by cases e; exact ct_J2_init d _) q2074 q243 q101 q244 rfl md_J2_init rfl (by decide) rfl (by decide) dJ13_init_1 (fun _ => rfl) (fun _ σ => ?_) (by decide)
  refine tj_aload_n dJ13_init_4 rfl ?_
  refine tj_bipush (17 : Int32) dJ13_init_5 (by decide) ?_
  refine tj_newO q2075 dJ13_init_7 (fun a101 σ => ?_)
  refine tj_put fl_J13_3 (nar_rf _) (fit_rfa _) dJ13_init_10 (fun σ => ?_)
  exact tj_vret dJ13_init_13
theorem ct_J13_init : ∀ (d : Nat) (v0 : Option Nat), ct_ yJ13_init (ws_ yJ13_init cJ13_init 1 none) d em_v [va_rf v0] (fn_J13_init d v0)
  | 0, _ => ct_fail
  | d + 1, v0 => ct_of [(false, va_rf v0)] [some (va_rf v0)] (by decide) rfl ⟨rfl, (rf_cat _), trivial⟩ (fun E X n0 s0 σ => tj_J13_init_B0 d v0 σ)
theorem tj_J13_isEmpty_B0 {E : tj_E} {X : tj_X} {n0 s0 : Nat} (d : Nat) (v0 : Option Nat) (σ : hp_S) : tj_T E X RJ13 "isEmpty" cJ13_isEmpty 1 (some .boolean) (d + 1) [] n0 s0 em_i σ 0 [some (va_rf v0)] [] (fn_J13_isEmpty_B0 d v0) := by
  unfold fn_J13_isEmpty_B0
  refine tj_aload_n dJ13_isEmpty_0 rfl ?_
  refine tj_getI fl_J13_24 dJ13_isEmpty_1 (fun v101 => ?_)
  refine tj_aload_n dJ13_isEmpty_4 rfl ?_
  refine tj_getI fl_J13_20 dJ13_isEmpty_5 (fun v102 => ?_)
  refine tj_icmp_ne 15 dJ13_isEmpty_8 rfl (fun _ => ?_) (fun _ => ?_)
  · refine tj_iconst (1 : Int32) dJ13_isEmpty_11 rfl ?_
    refine tj_goto 16 dJ13_isEmpty_12 rfl ?_
    exact tj_zpure rfl dJ13_isEmpty_16
  · refine tj_iconst (0 : Int32) dJ13_isEmpty_15 rfl ?_
    exact tj_zpure rfl dJ13_isEmpty_16
theorem ct_J13_isEmpty : ∀ (d : Nat) (v0 : Option Nat), ct_ yJ13_isEmpty (ws_ yJ13_isEmpty cJ13_isEmpty 1 (some .boolean)) d em_i [va_rf v0] (fn_J13_isEmpty d v0)
  | 0, _ => ct_fail
  | d + 1, v0 => ct_of [(false, va_rf v0)] [some (va_rf v0)] (by decide) rfl ⟨rfl, (rf_cat _), trivial⟩ (fun E X n0 s0 σ => tj_J13_isEmpty_B0 d v0 σ)
theorem tj_J13_elementAt_B0 {E : tj_E} {X : tj_X} {n0 s0 : Nat} (d : Nat) (v0 : Option Nat) (v1 : Int32) (σ : hp_S) : tj_T E X RJ13 "elementAt" cJ13_elementAt 2 (some (.object "java/lang/Object")) (d + 1) [] n0 s0 em_r σ 0 [some (va_rf v0), some (.int v1)] [] (fn_J13_elementAt_B0 d v0 v1) := by
  unfold fn_J13_elementAt_B0
  refine tj_aload_n dJ13_elementAt_0 rfl ?_
  refine tj_iload_n dJ13_elementAt_1 rfl ?_
  refine tj_aald dJ13_elementAt_2 (fun v101 => ?_)
  exact tj_aret (Or.inl ⟨_, rfl⟩) dJ13_elementAt_3
theorem ct_J13_elementAt : ∀ (d : Nat) (v0 : Option Nat) (v1 : Int32), ct_ yJ13_elementAt (ws_ yJ13_elementAt cJ13_elementAt 2 (some (.object "java/lang/Object"))) d em_r [va_rf v0, .int v1] (fn_J13_elementAt d v0 v1)
  | 0, _, _ => ct_fail
  | d + 1, v0, v1 => ct_of [(false, va_rf v0), (false, .int v1)] [some (va_rf v0), some (.int v1)] (by decide) rfl ⟨rfl, (rf_cat _), ⟨rfl, rfl, trivial⟩⟩ (fun E X n0 s0 σ => tj_J13_elementAt_B0 d v0 v1 σ)
theorem tj_J13_inc_B0 {E : tj_E} {X : tj_X} {n0 s0 : Nat} (d : Nat) (v0 : Int32) (v1 : Int32) (σ : hp_S) : tj_T E X RJ13 "inc" cJ13_inc 2 (some .int) (d + 1) [] n0 s0 em_i σ 0 [some (.int v0), some (.int v1)] [] (fn_J13_inc_B0 d v0 v1) := by
  unfold fn_J13_inc_B0
  refine tj_iinc (1 : Int32) dJ13_inc_0 rfl rfl (by decide) trivial [some (.int (v0 + (1 : Int32))), some (.int v1)] rfl ?_
  refine tj_iload_n dJ13_inc_3 rfl ?_
  refine tj_iload_n dJ13_inc_4 rfl ?_
  refine tj_icmp_lt 10 dJ13_inc_5 rfl (fun _ => ?_) (fun _ => ?_)
  · refine tj_iload_n dJ13_inc_10 rfl ?_
    exact tj_iret dJ13_inc_11
  · refine tj_iconst (0 : Int32) dJ13_inc_8 rfl ?_
    refine tj_istore_n dJ13_inc_9 (by decide) trivial [some (.int (0 : Int32)), some (.int v1)] rfl ?_
    refine tj_iload_n dJ13_inc_10 rfl ?_
    exact tj_iret dJ13_inc_11
theorem ct_J13_inc : ∀ (d : Nat) (v0 : Int32) (v1 : Int32), ct_ yJ13_inc (ws_ yJ13_inc cJ13_inc 2 (some .int)) d em_i [.int v0, .int v1] (fn_J13_inc d v0 v1)
  | 0, _, _ => ct_fail
  | d + 1, v0, v1 => ct_of [(false, .int v0), (false, .int v1)] [some (.int v0), some (.int v1)] (by decide) rfl ⟨rfl, rfl, ⟨rfl, rfl, trivial⟩⟩ (fun E X n0 s0 σ => tj_J13_inc_B0 d v0 v1 σ)
theorem tj_J13_pollFirst_B0 {E : tj_E} {X : tj_X} {n0 s0 : Nat} (d : Nat) (v0 : Option Nat) (σ : hp_S) : tj_T E X RJ13 "pollFirst" cJ13_pollFirst 4 (some (.object "java/lang/Object")) (d + 1) [] n0 s0 em_r σ 0 [some (va_rf v0), none, none, none] [] (fn_J13_pollFirst_B0 d v0) := by
  unfold fn_J13_pollFirst_B0
  refine tj_aload_n dJ13_pollFirst_0 rfl ?_
  refine tj_getR fl_J13_3 dJ13_pollFirst_1 (fun v101 => ?_)
  refine tj_dup dJ13_pollFirst_4 (rf_cat _) ?_
  refine tj_astore_n dJ13_pollFirst_5 (by decide) (rf_cat _) [some (va_rf v0), some (va_rf v101), none, none] rfl ?_
  refine tj_aload_n dJ13_pollFirst_6 rfl ?_
  refine tj_getI fl_J13_24 dJ13_pollFirst_7 (fun v102 => ?_)
  refine tj_dup dJ13_pollFirst_10 rfl ?_
  refine tj_istore_n dJ13_pollFirst_11 (by decide) (rf_cat _) [some (va_rf v0), some (va_rf v101), some (.int v102), none] rfl ?_
  refine tj_callS (as := [va_rf v101, .int v102]) (rest := []) (st' := (fun r => [va_rf r])) (ct_J13_elementAt d v101 v102) q1385 q1386 q113 q1387 md_J13_elementAt rfl (by decide) rfl (by decide) dJ13_pollFirst_12 (fun _ => rfl) (fun r103 σ => ?_) (by decide)
  refine tj_astore_n dJ13_pollFirst_15 (by decide) rfl [some (va_rf v0), some (va_rf v101), some (.int v102), some (va_rf r103)] rfl ?_
  refine tj_aload_n dJ13_pollFirst_16 rfl ?_
  refine tj_ifnull 34 dJ13_pollFirst_17 rfl (fun _ => ?_) (fun _ _ => ?_)
  · refine tj_aload_n dJ13_pollFirst_34 rfl ?_
    exact tj_aret (Or.inl ⟨_, rfl⟩) dJ13_pollFirst_35
  · refine tj_aload_n dJ13_pollFirst_20 rfl ?_
    refine tj_iload_n dJ13_pollFirst_21 rfl ?_
    refine tj_null dJ13_pollFirst_22 ?_
    refine tj_aast dJ13_pollFirst_23 (fun σ => ?_)
    refine tj_aload_n dJ13_pollFirst_24 rfl ?_
    refine tj_iload_n dJ13_pollFirst_25 rfl ?_
    refine tj_aload_n dJ13_pollFirst_26 rfl ?_
    refine tj_alen dJ13_pollFirst_27 (fun v104 => ?_)
    refine tj_callS (as := [.int v102, .int v104]) (rest := [va_rf v0]) (st' := (fun r => [.int r, va_rf v0])) (ct_J13_inc d v102 v104) q1388 q1297 q113 q1298 md_J13_inc rfl (by decide) rfl (by simp [rf_cat, cat_i, cat_l, cat_f, cat_d]) dJ13_pollFirst_28 (fun _ => rfl) (fun r105 σ => ?_) (by decide)
    refine tj_put fl_J13_24 rfl rfl dJ13_pollFirst_31 (fun σ => ?_)
    refine tj_aload_n dJ13_pollFirst_34 rfl ?_
    exact tj_aret (Or.inl ⟨_, rfl⟩) dJ13_pollFirst_35
theorem ct_J13_pollFirst : ∀ (d : Nat) (v0 : Option Nat), ct_ yJ13_pollFirst (ws_ yJ13_pollFirst cJ13_pollFirst 4 (some (.object "java/lang/Object"))) d em_r [va_rf v0] (fn_J13_pollFirst d v0)
  | 0, _ => ct_fail
  | d + 1, v0 => ct_of [(false, va_rf v0)] [some (va_rf v0), none, none, none] (by decide) rfl ⟨rfl, (rf_cat _), trivial⟩ (fun E X n0 s0 σ => tj_J13_pollFirst_B0 d v0 σ)
theorem tj_J13_removeFirst_B0 {E : tj_E} {X : tj_X} {n0 s0 : Nat} (d : Nat) (v0 : Option Nat) (σ : hp_S) : tj_T E X RJ13 "removeFirst" cJ13_removeFirst 2 (some (.object "java/lang/Object")) (d + 1) [] n0 s0 em_r σ 0 [some (va_rf v0), none] [] (fn_J13_removeFirst_B0 d v0) := by
  unfold fn_J13_removeFirst_B0
  refine tj_aload_n dJ13_removeFirst_0 rfl ?_
  refine tj_callV (as := []) (rest := []) (st' := (fun r => [va_rf r])) (t := 26) (fun a e => by cases e; exact ct_J13_pollFirst d _) (by decide) rfl q1381 q1382 q1383 q113 q1384 rfl md_J13_pollFirst rfl (by decide) rfl (by decide) dJ13_removeFirst_1 (fun _ => rfl) (fun r101 σ => ?_) (by decide)
  refine tj_astore_n dJ13_removeFirst_4 (by decide) (rf_cat _) [some (va_rf v0), some (va_rf r101)] rfl ?_
  refine tj_aload_n dJ13_removeFirst_5 rfl ?_
  refine tj_ifnonnull 17 dJ13_removeFirst_6 rfl (fun _ => ?_) (fun _ _ => ?_)
  · exact tj_fail
  · refine tj_aload_n dJ13_removeFirst_17 rfl ?_
    exact tj_aret (Or.inl ⟨_, rfl⟩) dJ13_removeFirst_18
theorem ct_J13_removeFirst : ∀ (d : Nat) (v0 : Option Nat), ct_ yJ13_removeFirst (ws_ yJ13_removeFirst cJ13_removeFirst 2 (some (.object "java/lang/Object"))) d em_r [va_rf v0] (fn_J13_removeFirst d v0)
  | 0, _ => ct_fail
  | d + 1, v0 => ct_of [(false, va_rf v0)] [some (va_rf v0), none] (by decide) rfl ⟨rfl, (rf_cat _), trivial⟩ (fun E X n0 s0 σ => tj_J13_removeFirst_B0 d v0 σ)
theorem tj_J13_pop_B0 {E : tj_E} {X : tj_X} {n0 s0 : Nat} (d : Nat) (v0 : Option Nat) (σ : hp_S) : tj_T E X RJ13 "pop" cJ13_pop 1 (some (.object "java/lang/Object")) (d + 1) [] n0 s0 em_r σ 0 [some (va_rf v0)] [] (fn_J13_pop_B0 d v0) := by
  unfold fn_J13_pop_B0
  refine tj_aload_n dJ13_pop_0 rfl ?_
  refine tj_callV (as := []) (rest := []) (st' := (fun r => [va_rf r])) (t := 26) (fun a e => by cases e; exact ct_J13_removeFirst d _) (by decide) rfl q2132 q2133 q2134 q113 q2135 rfl md_J13_removeFirst rfl (by decide) rfl (by decide) dJ13_pop_1 (fun _ => rfl) (fun r101 σ => ?_) (by decide)
  exact tj_aret (Or.inl ⟨_, rfl⟩) dJ13_pop_4
theorem ct_J13_pop : ∀ (d : Nat) (v0 : Option Nat), ct_ yJ13_pop (ws_ yJ13_pop cJ13_pop 1 (some (.object "java/lang/Object"))) d em_r [va_rf v0] (fn_J13_pop d v0)
  | 0, _ => ct_fail
  | d + 1, v0 => ct_of [(false, va_rf v0)] [some (va_rf v0)] (by decide) rfl ⟨rfl, (rf_cat _), trivial⟩ (fun E X n0 s0 σ => tj_J13_pop_B0 d v0 σ)
theorem tj_J13_dec_B0 {E : tj_E} {X : tj_X} {n0 s0 : Nat} (d : Nat) (v0 : Int32) (v1 : Int32) (σ : hp_S) : tj_T E X RJ13 "dec" cJ13_dec 2 (some .int) (d + 1) [] n0 s0 em_i σ 0 [some (.int v0), some (.int v1)] [] (fn_J13_dec_B0 d v0 v1) := by
  unfold fn_J13_dec_B0
  refine tj_iinc (-1 : Int32) dJ13_dec_0 rfl rfl (by decide) trivial [some (.int (v0 + (-1 : Int32))), some (.int v1)] rfl ?_
  refine tj_iload_n dJ13_dec_3 rfl ?_
  refine tj_if_ge 11 dJ13_dec_4 rfl (fun _ => ?_) (fun _ => ?_)
  · refine tj_iload_n dJ13_dec_11 rfl ?_
    exact tj_iret dJ13_dec_12
  · refine tj_iload_n dJ13_dec_7 rfl ?_
    refine tj_iconst (1 : Int32) dJ13_dec_8 rfl ?_
    refine tj_isub dJ13_dec_9 ?_
    refine tj_topi (fun v101 => ?_)
    refine tj_istore_n dJ13_dec_10 (by decide) trivial [some (.int v101), some (.int v1)] rfl ?_
    refine tj_iload_n dJ13_dec_11 rfl ?_
    exact tj_iret dJ13_dec_12
theorem ct_J13_dec : ∀ (d : Nat) (v0 : Int32) (v1 : Int32), ct_ yJ13_dec (ws_ yJ13_dec cJ13_dec 2 (some .int)) d em_i [.int v0, .int v1] (fn_J13_dec d v0 v1)
  | 0, _, _ => ct_fail
  | d + 1, v0, v1 => ct_of [(false, .int v0), (false, .int v1)] [some (.int v0), some (.int v1)] (by decide) rfl ⟨rfl, rfl, ⟨rfl, rfl, trivial⟩⟩ (fun E X n0 s0 σ => tj_J13_dec_B0 d v0 v1 σ)
theorem tj_J13_newCapacity_B0 {E : tj_E} {X : tj_X} {n0 s0 : Nat} (d : Nat) (v0 : Option Nat) (v1 : Int32) (v2 : Int32) (σ : hp_S) : tj_T E X RJ13 "newCapacity" cJ13_newCapacity 5 (some .int) (d + 1) [] n0 s0 em_i σ 0 [some (va_rf v0), some (.int v1), some (.int v2), none, none] [] (fn_J13_newCapacity_B0 d v0 v1 v2) := by
  unfold fn_J13_newCapacity_B0
  refine tj_aload_n dJ13_newCapacity_0 rfl ?_
  refine tj_getR fl_J13_3 dJ13_newCapacity_1 (fun v101 => ?_)
  refine tj_alen dJ13_newCapacity_4 (fun v102 => ?_)
  refine tj_istore_n dJ13_newCapacity_5 (by decide) rfl [some (va_rf v0), some (.int v1), some (.int v2), some (.int v102), none] rfl ?_
  refine tj_iload_n dJ13_newCapacity_6 rfl ?_
  refine tj_iload_n dJ13_newCapacity_7 rfl ?_
  refine tj_iadd dJ13_newCapacity_8 ?_
  refine tj_topi (fun v103 => ?_)
  refine tj_dup dJ13_newCapacity_9 rfl ?_
  refine tj_istore dJ13_newCapacity_10 (by decide) rfl [some (va_rf v0), some (.int v1), some (.int v2), some (.int v102), some (.int v103)] rfl ?_
  refine tj_ldc (v := (2147483639 : Int32)) dJ13_newCapacity_12 q2103 ?_
  refine tj_isub dJ13_newCapacity_14 ?_
  refine tj_if_le 36 dJ13_newCapacity_15 rfl (fun _ => ?_) (fun _ => ?_)
  · refine tj_iload_n dJ13_newCapacity_36 rfl ?_
    refine tj_iload_n dJ13_newCapacity_37 rfl ?_
    refine tj_icmp_le 44 dJ13_newCapacity_38 rfl (fun _ => ?_) (fun _ => ?_)
    · refine tj_iload_n dJ13_newCapacity_44 rfl ?_
      refine tj_iload_n dJ13_newCapacity_45 rfl ?_
      refine tj_iadd dJ13_newCapacity_46 ?_
      refine tj_ldc (v := (2147483639 : Int32)) dJ13_newCapacity_47 q2103 ?_
      refine tj_isub dJ13_newCapacity_49 ?_
      refine tj_if_ge 59 dJ13_newCapacity_50 rfl (fun _ => ?_) (fun _ => ?_)
      · refine tj_ldc (v := (2147483639 : Int32)) dJ13_newCapacity_59 q2103 ?_
        exact tj_iret dJ13_newCapacity_61
      · refine tj_iload_n dJ13_newCapacity_53 rfl ?_
        refine tj_iload_n dJ13_newCapacity_54 rfl ?_
        refine tj_iadd dJ13_newCapacity_55 ?_
        refine tj_goto 61 dJ13_newCapacity_56 rfl ?_
        exact tj_iret dJ13_newCapacity_61
    · refine tj_iload dJ13_newCapacity_41 rfl ?_
      exact tj_iret dJ13_newCapacity_43
  · refine tj_iload dJ13_newCapacity_18 rfl ?_
    refine tj_if_ge 33 dJ13_newCapacity_20 rfl (fun _ => ?_) (fun _ => ?_)
    · refine tj_ldc (v := (2147483647 : Int32)) dJ13_newCapacity_33 q2124 ?_
      exact tj_iret dJ13_newCapacity_35
    · exact tj_fail
theorem ct_J13_newCapacity : ∀ (d : Nat) (v0 : Option Nat) (v1 : Int32) (v2 : Int32), ct_ yJ13_newCapacity (ws_ yJ13_newCapacity cJ13_newCapacity 5 (some .int)) d em_i [va_rf v0, .int v1, .int v2] (fn_J13_newCapacity d v0 v1 v2)
  | 0, _, _, _ => ct_fail
  | d + 1, v0, v1, v2 => ct_of [(false, va_rf v0), (false, .int v1), (false, .int v2)] [some (va_rf v0), some (.int v1), some (.int v2), none, none] (by decide) rfl ⟨rfl, (rf_cat _), ⟨rfl, rfl, ⟨rfl, rfl, trivial⟩⟩⟩ (fun E X n0 s0 σ => tj_J13_newCapacity_B0 d v0 v1 v2 σ)
theorem tj_J13_grow_L145_b {E : tj_E} {X : tj_X} {n0 s0 : Nat} (d : Nat) {b145 : Option Nat → Int32 → Int32 → mx_M Unit} (h145 : ∀ (l5 : Option Nat) (l7 : Int32) (l8 : Int32) (σ : hp_S), tj_T E X RJ13 "grow" cJ13_grow 9 none (d + 1) [] n0 s0 em_v σ 145 [none, none, none, none, none, some (va_rf l5), none, some (.int l7), some (.int l8)] [] (b145 l5 l7 l8)) (l5 : Option Nat) (l7 : Int32) (l8 : Int32) (σ : hp_S) : tj_T E X RJ13 "grow" cJ13_grow 9 none (d + 1) [] n0 s0 em_v σ 145 [none, none, none, none, none, some (va_rf l5), none, some (.int l7), some (.int l8)] [] (fn_J13_grow_L145_b d b145 l5 l7 l8) := by
  unfold fn_J13_grow_L145_b
  refine tj_iload dJ13_grow_145 rfl ?_
  refine tj_iload dJ13_grow_147 rfl ?_
  refine tj_icmp_ge 164 dJ13_grow_149 rfl (fun _ => ?_) (fun _ => ?_)
  · exact tj_vret dJ13_grow_164
  · refine tj_aload dJ13_grow_152 rfl ?_
    refine tj_iload dJ13_grow_154 rfl ?_
    refine tj_null dJ13_grow_156 ?_
    refine tj_aast dJ13_grow_157 (fun σ => ?_)
    refine tj_iinc (1 : Int32) dJ13_grow_158 rfl rfl (by decide) trivial [none, none, none, none, none, some (va_rf l5), none, some (.int (l7 + (1 : Int32))), some (.int l8)] rfl ?_
    refine tj_goto 145 dJ13_grow_161 rfl ?_
    exact h145 l5 _ l8 _
theorem tj_J13_grow_L145 {E : tj_E} {X : tj_X} {n0 s0 : Nat} (d : Nat) : ∀ (k : Nat) (l5 : Option Nat) (l7 : Int32) (l8 : Int32) (σ : hp_S), tj_T E X RJ13 "grow" cJ13_grow 9 none (d + 1) [] n0 s0 em_v σ 145 [none, none, none, none, none, some (va_rf l5), none, some (.int l7), some (.int l8)] [] (fn_J13_grow_L145 d k l5 l7 l8) := by
  intro k
  induction k with
  | zero =>
    intro l5 l7 l8 σ
    exact tj_fail
  | succ k ih =>
    intro l5 l7 l8 σ
    exact tj_J13_grow_L145_b d ih l5 l7 l8 σ
theorem tj_J13_grow_J96 {E : tj_E} {X : tj_X} {n0 s0 : Nat} (d : Nat) (l0 : Option Nat) (l2 : Int32) (l3 : Int32) (l5 : Option Nat) (σ : hp_S) : tj_T E X RJ13 "grow" cJ13_grow 9 none (d + 1) [] n0 s0 em_v σ 96 [some (va_rf l0), none, some (.int l2), some (.int l3), none, some (va_rf l5), none, none, none] [] (fn_J13_grow_J96 d l0 l2 l3 l5) := by
  unfold fn_J13_grow_J96
  refine tj_iload_n dJ13_grow_96 rfl ?_
  refine tj_iload_n dJ13_grow_97 rfl ?_
  refine tj_isub dJ13_grow_98 ?_
  refine tj_topi (fun v101 => ?_)
  refine tj_istore dJ13_grow_99 (by decide) (rf_cat _) [some (va_rf l0), none, some (.int l2), some (.int l3), none, some (va_rf l5), some (.int v101), none, none] rfl ?_
  refine tj_aload dJ13_grow_101 rfl ?_
  refine tj_aload_n dJ13_grow_103 rfl ?_
  refine tj_getI fl_J13_24 dJ13_grow_104 (fun v102 => ?_)
  refine tj_aload dJ13_grow_107 rfl ?_
  refine tj_aload_n dJ13_grow_109 rfl ?_
  refine tj_getI fl_J13_24 dJ13_grow_110 (fun v103 => ?_)
  refine tj_iload dJ13_grow_113 rfl ?_
  refine tj_iadd dJ13_grow_115 ?_
  refine tj_iload_n dJ13_grow_116 rfl ?_
  refine tj_aload_n dJ13_grow_117 rfl ?_
  refine tj_getI fl_J13_24 dJ13_grow_118 (fun v104 => ?_)
  refine tj_isub dJ13_grow_121 ?_
  refine tj_copy104 q2126 (by decide) dJ13_grow_122 (fun σ => ?_)
  refine tj_aload_n dJ13_grow_125 rfl ?_
  refine tj_getI fl_J13_24 dJ13_grow_126 (fun v105 => ?_)
  refine tj_istore dJ13_grow_129 (by decide) rfl [some (va_rf l0), none, some (.int l2), some (.int l3), none, some (va_rf l5), some (.int v101), some (.int v105), none] rfl ?_
  refine tj_aload_n dJ13_grow_131 rfl ?_
  refine tj_dup dJ13_grow_132 (rf_cat _) ?_
  refine tj_getI fl_J13_24 dJ13_grow_133 (fun v106 => ?_)
  refine tj_iload dJ13_grow_136 rfl ?_
  refine tj_iadd dJ13_grow_138 ?_
  refine tj_topi (fun v107 => ?_)
  refine tj_dup_x1 dJ13_grow_139 rfl (rf_cat _) ?_
  refine tj_put fl_J13_24 rfl rfl dJ13_grow_140 (fun σ => ?_)
  refine tj_istore dJ13_grow_143 (by decide) rfl [some (va_rf l0), none, some (.int l2), some (.int l3), none, some (va_rf l5), some (.int v101), some (.int v105), some (.int v107)] rfl ?_
  refine tj_wk (L' := [none, none, none, none, none, some (va_rf l5), none, some (.int v105), some (.int v107)]) ⟨rfl, rfl, rfl, trivial⟩ ?_
  exact tj_J13_grow_L145 d mx_K l5 v105 v107 _
theorem tj_J13_grow_J49 {E : tj_E} {X : tj_X} {n0 s0 : Nat} (d : Nat) (l0 : Option Nat) (l2 : Int32) (l3 : Int32) (σ : hp_S) : tj_T E X RJ13 "grow" cJ13_grow 9 none (d + 1) [] n0 s0 em_v σ 49 [some (va_rf l0), none, some (.int l2), some (.int l3), none, none, none, none, none] [] (fn_J13_grow_J49 d l0 l2 l3) := by
  unfold fn_J13_grow_J49
  refine tj_aload_n dJ13_grow_49 rfl ?_
  refine tj_aload_n dJ13_grow_50 rfl ?_
  refine tj_getR fl_J13_3 dJ13_grow_51 (fun v101 => ?_)
  refine tj_iload_n dJ13_grow_54 rfl ?_
  refine tj_callS (as := [va_rf v101, .int l3]) (rest := [va_rf l0]) (st' := (fun r => [va_rf r, va_rf l0])) (ct_J23_copyOf_2 d v101 l3) q2125 q1796 q123 q1797 md_J23_copyOf_2 rfl (by decide) rfl (by simp [rf_cat, cat_i, cat_l, cat_f, cat_d]) dJ13_grow_55 (fun _ => rfl) (fun r102 σ => ?_) (by decide)
  refine tj_dup_x1 dJ13_grow_58 (rf_cat _) (rf_cat _) ?_
  refine tj_put fl_J13_3 (nar_rf _) (fit_rfa _) dJ13_grow_59 (fun σ => ?_)
  refine tj_astore dJ13_grow_62 (by decide) trivial [some (va_rf l0), none, some (.int l2), some (.int l3), none, some (va_rf r102), none, none, none] rfl ?_
  refine tj_aload_n dJ13_grow_64 rfl ?_
  refine tj_getI fl_J13_20 dJ13_grow_65 (fun v103 => ?_)
  refine tj_aload_n dJ13_grow_68 rfl ?_
  refine tj_getI fl_J13_24 dJ13_grow_69 (fun v104 => ?_)
  refine tj_icmp_lt 96 dJ13_grow_72 rfl (fun _ => ?_) (fun _ => ?_)
  · exact tj_J13_grow_J96 d l0 l2 l3 r102 _
  · refine tj_aload_n dJ13_grow_75 rfl ?_
    refine tj_getI fl_J13_20 dJ13_grow_76 (fun v105 => ?_)
    refine tj_aload_n dJ13_grow_79 rfl ?_
    refine tj_getI fl_J13_24 dJ13_grow_80 (fun v106 => ?_)
    refine tj_icmp_ne 164 dJ13_grow_83 rfl (fun _ => ?_) (fun _ => ?_)
    · refine tj_aload dJ13_grow_86 rfl ?_
      refine tj_aload_n dJ13_grow_88 rfl ?_
      refine tj_getI fl_J13_24 dJ13_grow_89 (fun v107 => ?_)
      refine tj_aald dJ13_grow_92 (fun v108 => ?_)
      refine tj_ifnull 164 dJ13_grow_93 rfl (fun _ => ?_) (fun _ _ => ?_)
      · exact tj_vret dJ13_grow_164
      · exact tj_J13_grow_J96 d l0 l2 l3 r102 _
    · exact tj_vret dJ13_grow_164
theorem tj_J13_grow_J41 {E : tj_E} {X : tj_X} {n0 s0 : Nat} (d : Nat) (l0 : Option Nat) (l1 : Int32) (l2 : Int32) (l4 : Int32) (σ : hp_S) : tj_T E X RJ13 "grow" cJ13_grow 9 none (d + 1) [] n0 s0 em_v σ 41 [some (va_rf l0), some (.int l1), some (.int l2), none, some (.int l4), none, none, none, none] [] (fn_J13_grow_J41 d l0 l1 l2 l4) := by
  unfold fn_J13_grow_J41
  refine tj_aload_n dJ13_grow_41 rfl ?_
  refine tj_iload_n dJ13_grow_42 rfl ?_
  refine tj_iload dJ13_grow_43 rfl ?_
  refine tj_callV (as := [.int l1, .int l4]) (rest := []) (st' := (fun r => [.int r])) (t := 26) (fun a e => by cases e; exact ct_J13_newCapacity d _ _ _) (by decide) rfl q2104 q2106 qs21 q113 q2107 rfl md_J13_newCapacity rfl (by decide) rfl (by decide) dJ13_grow_45 (fun _ => rfl) (fun r101 σ => ?_) (by decide)
  refine tj_istore_n dJ13_grow_48 (by decide) rfl [some (va_rf l0), some (.int l1), some (.int l2), some (.int r101), some (.int l4), none, none, none, none] rfl ?_
  refine tj_wk (L' := [some (va_rf l0), none, some (.int l2), some (.int r101), none, none, none, none, none]) ⟨rfl, rfl, rfl, trivial⟩ ?_
  exact tj_J13_grow_J49 d l0 l2 r101 _
theorem tj_J13_grow_J21 {E : tj_E} {X : tj_X} {n0 s0 : Nat} (d : Nat) (l0 : Option Nat) (l1 : Int32) (l2 : Int32) (p0 : Int32) (σ : hp_S) : tj_T E X RJ13 "grow" cJ13_grow 9 none (d + 1) [] n0 s0 em_v σ 21 [some (va_rf l0), some (.int l1), some (.int l2), none, none, none, none, none, none] [.int p0] (fn_J13_grow_J21 d l0 l1 l2 p0) := by
  unfold fn_J13_grow_J21
  refine tj_istore dJ13_grow_21 (by decide) trivial [some (va_rf l0), some (.int l1), some (.int l2), none, some (.int p0), none, none, none, none] rfl ?_
  refine tj_iload dJ13_grow_23 rfl ?_
  refine tj_iload_n dJ13_grow_25 rfl ?_
  refine tj_icmp_lt 41 dJ13_grow_26 rfl (fun _ => ?_) (fun _ => ?_)
  · exact tj_J13_grow_J41 d l0 l1 l2 p0 _
  · refine tj_iload_n dJ13_grow_29 rfl ?_
    refine tj_iload dJ13_grow_30 rfl ?_
    refine tj_iadd dJ13_grow_32 ?_
    refine tj_topi (fun v101 => ?_)
    refine tj_dup dJ13_grow_33 rfl ?_
    refine tj_istore_n dJ13_grow_34 (by decide) rfl [some (va_rf l0), some (.int l1), some (.int l2), some (.int v101), some (.int p0), none, none, none, none] rfl ?_
    refine tj_ldc (v := (2147483639 : Int32)) dJ13_grow_35 q2103 ?_
    refine tj_isub dJ13_grow_37 ?_
    refine tj_if_le 49 dJ13_grow_38 rfl (fun _ => ?_) (fun _ => ?_)
    · refine tj_wk (L' := [some (va_rf l0), none, some (.int l2), some (.int v101), none, none, none, none, none]) ⟨rfl, rfl, rfl, trivial⟩ ?_
      exact tj_J13_grow_J49 d l0 l2 v101 _
    · refine tj_wk (L' := [some (va_rf l0), some (.int l1), some (.int l2), none, some (.int p0), none, none, none, none]) ⟨rfl, rfl, rfl, rfl, trivial⟩ ?_
      exact tj_J13_grow_J41 d l0 l1 l2 p0 _
theorem tj_J13_grow_B0 {E : tj_E} {X : tj_X} {n0 s0 : Nat} (d : Nat) (v0 : Option Nat) (v1 : Int32) (σ : hp_S) : tj_T E X RJ13 "grow" cJ13_grow 9 none (d + 1) [] n0 s0 em_v σ 0 [some (va_rf v0), some (.int v1), none, none, none, none, none, none, none] [] (fn_J13_grow_B0 d v0 v1) := by
  unfold fn_J13_grow_B0
  refine tj_aload_n dJ13_grow_0 rfl ?_
  refine tj_getR fl_J13_3 dJ13_grow_1 (fun v101 => ?_)
  refine tj_alen dJ13_grow_4 (fun v102 => ?_)
  refine tj_istore_n dJ13_grow_5 (by decide) rfl [some (va_rf v0), some (.int v1), some (.int v102), none, none, none, none, none, none] rfl ?_
  refine tj_iload_n dJ13_grow_6 rfl ?_
  refine tj_bipush (64 : Int32) dJ13_grow_7 (by decide) ?_
  refine tj_icmp_ge 18 dJ13_grow_9 rfl (fun _ => ?_) (fun _ => ?_)
  · refine tj_iload_n dJ13_grow_18 rfl ?_
    refine tj_iconst (1 : Int32) dJ13_grow_19 rfl ?_
    refine tj_ishr dJ13_grow_20 ?_
    exact tj_J13_grow_J21 d v0 v1 v102 _ _
  · refine tj_iload_n dJ13_grow_12 rfl ?_
    refine tj_iconst (2 : Int32) dJ13_grow_13 rfl ?_
    refine tj_iadd dJ13_grow_14 ?_
    refine tj_goto 21 dJ13_grow_15 rfl ?_
    exact tj_J13_grow_J21 d v0 v1 v102 _ _
theorem ct_J13_grow : ∀ (d : Nat) (v0 : Option Nat) (v1 : Int32), ct_ yJ13_grow (ws_ yJ13_grow cJ13_grow 9 none) d em_v [va_rf v0, .int v1] (fn_J13_grow d v0 v1)
  | 0, _, _ => ct_fail
  | d + 1, v0, v1 => ct_of [(false, va_rf v0), (false, .int v1)] [some (va_rf v0), some (.int v1), none, none, none, none, none, none, none] (by decide) rfl ⟨rfl, (rf_cat _), ⟨rfl, rfl, trivial⟩⟩ (fun E X n0 s0 σ => tj_J13_grow_B0 d v0 v1 σ)
theorem tj_J13_addFirst_B0 {E : tj_E} {X : tj_X} {n0 s0 : Nat} (d : Nat) (v0 : Option Nat) (v1 : Option Nat) (σ : hp_S) : tj_T E X RJ13 "addFirst" cJ13_addFirst 3 none (d + 1) [] n0 s0 em_v σ 0 [some (va_rf v0), some (va_rf v1), none] [] (fn_J13_addFirst_B0 d v0 v1) := by
  unfold fn_J13_addFirst_B0
  refine tj_aload_n dJ13_addFirst_0 rfl ?_
  refine tj_ifnonnull 12 dJ13_addFirst_1 rfl (fun _ => ?_) (fun _ _ => ?_)
  · exact tj_fail
  · refine tj_aload_n dJ13_addFirst_12 rfl ?_
    refine tj_getR fl_J13_3 dJ13_addFirst_13 (fun v101 => ?_)
    refine tj_astore_n dJ13_addFirst_16 (by decide) (rf_cat _) [some (va_rf v0), some (va_rf v1), some (va_rf v101)] rfl ?_
    refine tj_aload_n dJ13_addFirst_17 rfl ?_
    refine tj_aload_n dJ13_addFirst_18 rfl ?_
    refine tj_aload_n dJ13_addFirst_19 rfl ?_
    refine tj_getI fl_J13_24 dJ13_addFirst_20 (fun v102 => ?_)
    refine tj_aload_n dJ13_addFirst_23 rfl ?_
    refine tj_alen dJ13_addFirst_24 (fun v103 => ?_)
    refine tj_callS (as := [.int v102, .int v103]) (rest := [va_rf v0, va_rf v101]) (st' := (fun r => [.int r, va_rf v0, va_rf v101])) (ct_J13_dec d v102 v103) q2096 q2097 q113 q2098 md_J13_dec rfl (by decide) rfl (by simp [rf_cat, cat_i, cat_l, cat_f, cat_d]) dJ13_addFirst_25 (fun _ => rfl) (fun r104 σ => ?_) (by decide)
    refine tj_dup_x1 dJ13_addFirst_28 rfl (rf_cat _) ?_
    refine tj_put fl_J13_24 rfl rfl dJ13_addFirst_29 (fun σ => ?_)
    refine tj_aload_n dJ13_addFirst_32 rfl ?_
    refine tj_aast dJ13_addFirst_33 (fun σ => ?_)
    refine tj_aload_n dJ13_addFirst_34 rfl ?_
    refine tj_getI fl_J13_24 dJ13_addFirst_35 (fun v105 => ?_)
    refine tj_aload_n dJ13_addFirst_38 rfl ?_
    refine tj_getI fl_J13_20 dJ13_addFirst_39 (fun v106 => ?_)
    refine tj_icmp_ne 50 dJ13_addFirst_42 rfl (fun _ => ?_) (fun _ => ?_)
    · refine tj_aload_n dJ13_addFirst_45 rfl ?_
      refine tj_iconst (1 : Int32) dJ13_addFirst_46 rfl ?_
      refine tj_callV (as := [.int (1 : Int32)]) (rest := []) (st' := (fun _ => [])) (t := 26) (fun a e => by cases e; exact ct_J13_grow d _ _) (by decide) rfl q2099 q2101 qs20 q113 q2102 rfl md_J13_grow rfl (by decide) rfl (by decide) dJ13_addFirst_47 (fun _ => rfl) (fun _ σ => ?_) (by decide)
      exact tj_vret dJ13_addFirst_50
    · exact tj_vret dJ13_addFirst_50
theorem ct_J13_addFirst : ∀ (d : Nat) (v0 : Option Nat) (v1 : Option Nat), ct_ yJ13_addFirst (ws_ yJ13_addFirst cJ13_addFirst 3 none) d em_v [va_rf v0, va_rf v1] (fn_J13_addFirst d v0 v1)
  | 0, _, _ => ct_fail
  | d + 1, v0, v1 => ct_of [(false, va_rf v0), (false, va_rf v1)] [some (va_rf v0), some (va_rf v1), none] (by decide) rfl ⟨rfl, (rf_cat _), ⟨rfl, (rf_cat _), trivial⟩⟩ (fun E X n0 s0 σ => tj_J13_addFirst_B0 d v0 v1 σ)
theorem tj_J13_push_B0 {E : tj_E} {X : tj_X} {n0 s0 : Nat} (d : Nat) (v0 : Option Nat) (v1 : Option Nat) (σ : hp_S) : tj_T E X RJ13 "push" cJ13_push 2 none (d + 1) [] n0 s0 em_v σ 0 [some (va_rf v0), some (va_rf v1)] [] (fn_J13_push_B0 d v0 v1) := by
  unfold fn_J13_push_B0
  refine tj_aload_n dJ13_push_0 rfl ?_
  refine tj_aload_n dJ13_push_1 rfl ?_
  refine tj_callV (as := [va_rf v1]) (rest := []) (st' := (fun _ => [])) (t := 26) (fun a e => by cases e; exact ct_J13_addFirst d _ _) (by decide) rfl q2092 q2093 q2094 q113 q2095 rfl md_J13_addFirst rfl (by decide) rfl (by decide) dJ13_push_2 (fun _ => rfl) (fun _ σ => ?_) (by decide)
  exact tj_vret dJ13_push_5
theorem ct_J13_push : ∀ (d : Nat) (v0 : Option Nat) (v1 : Option Nat), ct_ yJ13_push (ws_ yJ13_push cJ13_push 2 none) d em_v [va_rf v0, va_rf v1] (fn_J13_push d v0 v1)
  | 0, _, _ => ct_fail
  | d + 1, v0, v1 => ct_of [(false, va_rf v0), (false, va_rf v1)] [some (va_rf v0), some (va_rf v1)] (by decide) rfl ⟨rfl, (rf_cat _), ⟨rfl, (rf_cat _), trivial⟩⟩ (fun E X n0 s0 σ => tj_J13_push_B0 d v0 v1 σ)
theorem tj_X1_inOrder_J124 {E : tj_E} {X : tj_X} {n0 s0 : Nat} (d : Nat) {b25 : Option Nat → Option Nat → mx_M (Option Nat)} (h25 : ∀ (l1 : Option Nat) (l2 : Option Nat) (σ : hp_S), tj_T E X RX1 "inOrder" cX1_inOrder 5 (some (.object "java/util/List")) (d + 1) [] n0 s0 em_r σ 25 [none, some (va_rf l1), some (va_rf l2), none, none] [] (b25 l1 l2)) (l1 : Option Nat) (l2 : Option Nat) (σ : hp_S) : tj_T E X RX1 "inOrder" cX1_inOrder 5 (some (.object "java/util/List")) (d + 1) [] n0 s0 em_r σ 124 [none, some (va_rf l1), some (va_rf l2), none, none] [] (fn_X1_inOrder_J124 d b25 l1 l2) := by
  unfold fn_X1_inOrder_J124
  refine tj_goto 25 dX1_inOrder_124 rfl ?_
  exact h25 l1 l2 _
theorem tj_X1_inOrder_J109 {E : tj_E} {X : tj_X} {n0 s0 : Nat} (d : Nat) {b25 : Option Nat → Option Nat → mx_M (Option Nat)} (h25 : ∀ (l1 : Option Nat) (l2 : Option Nat) (σ : hp_S), tj_T E X RX1 "inOrder" cX1_inOrder 5 (some (.object "java/util/List")) (d + 1) [] n0 s0 em_r σ 25 [none, some (va_rf l1), some (va_rf l2), none, none] [] (b25 l1 l2)) (l1 : Option Nat) (l2 : Option Nat) (l3 : Option Nat) (σ : hp_S) : tj_T E X RX1 "inOrder" cX1_inOrder 5 (some (.object "java/util/List")) (d + 1) [] n0 s0 em_r σ 109 [none, some (va_rf l1), some (va_rf l2), some (va_rf l3), none] [] (fn_X1_inOrder_J109 d b25 l1 l2 l3) := by
  unfold fn_X1_inOrder_J109
  refine tj_aload_n dX1_inOrder_109 rfl ?_
  refine tj_getR fl_X1_57r dX1_inOrder_110 (fun v101 => ?_)
  refine tj_ifnull 124 dX1_inOrder_113 rfl (fun _ => ?_) (fun _ _ => ?_)
  · refine tj_wk (L' := [none, some (va_rf l1), some (va_rf l2), none, none]) ⟨rfl, rfl, trivial⟩ ?_
    exact tj_X1_inOrder_J124 d h25 l1 l2 _
  · refine tj_aload_n dX1_inOrder_116 rfl ?_
    refine tj_aload_n dX1_inOrder_117 rfl ?_
    refine tj_getR fl_X1_57r dX1_inOrder_118 (fun v102 => ?_)
    refine tj_callV (as := [va_rf v102]) (rest := []) (st' := (fun _ => [])) (t := 26) (fun a e => by cases e; exact ct_J13_push d _ _) (by decide) rfl q2088 q2089 q2090 q113 q2091 rfl md_J13_push rfl (by decide) rfl (by decide) dX1_inOrder_121 (fun _ => rfl) (fun _ σ => ?_) (by decide)
    refine tj_wk (L' := [none, some (va_rf l1), some (va_rf l2), none, none]) ⟨rfl, rfl, trivial⟩ ?_
    exact tj_X1_inOrder_J124 d h25 l1 l2 _
theorem tj_X1_inOrder_J82 {E : tj_E} {X : tj_X} {n0 s0 : Nat} (d : Nat) {b25 : Option Nat → Option Nat → mx_M (Option Nat)} (h25 : ∀ (l1 : Option Nat) (l2 : Option Nat) (σ : hp_S), tj_T E X RX1 "inOrder" cX1_inOrder 5 (some (.object "java/util/List")) (d + 1) [] n0 s0 em_r σ 25 [none, some (va_rf l1), some (va_rf l2), none, none] [] (b25 l1 l2)) (l1 : Option Nat) (l2 : Option Nat) (l3 : Option Nat) (l4 : Int32) (σ : hp_S) : tj_T E X RX1 "inOrder" cX1_inOrder 5 (some (.object "java/util/List")) (d + 1) [] n0 s0 em_r σ 82 [none, some (va_rf l1), some (va_rf l2), some (va_rf l3), some (.int l4)] [] (fn_X1_inOrder_J82 d b25 l1 l2 l3 l4) := by
  unfold fn_X1_inOrder_J82
  refine tj_aload_n dX1_inOrder_82 rfl ?_
  refine tj_iload dX1_inOrder_83 rfl ?_
  refine tj_aload_n dX1_inOrder_85 rfl ?_
  refine tj_getR fl_X1_35r dX1_inOrder_86 (fun v101 => ?_)
  refine tj_callF (as := [.int l4, va_rf v101]) (rest := []) (st' := (fun _ => [])) (t := 16) (fun a e => by cases e; exact ct_J4_add_3 d _ _ _) (by decide) rfl q2163 q2166 q2168 q103 q2170 (ev_i 10 rfl) q2169 q2167 q1323 md_i10 rfl (by decide) rfl (by decide) dX1_inOrder_89 (fun _ => rfl) (fun _ σ => ?_) (by decide)
  refine tj_aload_n dX1_inOrder_94 rfl ?_
  refine tj_getR fl_X1_53r dX1_inOrder_95 (fun v102 => ?_)
  refine tj_ifnull 109 dX1_inOrder_98 rfl (fun _ => ?_) (fun _ _ => ?_)
  · refine tj_wk (L' := [none, some (va_rf l1), some (va_rf l2), some (va_rf l3), none]) ⟨rfl, rfl, rfl, trivial⟩ ?_
    exact tj_X1_inOrder_J109 d h25 l1 l2 l3 _
  · refine tj_aload_n dX1_inOrder_101 rfl ?_
    refine tj_aload_n dX1_inOrder_102 rfl ?_
    refine tj_getR fl_X1_53r dX1_inOrder_103 (fun v103 => ?_)
    refine tj_callV (as := [va_rf v103]) (rest := []) (st' := (fun _ => [])) (t := 26) (fun a e => by cases e; exact ct_J13_push d _ _) (by decide) rfl q2088 q2089 q2090 q113 q2091 rfl md_J13_push rfl (by decide) rfl (by decide) dX1_inOrder_106 (fun _ => rfl) (fun _ σ => ?_) (by decide)
    refine tj_wk (L' := [none, some (va_rf l1), some (va_rf l2), some (va_rf l3), none]) ⟨rfl, rfl, rfl, trivial⟩ ?_
    exact tj_X1_inOrder_J109 d h25 l1 l2 l3 _
theorem tj_X1_inOrder_L48_b {E : tj_E} {X : tj_X} {n0 s0 : Nat} (d : Nat) {b25 : Option Nat → Option Nat → mx_M (Option Nat)} {b48 : Option Nat → Option Nat → Option Nat → Int32 → mx_M (Option Nat)} (h25 : ∀ (l1 : Option Nat) (l2 : Option Nat) (σ : hp_S), tj_T E X RX1 "inOrder" cX1_inOrder 5 (some (.object "java/util/List")) (d + 1) [] n0 s0 em_r σ 25 [none, some (va_rf l1), some (va_rf l2), none, none] [] (b25 l1 l2)) (h48 : ∀ (l1 : Option Nat) (l2 : Option Nat) (l3 : Option Nat) (l4 : Int32) (σ : hp_S), tj_T E X RX1 "inOrder" cX1_inOrder 5 (some (.object "java/util/List")) (d + 1) [] n0 s0 em_r σ 48 [none, some (va_rf l1), some (va_rf l2), some (va_rf l3), some (.int l4)] [] (b48 l1 l2 l3 l4)) (l1 : Option Nat) (l2 : Option Nat) (l3 : Option Nat) (l4 : Int32) (σ : hp_S) : tj_T E X RX1 "inOrder" cX1_inOrder 5 (some (.object "java/util/List")) (d + 1) [] n0 s0 em_r σ 48 [none, some (va_rf l1), some (va_rf l2), some (va_rf l3), some (.int l4)] [] (fn_X1_inOrder_L48_b d b25 b48 l1 l2 l3 l4) := by
  unfold fn_X1_inOrder_L48_b
  refine tj_iload dX1_inOrder_48 rfl ?_
  refine tj_if_le 82 dX1_inOrder_50 rfl (fun _ => ?_) (fun _ => ?_)
  · exact tj_X1_inOrder_J82 d h25 l1 l2 l3 l4 _
  · refine tj_aload_n dX1_inOrder_53 rfl ?_
    refine tj_getR fl_X1_35r dX1_inOrder_54 (fun v101 => ?_)
    refine tj_aload_n dX1_inOrder_57 rfl ?_
    refine tj_iload dX1_inOrder_58 rfl ?_
    refine tj_iconst (1 : Int32) dX1_inOrder_60 rfl ?_
    refine tj_isub dX1_inOrder_61 ?_
    refine tj_callF (as := [.int (l4 - (1 : Int32))]) (rest := [va_rf v101]) (st' := (fun r => [va_rf r, va_rf v101])) (t := 16) (fun a e => by cases e; exact ct_J4_get d _ _) (by decide) rfl q2156 q1324 q1120 q103 q1121 (ev_i 3 rfl) q1326 q1325 q1323 md_i3 rfl (by decide) rfl (by simp [rf_cat, cat_i, cat_l, cat_f, cat_d]) dX1_inOrder_62 (fun _ => rfl) (fun r102 σ => ?_) (by decide)
    refine tj_cast (nm := "LionGate$Ticket") q2157 ca_LionGate_Ticket dX1_inOrder_67 ?_
    refine tj_callV (as := [va_rf r102]) (rest := []) (st' := (fun r => [.int r])) (t := 6) (fun a e => by cases e; exact ct_X9_isBefore d _ _) (by decide) rfl q2158 q2159 q2160 q152 q2161 rfl md_X9_isBefore rfl (by decide) rfl (by decide) dX1_inOrder_70 (fun _ => rfl) (fun r103 σ => ?_) (by decide)
    refine tj_if_eq 82 dX1_inOrder_73 rfl (fun _ => ?_) (fun _ => ?_)
    · exact tj_X1_inOrder_J82 d h25 l1 l2 l3 l4 _
    · refine tj_iinc (-1 : Int32) dX1_inOrder_76 rfl rfl (by decide) (rf_cat _) [none, some (va_rf l1), some (va_rf l2), some (va_rf l3), some (.int (l4 + (-1 : Int32)))] rfl ?_
      refine tj_goto 48 dX1_inOrder_79 rfl ?_
      exact h48 l1 l2 l3 _ _
theorem tj_X1_inOrder_L48 {E : tj_E} {X : tj_X} {n0 s0 : Nat} (d : Nat) {b25 : Option Nat → Option Nat → mx_M (Option Nat)} (h25 : ∀ (l1 : Option Nat) (l2 : Option Nat) (σ : hp_S), tj_T E X RX1 "inOrder" cX1_inOrder 5 (some (.object "java/util/List")) (d + 1) [] n0 s0 em_r σ 25 [none, some (va_rf l1), some (va_rf l2), none, none] [] (b25 l1 l2)) : ∀ (k : Nat) (l1 : Option Nat) (l2 : Option Nat) (l3 : Option Nat) (l4 : Int32) (σ : hp_S), tj_T E X RX1 "inOrder" cX1_inOrder 5 (some (.object "java/util/List")) (d + 1) [] n0 s0 em_r σ 48 [none, some (va_rf l1), some (va_rf l2), some (va_rf l3), some (.int l4)] [] (fn_X1_inOrder_L48 d b25 k l1 l2 l3 l4) := by
  intro k
  induction k with
  | zero =>
    intro l1 l2 l3 l4 σ
    exact tj_fail
  | succ k ih =>
    intro l1 l2 l3 l4 σ
    exact tj_X1_inOrder_L48_b d h25 ih l1 l2 l3 l4 σ
theorem tj_X1_inOrder_L25_b {E : tj_E} {X : tj_X} {n0 s0 : Nat} (d : Nat) {b25 : Option Nat → Option Nat → mx_M (Option Nat)} (h25 : ∀ (l1 : Option Nat) (l2 : Option Nat) (σ : hp_S), tj_T E X RX1 "inOrder" cX1_inOrder 5 (some (.object "java/util/List")) (d + 1) [] n0 s0 em_r σ 25 [none, some (va_rf l1), some (va_rf l2), none, none] [] (b25 l1 l2)) (l1 : Option Nat) (l2 : Option Nat) (σ : hp_S) : tj_T E X RX1 "inOrder" cX1_inOrder 5 (some (.object "java/util/List")) (d + 1) [] n0 s0 em_r σ 25 [none, some (va_rf l1), some (va_rf l2), none, none] [] (fn_X1_inOrder_L25_b d b25 l1 l2) := by
  unfold fn_X1_inOrder_L25_b
  refine tj_aload_n dX1_inOrder_25 rfl ?_
  refine tj_callV (as := []) (rest := []) (st' := (fun r => [.int r])) (t := 26) (fun a e => by cases e; exact ct_J13_isEmpty d _) (by decide) rfl q2127 q1087 q1088 q113 q1089 rfl md_J13_isEmpty rfl (by decide) rfl (by decide) dX1_inOrder_26 (fun _ => rfl) (fun r101 σ => ?_) (by decide)
  refine tj_if_ne 127 dX1_inOrder_29 rfl (fun _ => ?_) (fun _ => ?_)
  · refine tj_aload_n dX1_inOrder_32 rfl ?_
    refine tj_callV (as := []) (rest := []) (st' := (fun r => [va_rf r])) (t := 26) (fun a e => by cases e; exact ct_J13_pop d _) (by decide) rfl q2128 q2129 q2130 q113 q2131 rfl md_J13_pop rfl (by decide) rfl (by decide) dX1_inOrder_33 (fun _ => rfl) (fun r102 σ => ?_) (by decide)
    refine tj_cast (nm := "LionGate$Node") q2138 ca_LionGate_Node dX1_inOrder_36 ?_
    refine tj_astore_n dX1_inOrder_39 (by decide) (rf_cat _) [none, some (va_rf l1), some (va_rf l2), some (va_rf r102), none] rfl ?_
    refine tj_aload_n dX1_inOrder_40 rfl ?_
    refine tj_callF (as := []) (rest := []) (st' := (fun r => [.int r])) (t := 16) (fun a e => by cases e; exact ct_J4_size d _) (by decide) rfl q2140 q2143 q1048 q103 q1049 (ev_i 9 rfl) q2145 q2144 q1323 md_i9 rfl (by decide) rfl (by decide) dX1_inOrder_41 (fun _ => rfl) (fun r103 σ => ?_) (by decide)
    refine tj_istore dX1_inOrder_46 (by decide) (rf_cat _) [none, some (va_rf l1), some (va_rf l2), some (va_rf r102), some (.int r103)] rfl ?_
    exact tj_X1_inOrder_L48 d h25 mx_K l1 l2 r102 r103 _
  · refine tj_aload_n dX1_inOrder_127 rfl ?_
    exact tj_aret (Or.inl ⟨_, rfl⟩) dX1_inOrder_128
theorem tj_X1_inOrder_L25 {E : tj_E} {X : tj_X} {n0 s0 : Nat} (d : Nat) : ∀ (k : Nat) (l1 : Option Nat) (l2 : Option Nat) (σ : hp_S), tj_T E X RX1 "inOrder" cX1_inOrder 5 (some (.object "java/util/List")) (d + 1) [] n0 s0 em_r σ 25 [none, some (va_rf l1), some (va_rf l2), none, none] [] (fn_X1_inOrder_L25 d k l1 l2) := by
  intro k
  induction k with
  | zero =>
    intro l1 l2 σ
    exact tj_fail
  | succ k ih =>
    intro l1 l2 σ
    exact tj_X1_inOrder_L25_b d ih l1 l2 σ
theorem tj_X1_inOrder_B0 {E : tj_E} {X : tj_X} {n0 s0 : Nat} (d : Nat) (v0 : Option Nat) (σ : hp_S) : tj_T E X RX1 "inOrder" cX1_inOrder 5 (some (.object "java/util/List")) (d + 1) [] n0 s0 em_r σ 0 [some (va_rf v0), none, none, none, none] [] (fn_X1_inOrder_B0 d v0) := by
  unfold fn_X1_inOrder_B0
  refine tj_new nw_X1_7 dX1_inOrder_0 (fun a101 σ => ?_)
  refine tj_dup dX1_inOrder_3 (rf_cat _) ?_
  refine tj_callI (as := []) (rest := [va_rf (some a101)]) (st' := (fun _ => [va_rf (some a101)])) (fun a e => by cases e; exact ct_J4_init d _) q2068 q237 q103 q238 rfl md_J4_init rfl (by decide) rfl (by simp [rf_cat, cat_i, cat_l, cat_f, cat_d]) dX1_inOrder_4 (fun _ => rfl) (fun _ σ => ?_) (by decide)
  refine tj_astore_n dX1_inOrder_7 (by decide) (rf_cat _) [some (va_rf v0), some (va_rf (some a101)), none, none, none] rfl ?_
  refine tj_new nw_X1_12 dX1_inOrder_8 (fun a102 σ => ?_)
  refine tj_dup dX1_inOrder_11 (rf_cat _) ?_
  refine tj_callI (as := []) (rest := [va_rf (some a102)]) (st' := (fun _ => [va_rf (some a102)])) (fun a e => by cases e; exact ct_J13_init d _) q2071 q2072 q113 q2073 rfl md_J13_init rfl (by decide) rfl (by simp [rf_cat, cat_i, cat_l, cat_f, cat_d]) dX1_inOrder_12 (fun _ => rfl) (fun _ σ => ?_) (by decide)
  refine tj_astore_n dX1_inOrder_15 (by decide) (rf_cat _) [some (va_rf v0), some (va_rf (some a101)), some (va_rf (some a102)), none, none] rfl ?_
  refine tj_aload_n dX1_inOrder_16 rfl ?_
  refine tj_ifnull 25 dX1_inOrder_17 rfl (fun _ => ?_) (fun _ _ => ?_)
  · refine tj_wk (L' := [none, some (va_rf (some a101)), some (va_rf (some a102)), none, none]) ⟨rfl, rfl, trivial⟩ ?_
    exact tj_X1_inOrder_L25 d mx_K (some a101) (some a102) _
  · refine tj_aload_n dX1_inOrder_20 rfl ?_
    refine tj_aload_n dX1_inOrder_21 rfl ?_
    refine tj_callV (as := [va_rf v0]) (rest := []) (st' := (fun _ => [])) (t := 26) (fun a e => by cases e; exact ct_J13_push d _ _) (by decide) rfl q2088 q2089 q2090 q113 q2091 rfl md_J13_push rfl (by decide) rfl (by decide) dX1_inOrder_22 (fun _ => rfl) (fun _ σ => ?_) (by decide)
    refine tj_wk (L' := [none, some (va_rf (some a101)), some (va_rf (some a102)), none, none]) ⟨rfl, rfl, trivial⟩ ?_
    exact tj_X1_inOrder_L25 d mx_K (some a101) (some a102) _
theorem ct_X1_inOrder : ∀ (d : Nat) (v0 : Option Nat), ct_ yX1_inOrder (ws_ yX1_inOrder cX1_inOrder 5 (some (.object "java/util/List"))) d em_r [va_rf v0] (fn_X1_inOrder d v0)
  | 0, _ => ct_fail
  | d + 1, v0 => ct_of [(false, va_rf v0)] [some (va_rf v0), none, none, none, none] (by decide) rfl ⟨rfl, (rf_cat _), trivial⟩ (fun E X n0 s0 σ => tj_X1_inOrder_B0 d v0 σ)
theorem tj_X10_init_B0 {E : tj_E} {X : tj_X} {n0 s0 : Nat} (d : Nat) (v0 : Option Nat) (v1 : Option Nat) (σ : hp_S) : tj_T E X RX10 "<init>" cX10_init 2 none (d + 1) [] n0 s0 em_v σ 0 [some (va_rf v0), some (va_rf v1)] [] (fn_X10_init_B0 d v0 v1) := by
  unfold fn_X10_init_B0
  refine tj_aload_n dX10_init_0 rfl ?_
  refine tj_aload_n dX10_init_1 rfl ?_
  refine tj_null dX10_init_2 ?_
  refine tj_null dX10_init_3 ?_
  refine tj_callI (as := [va_rf v1, va_rf none, va_rf none]) (rest := []) (st' := (fun _ => [])) (fun a e => by cases e; exact ct_X10_init_2 d _ _ _ _) q2385 q2386 q157 q2387 rfl md_X10_init_2 rfl (by decide) rfl (by decide) dX10_init_4 (fun _ => rfl) (fun _ σ => ?_) (by decide)
  exact tj_vret dX10_init_7
theorem ct_X10_init : ∀ (d : Nat) (v0 : Option Nat) (v1 : Option Nat), ct_ yX10_init (ws_ yX10_init cX10_init 2 none) d em_v [va_rf v0, va_rf v1] (fn_X10_init d v0 v1)
  | 0, _, _ => ct_fail
  | d + 1, v0, v1 => ct_of [(false, va_rf v0), (false, va_rf v1)] [some (va_rf v0), some (va_rf v1)] (by decide) rfl ⟨rfl, (rf_cat _), ⟨rfl, (rf_cat _), trivial⟩⟩ (fun E X n0 s0 σ => tj_X10_init_B0 d v0 v1 σ)
theorem tj_X2_put_B0 {E : tj_E} {X : tj_X} {n0 s0 : Nat} (d : Nat) (v0 : Option Nat) (v1 : Option Nat) (σ : hp_S) : tj_T E X RX2 "put" cX2_put 2 none (d + 1) [] n0 s0 em_v σ 0 [some (va_rf v0), some (va_rf v1)] [] (fn_X2_put_B0 d v0 v1) := by
  unfold fn_X2_put_B0
  refine tj_aload_n dX2_put_0 rfl ?_
  refine tj_aload_n dX2_put_1 rfl ?_
  refine tj_getR fl_X2_66 dX2_put_2 (fun v101 => ?_)
  refine tj_new nw_X2_118 dX2_put_5 (fun a102 σ => ?_)
  refine tj_dup dX2_put_8 (rf_cat _) ?_
  refine tj_aload_n dX2_put_9 rfl ?_
  refine tj_callI (as := [va_rf v1]) (rest := [va_rf (some a102), va_rf v101, va_rf v0]) (st' := (fun _ => [va_rf (some a102), va_rf v101, va_rf v0])) (fun a e => by cases e; exact ct_X10_init d _ _) q2382 q2383 q157 q2384 rfl md_X10_init rfl (by decide) rfl (by simp [rf_cat, cat_i, cat_l, cat_f, cat_d]) dX2_put_10 (fun _ => rfl) (fun _ σ => ?_) (by decide)
  refine tj_callS (as := [va_rf v101, va_rf (some a102)]) (rest := [va_rf v0]) (st' := (fun r => [va_rf r, va_rf v0])) (ct_X10_merged d v101 (some a102)) q2409 q2410 q157 q2411 md_X10_merged rfl (by decide) rfl (by simp [rf_cat, cat_i, cat_l, cat_f, cat_d]) dX2_put_13 (fun _ => rfl) (fun r103 σ => ?_) (by decide)
  refine tj_put fl_X2_66 (nar_rf _) (fit_rf _) dX2_put_16 (fun σ => ?_)
  refine tj_aload_n dX2_put_19 rfl ?_
  refine tj_dup dX2_put_20 (rf_cat _) ?_
  refine tj_getI fl_X2_70 dX2_put_21 (fun v104 => ?_)
  refine tj_iconst (1 : Int32) dX2_put_24 rfl ?_
  refine tj_iadd dX2_put_25 ?_
  refine tj_put fl_X2_70 rfl rfl dX2_put_26 (fun σ => ?_)
  exact tj_vret dX2_put_29
theorem ct_X2_put : ∀ (d : Nat) (v0 : Option Nat) (v1 : Option Nat), ct_ yX2_put (ws_ yX2_put cX2_put 2 none) d em_v [va_rf v0, va_rf v1] (fn_X2_put d v0 v1)
  | 0, _, _ => ct_fail
  | d + 1, v0, v1 => ct_of [(false, va_rf v0), (false, va_rf v1)] [some (va_rf v0), some (va_rf v1)] (by decide) rfl ⟨rfl, (rf_cat _), ⟨rfl, (rf_cat _), trivial⟩⟩ (fun E X n0 s0 σ => tj_X2_put_B0 d v0 v1 σ)
theorem tj_J4_fastRemove_J34 {E : tj_E} {X : tj_X} {n0 s0 : Nat} (d : Nat) (l0 : Option Nat) (l1 : Option Nat) (l3 : Int32) (σ : hp_S) : tj_T E X RJ4 "fastRemove" cJ4_fastRemove 4 none (d + 1) [] n0 s0 em_v σ 34 [some (va_rf l0), some (va_rf l1), none, some (.int l3)] [] (fn_J4_fastRemove_J34 d l0 l1 l3) := by
  unfold fn_J4_fastRemove_J34
  refine tj_aload_n dJ4_fastRemove_34 rfl ?_
  refine tj_aload_n dJ4_fastRemove_35 rfl ?_
  refine tj_iload_n dJ4_fastRemove_36 rfl ?_
  refine tj_dup_x1 dJ4_fastRemove_37 rfl (rf_cat _) ?_
  refine tj_put fl_J4_48 rfl rfl dJ4_fastRemove_38 (fun σ => ?_)
  refine tj_null dJ4_fastRemove_41 ?_
  refine tj_aast dJ4_fastRemove_42 (fun σ => ?_)
  exact tj_vret dJ4_fastRemove_43
theorem tj_J4_fastRemove_B0 {E : tj_E} {X : tj_X} {n0 s0 : Nat} (d : Nat) (v0 : Option Nat) (v1 : Option Nat) (v2 : Int32) (σ : hp_S) : tj_T E X RJ4 "fastRemove" cJ4_fastRemove 4 none (d + 1) [] n0 s0 em_v σ 0 [some (va_rf v0), some (va_rf v1), some (.int v2), none] [] (fn_J4_fastRemove_B0 d v0 v1 v2) := by
  unfold fn_J4_fastRemove_B0
  refine tj_aload_n dJ4_fastRemove_0 rfl ?_
  refine tj_dup dJ4_fastRemove_1 (rf_cat _) ?_
  refine tj_getI fl_J4_63 dJ4_fastRemove_2 (fun v101 => ?_)
  refine tj_iconst (1 : Int32) dJ4_fastRemove_5 rfl ?_
  refine tj_iadd dJ4_fastRemove_6 ?_
  refine tj_put fl_J4_63 rfl rfl dJ4_fastRemove_7 (fun σ => ?_)
  refine tj_aload_n dJ4_fastRemove_10 rfl ?_
  refine tj_getI fl_J4_48 dJ4_fastRemove_11 (fun v102 => ?_)
  refine tj_iconst (1 : Int32) dJ4_fastRemove_14 rfl ?_
  refine tj_isub dJ4_fastRemove_15 ?_
  refine tj_topi (fun v103 => ?_)
  refine tj_dup dJ4_fastRemove_16 rfl ?_
  refine tj_istore_n dJ4_fastRemove_17 (by decide) rfl [some (va_rf v0), some (va_rf v1), some (.int v2), some (.int v103)] rfl ?_
  refine tj_iload_n dJ4_fastRemove_18 rfl ?_
  refine tj_icmp_le 34 dJ4_fastRemove_19 rfl (fun _ => ?_) (fun _ => ?_)
  · refine tj_wk (L' := [some (va_rf v0), some (va_rf v1), none, some (.int v103)]) ⟨rfl, rfl, rfl, trivial⟩ ?_
    exact tj_J4_fastRemove_J34 d v0 v1 v103 _
  · refine tj_aload_n dJ4_fastRemove_22 rfl ?_
    refine tj_iload_n dJ4_fastRemove_23 rfl ?_
    refine tj_iconst (1 : Int32) dJ4_fastRemove_24 rfl ?_
    refine tj_iadd dJ4_fastRemove_25 ?_
    refine tj_aload_n dJ4_fastRemove_26 rfl ?_
    refine tj_iload_n dJ4_fastRemove_27 rfl ?_
    refine tj_iload_n dJ4_fastRemove_28 rfl ?_
    refine tj_iload_n dJ4_fastRemove_29 rfl ?_
    refine tj_isub dJ4_fastRemove_30 ?_
    refine tj_copy104 q2171 (by decide) dJ4_fastRemove_31 (fun σ => ?_)
    refine tj_wk (L' := [some (va_rf v0), some (va_rf v1), none, some (.int v103)]) ⟨rfl, rfl, rfl, trivial⟩ ?_
    exact tj_J4_fastRemove_J34 d v0 v1 v103 _
theorem ct_J4_fastRemove : ∀ (d : Nat) (v0 : Option Nat) (v1 : Option Nat) (v2 : Int32), ct_ yJ4_fastRemove (ws_ yJ4_fastRemove cJ4_fastRemove 4 none) d em_v [va_rf v0, va_rf v1, .int v2] (fn_J4_fastRemove d v0 v1 v2)
  | 0, _, _, _ => ct_fail
  | d + 1, v0, v1, v2 => ct_of [(false, va_rf v0), (false, va_rf v1), (false, .int v2)] [some (va_rf v0), some (va_rf v1), some (.int v2), none] (by decide) rfl ⟨rfl, (rf_cat _), ⟨rfl, (rf_cat _), ⟨rfl, rfl, trivial⟩⟩⟩ (fun E X n0 s0 σ => tj_J4_fastRemove_B0 d v0 v1 v2 σ)
theorem tj_J4_remove_B0 {E : tj_E} {X : tj_X} {n0 s0 : Nat} (d : Nat) (v0 : Option Nat) (v1 : Int32) (σ : hp_S) : tj_T E X RJ4 "remove" cJ4_remove 4 (some (.object "java/lang/Object")) (d + 1) [] n0 s0 em_r σ 0 [some (va_rf v0), some (.int v1), none, none] [] (fn_J4_remove_B0 d v0 v1) := by
  unfold fn_J4_remove_B0
  refine tj_iload_n dJ4_remove_0 rfl ?_
  refine tj_aload_n dJ4_remove_1 rfl ?_
  refine tj_getI fl_J4_48 dJ4_remove_2 (fun v101 => ?_)
  refine tj_callS (as := [.int v1, .int v101]) (rest := []) (st' := (fun r => [.int r])) (ct_J37_checkIndex d v1 v101) q1122 q1123 q139 q1124 md_J37_checkIndex rfl (by decide) rfl (by decide) dJ4_remove_5 (fun _ => rfl) (fun r102 σ => ?_) (by decide)
  refine tj_pop dJ4_remove_8 rfl ?_
  refine tj_aload_n dJ4_remove_9 rfl ?_
  refine tj_getR fl_J4_9 dJ4_remove_10 (fun v103 => ?_)
  refine tj_astore_n dJ4_remove_13 (by decide) rfl [some (va_rf v0), some (.int v1), some (va_rf v103), none] rfl ?_
  refine tj_aload_n dJ4_remove_14 rfl ?_
  refine tj_iload_n dJ4_remove_15 rfl ?_
  refine tj_aald dJ4_remove_16 (fun v104 => ?_)
  refine tj_astore_n dJ4_remove_17 (by decide) (rf_cat _) [some (va_rf v0), some (.int v1), some (va_rf v103), some (va_rf v104)] rfl ?_
  refine tj_aload_n dJ4_remove_18 rfl ?_
  refine tj_aload_n dJ4_remove_19 rfl ?_
  refine tj_iload_n dJ4_remove_20 rfl ?_
  refine tj_callV (as := [va_rf v103, .int v1]) (rest := []) (st' := (fun _ => [])) (t := 16) (fun a e => by cases e; exact ct_J4_fastRemove d _ _ _) (by decide) rfl q2235 q2237 qs22 q103 q2238 rfl md_J4_fastRemove rfl (by decide) rfl (by decide) dJ4_remove_21 (fun _ => rfl) (fun _ σ => ?_) (by decide)
  refine tj_aload_n dJ4_remove_24 rfl ?_
  exact tj_aret (Or.inl ⟨_, rfl⟩) dJ4_remove_25
theorem ct_J4_remove : ∀ (d : Nat) (v0 : Option Nat) (v1 : Int32), ct_ yJ4_remove (ws_ yJ4_remove cJ4_remove 4 (some (.object "java/lang/Object"))) d em_r [va_rf v0, .int v1] (fn_J4_remove d v0 v1)
  | 0, _, _ => ct_fail
  | d + 1, v0, v1 => ct_of [(false, va_rf v0), (false, .int v1)] [some (va_rf v0), some (.int v1), none, none] (by decide) rfl ⟨rfl, (rf_cat _), ⟨rfl, rfl, trivial⟩⟩ (fun E X n0 s0 σ => tj_J4_remove_B0 d v0 v1 σ)
theorem tj_J14_remove_B0 {E : tj_E} {X : tj_X} {n0 s0 : Nat} (d : Nat) (v0 : Option Nat) (σ : hp_S) : tj_T E X RJ14 "remove" cJ14_remove 2 none (d + 1) [(19, 55, 58, 51)] n0 s0 em_v σ 0 [some (va_rf v0), none] [] (fn_J14_remove_B0 d v0) := by
  unfold fn_J14_remove_B0
  refine tj_aload_n dJ14_remove_0 rfl ?_
  refine tj_getI fl_J14_13 dJ14_remove_1 (fun v101 => ?_)
  refine tj_if_ge 15 dJ14_remove_4 rfl (fun _ => ?_) (fun _ => ?_)
  · refine tj_aload_n dJ14_remove_15 rfl ?_
    refine tj_callV (as := []) (rest := []) (st' := (fun _ => [])) (t := 17) (fun a e => by cases e; exact ct_J14_checkForComodification d _) (by decide) rfl q1304 q1305 q1306 q114 q1309 rfl md_J14_checkForComodification rfl (by decide) rfl (by decide) dJ14_remove_16 (fun _ => rfl) (fun _ σ => ?_) (by decide)
    refine tj_aload_n dJ14_remove_19 rfl ?_
    refine tj_getR fl_J14_1r dJ14_remove_20 (fun v102 => ?_)
    refine tj_aload_n dJ14_remove_23 rfl ?_
    refine tj_getI fl_J14_13 dJ14_remove_24 (fun v103 => ?_)
    refine tj_tryV (as := [.int v103]) (rest := []) (st' := (fun r => [va_rf r])) (t := 16) (fun a e => by cases e; exact ct_J4_remove d _ _) (by decide) rfl q2285 q2233 q4339 q103 q2234 rfl md_J4_remove rfl (by decide) rfl (by decide) dJ14_remove_27 (fun _ => rfl) (fun r104 σ => ?_) (fun q105 σ => ?_)
    · refine tj_pop dJ14_remove_30 (rf_cat _) ?_
      refine tj_aload_n dJ14_remove_31 rfl ?_
      refine tj_aload_n dJ14_remove_32 rfl ?_
      refine tj_getI fl_J14_13 dJ14_remove_33 (fun v106 => ?_)
      refine tj_put fl_J14_25 rfl rfl dJ14_remove_36 (fun σ => ?_)
      refine tj_aload_n dJ14_remove_39 rfl ?_
      refine tj_iconst (-1 : Int32) dJ14_remove_40 rfl ?_
      refine tj_put fl_J14_13 rfl rfl dJ14_remove_41 (fun σ => ?_)
      refine tj_aload_n dJ14_remove_44 rfl ?_
      refine tj_aload_n dJ14_remove_45 rfl ?_
      refine tj_getR fl_J14_1r dJ14_remove_46 (fun v107 => ?_)
      refine tj_getI fl_J14_17 dJ14_remove_49 (fun v108 => ?_)
      refine tj_put fl_J14_22 rfl rfl dJ14_remove_52 (fun σ => ?_)
      refine tj_goto 67 dJ14_remove_55 rfl ?_
      exact tj_vret dJ14_remove_67
    · exact tj_xfail
  · exact tj_fail
theorem ct_J14_remove : ∀ (d : Nat) (v0 : Option Nat), ct_ yJ14_remove (wsW_ yJ14_remove cJ14_remove 2 none [(19, 55, 58, 51)]) d em_v [va_rf v0] (fn_J14_remove d v0)
  | 0, _ => ct_fail
  | d + 1, v0 => ct_ofH [(false, va_rf v0)] [some (va_rf v0), none] (by decide) rfl ⟨rfl, (rf_cat _), trivial⟩ (fun E X n0 s0 σ => tj_J14_remove_B0 d v0 σ)
theorem tj_X2_purge_L72_b {E : tj_E} {X : tj_X} {n0 s0 : Nat} (d : Nat) {b72 : Option Nat → Int32 → Option Nat → mx_M Int32} (h72 : ∀ (l0 : Option Nat) (l2 : Int32) (l4 : Option Nat) (σ : hp_S), tj_T E X RX2 "purge" cX2_purge 6 (some .int) (d + 1) [] n0 s0 em_i σ 72 [some (va_rf l0), none, some (.int l2), none, some (va_rf l4), none] [] (b72 l0 l2 l4)) (l0 : Option Nat) (l2 : Int32) (l4 : Option Nat) (σ : hp_S) : tj_T E X RX2 "purge" cX2_purge 6 (some .int) (d + 1) [] n0 s0 em_i σ 72 [some (va_rf l0), none, some (.int l2), none, some (va_rf l4), none] [] (fn_X2_purge_L72_b d b72 l0 l2 l4) := by
  unfold fn_X2_purge_L72_b
  refine tj_aload dX2_purge_72 rfl ?_
  refine tj_callF (as := []) (rest := []) (st' := (fun r => [.int r])) (t := 17) (fun a e => by cases e; exact ct_J14_hasNext d _) (by decide) rfl q1036 q1060 q1062 q114 q1064 (ev_i 1 rfl) q1063 q1061 q1059 md_i1 rfl (by decide) rfl (by decide) dX2_purge_74 (fun _ => rfl) (fun r101 σ => ?_) (by decide)
  refine tj_if_eq 103 dX2_purge_79 rfl (fun _ => ?_) (fun _ => ?_)
  · refine tj_aload_n dX2_purge_103 rfl ?_
    refine tj_dup dX2_purge_104 (rf_cat _) ?_
    refine tj_getI fl_X2_79 dX2_purge_105 (fun v102 => ?_)
    refine tj_iload_n dX2_purge_108 rfl ?_
    refine tj_iadd dX2_purge_109 ?_
    refine tj_put fl_X2_79 rfl rfl dX2_purge_110 (fun σ => ?_)
    refine tj_iload_n dX2_purge_113 rfl ?_
    exact tj_iret dX2_purge_114
  · refine tj_aload dX2_purge_82 rfl ?_
    refine tj_callF (as := []) (rest := []) (st' := (fun r => [va_rf r])) (t := 17) (fun a e => by cases e; exact ct_J14_next d _) (by decide) rfl q1103 q1299 q1301 q114 q1303 (ev_i 2 rfl) q1302 q1300 q1059 md_i2 rfl (by decide) rfl (by decide) dX2_purge_84 (fun _ => rfl) (fun r103 σ => ?_) (by decide)
    refine tj_cast (nm := "LionGate$Ticket") q2033 ca_LionGate_Ticket dX2_purge_89 ?_
    refine tj_astore dX2_purge_92 (by decide) (rf_cat _) [some (va_rf l0), none, some (.int l2), none, some (va_rf l4), some (va_rf r103)] rfl ?_
    refine tj_aload_n dX2_purge_94 rfl ?_
    refine tj_aload dX2_purge_95 rfl ?_
    refine tj_callV (as := [va_rf r103]) (rest := []) (st' := (fun _ => [])) (t := 2) (fun a e => by cases e; exact ct_X2_put d _ _) (by decide) rfl q2376 q2378 qs27 q97 q2379 rfl md_X2_put rfl (by decide) rfl (by decide) dX2_purge_97 (fun _ => rfl) (fun _ σ => ?_) (by decide)
    refine tj_goto 72 dX2_purge_100 rfl ?_
    refine tj_wk (L' := [some (va_rf l0), none, some (.int l2), none, some (va_rf l4), none]) ⟨rfl, rfl, rfl, trivial⟩ ?_
    exact h72 l0 l2 l4 _
theorem tj_X2_purge_L72 {E : tj_E} {X : tj_X} {n0 s0 : Nat} (d : Nat) : ∀ (k : Nat) (l0 : Option Nat) (l2 : Int32) (l4 : Option Nat) (σ : hp_S), tj_T E X RX2 "purge" cX2_purge 6 (some .int) (d + 1) [] n0 s0 em_i σ 72 [some (va_rf l0), none, some (.int l2), none, some (va_rf l4), none] [] (fn_X2_purge_L72 d k l0 l2 l4) := by
  intro k
  induction k with
  | zero =>
    intro l0 l2 l4 σ
    exact tj_fail
  | succ k ih =>
    intro l0 l2 l4 σ
    exact tj_X2_purge_L72_b d ih l0 l2 l4 σ
theorem tj_X2_purge_L17_b {E : tj_E} {X : tj_X} {n0 s0 : Nat} (d : Nat) {b17 : Option Nat → Option Nat → Int32 → Option Nat → mx_M Int32} (h17 : ∀ (l0 : Option Nat) (l1 : Option Nat) (l2 : Int32) (l3 : Option Nat) (σ : hp_S), tj_T E X RX2 "purge" cX2_purge 6 (some .int) (d + 1) [] n0 s0 em_i σ 17 [some (va_rf l0), some (va_rf l1), some (.int l2), some (va_rf l3), none, none] [] (b17 l0 l1 l2 l3)) (l0 : Option Nat) (l1 : Option Nat) (l2 : Int32) (l3 : Option Nat) (σ : hp_S) : tj_T E X RX2 "purge" cX2_purge 6 (some .int) (d + 1) [] n0 s0 em_i σ 17 [some (va_rf l0), some (va_rf l1), some (.int l2), some (va_rf l3), none, none] [] (fn_X2_purge_L17_b d b17 l0 l1 l2 l3) := by
  unfold fn_X2_purge_L17_b
  refine tj_aload_n dX2_purge_17 rfl ?_
  refine tj_callF (as := []) (rest := []) (st' := (fun r => [.int r])) (t := 17) (fun a e => by cases e; exact ct_J14_hasNext d _) (by decide) rfl q1036 q1060 q1062 q114 q1064 (ev_i 1 rfl) q1063 q1061 q1059 md_i1 rfl (by decide) rfl (by decide) dX2_purge_18 (fun _ => rfl) (fun r101 σ => ?_) (by decide)
  refine tj_if_eq 54 dX2_purge_23 rfl (fun _ => ?_) (fun _ => ?_)
  · refine tj_aload_n dX2_purge_54 rfl ?_
    refine tj_null dX2_purge_55 ?_
    refine tj_put fl_X2_66 (nar_rf _) (fit_rf _) dX2_purge_56 (fun σ => ?_)
    refine tj_aload_n dX2_purge_59 rfl ?_
    refine tj_iconst (0 : Int32) dX2_purge_60 rfl ?_
    refine tj_put fl_X2_70 rfl rfl dX2_purge_61 (fun σ => ?_)
    refine tj_aload_n dX2_purge_64 rfl ?_
    refine tj_callF (as := []) (rest := []) (st' := (fun r => [va_rf r])) (t := 16) (fun a e => by cases e; exact ct_J4_iterator d _) (by decide) rfl q2190 q1764 q466 q103 q468 (ev_i 6 rfl) q467 q465 q1323 md_i6 rfl (by decide) rfl (by decide) dX2_purge_65 (fun _ => rfl) (fun r102 σ => ?_) (by decide)
    refine tj_astore dX2_purge_70 (by decide) (rf_cat _) [some (va_rf l0), some (va_rf l1), some (.int l2), some (va_rf l3), some (va_rf r102), none] rfl ?_
    refine tj_wk (L' := [some (va_rf l0), none, some (.int l2), none, some (va_rf r102), none]) ⟨rfl, rfl, rfl, trivial⟩ ?_
    exact tj_X2_purge_L72 d mx_K l0 l2 r102 _
  · refine tj_aload_n dX2_purge_26 rfl ?_
    refine tj_aload_n dX2_purge_27 rfl ?_
    refine tj_callF (as := []) (rest := [va_rf l0]) (st' := (fun r => [va_rf r, va_rf l0])) (t := 17) (fun a e => by cases e; exact ct_J14_next d _) (by decide) rfl q1103 q1299 q1301 q114 q1303 (ev_i 2 rfl) q1302 q1300 q1059 md_i2 rfl (by decide) rfl (by simp [rf_cat, cat_i, cat_l, cat_f, cat_d]) dX2_purge_28 (fun _ => rfl) (fun r103 σ => ?_) (by decide)
    refine tj_cast (nm := "LionGate$Ticket") q2033 ca_LionGate_Ticket dX2_purge_33 ?_
    refine tj_callV (as := [va_rf r103]) (rest := []) (st' := (fun r => [.int r])) (t := 2) (fun a e => by cases e; exact ct_X2_isValid d _ _) (by decide) rfl q2191 q2192 q2193 q97 q2194 rfl md_X2_isValid rfl (by decide) rfl (by decide) dX2_purge_36 (fun _ => rfl) (fun r104 σ => ?_) (by decide)
    refine tj_if_ne 17 dX2_purge_39 rfl (fun _ => ?_) (fun _ => ?_)
    · refine tj_aload_n dX2_purge_42 rfl ?_
      refine tj_callFX (as := []) (rest := []) (st' := (fun _ => [])) (t := 17) (fun a e => by cases e; exact ct_J14_remove d _) (by decide) rfl q2216 q2278 q2280 q114 q2282 (ev_i 11 rfl) q2281 q2279 q1059 md_i11 rfl (by decide) rfl (by decide) dX2_purge_43 (fun _ => rfl) (fun _ σ => ?_) (by decide)
      refine tj_iinc (1 : Int32) dX2_purge_48 rfl rfl (by decide) (rf_cat _) [some (va_rf l0), some (va_rf l1), some (.int (l2 + (1 : Int32))), some (va_rf l3), none, none] rfl ?_
      refine tj_goto 17 dX2_purge_51 rfl ?_
      exact h17 l0 l1 _ l3 _
    · exact h17 l0 l1 l2 l3 _
theorem tj_X2_purge_L17 {E : tj_E} {X : tj_X} {n0 s0 : Nat} (d : Nat) : ∀ (k : Nat) (l0 : Option Nat) (l1 : Option Nat) (l2 : Int32) (l3 : Option Nat) (σ : hp_S), tj_T E X RX2 "purge" cX2_purge 6 (some .int) (d + 1) [] n0 s0 em_i σ 17 [some (va_rf l0), some (va_rf l1), some (.int l2), some (va_rf l3), none, none] [] (fn_X2_purge_L17 d k l0 l1 l2 l3) := by
  intro k
  induction k with
  | zero =>
    intro l0 l1 l2 l3 σ
    exact tj_fail
  | succ k ih =>
    intro l0 l1 l2 l3 σ
    exact tj_X2_purge_L17_b d ih l0 l1 l2 l3 σ
theorem tj_X2_purge_B0 {E : tj_E} {X : tj_X} {n0 s0 : Nat} (d : Nat) (v0 : Option Nat) (σ : hp_S) : tj_T E X RX2 "purge" cX2_purge 6 (some .int) (d + 1) [] n0 s0 em_i σ 0 [some (va_rf v0), none, none, none, none, none] [] (fn_X2_purge_B0 d v0) := by
  unfold fn_X2_purge_B0
  refine tj_aload_n dX2_purge_0 rfl ?_
  refine tj_getR fl_X2_66 dX2_purge_1 (fun v101 => ?_)
  refine tj_callSN (as := [va_rf v101]) (rest := []) (st' := (fun r => [va_rf r])) (ct_X1_inOrder d v101) q2064 q2065 q96 q2066 md_X1_inOrder rfl (by decide) rfl (by decide) dX2_purge_4 (fun _ => rfl) (fun r102 σ => ?_) (by decide)
  refine tj_astore_n dX2_purge_7 (by decide) (rf_cat _) [some (va_rf v0), some (va_rf r102), none, none, none, none] rfl ?_
  refine tj_iconst (0 : Int32) dX2_purge_8 rfl ?_
  refine tj_istore_n dX2_purge_9 (by decide) (rf_cat _) [some (va_rf v0), some (va_rf r102), some (.int (0 : Int32)), none, none, none] rfl ?_
  refine tj_aload_n dX2_purge_10 rfl ?_
  refine tj_callF (as := []) (rest := []) (st' := (fun r => [va_rf r])) (t := 16) (fun a e => by cases e; exact ct_J4_iterator d _) (by decide) rfl q2190 q1764 q466 q103 q468 (ev_i 6 rfl) q467 q465 q1323 md_i6 rfl (by decide) rfl (by decide) dX2_purge_11 (fun _ => rfl) (fun r103 σ => ?_) (by decide)
  refine tj_astore_n dX2_purge_16 (by decide) rfl [some (va_rf v0), some (va_rf r102), some (.int (0 : Int32)), some (va_rf r103), none, none] rfl ?_
  exact tj_X2_purge_L17 d mx_K v0 r102 (0 : Int32) r103 _
theorem ct_X2_purge : ∀ (d : Nat) (v0 : Option Nat), ct_ yX2_purge (ws_ yX2_purge cX2_purge 6 (some .int)) d em_i [va_rf v0] (fn_X2_purge d v0)
  | 0, _ => ct_fail
  | d + 1, v0 => ct_of [(false, va_rf v0)] [some (va_rf v0), none, none, none, none, none] (by decide) rfl ⟨rfl, (rf_cat _), trivial⟩ (fun E X n0 s0 σ => tj_X2_purge_B0 d v0 σ)
theorem tj_X9_init_B0 {E : tj_E} {X : tj_X} {n0 s0 : Nat} (d : Nat) (v0 : Option Nat) (v1 : Int32) (v2 : Int32) (v3 : Int32) (σ : hp_S) : tj_T E X RX9 "<init>" cX9_init 4 none (d + 1) [] n0 s0 em_v σ 0 [some (va_rf v0), some (.int v1), some (.int v2), some (.int v3)] [] (fn_X9_init_B0 d v0 v1 v2 v3) := by
  unfold fn_X9_init_B0
  refine tj_aload_n dX9_init_0 rfl ?_
  refine tj_objInit q2038 q183 q184 (by decide) dX9_init_1 (fun _ _ => ?_)
  refine tj_aload_n dX9_init_4 rfl ?_
  refine tj_iload_n dX9_init_5 rfl ?_
  refine tj_putF fl_X9_7 rfl rfl dX9_init_6 (fun σ => ?_)
  refine tj_aload_n dX9_init_9 rfl ?_
  refine tj_iload_n dX9_init_10 rfl ?_
  refine tj_putF fl_X9_13 rfl rfl dX9_init_11 (fun σ => ?_)
  refine tj_aload_n dX9_init_14 rfl ?_
  refine tj_iload_n dX9_init_15 rfl ?_
  refine tj_putF fl_X9_16 rfl rfl dX9_init_16 (fun σ => ?_)
  exact tj_vret dX9_init_19
theorem ct_X9_init : ∀ (d : Nat) (v0 : Option Nat) (v1 : Int32) (v2 : Int32) (v3 : Int32), ct_ yX9_init (ws_ yX9_init cX9_init 4 none) d em_v [va_rf v0, .int v1, .int v2, .int v3] (fn_X9_init d v0 v1 v2 v3)
  | 0, _, _, _, _ => ct_fail
  | d + 1, v0, v1, v2, v3 => ct_of [(false, va_rf v0), (false, .int v1), (false, .int v2), (false, .int v3)] [some (va_rf v0), some (.int v1), some (.int v2), some (.int v3)] (by decide) rfl ⟨rfl, (rf_cat _), ⟨rfl, rfl, ⟨rfl, rfl, ⟨rfl, rfl, trivial⟩⟩⟩⟩ (fun E X n0 s0 σ => tj_X9_init_B0 d v0 v1 v2 v3 σ)
theorem tj_J1_colorOf_B0 {E : tj_E} {X : tj_X} {n0 s0 : Nat} (d : Nat) (v0 : Option Nat) (σ : hp_S) : tj_T E X RJ1 "colorOf" cJ1_colorOf 1 (some .boolean) (d + 1) [] n0 s0 em_i σ 0 [some (va_rf v0)] [] (fn_J1_colorOf_B0 d v0) := by
  unfold fn_J1_colorOf_B0
  refine tj_aload_n dJ1_colorOf_0 rfl ?_
  refine tj_ifnonnull 8 dJ1_colorOf_1 rfl (fun _ => ?_) (fun _ _ => ?_)
  · refine tj_iconst (1 : Int32) dJ1_colorOf_4 rfl ?_
    refine tj_goto 12 dJ1_colorOf_5 rfl ?_
    exact tj_zpure rfl dJ1_colorOf_12
  · refine tj_aload_n dJ1_colorOf_8 rfl ?_
    refine tj_getI fl_J1_290 dJ1_colorOf_9 (fun v101 => ?_)
    exact tj_zret dJ1_colorOf_12
theorem ct_J1_colorOf : ∀ (d : Nat) (v0 : Option Nat), ct_ yJ1_colorOf (ws_ yJ1_colorOf cJ1_colorOf 1 (some .boolean)) d em_i [va_rf v0] (fn_J1_colorOf d v0)
  | 0, _ => ct_fail
  | d + 1, v0 => ct_of [(false, va_rf v0)] [some (va_rf v0)] (by decide) rfl ⟨rfl, (rf_cat _), trivial⟩ (fun E X n0 s0 σ => tj_J1_colorOf_B0 d v0 σ)
theorem tj_J1_leftOf_B0 {E : tj_E} {X : tj_X} {n0 s0 : Nat} (d : Nat) (v0 : Option Nat) (σ : hp_S) : tj_T E X RJ1 "leftOf" cJ1_leftOf 1 (some (.object "java/util/TreeMap$Entry")) (d + 1) [] n0 s0 em_r σ 0 [some (va_rf v0)] [] (fn_J1_leftOf_B0 d v0) := by
  unfold fn_J1_leftOf_B0
  refine tj_aload_n dJ1_leftOf_0 rfl ?_
  refine tj_ifnonnull 8 dJ1_leftOf_1 rfl (fun _ => ?_) (fun _ _ => ?_)
  · refine tj_null dJ1_leftOf_4 ?_
    refine tj_goto 12 dJ1_leftOf_5 rfl ?_
    exact tj_aret (Or.inl ⟨_, rfl⟩) dJ1_leftOf_12
  · refine tj_aload_n dJ1_leftOf_8 rfl ?_
    refine tj_getR fl_J1_111 dJ1_leftOf_9 (fun v101 => ?_)
    exact tj_aret (Or.inl ⟨_, rfl⟩) dJ1_leftOf_12
theorem ct_J1_leftOf : ∀ (d : Nat) (v0 : Option Nat), ct_ yJ1_leftOf (ws_ yJ1_leftOf cJ1_leftOf 1 (some (.object "java/util/TreeMap$Entry"))) d em_r [va_rf v0] (fn_J1_leftOf d v0)
  | 0, _ => ct_fail
  | d + 1, v0 => ct_of [(false, va_rf v0)] [some (va_rf v0)] (by decide) rfl ⟨rfl, (rf_cat _), trivial⟩ (fun E X n0 s0 σ => tj_J1_leftOf_B0 d v0 σ)
theorem tj_J1_parentOf_B0 {E : tj_E} {X : tj_X} {n0 s0 : Nat} (d : Nat) (v0 : Option Nat) (σ : hp_S) : tj_T E X RJ1 "parentOf" cJ1_parentOf 1 (some (.object "java/util/TreeMap$Entry")) (d + 1) [] n0 s0 em_r σ 0 [some (va_rf v0)] [] (fn_J1_parentOf_B0 d v0) := by
  unfold fn_J1_parentOf_B0
  refine tj_aload_n dJ1_parentOf_0 rfl ?_
  refine tj_ifnonnull 8 dJ1_parentOf_1 rfl (fun _ => ?_) (fun _ _ => ?_)
  · refine tj_null dJ1_parentOf_4 ?_
    refine tj_goto 12 dJ1_parentOf_5 rfl ?_
    exact tj_aret (Or.inl ⟨_, rfl⟩) dJ1_parentOf_12
  · refine tj_aload_n dJ1_parentOf_8 rfl ?_
    refine tj_getR fl_J1_124 dJ1_parentOf_9 (fun v101 => ?_)
    exact tj_aret (Or.inl ⟨_, rfl⟩) dJ1_parentOf_12
theorem ct_J1_parentOf : ∀ (d : Nat) (v0 : Option Nat), ct_ yJ1_parentOf (ws_ yJ1_parentOf cJ1_parentOf 1 (some (.object "java/util/TreeMap$Entry"))) d em_r [va_rf v0] (fn_J1_parentOf d v0)
  | 0, _ => ct_fail
  | d + 1, v0 => ct_of [(false, va_rf v0)] [some (va_rf v0)] (by decide) rfl ⟨rfl, (rf_cat _), trivial⟩ (fun E X n0 s0 σ => tj_J1_parentOf_B0 d v0 σ)
theorem tj_J1_rightOf_B0 {E : tj_E} {X : tj_X} {n0 s0 : Nat} (d : Nat) (v0 : Option Nat) (σ : hp_S) : tj_T E X RJ1 "rightOf" cJ1_rightOf 1 (some (.object "java/util/TreeMap$Entry")) (d + 1) [] n0 s0 em_r σ 0 [some (va_rf v0)] [] (fn_J1_rightOf_B0 d v0) := by
  unfold fn_J1_rightOf_B0
  refine tj_aload_n dJ1_rightOf_0 rfl ?_
  refine tj_ifnonnull 8 dJ1_rightOf_1 rfl (fun _ => ?_) (fun _ _ => ?_)
  · refine tj_null dJ1_rightOf_4 ?_
    refine tj_goto 12 dJ1_rightOf_5 rfl ?_
    exact tj_aret (Or.inl ⟨_, rfl⟩) dJ1_rightOf_12
  · refine tj_aload_n dJ1_rightOf_8 rfl ?_
    refine tj_getR fl_J1_114 dJ1_rightOf_9 (fun v101 => ?_)
    exact tj_aret (Or.inl ⟨_, rfl⟩) dJ1_rightOf_12
theorem ct_J1_rightOf : ∀ (d : Nat) (v0 : Option Nat), ct_ yJ1_rightOf (ws_ yJ1_rightOf cJ1_rightOf 1 (some (.object "java/util/TreeMap$Entry"))) d em_r [va_rf v0] (fn_J1_rightOf d v0)
  | 0, _ => ct_fail
  | d + 1, v0 => ct_of [(false, va_rf v0)] [some (va_rf v0)] (by decide) rfl ⟨rfl, (rf_cat _), trivial⟩ (fun E X n0 s0 σ => tj_J1_rightOf_B0 d v0 σ)
theorem tj_J1_rotateLeft_J85 {E : tj_E} {X : tj_X} {n0 s0 : Nat} (d : Nat) (l1 : Option Nat) (l2 : Option Nat) (σ : hp_S) : tj_T E X RJ1 "rotateLeft" cJ1_rotateLeft 3 none (d + 1) [] n0 s0 em_v σ 85 [none, some (va_rf l1), some (va_rf l2)] [] (fn_J1_rotateLeft_J85 d l1 l2) := by
  unfold fn_J1_rotateLeft_J85
  refine tj_aload_n dJ1_rotateLeft_85 rfl ?_
  refine tj_aload_n dJ1_rotateLeft_86 rfl ?_
  refine tj_put fl_J1_111 (nar_rf _) (fit_rf _) dJ1_rotateLeft_87 (fun σ => ?_)
  refine tj_aload_n dJ1_rotateLeft_90 rfl ?_
  refine tj_aload_n dJ1_rotateLeft_91 rfl ?_
  refine tj_put fl_J1_124 (nar_rf _) (fit_rf _) dJ1_rotateLeft_92 (fun σ => ?_)
  exact tj_vret dJ1_rotateLeft_95
theorem tj_J1_rotateLeft_J32 {E : tj_E} {X : tj_X} {n0 s0 : Nat} (d : Nat) (l0 : Option Nat) (l1 : Option Nat) (l2 : Option Nat) (σ : hp_S) : tj_T E X RJ1 "rotateLeft" cJ1_rotateLeft 3 none (d + 1) [] n0 s0 em_v σ 32 [some (va_rf l0), some (va_rf l1), some (va_rf l2)] [] (fn_J1_rotateLeft_J32 d l0 l1 l2) := by
  unfold fn_J1_rotateLeft_J32
  refine tj_aload_n dJ1_rotateLeft_32 rfl ?_
  refine tj_aload_n dJ1_rotateLeft_33 rfl ?_
  refine tj_getR fl_J1_124 dJ1_rotateLeft_34 (fun v101 => ?_)
  refine tj_put fl_J1_124 (nar_rf _) (fit_rf _) dJ1_rotateLeft_37 (fun σ => ?_)
  refine tj_aload_n dJ1_rotateLeft_40 rfl ?_
  refine tj_getR fl_J1_124 dJ1_rotateLeft_41 (fun v102 => ?_)
  refine tj_ifnonnull 55 dJ1_rotateLeft_44 rfl (fun _ => ?_) (fun _ _ => ?_)
  · refine tj_aload_n dJ1_rotateLeft_47 rfl ?_
    refine tj_aload_n dJ1_rotateLeft_48 rfl ?_
    refine tj_put fl_J1_101 (nar_rf _) (fit_rf _) dJ1_rotateLeft_49 (fun σ => ?_)
    refine tj_goto 85 dJ1_rotateLeft_52 rfl ?_
    refine tj_wk (L' := [none, some (va_rf l1), some (va_rf l2)]) ⟨rfl, rfl, trivial⟩ ?_
    exact tj_J1_rotateLeft_J85 d l1 l2 _
  · refine tj_aload_n dJ1_rotateLeft_55 rfl ?_
    refine tj_getR fl_J1_124 dJ1_rotateLeft_56 (fun v103 => ?_)
    refine tj_getR fl_J1_111 dJ1_rotateLeft_59 (fun v104 => ?_)
    refine tj_aload_n dJ1_rotateLeft_62 rfl ?_
    refine tj_acmp_ne 77 dJ1_rotateLeft_63 rfl (fun _ => ?_) (fun _ => ?_)
    · refine tj_aload_n dJ1_rotateLeft_66 rfl ?_
      refine tj_getR fl_J1_124 dJ1_rotateLeft_67 (fun v105 => ?_)
      refine tj_aload_n dJ1_rotateLeft_70 rfl ?_
      refine tj_put fl_J1_111 (nar_rf _) (fit_rf _) dJ1_rotateLeft_71 (fun σ => ?_)
      refine tj_goto 85 dJ1_rotateLeft_74 rfl ?_
      refine tj_wk (L' := [none, some (va_rf l1), some (va_rf l2)]) ⟨rfl, rfl, trivial⟩ ?_
      exact tj_J1_rotateLeft_J85 d l1 l2 _
    · refine tj_aload_n dJ1_rotateLeft_77 rfl ?_
      refine tj_getR fl_J1_124 dJ1_rotateLeft_78 (fun v106 => ?_)
      refine tj_aload_n dJ1_rotateLeft_81 rfl ?_
      refine tj_put fl_J1_114 (nar_rf _) (fit_rf _) dJ1_rotateLeft_82 (fun σ => ?_)
      refine tj_wk (L' := [none, some (va_rf l1), some (va_rf l2)]) ⟨rfl, rfl, trivial⟩ ?_
      exact tj_J1_rotateLeft_J85 d l1 l2 _
theorem tj_J1_rotateLeft_B0 {E : tj_E} {X : tj_X} {n0 s0 : Nat} (d : Nat) (v0 : Option Nat) (v1 : Option Nat) (σ : hp_S) : tj_T E X RJ1 "rotateLeft" cJ1_rotateLeft 3 none (d + 1) [] n0 s0 em_v σ 0 [some (va_rf v0), some (va_rf v1), none] [] (fn_J1_rotateLeft_B0 d v0 v1) := by
  unfold fn_J1_rotateLeft_B0
  refine tj_aload_n dJ1_rotateLeft_0 rfl ?_
  refine tj_ifnull 95 dJ1_rotateLeft_1 rfl (fun _ => ?_) (fun _ _ => ?_)
  · exact tj_vret dJ1_rotateLeft_95
  · refine tj_aload_n dJ1_rotateLeft_4 rfl ?_
    refine tj_getR fl_J1_114 dJ1_rotateLeft_5 (fun v101 => ?_)
    refine tj_astore_n dJ1_rotateLeft_8 (by decide) (rf_cat _) [some (va_rf v0), some (va_rf v1), some (va_rf v101)] rfl ?_
    refine tj_aload_n dJ1_rotateLeft_9 rfl ?_
    refine tj_aload_n dJ1_rotateLeft_10 rfl ?_
    refine tj_getR fl_J1_111 dJ1_rotateLeft_11 (fun v102 => ?_)
    refine tj_put fl_J1_114 (nar_rf _) (fit_rf _) dJ1_rotateLeft_14 (fun σ => ?_)
    refine tj_aload_n dJ1_rotateLeft_17 rfl ?_
    refine tj_getR fl_J1_111 dJ1_rotateLeft_18 (fun v103 => ?_)
    refine tj_ifnull 32 dJ1_rotateLeft_21 rfl (fun _ => ?_) (fun _ _ => ?_)
    · exact tj_J1_rotateLeft_J32 d v0 v1 v101 _
    · refine tj_aload_n dJ1_rotateLeft_24 rfl ?_
      refine tj_getR fl_J1_111 dJ1_rotateLeft_25 (fun v104 => ?_)
      refine tj_aload_n dJ1_rotateLeft_28 rfl ?_
      refine tj_put fl_J1_124 (nar_rf _) (fit_rf _) dJ1_rotateLeft_29 (fun σ => ?_)
      exact tj_J1_rotateLeft_J32 d v0 v1 v101 _
theorem ct_J1_rotateLeft : ∀ (d : Nat) (v0 : Option Nat) (v1 : Option Nat), ct_ yJ1_rotateLeft (ws_ yJ1_rotateLeft cJ1_rotateLeft 3 none) d em_v [va_rf v0, va_rf v1] (fn_J1_rotateLeft d v0 v1)
  | 0, _, _ => ct_fail
  | d + 1, v0, v1 => ct_of [(false, va_rf v0), (false, va_rf v1)] [some (va_rf v0), some (va_rf v1), none] (by decide) rfl ⟨rfl, (rf_cat _), ⟨rfl, (rf_cat _), trivial⟩⟩ (fun E X n0 s0 σ => tj_J1_rotateLeft_B0 d v0 v1 σ)
theorem tj_J1_rotateRight_J85 {E : tj_E} {X : tj_X} {n0 s0 : Nat} (d : Nat) (l1 : Option Nat) (l2 : Option Nat) (σ : hp_S) : tj_T E X RJ1 "rotateRight" cJ1_rotateRight 3 none (d + 1) [] n0 s0 em_v σ 85 [none, some (va_rf l1), some (va_rf l2)] [] (fn_J1_rotateRight_J85 d l1 l2) := by
  unfold fn_J1_rotateRight_J85
  refine tj_aload_n dJ1_rotateRight_85 rfl ?_
  refine tj_aload_n dJ1_rotateRight_86 rfl ?_
  refine tj_put fl_J1_114 (nar_rf _) (fit_rf _) dJ1_rotateRight_87 (fun σ => ?_)
  refine tj_aload_n dJ1_rotateRight_90 rfl ?_
  refine tj_aload_n dJ1_rotateRight_91 rfl ?_
  refine tj_put fl_J1_124 (nar_rf _) (fit_rf _) dJ1_rotateRight_92 (fun σ => ?_)
  exact tj_vret dJ1_rotateRight_95
theorem tj_J1_rotateRight_J32 {E : tj_E} {X : tj_X} {n0 s0 : Nat} (d : Nat) (l0 : Option Nat) (l1 : Option Nat) (l2 : Option Nat) (σ : hp_S) : tj_T E X RJ1 "rotateRight" cJ1_rotateRight 3 none (d + 1) [] n0 s0 em_v σ 32 [some (va_rf l0), some (va_rf l1), some (va_rf l2)] [] (fn_J1_rotateRight_J32 d l0 l1 l2) := by
  unfold fn_J1_rotateRight_J32
  refine tj_aload_n dJ1_rotateRight_32 rfl ?_
  refine tj_aload_n dJ1_rotateRight_33 rfl ?_
  refine tj_getR fl_J1_124 dJ1_rotateRight_34 (fun v101 => ?_)
  refine tj_put fl_J1_124 (nar_rf _) (fit_rf _) dJ1_rotateRight_37 (fun σ => ?_)
  refine tj_aload_n dJ1_rotateRight_40 rfl ?_
  refine tj_getR fl_J1_124 dJ1_rotateRight_41 (fun v102 => ?_)
  refine tj_ifnonnull 55 dJ1_rotateRight_44 rfl (fun _ => ?_) (fun _ _ => ?_)
  · refine tj_aload_n dJ1_rotateRight_47 rfl ?_
    refine tj_aload_n dJ1_rotateRight_48 rfl ?_
    refine tj_put fl_J1_101 (nar_rf _) (fit_rf _) dJ1_rotateRight_49 (fun σ => ?_)
    refine tj_goto 85 dJ1_rotateRight_52 rfl ?_
    refine tj_wk (L' := [none, some (va_rf l1), some (va_rf l2)]) ⟨rfl, rfl, trivial⟩ ?_
    exact tj_J1_rotateRight_J85 d l1 l2 _
  · refine tj_aload_n dJ1_rotateRight_55 rfl ?_
    refine tj_getR fl_J1_124 dJ1_rotateRight_56 (fun v103 => ?_)
    refine tj_getR fl_J1_114 dJ1_rotateRight_59 (fun v104 => ?_)
    refine tj_aload_n dJ1_rotateRight_62 rfl ?_
    refine tj_acmp_ne 77 dJ1_rotateRight_63 rfl (fun _ => ?_) (fun _ => ?_)
    · refine tj_aload_n dJ1_rotateRight_66 rfl ?_
      refine tj_getR fl_J1_124 dJ1_rotateRight_67 (fun v105 => ?_)
      refine tj_aload_n dJ1_rotateRight_70 rfl ?_
      refine tj_put fl_J1_114 (nar_rf _) (fit_rf _) dJ1_rotateRight_71 (fun σ => ?_)
      refine tj_goto 85 dJ1_rotateRight_74 rfl ?_
      refine tj_wk (L' := [none, some (va_rf l1), some (va_rf l2)]) ⟨rfl, rfl, trivial⟩ ?_
      exact tj_J1_rotateRight_J85 d l1 l2 _
    · refine tj_aload_n dJ1_rotateRight_77 rfl ?_
      refine tj_getR fl_J1_124 dJ1_rotateRight_78 (fun v106 => ?_)
      refine tj_aload_n dJ1_rotateRight_81 rfl ?_
      refine tj_put fl_J1_111 (nar_rf _) (fit_rf _) dJ1_rotateRight_82 (fun σ => ?_)
      refine tj_wk (L' := [none, some (va_rf l1), some (va_rf l2)]) ⟨rfl, rfl, trivial⟩ ?_
      exact tj_J1_rotateRight_J85 d l1 l2 _
theorem tj_J1_rotateRight_B0 {E : tj_E} {X : tj_X} {n0 s0 : Nat} (d : Nat) (v0 : Option Nat) (v1 : Option Nat) (σ : hp_S) : tj_T E X RJ1 "rotateRight" cJ1_rotateRight 3 none (d + 1) [] n0 s0 em_v σ 0 [some (va_rf v0), some (va_rf v1), none] [] (fn_J1_rotateRight_B0 d v0 v1) := by
  unfold fn_J1_rotateRight_B0
  refine tj_aload_n dJ1_rotateRight_0 rfl ?_
  refine tj_ifnull 95 dJ1_rotateRight_1 rfl (fun _ => ?_) (fun _ _ => ?_)
  · exact tj_vret dJ1_rotateRight_95
  · refine tj_aload_n dJ1_rotateRight_4 rfl ?_
    refine tj_getR fl_J1_111 dJ1_rotateRight_5 (fun v101 => ?_)
    refine tj_astore_n dJ1_rotateRight_8 (by decide) (rf_cat _) [some (va_rf v0), some (va_rf v1), some (va_rf v101)] rfl ?_
    refine tj_aload_n dJ1_rotateRight_9 rfl ?_
    refine tj_aload_n dJ1_rotateRight_10 rfl ?_
    refine tj_getR fl_J1_114 dJ1_rotateRight_11 (fun v102 => ?_)
    refine tj_put fl_J1_111 (nar_rf _) (fit_rf _) dJ1_rotateRight_14 (fun σ => ?_)
    refine tj_aload_n dJ1_rotateRight_17 rfl ?_
    refine tj_getR fl_J1_114 dJ1_rotateRight_18 (fun v103 => ?_)
    refine tj_ifnull 32 dJ1_rotateRight_21 rfl (fun _ => ?_) (fun _ _ => ?_)
    · exact tj_J1_rotateRight_J32 d v0 v1 v101 _
    · refine tj_aload_n dJ1_rotateRight_24 rfl ?_
      refine tj_getR fl_J1_114 dJ1_rotateRight_25 (fun v104 => ?_)
      refine tj_aload_n dJ1_rotateRight_28 rfl ?_
      refine tj_put fl_J1_124 (nar_rf _) (fit_rf _) dJ1_rotateRight_29 (fun σ => ?_)
      exact tj_J1_rotateRight_J32 d v0 v1 v101 _
theorem ct_J1_rotateRight : ∀ (d : Nat) (v0 : Option Nat) (v1 : Option Nat), ct_ yJ1_rotateRight (ws_ yJ1_rotateRight cJ1_rotateRight 3 none) d em_v [va_rf v0, va_rf v1] (fn_J1_rotateRight d v0 v1)
  | 0, _, _ => ct_fail
  | d + 1, v0, v1 => ct_of [(false, va_rf v0), (false, va_rf v1)] [some (va_rf v0), some (va_rf v1), none] (by decide) rfl ⟨rfl, (rf_cat _), ⟨rfl, (rf_cat _), trivial⟩⟩ (fun E X n0 s0 σ => tj_J1_rotateRight_B0 d v0 v1 σ)
theorem tj_J1_setColor_B0 {E : tj_E} {X : tj_X} {n0 s0 : Nat} (d : Nat) (v0 : Option Nat) (v1 : Int32) (σ : hp_S) : tj_T E X RJ1 "setColor" cJ1_setColor 2 none (d + 1) [] n0 s0 em_v σ 0 [some (va_rf v0), some (.int v1)] [] (fn_J1_setColor_B0 d v0 v1) := by
  unfold fn_J1_setColor_B0
  refine tj_aload_n dJ1_setColor_0 rfl ?_
  refine tj_ifnull 9 dJ1_setColor_1 rfl (fun _ => ?_) (fun _ _ => ?_)
  · exact tj_vret dJ1_setColor_9
  · refine tj_aload_n dJ1_setColor_4 rfl ?_
    refine tj_iload_n dJ1_setColor_5 rfl ?_
    refine tj_putN fl_J1_290 nf_Z dJ1_setColor_6 (fun σ => ?_)
    exact tj_vret dJ1_setColor_9
theorem ct_J1_setColor : ∀ (d : Nat) (v0 : Option Nat) (v1 : Int32), ct_ yJ1_setColor (ws_ yJ1_setColor cJ1_setColor 2 none) d em_v [va_rf v0, .int v1] (fn_J1_setColor d v0 v1)
  | 0, _, _ => ct_fail
  | d + 1, v0, v1 => ct_of [(false, va_rf v0), (false, .int v1)] [some (va_rf v0), some (.int v1)] (by decide) rfl ⟨rfl, (rf_cat _), ⟨rfl, rfl, trivial⟩⟩ (fun E X n0 s0 σ => tj_J1_setColor_B0 d v0 v1 σ)
theorem tj_J1_fixAfterInsertion_J148 {E : tj_E} {X : tj_X} {n0 s0 : Nat} (d : Nat) {b5 : Option Nat → Option Nat → mx_M Unit} (h5 : ∀ (l0 : Option Nat) (l1 : Option Nat) (σ : hp_S), tj_T E X RJ1 "fixAfterInsertion" cJ1_fixAfterInsertion 3 none (d + 1) [] n0 s0 em_v σ 5 [some (va_rf l0), some (va_rf l1), none] [] (b5 l0 l1)) (l0 : Option Nat) (l1 : Option Nat) (σ : hp_S) : tj_T E X RJ1 "fixAfterInsertion" cJ1_fixAfterInsertion 3 none (d + 1) [] n0 s0 em_v σ 148 [some (va_rf l0), some (va_rf l1), none] [] (fn_J1_fixAfterInsertion_J148 d b5 l0 l1) := by
  unfold fn_J1_fixAfterInsertion_J148
  refine tj_goto 5 dJ1_fixAfterInsertion_148 rfl ?_
  exact h5 l0 l1 _
theorem tj_J1_fixAfterInsertion_J118 {E : tj_E} {X : tj_X} {n0 s0 : Nat} (d : Nat) {b5 : Option Nat → Option Nat → mx_M Unit} (h5 : ∀ (l0 : Option Nat) (l1 : Option Nat) (σ : hp_S), tj_T E X RJ1 "fixAfterInsertion" cJ1_fixAfterInsertion 3 none (d + 1) [] n0 s0 em_v σ 5 [some (va_rf l0), some (va_rf l1), none] [] (b5 l0 l1)) (l0 : Option Nat) (l1 : Option Nat) (σ : hp_S) : tj_T E X RJ1 "fixAfterInsertion" cJ1_fixAfterInsertion 3 none (d + 1) [] n0 s0 em_v σ 118 [some (va_rf l0), some (va_rf l1), none] [] (fn_J1_fixAfterInsertion_J118 d b5 l0 l1) := by
  unfold fn_J1_fixAfterInsertion_J118
  refine tj_aload_n dJ1_fixAfterInsertion_118 rfl ?_
  refine tj_callS (as := [va_rf l1]) (rest := []) (st' := (fun r => [va_rf r])) (ct_J1_parentOf d l1) q1731 q1732 q99 q1733 md_J1_parentOf rfl (by decide) rfl (by decide) dJ1_fixAfterInsertion_119 (fun _ => rfl) (fun r101 σ => ?_) (by decide)
  refine tj_iconst (1 : Int32) dJ1_fixAfterInsertion_122 rfl ?_
  refine tj_callS (as := [va_rf r101, .int (1 : Int32)]) (rest := []) (st' := (fun _ => [])) (ct_J1_setColor d r101 (1 : Int32)) q1743 q1744 q99 q1745 md_J1_setColor rfl (by decide) rfl (by decide) dJ1_fixAfterInsertion_123 (fun _ => rfl) (fun _ σ => ?_) (by decide)
  refine tj_aload_n dJ1_fixAfterInsertion_126 rfl ?_
  refine tj_callS (as := [va_rf l1]) (rest := []) (st' := (fun r => [va_rf r])) (ct_J1_parentOf d l1) q1731 q1732 q99 q1733 md_J1_parentOf rfl (by decide) rfl (by decide) dJ1_fixAfterInsertion_127 (fun _ => rfl) (fun r102 σ => ?_) (by decide)
  refine tj_callS (as := [va_rf r102]) (rest := []) (st' := (fun r => [va_rf r])) (ct_J1_parentOf d r102) q1731 q1732 q99 q1733 md_J1_parentOf rfl (by decide) rfl (by decide) dJ1_fixAfterInsertion_130 (fun _ => rfl) (fun r103 σ => ?_) (by decide)
  refine tj_iconst (0 : Int32) dJ1_fixAfterInsertion_133 rfl ?_
  refine tj_callS (as := [va_rf r103, .int (0 : Int32)]) (rest := []) (st' := (fun _ => [])) (ct_J1_setColor d r103 (0 : Int32)) q1743 q1744 q99 q1745 md_J1_setColor rfl (by decide) rfl (by decide) dJ1_fixAfterInsertion_134 (fun _ => rfl) (fun _ σ => ?_) (by decide)
  refine tj_aload_n dJ1_fixAfterInsertion_137 rfl ?_
  refine tj_aload_n dJ1_fixAfterInsertion_138 rfl ?_
  refine tj_callS (as := [va_rf l1]) (rest := [va_rf l0]) (st' := (fun r => [va_rf r, va_rf l0])) (ct_J1_parentOf d l1) q1731 q1732 q99 q1733 md_J1_parentOf rfl (by decide) rfl (by simp [rf_cat, cat_i, cat_l, cat_f, cat_d]) dJ1_fixAfterInsertion_139 (fun _ => rfl) (fun r104 σ => ?_) (by decide)
  refine tj_callS (as := [va_rf r104]) (rest := [va_rf l0]) (st' := (fun r => [va_rf r, va_rf l0])) (ct_J1_parentOf d r104) q1731 q1732 q99 q1733 md_J1_parentOf rfl (by decide) rfl (by simp [rf_cat, cat_i, cat_l, cat_f, cat_d]) dJ1_fixAfterInsertion_142 (fun _ => rfl) (fun r105 σ => ?_) (by decide)
  refine tj_callV (as := [va_rf r105]) (rest := []) (st' := (fun _ => [])) (t := 18) (fun a e => by cases e; exact ct_J1_rotateRight d _ _) (by decide) rfl q1750 q1752 qs14 q99 q1753 rfl md_J1_rotateRight rfl (by decide) rfl (by decide) dJ1_fixAfterInsertion_145 (fun _ => rfl) (fun _ σ => ?_) (by decide)
  exact tj_J1_fixAfterInsertion_J148 d h5 l0 l1 _
theorem tj_J1_fixAfterInsertion_J255 {E : tj_E} {X : tj_X} {n0 s0 : Nat} (d : Nat) {b5 : Option Nat → Option Nat → mx_M Unit} (h5 : ∀ (l0 : Option Nat) (l1 : Option Nat) (σ : hp_S), tj_T E X RJ1 "fixAfterInsertion" cJ1_fixAfterInsertion 3 none (d + 1) [] n0 s0 em_v σ 5 [some (va_rf l0), some (va_rf l1), none] [] (b5 l0 l1)) (l0 : Option Nat) (l1 : Option Nat) (σ : hp_S) : tj_T E X RJ1 "fixAfterInsertion" cJ1_fixAfterInsertion 3 none (d + 1) [] n0 s0 em_v σ 255 [some (va_rf l0), some (va_rf l1), none] [] (fn_J1_fixAfterInsertion_J255 d b5 l0 l1) := by
  unfold fn_J1_fixAfterInsertion_J255
  refine tj_goto 5 dJ1_fixAfterInsertion_255 rfl ?_
  exact h5 l0 l1 _
theorem tj_J1_fixAfterInsertion_J225 {E : tj_E} {X : tj_X} {n0 s0 : Nat} (d : Nat) {b5 : Option Nat → Option Nat → mx_M Unit} (h5 : ∀ (l0 : Option Nat) (l1 : Option Nat) (σ : hp_S), tj_T E X RJ1 "fixAfterInsertion" cJ1_fixAfterInsertion 3 none (d + 1) [] n0 s0 em_v σ 5 [some (va_rf l0), some (va_rf l1), none] [] (b5 l0 l1)) (l0 : Option Nat) (l1 : Option Nat) (σ : hp_S) : tj_T E X RJ1 "fixAfterInsertion" cJ1_fixAfterInsertion 3 none (d + 1) [] n0 s0 em_v σ 225 [some (va_rf l0), some (va_rf l1), none] [] (fn_J1_fixAfterInsertion_J225 d b5 l0 l1) := by
  unfold fn_J1_fixAfterInsertion_J225
  refine tj_aload_n dJ1_fixAfterInsertion_225 rfl ?_
  refine tj_callS (as := [va_rf l1]) (rest := []) (st' := (fun r => [va_rf r])) (ct_J1_parentOf d l1) q1731 q1732 q99 q1733 md_J1_parentOf rfl (by decide) rfl (by decide) dJ1_fixAfterInsertion_226 (fun _ => rfl) (fun r101 σ => ?_) (by decide)
  refine tj_iconst (1 : Int32) dJ1_fixAfterInsertion_229 rfl ?_
  refine tj_callS (as := [va_rf r101, .int (1 : Int32)]) (rest := []) (st' := (fun _ => [])) (ct_J1_setColor d r101 (1 : Int32)) q1743 q1744 q99 q1745 md_J1_setColor rfl (by decide) rfl (by decide) dJ1_fixAfterInsertion_230 (fun _ => rfl) (fun _ σ => ?_) (by decide)
  refine tj_aload_n dJ1_fixAfterInsertion_233 rfl ?_
  refine tj_callS (as := [va_rf l1]) (rest := []) (st' := (fun r => [va_rf r])) (ct_J1_parentOf d l1) q1731 q1732 q99 q1733 md_J1_parentOf rfl (by decide) rfl (by decide) dJ1_fixAfterInsertion_234 (fun _ => rfl) (fun r102 σ => ?_) (by decide)
  refine tj_callS (as := [va_rf r102]) (rest := []) (st' := (fun r => [va_rf r])) (ct_J1_parentOf d r102) q1731 q1732 q99 q1733 md_J1_parentOf rfl (by decide) rfl (by decide) dJ1_fixAfterInsertion_237 (fun _ => rfl) (fun r103 σ => ?_) (by decide)
  refine tj_iconst (0 : Int32) dJ1_fixAfterInsertion_240 rfl ?_
  refine tj_callS (as := [va_rf r103, .int (0 : Int32)]) (rest := []) (st' := (fun _ => [])) (ct_J1_setColor d r103 (0 : Int32)) q1743 q1744 q99 q1745 md_J1_setColor rfl (by decide) rfl (by decide) dJ1_fixAfterInsertion_241 (fun _ => rfl) (fun _ σ => ?_) (by decide)
  refine tj_aload_n dJ1_fixAfterInsertion_244 rfl ?_
  refine tj_aload_n dJ1_fixAfterInsertion_245 rfl ?_
  refine tj_callS (as := [va_rf l1]) (rest := [va_rf l0]) (st' := (fun r => [va_rf r, va_rf l0])) (ct_J1_parentOf d l1) q1731 q1732 q99 q1733 md_J1_parentOf rfl (by decide) rfl (by simp [rf_cat, cat_i, cat_l, cat_f, cat_d]) dJ1_fixAfterInsertion_246 (fun _ => rfl) (fun r104 σ => ?_) (by decide)
  refine tj_callS (as := [va_rf r104]) (rest := [va_rf l0]) (st' := (fun r => [va_rf r, va_rf l0])) (ct_J1_parentOf d r104) q1731 q1732 q99 q1733 md_J1_parentOf rfl (by decide) rfl (by simp [rf_cat, cat_i, cat_l, cat_f, cat_d]) dJ1_fixAfterInsertion_249 (fun _ => rfl) (fun r105 σ => ?_) (by decide)
  refine tj_callV (as := [va_rf r105]) (rest := []) (st' := (fun _ => [])) (t := 18) (fun a e => by cases e; exact ct_J1_rotateLeft d _ _) (by decide) rfl q1746 q1748 qs13 q99 q1749 rfl md_J1_rotateLeft rfl (by decide) rfl (by decide) dJ1_fixAfterInsertion_252 (fun _ => rfl) (fun _ σ => ?_) (by decide)
  exact tj_J1_fixAfterInsertion_J255 d h5 l0 l1 _
theorem tj_J1_fixAfterInsertion_L5_b {E : tj_E} {X : tj_X} {n0 s0 : Nat} (d : Nat) {b5 : Option Nat → Option Nat → mx_M Unit} (h5 : ∀ (l0 : Option Nat) (l1 : Option Nat) (σ : hp_S), tj_T E X RJ1 "fixAfterInsertion" cJ1_fixAfterInsertion 3 none (d + 1) [] n0 s0 em_v σ 5 [some (va_rf l0), some (va_rf l1), none] [] (b5 l0 l1)) (l0 : Option Nat) (l1 : Option Nat) (σ : hp_S) : tj_T E X RJ1 "fixAfterInsertion" cJ1_fixAfterInsertion 3 none (d + 1) [] n0 s0 em_v σ 5 [some (va_rf l0), some (va_rf l1), none] [] (fn_J1_fixAfterInsertion_L5_b d b5 l0 l1) := by
  unfold fn_J1_fixAfterInsertion_L5_b
  refine tj_aload_n dJ1_fixAfterInsertion_5 rfl ?_
  refine tj_ifnull 258 dJ1_fixAfterInsertion_6 rfl (fun _ => ?_) (fun _ _ => ?_)
  · refine tj_aload_n dJ1_fixAfterInsertion_258 rfl ?_
    refine tj_getR fl_J1_101 dJ1_fixAfterInsertion_259 (fun v101 => ?_)
    refine tj_iconst (1 : Int32) dJ1_fixAfterInsertion_262 rfl ?_
    refine tj_put fl_J1_290 rfl rfl dJ1_fixAfterInsertion_263 (fun σ => ?_)
    exact tj_vret dJ1_fixAfterInsertion_266
  · refine tj_aload_n dJ1_fixAfterInsertion_9 rfl ?_
    refine tj_aload_n dJ1_fixAfterInsertion_10 rfl ?_
    refine tj_getR fl_J1_101 dJ1_fixAfterInsertion_11 (fun v102 => ?_)
    refine tj_acmp_eq 258 dJ1_fixAfterInsertion_14 rfl (fun _ => ?_) (fun _ => ?_)
    · refine tj_aload_n dJ1_fixAfterInsertion_258 rfl ?_
      refine tj_getR fl_J1_101 dJ1_fixAfterInsertion_259 (fun v103 => ?_)
      refine tj_iconst (1 : Int32) dJ1_fixAfterInsertion_262 rfl ?_
      refine tj_put fl_J1_290 rfl rfl dJ1_fixAfterInsertion_263 (fun σ => ?_)
      exact tj_vret dJ1_fixAfterInsertion_266
    · refine tj_aload_n dJ1_fixAfterInsertion_17 rfl ?_
      refine tj_getR fl_J1_124 dJ1_fixAfterInsertion_18 (fun v104 => ?_)
      refine tj_getI fl_J1_290 dJ1_fixAfterInsertion_21 (fun v105 => ?_)
      refine tj_if_ne 258 dJ1_fixAfterInsertion_24 rfl (fun _ => ?_) (fun _ => ?_)
      · refine tj_aload_n dJ1_fixAfterInsertion_27 rfl ?_
        refine tj_callS (as := [va_rf l1]) (rest := []) (st' := (fun r => [va_rf r])) (ct_J1_parentOf d l1) q1731 q1732 q99 q1733 md_J1_parentOf rfl (by decide) rfl (by decide) dJ1_fixAfterInsertion_28 (fun _ => rfl) (fun r106 σ => ?_) (by decide)
        refine tj_aload_n dJ1_fixAfterInsertion_31 rfl ?_
        refine tj_callS (as := [va_rf l1]) (rest := [va_rf r106]) (st' := (fun r => [va_rf r, va_rf r106])) (ct_J1_parentOf d l1) q1731 q1732 q99 q1733 md_J1_parentOf rfl (by decide) rfl (by simp [rf_cat, cat_i, cat_l, cat_f, cat_d]) dJ1_fixAfterInsertion_32 (fun _ => rfl) (fun r107 σ => ?_) (by decide)
        refine tj_callS (as := [va_rf r107]) (rest := [va_rf r106]) (st' := (fun r => [va_rf r, va_rf r106])) (ct_J1_parentOf d r107) q1731 q1732 q99 q1733 md_J1_parentOf rfl (by decide) rfl (by simp [rf_cat, cat_i, cat_l, cat_f, cat_d]) dJ1_fixAfterInsertion_35 (fun _ => rfl) (fun r108 σ => ?_) (by decide)
        refine tj_callS (as := [va_rf r108]) (rest := [va_rf r106]) (st' := (fun r => [va_rf r, va_rf r106])) (ct_J1_leftOf d r108) q1734 q1735 q99 q1736 md_J1_leftOf rfl (by decide) rfl (by simp [rf_cat, cat_i, cat_l, cat_f, cat_d]) dJ1_fixAfterInsertion_38 (fun _ => rfl) (fun r109 σ => ?_) (by decide)
        refine tj_acmp_ne 151 dJ1_fixAfterInsertion_41 rfl (fun _ => ?_) (fun _ => ?_)
        · refine tj_aload_n dJ1_fixAfterInsertion_44 rfl ?_
          refine tj_callS (as := [va_rf l1]) (rest := []) (st' := (fun r => [va_rf r])) (ct_J1_parentOf d l1) q1731 q1732 q99 q1733 md_J1_parentOf rfl (by decide) rfl (by decide) dJ1_fixAfterInsertion_45 (fun _ => rfl) (fun r110 σ => ?_) (by decide)
          refine tj_callS (as := [va_rf r110]) (rest := []) (st' := (fun r => [va_rf r])) (ct_J1_parentOf d r110) q1731 q1732 q99 q1733 md_J1_parentOf rfl (by decide) rfl (by decide) dJ1_fixAfterInsertion_48 (fun _ => rfl) (fun r111 σ => ?_) (by decide)
          refine tj_callS (as := [va_rf r111]) (rest := []) (st' := (fun r => [va_rf r])) (ct_J1_rightOf d r111) q1737 q1738 q99 q1739 md_J1_rightOf rfl (by decide) rfl (by decide) dJ1_fixAfterInsertion_51 (fun _ => rfl) (fun r112 σ => ?_) (by decide)
          refine tj_astore_n dJ1_fixAfterInsertion_54 (by decide) (rf_cat _) [some (va_rf l0), some (va_rf l1), some (va_rf r112)] rfl ?_
          refine tj_aload_n dJ1_fixAfterInsertion_55 rfl ?_
          refine tj_callS (as := [va_rf r112]) (rest := []) (st' := (fun r => [.int r])) (ct_J1_colorOf d r112) q1740 q1741 q99 q1742 md_J1_colorOf rfl (by decide) rfl (by decide) dJ1_fixAfterInsertion_56 (fun _ => rfl) (fun r113 σ => ?_) (by decide)
          refine tj_if_ne 97 dJ1_fixAfterInsertion_59 rfl (fun _ => ?_) (fun _ => ?_)
          · refine tj_aload_n dJ1_fixAfterInsertion_62 rfl ?_
            refine tj_callS (as := [va_rf l1]) (rest := []) (st' := (fun r => [va_rf r])) (ct_J1_parentOf d l1) q1731 q1732 q99 q1733 md_J1_parentOf rfl (by decide) rfl (by decide) dJ1_fixAfterInsertion_63 (fun _ => rfl) (fun r114 σ => ?_) (by decide)
            refine tj_iconst (1 : Int32) dJ1_fixAfterInsertion_66 rfl ?_
            refine tj_callS (as := [va_rf r114, .int (1 : Int32)]) (rest := []) (st' := (fun _ => [])) (ct_J1_setColor d r114 (1 : Int32)) q1743 q1744 q99 q1745 md_J1_setColor rfl (by decide) rfl (by decide) dJ1_fixAfterInsertion_67 (fun _ => rfl) (fun _ σ => ?_) (by decide)
            refine tj_aload_n dJ1_fixAfterInsertion_70 rfl ?_
            refine tj_iconst (1 : Int32) dJ1_fixAfterInsertion_71 rfl ?_
            refine tj_callS (as := [va_rf r112, .int (1 : Int32)]) (rest := []) (st' := (fun _ => [])) (ct_J1_setColor d r112 (1 : Int32)) q1743 q1744 q99 q1745 md_J1_setColor rfl (by decide) rfl (by decide) dJ1_fixAfterInsertion_72 (fun _ => rfl) (fun _ σ => ?_) (by decide)
            refine tj_aload_n dJ1_fixAfterInsertion_75 rfl ?_
            refine tj_callS (as := [va_rf l1]) (rest := []) (st' := (fun r => [va_rf r])) (ct_J1_parentOf d l1) q1731 q1732 q99 q1733 md_J1_parentOf rfl (by decide) rfl (by decide) dJ1_fixAfterInsertion_76 (fun _ => rfl) (fun r115 σ => ?_) (by decide)
            refine tj_callS (as := [va_rf r115]) (rest := []) (st' := (fun r => [va_rf r])) (ct_J1_parentOf d r115) q1731 q1732 q99 q1733 md_J1_parentOf rfl (by decide) rfl (by decide) dJ1_fixAfterInsertion_79 (fun _ => rfl) (fun r116 σ => ?_) (by decide)
            refine tj_iconst (0 : Int32) dJ1_fixAfterInsertion_82 rfl ?_
            refine tj_callS (as := [va_rf r116, .int (0 : Int32)]) (rest := []) (st' := (fun _ => [])) (ct_J1_setColor d r116 (0 : Int32)) q1743 q1744 q99 q1745 md_J1_setColor rfl (by decide) rfl (by decide) dJ1_fixAfterInsertion_83 (fun _ => rfl) (fun _ σ => ?_) (by decide)
            refine tj_aload_n dJ1_fixAfterInsertion_86 rfl ?_
            refine tj_callS (as := [va_rf l1]) (rest := []) (st' := (fun r => [va_rf r])) (ct_J1_parentOf d l1) q1731 q1732 q99 q1733 md_J1_parentOf rfl (by decide) rfl (by decide) dJ1_fixAfterInsertion_87 (fun _ => rfl) (fun r117 σ => ?_) (by decide)
            refine tj_callS (as := [va_rf r117]) (rest := []) (st' := (fun r => [va_rf r])) (ct_J1_parentOf d r117) q1731 q1732 q99 q1733 md_J1_parentOf rfl (by decide) rfl (by decide) dJ1_fixAfterInsertion_90 (fun _ => rfl) (fun r118 σ => ?_) (by decide)
            refine tj_astore_n dJ1_fixAfterInsertion_93 (by decide) (rf_cat _) [some (va_rf l0), some (va_rf r118), some (va_rf r112)] rfl ?_
            refine tj_goto 148 dJ1_fixAfterInsertion_94 rfl ?_
            refine tj_wk (L' := [some (va_rf l0), some (va_rf r118), none]) ⟨rfl, rfl, trivial⟩ ?_
            exact tj_J1_fixAfterInsertion_J148 d h5 l0 r118 _
          · refine tj_aload_n dJ1_fixAfterInsertion_97 rfl ?_
            refine tj_aload_n dJ1_fixAfterInsertion_98 rfl ?_
            refine tj_callS (as := [va_rf l1]) (rest := [va_rf l1]) (st' := (fun r => [va_rf r, va_rf l1])) (ct_J1_parentOf d l1) q1731 q1732 q99 q1733 md_J1_parentOf rfl (by decide) rfl (by simp [rf_cat, cat_i, cat_l, cat_f, cat_d]) dJ1_fixAfterInsertion_99 (fun _ => rfl) (fun r119 σ => ?_) (by decide)
            refine tj_callS (as := [va_rf r119]) (rest := [va_rf l1]) (st' := (fun r => [va_rf r, va_rf l1])) (ct_J1_rightOf d r119) q1737 q1738 q99 q1739 md_J1_rightOf rfl (by decide) rfl (by simp [rf_cat, cat_i, cat_l, cat_f, cat_d]) dJ1_fixAfterInsertion_102 (fun _ => rfl) (fun r120 σ => ?_) (by decide)
            refine tj_acmp_ne 118 dJ1_fixAfterInsertion_105 rfl (fun _ => ?_) (fun _ => ?_)
            · refine tj_aload_n dJ1_fixAfterInsertion_108 rfl ?_
              refine tj_callS (as := [va_rf l1]) (rest := []) (st' := (fun r => [va_rf r])) (ct_J1_parentOf d l1) q1731 q1732 q99 q1733 md_J1_parentOf rfl (by decide) rfl (by decide) dJ1_fixAfterInsertion_109 (fun _ => rfl) (fun r121 σ => ?_) (by decide)
              refine tj_astore_n dJ1_fixAfterInsertion_112 (by decide) (rf_cat _) [some (va_rf l0), some (va_rf r121), some (va_rf r112)] rfl ?_
              refine tj_aload_n dJ1_fixAfterInsertion_113 rfl ?_
              refine tj_aload_n dJ1_fixAfterInsertion_114 rfl ?_
              refine tj_callV (as := [va_rf r121]) (rest := []) (st' := (fun _ => [])) (t := 18) (fun a e => by cases e; exact ct_J1_rotateLeft d _ _) (by decide) rfl q1746 q1748 qs13 q99 q1749 rfl md_J1_rotateLeft rfl (by decide) rfl (by decide) dJ1_fixAfterInsertion_115 (fun _ => rfl) (fun _ σ => ?_) (by decide)
              refine tj_wk (L' := [some (va_rf l0), some (va_rf r121), none]) ⟨rfl, rfl, trivial⟩ ?_
              exact tj_J1_fixAfterInsertion_J118 d h5 l0 r121 _
            · refine tj_wk (L' := [some (va_rf l0), some (va_rf l1), none]) ⟨rfl, rfl, trivial⟩ ?_
              exact tj_J1_fixAfterInsertion_J118 d h5 l0 l1 _
        · refine tj_aload_n dJ1_fixAfterInsertion_151 rfl ?_
          refine tj_callS (as := [va_rf l1]) (rest := []) (st' := (fun r => [va_rf r])) (ct_J1_parentOf d l1) q1731 q1732 q99 q1733 md_J1_parentOf rfl (by decide) rfl (by decide) dJ1_fixAfterInsertion_152 (fun _ => rfl) (fun r122 σ => ?_) (by decide)
          refine tj_callS (as := [va_rf r122]) (rest := []) (st' := (fun r => [va_rf r])) (ct_J1_parentOf d r122) q1731 q1732 q99 q1733 md_J1_parentOf rfl (by decide) rfl (by decide) dJ1_fixAfterInsertion_155 (fun _ => rfl) (fun r123 σ => ?_) (by decide)
          refine tj_callS (as := [va_rf r123]) (rest := []) (st' := (fun r => [va_rf r])) (ct_J1_leftOf d r123) q1734 q1735 q99 q1736 md_J1_leftOf rfl (by decide) rfl (by decide) dJ1_fixAfterInsertion_158 (fun _ => rfl) (fun r124 σ => ?_) (by decide)
          refine tj_astore_n dJ1_fixAfterInsertion_161 (by decide) (rf_cat _) [some (va_rf l0), some (va_rf l1), some (va_rf r124)] rfl ?_
          refine tj_aload_n dJ1_fixAfterInsertion_162 rfl ?_
          refine tj_callS (as := [va_rf r124]) (rest := []) (st' := (fun r => [.int r])) (ct_J1_colorOf d r124) q1740 q1741 q99 q1742 md_J1_colorOf rfl (by decide) rfl (by decide) dJ1_fixAfterInsertion_163 (fun _ => rfl) (fun r125 σ => ?_) (by decide)
          refine tj_if_ne 204 dJ1_fixAfterInsertion_166 rfl (fun _ => ?_) (fun _ => ?_)
          · refine tj_aload_n dJ1_fixAfterInsertion_169 rfl ?_
            refine tj_callS (as := [va_rf l1]) (rest := []) (st' := (fun r => [va_rf r])) (ct_J1_parentOf d l1) q1731 q1732 q99 q1733 md_J1_parentOf rfl (by decide) rfl (by decide) dJ1_fixAfterInsertion_170 (fun _ => rfl) (fun r126 σ => ?_) (by decide)
            refine tj_iconst (1 : Int32) dJ1_fixAfterInsertion_173 rfl ?_
            refine tj_callS (as := [va_rf r126, .int (1 : Int32)]) (rest := []) (st' := (fun _ => [])) (ct_J1_setColor d r126 (1 : Int32)) q1743 q1744 q99 q1745 md_J1_setColor rfl (by decide) rfl (by decide) dJ1_fixAfterInsertion_174 (fun _ => rfl) (fun _ σ => ?_) (by decide)
            refine tj_aload_n dJ1_fixAfterInsertion_177 rfl ?_
            refine tj_iconst (1 : Int32) dJ1_fixAfterInsertion_178 rfl ?_
            refine tj_callS (as := [va_rf r124, .int (1 : Int32)]) (rest := []) (st' := (fun _ => [])) (ct_J1_setColor d r124 (1 : Int32)) q1743 q1744 q99 q1745 md_J1_setColor rfl (by decide) rfl (by decide) dJ1_fixAfterInsertion_179 (fun _ => rfl) (fun _ σ => ?_) (by decide)
            refine tj_aload_n dJ1_fixAfterInsertion_182 rfl ?_
            refine tj_callS (as := [va_rf l1]) (rest := []) (st' := (fun r => [va_rf r])) (ct_J1_parentOf d l1) q1731 q1732 q99 q1733 md_J1_parentOf rfl (by decide) rfl (by decide) dJ1_fixAfterInsertion_183 (fun _ => rfl) (fun r127 σ => ?_) (by decide)
            refine tj_callS (as := [va_rf r127]) (rest := []) (st' := (fun r => [va_rf r])) (ct_J1_parentOf d r127) q1731 q1732 q99 q1733 md_J1_parentOf rfl (by decide) rfl (by decide) dJ1_fixAfterInsertion_186 (fun _ => rfl) (fun r128 σ => ?_) (by decide)
            refine tj_iconst (0 : Int32) dJ1_fixAfterInsertion_189 rfl ?_
            refine tj_callS (as := [va_rf r128, .int (0 : Int32)]) (rest := []) (st' := (fun _ => [])) (ct_J1_setColor d r128 (0 : Int32)) q1743 q1744 q99 q1745 md_J1_setColor rfl (by decide) rfl (by decide) dJ1_fixAfterInsertion_190 (fun _ => rfl) (fun _ σ => ?_) (by decide)
            refine tj_aload_n dJ1_fixAfterInsertion_193 rfl ?_
            refine tj_callS (as := [va_rf l1]) (rest := []) (st' := (fun r => [va_rf r])) (ct_J1_parentOf d l1) q1731 q1732 q99 q1733 md_J1_parentOf rfl (by decide) rfl (by decide) dJ1_fixAfterInsertion_194 (fun _ => rfl) (fun r129 σ => ?_) (by decide)
            refine tj_callS (as := [va_rf r129]) (rest := []) (st' := (fun r => [va_rf r])) (ct_J1_parentOf d r129) q1731 q1732 q99 q1733 md_J1_parentOf rfl (by decide) rfl (by decide) dJ1_fixAfterInsertion_197 (fun _ => rfl) (fun r130 σ => ?_) (by decide)
            refine tj_astore_n dJ1_fixAfterInsertion_200 (by decide) (rf_cat _) [some (va_rf l0), some (va_rf r130), some (va_rf r124)] rfl ?_
            refine tj_goto 255 dJ1_fixAfterInsertion_201 rfl ?_
            refine tj_wk (L' := [some (va_rf l0), some (va_rf r130), none]) ⟨rfl, rfl, trivial⟩ ?_
            exact tj_J1_fixAfterInsertion_J255 d h5 l0 r130 _
          · refine tj_aload_n dJ1_fixAfterInsertion_204 rfl ?_
            refine tj_aload_n dJ1_fixAfterInsertion_205 rfl ?_
            refine tj_callS (as := [va_rf l1]) (rest := [va_rf l1]) (st' := (fun r => [va_rf r, va_rf l1])) (ct_J1_parentOf d l1) q1731 q1732 q99 q1733 md_J1_parentOf rfl (by decide) rfl (by simp [rf_cat, cat_i, cat_l, cat_f, cat_d]) dJ1_fixAfterInsertion_206 (fun _ => rfl) (fun r131 σ => ?_) (by decide)
            refine tj_callS (as := [va_rf r131]) (rest := [va_rf l1]) (st' := (fun r => [va_rf r, va_rf l1])) (ct_J1_leftOf d r131) q1734 q1735 q99 q1736 md_J1_leftOf rfl (by decide) rfl (by simp [rf_cat, cat_i, cat_l, cat_f, cat_d]) dJ1_fixAfterInsertion_209 (fun _ => rfl) (fun r132 σ => ?_) (by decide)
            refine tj_acmp_ne 225 dJ1_fixAfterInsertion_212 rfl (fun _ => ?_) (fun _ => ?_)
            · refine tj_aload_n dJ1_fixAfterInsertion_215 rfl ?_
              refine tj_callS (as := [va_rf l1]) (rest := []) (st' := (fun r => [va_rf r])) (ct_J1_parentOf d l1) q1731 q1732 q99 q1733 md_J1_parentOf rfl (by decide) rfl (by decide) dJ1_fixAfterInsertion_216 (fun _ => rfl) (fun r133 σ => ?_) (by decide)
              refine tj_astore_n dJ1_fixAfterInsertion_219 (by decide) (rf_cat _) [some (va_rf l0), some (va_rf r133), some (va_rf r124)] rfl ?_
              refine tj_aload_n dJ1_fixAfterInsertion_220 rfl ?_
              refine tj_aload_n dJ1_fixAfterInsertion_221 rfl ?_
              refine tj_callV (as := [va_rf r133]) (rest := []) (st' := (fun _ => [])) (t := 18) (fun a e => by cases e; exact ct_J1_rotateRight d _ _) (by decide) rfl q1750 q1752 qs14 q99 q1753 rfl md_J1_rotateRight rfl (by decide) rfl (by decide) dJ1_fixAfterInsertion_222 (fun _ => rfl) (fun _ σ => ?_) (by decide)
              refine tj_wk (L' := [some (va_rf l0), some (va_rf r133), none]) ⟨rfl, rfl, trivial⟩ ?_
              exact tj_J1_fixAfterInsertion_J225 d h5 l0 r133 _
            · refine tj_wk (L' := [some (va_rf l0), some (va_rf l1), none]) ⟨rfl, rfl, trivial⟩ ?_
              exact tj_J1_fixAfterInsertion_J225 d h5 l0 l1 _
      · refine tj_aload_n dJ1_fixAfterInsertion_258 rfl ?_
        refine tj_getR fl_J1_101 dJ1_fixAfterInsertion_259 (fun v134 => ?_)
        refine tj_iconst (1 : Int32) dJ1_fixAfterInsertion_262 rfl ?_
        refine tj_put fl_J1_290 rfl rfl dJ1_fixAfterInsertion_263 (fun σ => ?_)
        exact tj_vret dJ1_fixAfterInsertion_266
theorem tj_J1_fixAfterInsertion_L5 {E : tj_E} {X : tj_X} {n0 s0 : Nat} (d : Nat) : ∀ (k : Nat) (l0 : Option Nat) (l1 : Option Nat) (σ : hp_S), tj_T E X RJ1 "fixAfterInsertion" cJ1_fixAfterInsertion 3 none (d + 1) [] n0 s0 em_v σ 5 [some (va_rf l0), some (va_rf l1), none] [] (fn_J1_fixAfterInsertion_L5 d k l0 l1) := by
  intro k
  induction k with
  | zero =>
    intro l0 l1 σ
    exact tj_fail
  | succ k ih =>
    intro l0 l1 σ
    exact tj_J1_fixAfterInsertion_L5_b d ih l0 l1 σ
theorem tj_J1_fixAfterInsertion_B0 {E : tj_E} {X : tj_X} {n0 s0 : Nat} (d : Nat) (v0 : Option Nat) (v1 : Option Nat) (σ : hp_S) : tj_T E X RJ1 "fixAfterInsertion" cJ1_fixAfterInsertion 3 none (d + 1) [] n0 s0 em_v σ 0 [some (va_rf v0), some (va_rf v1), none] [] (fn_J1_fixAfterInsertion_B0 d v0 v1) := by
  unfold fn_J1_fixAfterInsertion_B0
  refine tj_aload_n dJ1_fixAfterInsertion_0 rfl ?_
  refine tj_iconst (0 : Int32) dJ1_fixAfterInsertion_1 rfl ?_
  refine tj_put fl_J1_290 rfl rfl dJ1_fixAfterInsertion_2 (fun σ => ?_)
  exact tj_J1_fixAfterInsertion_L5 d mx_K v0 v1 _
theorem ct_J1_fixAfterInsertion : ∀ (d : Nat) (v0 : Option Nat) (v1 : Option Nat), ct_ yJ1_fixAfterInsertion (ws_ yJ1_fixAfterInsertion cJ1_fixAfterInsertion 3 none) d em_v [va_rf v0, va_rf v1] (fn_J1_fixAfterInsertion d v0 v1)
  | 0, _, _ => ct_fail
  | d + 1, v0, v1 => ct_of [(false, va_rf v0), (false, va_rf v1)] [some (va_rf v0), some (va_rf v1), none] (by decide) rfl ⟨rfl, (rf_cat _), ⟨rfl, (rf_cat _), trivial⟩⟩ (fun E X n0 s0 σ => tj_J1_fixAfterInsertion_B0 d v0 v1 σ)
theorem tj_J41_init_B0 {E : tj_E} {X : tj_X} {n0 s0 : Nat} (d : Nat) (v0 : Option Nat) (v1 : Option Nat) (v2 : Option Nat) (v3 : Option Nat) (σ : hp_S) : tj_T E X RJ41 "<init>" cJ41_init 4 none (d + 1) [] n0 s0 em_v σ 0 [some (va_rf v0), some (va_rf v1), some (va_rf v2), some (va_rf v3)] [] (fn_J41_init_B0 d v0 v1 v2 v3) := by
  unfold fn_J41_init_B0
  refine tj_aload_n dJ41_init_0 rfl ?_
  refine tj_objInit q1692 q183 q184 (by decide) dJ41_init_1 (fun _ _ => ?_)
  refine tj_aload_n dJ41_init_4 rfl ?_
  refine tj_iconst (1 : Int32) dJ41_init_5 rfl ?_
  refine tj_put fl_J41_9 rfl rfl dJ41_init_6 (fun σ => ?_)
  refine tj_aload_n dJ41_init_9 rfl ?_
  refine tj_aload_n dJ41_init_10 rfl ?_
  refine tj_put fl_J41_15 (nar_rf _) (fit_rf _) dJ41_init_11 (fun σ => ?_)
  refine tj_aload_n dJ41_init_14 rfl ?_
  refine tj_aload_n dJ41_init_15 rfl ?_
  refine tj_put fl_J41_19 (nar_rf _) (fit_rf _) dJ41_init_16 (fun σ => ?_)
  refine tj_aload_n dJ41_init_19 rfl ?_
  refine tj_aload_n dJ41_init_20 rfl ?_
  refine tj_put fl_J41_22 (nar_rf _) (fit_rf _) dJ41_init_21 (fun σ => ?_)
  exact tj_vret dJ41_init_24
theorem ct_J41_init : ∀ (d : Nat) (v0 : Option Nat) (v1 : Option Nat) (v2 : Option Nat) (v3 : Option Nat), ct_ yJ41_init (ws_ yJ41_init cJ41_init 4 none) d em_v [va_rf v0, va_rf v1, va_rf v2, va_rf v3] (fn_J41_init d v0 v1 v2 v3)
  | 0, _, _, _, _ => ct_fail
  | d + 1, v0, v1, v2, v3 => ct_of [(false, va_rf v0), (false, va_rf v1), (false, va_rf v2), (false, va_rf v3)] [some (va_rf v0), some (va_rf v1), some (va_rf v2), some (va_rf v3)] (by decide) rfl ⟨rfl, (rf_cat _), ⟨rfl, (rf_cat _), ⟨rfl, (rf_cat _), ⟨rfl, (rf_cat _), trivial⟩⟩⟩⟩ (fun E X n0 s0 σ => tj_J41_init_B0 d v0 v1 v2 v3 σ)
theorem tj_J1_addEntry_J32 {E : tj_E} {X : tj_X} {n0 s0 : Nat} (d : Nat) (l0 : Option Nat) (l5 : Option Nat) (σ : hp_S) : tj_T E X RJ1 "addEntry" cJ1_addEntry 6 none (d + 1) [] n0 s0 em_v σ 32 [some (va_rf l0), none, none, none, none, some (va_rf l5)] [] (fn_J1_addEntry_J32 d l0 l5) := by
  unfold fn_J1_addEntry_J32
  refine tj_aload_n dJ1_addEntry_32 rfl ?_
  refine tj_aload dJ1_addEntry_33 rfl ?_
  refine tj_callV (as := [va_rf l5]) (rest := []) (st' := (fun _ => [])) (t := 18) (fun a e => by cases e; exact ct_J1_fixAfterInsertion d _ _) (by decide) rfl q1727 q1729 qs12 q99 q1730 rfl md_J1_fixAfterInsertion rfl (by decide) rfl (by decide) dJ1_addEntry_35 (fun _ => rfl) (fun _ σ => ?_) (by decide)
  refine tj_aload_n dJ1_addEntry_38 rfl ?_
  refine tj_dup dJ1_addEntry_39 (rf_cat _) ?_
  refine tj_getI fl_J1_7 dJ1_addEntry_40 (fun v101 => ?_)
  refine tj_iconst (1 : Int32) dJ1_addEntry_43 rfl ?_
  refine tj_iadd dJ1_addEntry_44 ?_
  refine tj_put fl_J1_7 rfl rfl dJ1_addEntry_45 (fun σ => ?_)
  refine tj_aload_n dJ1_addEntry_48 rfl ?_
  refine tj_dup dJ1_addEntry_49 (rf_cat _) ?_
  refine tj_getI fl_J1_13 dJ1_addEntry_50 (fun v102 => ?_)
  refine tj_iconst (1 : Int32) dJ1_addEntry_53 rfl ?_
  refine tj_iadd dJ1_addEntry_54 ?_
  refine tj_put fl_J1_13 rfl rfl dJ1_addEntry_55 (fun σ => ?_)
  exact tj_vret dJ1_addEntry_58
theorem tj_J1_addEntry_B0 {E : tj_E} {X : tj_X} {n0 s0 : Nat} (d : Nat) (v0 : Option Nat) (v1 : Option Nat) (v2 : Option Nat) (v3 : Option Nat) (v4 : Int32) (σ : hp_S) : tj_T E X RJ1 "addEntry" cJ1_addEntry 6 none (d + 1) [] n0 s0 em_v σ 0 [some (va_rf v0), some (va_rf v1), some (va_rf v2), some (va_rf v3), some (.int v4), none] [] (fn_J1_addEntry_B0 d v0 v1 v2 v3 v4) := by
  unfold fn_J1_addEntry_B0
  refine tj_new nw_J1_59 dJ1_addEntry_0 (fun a101 σ => ?_)
  refine tj_dup dJ1_addEntry_3 (rf_cat _) ?_
  refine tj_aload_n dJ1_addEntry_4 rfl ?_
  refine tj_aload_n dJ1_addEntry_5 rfl ?_
  refine tj_aload_n dJ1_addEntry_6 rfl ?_
  refine tj_callI (as := [va_rf v1, va_rf v2, va_rf v3]) (rest := [va_rf (some a101)]) (st' := (fun _ => [va_rf (some a101)])) (fun a e => by cases e; exact ct_J41_init d _ _ _ _) q1689 q1690 q145 q1691 rfl md_J41_init rfl (by decide) rfl (by simp [rf_cat, cat_i, cat_l, cat_f, cat_d]) dJ1_addEntry_7 (fun _ => rfl) (fun _ σ => ?_) (by decide)
  refine tj_astore dJ1_addEntry_10 (by decide) rfl [some (va_rf v0), some (va_rf v1), some (va_rf v2), some (va_rf v3), some (.int v4), some (va_rf (some a101))] rfl ?_
  refine tj_iload dJ1_addEntry_12 rfl ?_
  refine tj_if_eq 26 dJ1_addEntry_14 rfl (fun _ => ?_) (fun _ => ?_)
  · refine tj_aload_n dJ1_addEntry_26 rfl ?_
    refine tj_aload dJ1_addEntry_27 rfl ?_
    refine tj_put fl_J1_114 (nar_rf _) (fit_rf _) dJ1_addEntry_29 (fun σ => ?_)
    refine tj_wk (L' := [some (va_rf v0), none, none, none, none, some (va_rf (some a101))]) ⟨rfl, rfl, trivial⟩ ?_
    exact tj_J1_addEntry_J32 d v0 (some a101) _
  · refine tj_aload_n dJ1_addEntry_17 rfl ?_
    refine tj_aload dJ1_addEntry_18 rfl ?_
    refine tj_put fl_J1_111 (nar_rf _) (fit_rf _) dJ1_addEntry_20 (fun σ => ?_)
    refine tj_goto 32 dJ1_addEntry_23 rfl ?_
    refine tj_wk (L' := [some (va_rf v0), none, none, none, none, some (va_rf (some a101))]) ⟨rfl, rfl, trivial⟩ ?_
    exact tj_J1_addEntry_J32 d v0 (some a101) _
theorem ct_J1_addEntry : ∀ (d : Nat) (v0 : Option Nat) (v1 : Option Nat) (v2 : Option Nat) (v3 : Option Nat) (v4 : Int32), ct_ yJ1_addEntry (ws_ yJ1_addEntry cJ1_addEntry 6 none) d em_v [va_rf v0, va_rf v1, va_rf v2, va_rf v3, .int v4] (fn_J1_addEntry d v0 v1 v2 v3 v4)
  | 0, _, _, _, _, _ => ct_fail
  | d + 1, v0, v1, v2, v3, v4 => ct_of [(false, va_rf v0), (false, va_rf v1), (false, va_rf v2), (false, va_rf v3), (false, .int v4)] [some (va_rf v0), some (va_rf v1), some (va_rf v2), some (va_rf v3), some (.int v4), none] (by decide) rfl ⟨rfl, (rf_cat _), ⟨rfl, (rf_cat _), ⟨rfl, (rf_cat _), ⟨rfl, (rf_cat _), ⟨rfl, rfl, trivial⟩⟩⟩⟩⟩ (fun E X n0 s0 σ => tj_J1_addEntry_B0 d v0 v1 v2 v3 v4 σ)
theorem tj_J1_compare_B0 {E : tj_E} {X : tj_X} {n0 s0 : Nat} (d : Nat) (v0 : Option Nat) (v1 : Option Nat) (v2 : Option Nat) (σ : hp_S) : tj_T E X RJ1 "compare" cJ1_compare 3 (some .int) (d + 1) [] n0 s0 em_i σ 0 [some (va_rf v0), some (va_rf v1), some (va_rf v2)] [] (fn_J1_compare_B0 d v0 v1 v2) := by
  unfold fn_J1_compare_B0
  refine tj_aload_n dJ1_compare_0 rfl ?_
  refine tj_getR fl_J1_16r dJ1_compare_1 (fun v101 => ?_)
  refine tj_ifnonnull 20 dJ1_compare_4 rfl (fun _ => ?_) (fun _ _ => ?_)
  · refine tj_aload_n dJ1_compare_7 rfl ?_
    refine tj_cast (nm := "java/lang/Comparable") q1464 ca_java_lang_Comparable dJ1_compare_8 ?_
    refine tj_aload_n dJ1_compare_11 rfl ?_
    refine tj_callF (as := [va_rf v2]) (rest := []) (st' := (fun r => [.int r])) (t := 31) (fun a e => by cases e; exact ct_J27_compareTo d _ _) (by decide) rfl q1466 q1470 q1472 q128 q1474 (ev_i 4 rfl) q1473 q1471 q1469 md_i4 rfl (by decide) rfl (by decide) dJ1_compare_12 (fun _ => rfl) (fun r102 σ => ?_) (by decide)
    refine tj_goto 31 dJ1_compare_17 rfl ?_
    exact tj_iret dJ1_compare_31
  · refine tj_aload_n dJ1_compare_20 rfl ?_
    refine tj_getR fl_J1_16r dJ1_compare_21 (fun v103 => ?_)
    refine tj_aload_n dJ1_compare_24 rfl ?_
    refine tj_aload_n dJ1_compare_25 rfl ?_
    refine tj_callF (as := [va_rf v1, va_rf v2]) (rest := []) (st' := (fun r => [.int r])) (t := 10) (fun a e => by cases e; exact ct_X14_compare d _ _ _) (by decide) rfl q1662 q1677 q1679 q165 q1681 (ev_i 5 rfl) q1680 q1678 q1676 md_i5 rfl (by decide) rfl (by decide) dJ1_compare_26 (fun _ => rfl) (fun r104 σ => ?_) (by decide)
    exact tj_iret dJ1_compare_31
theorem ct_J1_compare : ∀ (d : Nat) (v0 : Option Nat) (v1 : Option Nat) (v2 : Option Nat), ct_ yJ1_compare (ws_ yJ1_compare cJ1_compare 3 (some .int)) d em_i [va_rf v0, va_rf v1, va_rf v2] (fn_J1_compare d v0 v1 v2)
  | 0, _, _, _ => ct_fail
  | d + 1, v0, v1, v2 => ct_of [(false, va_rf v0), (false, va_rf v1), (false, va_rf v2)] [some (va_rf v0), some (va_rf v1), some (va_rf v2)] (by decide) rfl ⟨rfl, (rf_cat _), ⟨rfl, (rf_cat _), ⟨rfl, (rf_cat _), trivial⟩⟩⟩ (fun E X n0 s0 σ => tj_J1_compare_B0 d v0 v1 v2 σ)
theorem tj_J1_addEntryToEmptyMap_B0 {E : tj_E} {X : tj_X} {n0 s0 : Nat} (d : Nat) (v0 : Option Nat) (v1 : Option Nat) (v2 : Option Nat) (σ : hp_S) : tj_T E X RJ1 "addEntryToEmptyMap" cJ1_addEntryToEmptyMap 3 none (d + 1) [] n0 s0 em_v σ 0 [some (va_rf v0), some (va_rf v1), some (va_rf v2)] [] (fn_J1_addEntryToEmptyMap_B0 d v0 v1 v2) := by
  unfold fn_J1_addEntryToEmptyMap_B0
  refine tj_aload_n dJ1_addEntryToEmptyMap_0 rfl ?_
  refine tj_aload_n dJ1_addEntryToEmptyMap_1 rfl ?_
  refine tj_aload_n dJ1_addEntryToEmptyMap_2 rfl ?_
  refine tj_callV (as := [va_rf v1, va_rf v1]) (rest := []) (st' := (fun r => [.int r])) (t := 18) (fun a e => by cases e; exact ct_J1_compare d _ _ _) (by decide) rfl q1460 q1461 q1462 q99 q1463 rfl md_J1_compare rfl (by decide) rfl (by decide) dJ1_addEntryToEmptyMap_3 (fun _ => rfl) (fun r101 σ => ?_) (by decide)
  refine tj_pop dJ1_addEntryToEmptyMap_6 rfl ?_
  refine tj_aload_n dJ1_addEntryToEmptyMap_7 rfl ?_
  refine tj_new nw_J1_59 dJ1_addEntryToEmptyMap_8 (fun a102 σ => ?_)
  refine tj_dup dJ1_addEntryToEmptyMap_11 (rf_cat _) ?_
  refine tj_aload_n dJ1_addEntryToEmptyMap_12 rfl ?_
  refine tj_aload_n dJ1_addEntryToEmptyMap_13 rfl ?_
  refine tj_null dJ1_addEntryToEmptyMap_14 ?_
  refine tj_callI (as := [va_rf v1, va_rf v2, va_rf none]) (rest := [va_rf (some a102), va_rf v0]) (st' := (fun _ => [va_rf (some a102), va_rf v0])) (fun a e => by cases e; exact ct_J41_init d _ _ _ _) q1689 q1690 q145 q1691 rfl md_J41_init rfl (by decide) rfl (by simp [rf_cat, cat_i, cat_l, cat_f, cat_d]) dJ1_addEntryToEmptyMap_15 (fun _ => rfl) (fun _ σ => ?_) (by decide)
  refine tj_put fl_J1_101 (nar_rf _) (fit_rf _) dJ1_addEntryToEmptyMap_18 (fun σ => ?_)
  refine tj_aload_n dJ1_addEntryToEmptyMap_21 rfl ?_
  refine tj_iconst (1 : Int32) dJ1_addEntryToEmptyMap_22 rfl ?_
  refine tj_put fl_J1_7 rfl rfl dJ1_addEntryToEmptyMap_23 (fun σ => ?_)
  refine tj_aload_n dJ1_addEntryToEmptyMap_26 rfl ?_
  refine tj_dup dJ1_addEntryToEmptyMap_27 (rf_cat _) ?_
  refine tj_getI fl_J1_13 dJ1_addEntryToEmptyMap_28 (fun v103 => ?_)
  refine tj_iconst (1 : Int32) dJ1_addEntryToEmptyMap_31 rfl ?_
  refine tj_iadd dJ1_addEntryToEmptyMap_32 ?_
  refine tj_put fl_J1_13 rfl rfl dJ1_addEntryToEmptyMap_33 (fun σ => ?_)
  exact tj_vret dJ1_addEntryToEmptyMap_36
theorem ct_J1_addEntryToEmptyMap : ∀ (d : Nat) (v0 : Option Nat) (v1 : Option Nat) (v2 : Option Nat), ct_ yJ1_addEntryToEmptyMap (ws_ yJ1_addEntryToEmptyMap cJ1_addEntryToEmptyMap 3 none) d em_v [va_rf v0, va_rf v1, va_rf v2] (fn_J1_addEntryToEmptyMap d v0 v1 v2)
  | 0, _, _, _ => ct_fail
  | d + 1, v0, v1, v2 => ct_of [(false, va_rf v0), (false, va_rf v1), (false, va_rf v2)] [some (va_rf v0), some (va_rf v1), some (va_rf v2)] (by decide) rfl ⟨rfl, (rf_cat _), ⟨rfl, (rf_cat _), ⟨rfl, (rf_cat _), trivial⟩⟩⟩ (fun E X n0 s0 σ => tj_J1_addEntryToEmptyMap_B0 d v0 v1 v2 σ)
theorem tj_J1_put_2_J216 {E : tj_E} {X : tj_X} {n0 s0 : Nat} (d : Nat) (p0 : Option Nat) (p1 : Option Nat) (p2 : Option Nat) (p3 : Option Nat) (p4 : Int32) (σ : hp_S) : tj_T E X RJ1 "put" cJ1_put_2 10 (some (.object "java/lang/Object")) (d + 1) [] n0 s0 em_r σ 216 [none, none, none, none, none, none, none, none, none, none] [.int p4, va_rf p3, va_rf p2, va_rf p1, va_rf p0] (fn_J1_put_2_J216 d p0 p1 p2 p3 p4) := by
  unfold fn_J1_put_2_J216
  refine tj_callV (as := [va_rf p1, va_rf p2, va_rf p3, .int p4]) (rest := []) (st' := (fun _ => [])) (t := 18) (fun a e => by cases e; exact ct_J1_addEntry d _ _ _ _ _) (by decide) rfl q1723 q1725 qs11 q99 q1726 rfl md_J1_addEntry rfl (by decide) rfl (by decide) dJ1_put_2_216 (fun _ => rfl) (fun _ σ => ?_) (by decide)
  refine tj_null dJ1_put_2_219 ?_
  exact tj_aret (Or.inl ⟨_, rfl⟩) dJ1_put_2_220
theorem tj_J1_put_2_J201 {E : tj_E} {X : tj_X} {n0 s0 : Nat} (d : Nat) (l0 : Option Nat) (l1 : Option Nat) (l2 : Option Nat) (l5 : Int32) (l6 : Option Nat) (σ : hp_S) : tj_T E X RJ1 "put" cJ1_put_2 10 (some (.object "java/lang/Object")) (d + 1) [] n0 s0 em_r σ 201 [some (va_rf l0), some (va_rf l1), some (va_rf l2), none, none, some (.int l5), some (va_rf l6), none, none, none] [] (fn_J1_put_2_J201 d l0 l1 l2 l5 l6) := by
  unfold fn_J1_put_2_J201
  refine tj_aload_n dJ1_put_2_201 rfl ?_
  refine tj_aload_n dJ1_put_2_202 rfl ?_
  refine tj_aload_n dJ1_put_2_203 rfl ?_
  refine tj_aload dJ1_put_2_204 rfl ?_
  refine tj_iload dJ1_put_2_206 rfl ?_
  refine tj_if_ge 215 dJ1_put_2_208 rfl (fun _ => ?_) (fun _ => ?_)
  · refine tj_iconst (0 : Int32) dJ1_put_2_215 rfl ?_
    refine tj_wk (L' := [none, none, none, none, none, none, none, none, none, none]) trivial ?_
    exact tj_J1_put_2_J216 d l0 l1 l2 l6 (0 : Int32) _
  · refine tj_iconst (1 : Int32) dJ1_put_2_211 rfl ?_
    refine tj_goto 216 dJ1_put_2_212 rfl ?_
    refine tj_wk (L' := [none, none, none, none, none, none, none, none, none, none]) trivial ?_
    exact tj_J1_put_2_J216 d l0 l1 l2 l6 (1 : Int32) _
theorem tj_J1_put_2_J104 {E : tj_E} {X : tj_X} {n0 s0 : Nat} (d : Nat) {b30 : Option Nat → Option Nat → Option Nat → Int32 → Option Nat → Option Nat → mx_M (Option Nat)} (h30 : ∀ (l0 : Option Nat) (l1 : Option Nat) (l2 : Option Nat) (l3 : Int32) (l4 : Option Nat) (l7 : Option Nat) (σ : hp_S), tj_T E X RJ1 "put" cJ1_put_2 10 (some (.object "java/lang/Object")) (d + 1) [] n0 s0 em_r σ 30 [some (va_rf l0), some (va_rf l1), some (va_rf l2), some (.int l3), some (va_rf l4), none, none, some (va_rf l7), none, none] [] (b30 l0 l1 l2 l3 l4 l7)) (l0 : Option Nat) (l1 : Option Nat) (l2 : Option Nat) (l3 : Int32) (l4 : Option Nat) (l5 : Int32) (l6 : Option Nat) (l7 : Option Nat) (σ : hp_S) : tj_T E X RJ1 "put" cJ1_put_2 10 (some (.object "java/lang/Object")) (d + 1) [] n0 s0 em_r σ 104 [some (va_rf l0), some (va_rf l1), some (va_rf l2), some (.int l3), some (va_rf l4), some (.int l5), some (va_rf l6), some (va_rf l7), none, none] [] (fn_J1_put_2_J104 d b30 l0 l1 l2 l3 l4 l5 l6 l7) := by
  unfold fn_J1_put_2_J104
  refine tj_aload dJ1_put_2_104 rfl ?_
  refine tj_ifnonnull 30 dJ1_put_2_106 rfl (fun _ => ?_) (fun _ _ => ?_)
  · refine tj_goto 201 dJ1_put_2_109 rfl ?_
    refine tj_wk (L' := [some (va_rf l0), some (va_rf l1), some (va_rf l2), none, none, some (.int l5), some (va_rf l6), none, none, none]) ⟨rfl, rfl, rfl, rfl, rfl, trivial⟩ ?_
    exact tj_J1_put_2_J201 d l0 l1 l2 l5 l6 _
  · refine tj_wk (L' := [some (va_rf l0), some (va_rf l1), some (va_rf l2), some (.int l3), some (va_rf l4), none, none, some (va_rf l7), none, none]) ⟨rfl, rfl, rfl, rfl, rfl, rfl, trivial⟩ ?_
    exact h30 l0 l1 l2 l3 l4 l7 _
theorem tj_J1_put_2_L30_b {E : tj_E} {X : tj_X} {n0 s0 : Nat} (d : Nat) {b30 : Option Nat → Option Nat → Option Nat → Int32 → Option Nat → Option Nat → mx_M (Option Nat)} (h30 : ∀ (l0 : Option Nat) (l1 : Option Nat) (l2 : Option Nat) (l3 : Int32) (l4 : Option Nat) (l7 : Option Nat) (σ : hp_S), tj_T E X RJ1 "put" cJ1_put_2 10 (some (.object "java/lang/Object")) (d + 1) [] n0 s0 em_r σ 30 [some (va_rf l0), some (va_rf l1), some (va_rf l2), some (.int l3), some (va_rf l4), none, none, some (va_rf l7), none, none] [] (b30 l0 l1 l2 l3 l4 l7)) (l0 : Option Nat) (l1 : Option Nat) (l2 : Option Nat) (l3 : Int32) (l4 : Option Nat) (l7 : Option Nat) (σ : hp_S) : tj_T E X RJ1 "put" cJ1_put_2 10 (some (.object "java/lang/Object")) (d + 1) [] n0 s0 em_r σ 30 [some (va_rf l0), some (va_rf l1), some (va_rf l2), some (.int l3), some (va_rf l4), none, none, some (va_rf l7), none, none] [] (fn_J1_put_2_L30_b d b30 l0 l1 l2 l3 l4 l7) := by
  unfold fn_J1_put_2_L30_b
  refine tj_aload dJ1_put_2_30 rfl ?_
  refine tj_astore dJ1_put_2_32 (by decide) trivial [some (va_rf l0), some (va_rf l1), some (va_rf l2), some (.int l3), some (va_rf l4), none, some (va_rf l4), some (va_rf l7), none, none] rfl ?_
  refine tj_aload dJ1_put_2_34 rfl ?_
  refine tj_aload_n dJ1_put_2_36 rfl ?_
  refine tj_aload dJ1_put_2_37 rfl ?_
  refine tj_getR fl_J1_105 dJ1_put_2_39 (fun v101 => ?_)
  refine tj_callF (as := [va_rf l1, va_rf v101]) (rest := []) (st' := (fun r => [.int r])) (t := 10) (fun a e => by cases e; exact ct_X14_compare d _ _ _) (by decide) rfl q1662 q1677 q1679 q165 q1681 (ev_i 5 rfl) q1680 q1678 q1676 md_i5 rfl (by decide) rfl (by decide) dJ1_put_2_42 (fun _ => rfl) (fun r102 σ => ?_) (by decide)
  refine tj_istore dJ1_put_2_47 (by decide) (rf_cat _) [some (va_rf l0), some (va_rf l1), some (va_rf l2), some (.int l3), some (va_rf l4), some (.int r102), some (va_rf l4), some (va_rf l7), none, none] rfl ?_
  refine tj_iload dJ1_put_2_49 rfl ?_
  refine tj_if_ge 64 dJ1_put_2_51 rfl (fun _ => ?_) (fun _ => ?_)
  · refine tj_iload dJ1_put_2_64 rfl ?_
    refine tj_if_le 79 dJ1_put_2_66 rfl (fun _ => ?_) (fun _ => ?_)
    · refine tj_aload dJ1_put_2_79 rfl ?_
      refine tj_getR fl_J1_58 dJ1_put_2_81 (fun v103 => ?_)
      refine tj_astore dJ1_put_2_84 (by decide) (rf_cat _) [some (va_rf l0), some (va_rf l1), some (va_rf l2), some (.int l3), some (va_rf l4), some (.int r102), some (va_rf l4), some (va_rf l7), some (va_rf v103), none] rfl ?_
      refine tj_iload_n dJ1_put_2_86 rfl ?_
      refine tj_if_ne 95 dJ1_put_2_87 rfl (fun _ => ?_) (fun _ => ?_)
      · refine tj_aload dJ1_put_2_90 rfl ?_
        refine tj_ifnonnull 101 dJ1_put_2_92 rfl (fun _ => ?_) (fun _ _ => ?_)
        · refine tj_aload dJ1_put_2_95 rfl ?_
          refine tj_aload_n dJ1_put_2_97 rfl ?_
          refine tj_put fl_J1_58 (nar_rf _) (fit_rf _) dJ1_put_2_98 (fun σ => ?_)
          refine tj_aload dJ1_put_2_101 rfl ?_
          exact tj_aret (Or.inl ⟨_, rfl⟩) dJ1_put_2_103
        · refine tj_aload dJ1_put_2_101 rfl ?_
          exact tj_aret (Or.inl ⟨_, rfl⟩) dJ1_put_2_103
      · refine tj_aload dJ1_put_2_95 rfl ?_
        refine tj_aload_n dJ1_put_2_97 rfl ?_
        refine tj_put fl_J1_58 (nar_rf _) (fit_rf _) dJ1_put_2_98 (fun σ => ?_)
        refine tj_aload dJ1_put_2_101 rfl ?_
        exact tj_aret (Or.inl ⟨_, rfl⟩) dJ1_put_2_103
    · refine tj_aload dJ1_put_2_69 rfl ?_
      refine tj_getR fl_J1_114 dJ1_put_2_71 (fun v104 => ?_)
      refine tj_astore dJ1_put_2_74 (by decide) rfl [some (va_rf l0), some (va_rf l1), some (va_rf l2), some (.int l3), some (va_rf v104), some (.int r102), some (va_rf l4), some (va_rf l7), none, none] rfl ?_
      refine tj_goto 104 dJ1_put_2_76 rfl ?_
      exact tj_J1_put_2_J104 d h30 l0 l1 l2 l3 v104 r102 l4 l7 _
  · refine tj_aload dJ1_put_2_54 rfl ?_
    refine tj_getR fl_J1_111 dJ1_put_2_56 (fun v105 => ?_)
    refine tj_astore dJ1_put_2_59 (by decide) rfl [some (va_rf l0), some (va_rf l1), some (va_rf l2), some (.int l3), some (va_rf v105), some (.int r102), some (va_rf l4), some (va_rf l7), none, none] rfl ?_
    refine tj_goto 104 dJ1_put_2_61 rfl ?_
    exact tj_J1_put_2_J104 d h30 l0 l1 l2 l3 v105 r102 l4 l7 _
theorem tj_J1_put_2_L30 {E : tj_E} {X : tj_X} {n0 s0 : Nat} (d : Nat) : ∀ (k : Nat) (l0 : Option Nat) (l1 : Option Nat) (l2 : Option Nat) (l3 : Int32) (l4 : Option Nat) (l7 : Option Nat) (σ : hp_S), tj_T E X RJ1 "put" cJ1_put_2 10 (some (.object "java/lang/Object")) (d + 1) [] n0 s0 em_r σ 30 [some (va_rf l0), some (va_rf l1), some (va_rf l2), some (.int l3), some (va_rf l4), none, none, some (va_rf l7), none, none] [] (fn_J1_put_2_L30 d k l0 l1 l2 l3 l4 l7) := by
  intro k
  induction k with
  | zero =>
    intro l0 l1 l2 l3 l4 l7 σ
    exact tj_fail
  | succ k ih =>
    intro l0 l1 l2 l3 l4 l7 σ
    exact tj_J1_put_2_L30_b d ih l0 l1 l2 l3 l4 l7 σ
theorem tj_J1_put_2_J196 {E : tj_E} {X : tj_X} {n0 s0 : Nat} (d : Nat) {b123 : Option Nat → Option Nat → Option Nat → Int32 → Option Nat → Option Nat → mx_M (Option Nat)} (h123 : ∀ (l0 : Option Nat) (l1 : Option Nat) (l2 : Option Nat) (l3 : Int32) (l4 : Option Nat) (l8 : Option Nat) (σ : hp_S), tj_T E X RJ1 "put" cJ1_put_2 10 (some (.object "java/lang/Object")) (d + 1) [] n0 s0 em_r σ 123 [some (va_rf l0), some (va_rf l1), some (va_rf l2), some (.int l3), some (va_rf l4), none, none, none, some (va_rf l8), none] [] (b123 l0 l1 l2 l3 l4 l8)) (l0 : Option Nat) (l1 : Option Nat) (l2 : Option Nat) (l3 : Int32) (l4 : Option Nat) (l5 : Int32) (l6 : Option Nat) (l8 : Option Nat) (σ : hp_S) : tj_T E X RJ1 "put" cJ1_put_2 10 (some (.object "java/lang/Object")) (d + 1) [] n0 s0 em_r σ 196 [some (va_rf l0), some (va_rf l1), some (va_rf l2), some (.int l3), some (va_rf l4), some (.int l5), some (va_rf l6), none, some (va_rf l8), none] [] (fn_J1_put_2_J196 d b123 l0 l1 l2 l3 l4 l5 l6 l8) := by
  unfold fn_J1_put_2_J196
  refine tj_aload dJ1_put_2_196 rfl ?_
  refine tj_ifnonnull 123 dJ1_put_2_198 rfl (fun _ => ?_) (fun _ _ => ?_)
  · refine tj_wk (L' := [some (va_rf l0), some (va_rf l1), some (va_rf l2), none, none, some (.int l5), some (va_rf l6), none, none, none]) ⟨rfl, rfl, rfl, rfl, rfl, trivial⟩ ?_
    exact tj_J1_put_2_J201 d l0 l1 l2 l5 l6 _
  · refine tj_wk (L' := [some (va_rf l0), some (va_rf l1), some (va_rf l2), some (.int l3), some (va_rf l4), none, none, none, some (va_rf l8), none]) ⟨rfl, rfl, rfl, rfl, rfl, rfl, trivial⟩ ?_
    exact h123 l0 l1 l2 l3 l4 l8 _
theorem tj_J1_put_2_L123_b {E : tj_E} {X : tj_X} {n0 s0 : Nat} (d : Nat) {b123 : Option Nat → Option Nat → Option Nat → Int32 → Option Nat → Option Nat → mx_M (Option Nat)} (h123 : ∀ (l0 : Option Nat) (l1 : Option Nat) (l2 : Option Nat) (l3 : Int32) (l4 : Option Nat) (l8 : Option Nat) (σ : hp_S), tj_T E X RJ1 "put" cJ1_put_2 10 (some (.object "java/lang/Object")) (d + 1) [] n0 s0 em_r σ 123 [some (va_rf l0), some (va_rf l1), some (va_rf l2), some (.int l3), some (va_rf l4), none, none, none, some (va_rf l8), none] [] (b123 l0 l1 l2 l3 l4 l8)) (l0 : Option Nat) (l1 : Option Nat) (l2 : Option Nat) (l3 : Int32) (l4 : Option Nat) (l8 : Option Nat) (σ : hp_S) : tj_T E X RJ1 "put" cJ1_put_2 10 (some (.object "java/lang/Object")) (d + 1) [] n0 s0 em_r σ 123 [some (va_rf l0), some (va_rf l1), some (va_rf l2), some (.int l3), some (va_rf l4), none, none, none, some (va_rf l8), none] [] (fn_J1_put_2_L123_b d b123 l0 l1 l2 l3 l4 l8) := by
  unfold fn_J1_put_2_L123_b
  refine tj_aload dJ1_put_2_123 rfl ?_
  refine tj_astore dJ1_put_2_125 (by decide) trivial [some (va_rf l0), some (va_rf l1), some (va_rf l2), some (.int l3), some (va_rf l4), none, some (va_rf l4), none, some (va_rf l8), none] rfl ?_
  refine tj_aload dJ1_put_2_127 rfl ?_
  refine tj_aload dJ1_put_2_129 rfl ?_
  refine tj_getR fl_J1_105 dJ1_put_2_131 (fun v101 => ?_)
  refine tj_callF (as := [va_rf v101]) (rest := []) (st' := (fun r => [.int r])) (t := 31) (fun a e => by cases e; exact ct_J27_compareTo d _ _) (by decide) rfl q1466 q1470 q1472 q128 q1474 (ev_i 4 rfl) q1473 q1471 q1469 md_i4 rfl (by decide) rfl (by decide) dJ1_put_2_134 (fun _ => rfl) (fun r102 σ => ?_) (by decide)
  refine tj_istore dJ1_put_2_139 (by decide) (rf_cat _) [some (va_rf l0), some (va_rf l1), some (va_rf l2), some (.int l3), some (va_rf l4), some (.int r102), some (va_rf l4), none, some (va_rf l8), none] rfl ?_
  refine tj_iload dJ1_put_2_141 rfl ?_
  refine tj_if_ge 156 dJ1_put_2_143 rfl (fun _ => ?_) (fun _ => ?_)
  · refine tj_iload dJ1_put_2_156 rfl ?_
    refine tj_if_le 171 dJ1_put_2_158 rfl (fun _ => ?_) (fun _ => ?_)
    · refine tj_aload dJ1_put_2_171 rfl ?_
      refine tj_getR fl_J1_58 dJ1_put_2_173 (fun v103 => ?_)
      refine tj_astore dJ1_put_2_176 (by decide) (rf_cat _) [some (va_rf l0), some (va_rf l1), some (va_rf l2), some (.int l3), some (va_rf l4), some (.int r102), some (va_rf l4), none, some (va_rf l8), some (va_rf v103)] rfl ?_
      refine tj_iload_n dJ1_put_2_178 rfl ?_
      refine tj_if_ne 187 dJ1_put_2_179 rfl (fun _ => ?_) (fun _ => ?_)
      · refine tj_aload dJ1_put_2_182 rfl ?_
        refine tj_ifnonnull 193 dJ1_put_2_184 rfl (fun _ => ?_) (fun _ _ => ?_)
        · refine tj_aload dJ1_put_2_187 rfl ?_
          refine tj_aload_n dJ1_put_2_189 rfl ?_
          refine tj_put fl_J1_58 (nar_rf _) (fit_rf _) dJ1_put_2_190 (fun σ => ?_)
          refine tj_aload dJ1_put_2_193 rfl ?_
          exact tj_aret (Or.inl ⟨_, rfl⟩) dJ1_put_2_195
        · refine tj_aload dJ1_put_2_193 rfl ?_
          exact tj_aret (Or.inl ⟨_, rfl⟩) dJ1_put_2_195
      · refine tj_aload dJ1_put_2_187 rfl ?_
        refine tj_aload_n dJ1_put_2_189 rfl ?_
        refine tj_put fl_J1_58 (nar_rf _) (fit_rf _) dJ1_put_2_190 (fun σ => ?_)
        refine tj_aload dJ1_put_2_193 rfl ?_
        exact tj_aret (Or.inl ⟨_, rfl⟩) dJ1_put_2_195
    · refine tj_aload dJ1_put_2_161 rfl ?_
      refine tj_getR fl_J1_114 dJ1_put_2_163 (fun v104 => ?_)
      refine tj_astore dJ1_put_2_166 (by decide) rfl [some (va_rf l0), some (va_rf l1), some (va_rf l2), some (.int l3), some (va_rf v104), some (.int r102), some (va_rf l4), none, some (va_rf l8), none] rfl ?_
      refine tj_goto 196 dJ1_put_2_168 rfl ?_
      exact tj_J1_put_2_J196 d h123 l0 l1 l2 l3 v104 r102 l4 l8 _
  · refine tj_aload dJ1_put_2_146 rfl ?_
    refine tj_getR fl_J1_111 dJ1_put_2_148 (fun v105 => ?_)
    refine tj_astore dJ1_put_2_151 (by decide) rfl [some (va_rf l0), some (va_rf l1), some (va_rf l2), some (.int l3), some (va_rf v105), some (.int r102), some (va_rf l4), none, some (va_rf l8), none] rfl ?_
    refine tj_goto 196 dJ1_put_2_153 rfl ?_
    exact tj_J1_put_2_J196 d h123 l0 l1 l2 l3 v105 r102 l4 l8 _
theorem tj_J1_put_2_L123 {E : tj_E} {X : tj_X} {n0 s0 : Nat} (d : Nat) : ∀ (k : Nat) (l0 : Option Nat) (l1 : Option Nat) (l2 : Option Nat) (l3 : Int32) (l4 : Option Nat) (l8 : Option Nat) (σ : hp_S), tj_T E X RJ1 "put" cJ1_put_2 10 (some (.object "java/lang/Object")) (d + 1) [] n0 s0 em_r σ 123 [some (va_rf l0), some (va_rf l1), some (va_rf l2), some (.int l3), some (va_rf l4), none, none, none, some (va_rf l8), none] [] (fn_J1_put_2_L123 d k l0 l1 l2 l3 l4 l8) := by
  intro k
  induction k with
  | zero =>
    intro l0 l1 l2 l3 l4 l8 σ
    exact tj_fail
  | succ k ih =>
    intro l0 l1 l2 l3 l4 l8 σ
    exact tj_J1_put_2_L123_b d ih l0 l1 l2 l3 l4 l8 σ
theorem tj_J1_put_2_B0 {E : tj_E} {X : tj_X} {n0 s0 : Nat} (d : Nat) (v0 : Option Nat) (v1 : Option Nat) (v2 : Option Nat) (v3 : Int32) (σ : hp_S) : tj_T E X RJ1 "put" cJ1_put_2 10 (some (.object "java/lang/Object")) (d + 1) [] n0 s0 em_r σ 0 [some (va_rf v0), some (va_rf v1), some (va_rf v2), some (.int v3), none, none, none, none, none, none] [] (fn_J1_put_2_B0 d v0 v1 v2 v3) := by
  unfold fn_J1_put_2_B0
  refine tj_aload_n dJ1_put_2_0 rfl ?_
  refine tj_getR fl_J1_101 dJ1_put_2_1 (fun v101 => ?_)
  refine tj_astore dJ1_put_2_4 (by decide) rfl [some (va_rf v0), some (va_rf v1), some (va_rf v2), some (.int v3), some (va_rf v101), none, none, none, none, none] rfl ?_
  refine tj_aload dJ1_put_2_6 rfl ?_
  refine tj_ifnonnull 19 dJ1_put_2_8 rfl (fun _ => ?_) (fun _ _ => ?_)
  · refine tj_aload_n dJ1_put_2_11 rfl ?_
    refine tj_aload_n dJ1_put_2_12 rfl ?_
    refine tj_aload_n dJ1_put_2_13 rfl ?_
    refine tj_callV (as := [va_rf v1, va_rf v2]) (rest := []) (st' := (fun _ => [])) (t := 18) (fun a e => by cases e; exact ct_J1_addEntryToEmptyMap d _ _ _) (by decide) rfl q1456 q1458 qs10 q99 q1459 rfl md_J1_addEntryToEmptyMap rfl (by decide) rfl (by decide) dJ1_put_2_14 (fun _ => rfl) (fun _ σ => ?_) (by decide)
    refine tj_null dJ1_put_2_17 ?_
    exact tj_aret (Or.inl ⟨_, rfl⟩) dJ1_put_2_18
  · refine tj_aload_n dJ1_put_2_19 rfl ?_
    refine tj_getR fl_J1_16r dJ1_put_2_20 (fun v102 => ?_)
    refine tj_astore dJ1_put_2_23 (by decide) trivial [some (va_rf v0), some (va_rf v1), some (va_rf v2), some (.int v3), some (va_rf v101), none, none, some (va_rf v102), none, none] rfl ?_
    refine tj_aload dJ1_put_2_25 rfl ?_
    refine tj_ifnull 112 dJ1_put_2_27 rfl (fun _ => ?_) (fun _ _ => ?_)
    · refine tj_aload_n dJ1_put_2_112 rfl ?_
      refine tj_callS (as := [va_rf v1]) (rest := []) (st' := (fun r => [va_rf r])) (ct_J37_requireNonNull d v1) q1720 q1721 q139 q1722 md_J37_requireNonNull rfl (by decide) rfl (by decide) dJ1_put_2_113 (fun _ => rfl) (fun r103 σ => ?_) (by decide)
      refine tj_pop dJ1_put_2_116 (rf_cat _) ?_
      refine tj_aload_n dJ1_put_2_117 rfl ?_
      refine tj_cast (nm := "java/lang/Comparable") q1464 ca_java_lang_Comparable dJ1_put_2_118 ?_
      refine tj_astore dJ1_put_2_121 (by decide) (rf_cat _) [some (va_rf v0), some (va_rf v1), some (va_rf v2), some (.int v3), some (va_rf v101), none, none, some (va_rf v102), some (va_rf v1), none] rfl ?_
      refine tj_wk (L' := [some (va_rf v0), some (va_rf v1), some (va_rf v2), some (.int v3), some (va_rf v101), none, none, none, some (va_rf v1), none]) ⟨rfl, rfl, rfl, rfl, rfl, rfl, trivial⟩ ?_
      exact tj_J1_put_2_L123 d mx_K v0 v1 v2 v3 v101 v1 _
    · exact tj_J1_put_2_L30 d mx_K v0 v1 v2 v3 v101 v102 _
theorem ct_J1_put_2 : ∀ (d : Nat) (v0 : Option Nat) (v1 : Option Nat) (v2 : Option Nat) (v3 : Int32), ct_ yJ1_put_2 (ws_ yJ1_put_2 cJ1_put_2 10 (some (.object "java/lang/Object"))) d em_r [va_rf v0, va_rf v1, va_rf v2, .int v3] (fn_J1_put_2 d v0 v1 v2 v3)
  | 0, _, _, _, _ => ct_fail
  | d + 1, v0, v1, v2, v3 => ct_of [(false, va_rf v0), (false, va_rf v1), (false, va_rf v2), (false, .int v3)] [some (va_rf v0), some (va_rf v1), some (va_rf v2), some (.int v3), none, none, none, none, none, none] (by decide) rfl ⟨rfl, (rf_cat _), ⟨rfl, (rf_cat _), ⟨rfl, (rf_cat _), ⟨rfl, rfl, trivial⟩⟩⟩⟩ (fun E X n0 s0 σ => tj_J1_put_2_B0 d v0 v1 v2 v3 σ)
theorem tj_J1_put_B0 {E : tj_E} {X : tj_X} {n0 s0 : Nat} (d : Nat) (v0 : Option Nat) (v1 : Option Nat) (v2 : Option Nat) (σ : hp_S) : tj_T E X RJ1 "put" cJ1_put 3 (some (.object "java/lang/Object")) (d + 1) [] n0 s0 em_r σ 0 [some (va_rf v0), some (va_rf v1), some (va_rf v2)] [] (fn_J1_put_B0 d v0 v1 v2) := by
  unfold fn_J1_put_B0
  refine tj_aload_n dJ1_put_0 rfl ?_
  refine tj_aload_n dJ1_put_1 rfl ?_
  refine tj_aload_n dJ1_put_2 rfl ?_
  refine tj_iconst (1 : Int32) dJ1_put_3 rfl ?_
  refine tj_callV (as := [va_rf v1, va_rf v2, .int (1 : Int32)]) (rest := []) (st' := (fun r => [va_rf r])) (t := 18) (fun a e => by cases e; exact ct_J1_put_2 d _ _ _ _) (by decide) rfl q1452 q1454 qs9 q99 q1455 rfl md_J1_put_2 rfl (by decide) rfl (by decide) dJ1_put_4 (fun _ => rfl) (fun r101 σ => ?_) (by decide)
  exact tj_aret (Or.inl ⟨_, rfl⟩) dJ1_put_7
theorem ct_J1_put : ∀ (d : Nat) (v0 : Option Nat) (v1 : Option Nat) (v2 : Option Nat), ct_ yJ1_put (ws_ yJ1_put cJ1_put 3 (some (.object "java/lang/Object"))) d em_r [va_rf v0, va_rf v1, va_rf v2] (fn_J1_put d v0 v1 v2)
  | 0, _, _, _ => ct_fail
  | d + 1, v0, v1, v2 => ct_of [(false, va_rf v0), (false, va_rf v1), (false, va_rf v2)] [some (va_rf v0), some (va_rf v1), some (va_rf v2)] (by decide) rfl ⟨rfl, (rf_cat _), ⟨rfl, (rf_cat _), ⟨rfl, (rf_cat _), trivial⟩⟩⟩ (fun E X n0 s0 σ => tj_J1_put_B0 d v0 v1 v2 σ)
