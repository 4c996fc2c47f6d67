set_option maxRecDepth 100000
theorem tj_X2_draw_J61 {E : tj_E} {X : tj_X} {n0 s0 : Nat} (d : Nat) (l0 : Option Nat) (l3 : Option Nat) (σ : hp_S) : tj_T E X RX2 "draw" cX2_draw 4 none (d + 1) [] n0 s0 em_v σ 61 [some (va_rf l0), none, none, some (va_rf l3)] [] (fn_X2_draw_J61 d l0 l3) := by
  unfold fn_X2_draw_J61
  refine tj_aload_n dX2_draw_61 rfl ?_
  refine tj_aload_n dX2_draw_62 rfl ?_
  refine tj_callV (as := [va_rf l3]) (rest := []) (st' := (fun _ => [])) (t := 2) (fun a e => by cases e; exact ct_X2_put d _ _) (by decide) rfl q2376 q2378 qs27 q97 q2379 rfl md_X2_put rfl (by decide) rfl (by decide) dX2_draw_63 (fun _ => rfl) (fun _ σ => ?_) (by decide)
  exact tj_vret dX2_draw_66
theorem tj_X2_draw_B0 {E : tj_E} {X : tj_X} {n0 s0 : Nat} (d : Nat) (v0 : Option Nat) (v1 : Option Nat) (v2 : Int32) (σ : hp_S) : tj_T E X RX2 "draw" cX2_draw 4 none (d + 1) [] n0 s0 em_v σ 0 [some (va_rf v0), some (va_rf v1), some (.int v2), none] [] (fn_X2_draw_B0 d v0 v1 v2) := by
  unfold fn_X2_draw_B0
  refine tj_new nw_X2_99 dX2_draw_0 (fun a101 σ => ?_)
  refine tj_dup dX2_draw_3 (rf_cat _) ?_
  refine tj_aload_n dX2_draw_4 rfl ?_
  refine tj_getI fl_X2_76 dX2_draw_5 (fun v102 => ?_)
  refine tj_aload_n dX2_draw_8 rfl ?_
  refine tj_getI fl_X2_48r dX2_draw_9 (fun v103 => ?_)
  refine tj_iload_n dX2_draw_12 rfl ?_
  refine tj_callI (as := [.int v102, .int v103, .int v2]) (rest := [va_rf (some a101)]) (st' := (fun _ => [va_rf (some a101)])) (fun a e => by cases e; exact ct_X9_init d _ _ _ _) q2035 q2036 q152 q2037 rfl md_X9_init rfl (by decide) rfl (by simp [rf_cat, cat_i, cat_l, cat_f, cat_d]) dX2_draw_13 (fun _ => rfl) (fun _ σ => ?_) (by decide)
  refine tj_astore_n dX2_draw_16 (by decide) rfl [some (va_rf v0), some (va_rf v1), some (.int v2), some (va_rf (some a101))] rfl ?_
  refine tj_aload_n dX2_draw_17 rfl ?_
  refine tj_getR fl_X2_12r dX2_draw_18 (fun v104 => ?_)
  refine tj_aload_n dX2_draw_21 rfl ?_
  refine tj_getI fl_X2_48r dX2_draw_22 (fun v105 => ?_)
  refine tj_callS (as := [.int v105]) (rest := [va_rf v104]) (st' := (fun r => [va_rf r, va_rf v104])) (ct_J27_valueOf d v105) q1428 q1429 q128 q1430 md_J27_valueOf rfl (by decide) rfl (by simp [rf_cat, cat_i, cat_l, cat_f, cat_d]) dX2_draw_25 (fun _ => rfl) (fun r106 σ => ?_) (by decide)
  refine tj_aload_n dX2_draw_28 rfl ?_
  refine tj_aload_n dX2_draw_29 rfl ?_
  refine tj_callV (as := [va_rf (some a101)]) (rest := [va_rf r106, va_rf v104]) (st' := (fun r => [va_rf r, va_rf r106, va_rf v104])) (t := 5) (fun a e => by cases e; exact ct_X8_with d _ _) (by decide) rfl q2054 q2055 q2056 q151 q2057 rfl md_X8_with rfl (by decide) rfl (by simp [rf_cat, cat_i, cat_l, cat_f, cat_d]) dX2_draw_30 (fun _ => rfl) (fun r107 σ => ?_) (by decide)
  refine tj_callV (as := [va_rf r106, va_rf r107]) (rest := []) (st' := (fun r => [va_rf r])) (t := 18) (fun a e => by cases e; exact ct_J1_put d _ _ _) (by decide) rfl q1448 q1449 q1450 q99 q1451 rfl md_J1_put rfl (by decide) rfl (by decide) dX2_draw_33 (fun _ => rfl) (fun r108 σ => ?_) (by decide)
  refine tj_pop dX2_draw_36 (rf_cat _) ?_
  refine tj_aload_n dX2_draw_37 rfl ?_
  refine tj_dup dX2_draw_38 (rf_cat _) ?_
  refine tj_getI fl_X2_76 dX2_draw_39 (fun v109 => ?_)
  refine tj_iconst (1 : Int32) dX2_draw_42 rfl ?_
  refine tj_iadd dX2_draw_43 ?_
  refine tj_put fl_X2_76 rfl rfl dX2_draw_44 (fun σ => ?_)
  refine tj_aload_n dX2_draw_47 rfl ?_
  refine tj_getI fl_X2_70 dX2_draw_48 (fun v110 => ?_)
  refine tj_bipush (20 : Int32) dX2_draw_51 (by decide) ?_
  refine tj_icmp_ne 61 dX2_draw_53 rfl (fun _ => ?_) (fun _ => ?_)
  · refine tj_aload_n dX2_draw_56 rfl ?_
    refine tj_callV (as := []) (rest := []) (st' := (fun r => [.int r])) (t := 2) (fun a e => by cases e; exact ct_X2_purge d _) (by decide) rfl q2060 q2061 q2062 q97 q2063 rfl md_X2_purge rfl (by decide) rfl (by decide) dX2_draw_57 (fun _ => rfl) (fun r111 σ => ?_) (by decide)
    refine tj_pop dX2_draw_60 rfl ?_
    refine tj_wk (L' := [some (va_rf v0), none, none, some (va_rf (some a101))]) ⟨rfl, rfl, trivial⟩ ?_
    exact tj_X2_draw_J61 d v0 (some a101) _
  · refine tj_wk (L' := [some (va_rf v0), none, none, some (va_rf (some a101))]) ⟨rfl, rfl, trivial⟩ ?_
    exact tj_X2_draw_J61 d v0 (some a101) _
theorem ct_X2_draw : ∀ (d : Nat) (v0 : Option Nat) (v1 : Option Nat) (v2 : Int32), ct_ yX2_draw (ws_ yX2_draw cX2_draw 4 none) d em_v [va_rf v0, va_rf v1, .int v2] (fn_X2_draw d v0 v1 v2)
  | 0, _, _, _ => ct_fail
  | d + 1, v0, v1, v2 => ct_of [(false, va_rf v0), (false, va_rf v1), (false, .int v2)] [some (va_rf v0), some (va_rf v1), some (.int v2), none] (by decide) rfl ⟨rfl, (rf_cat _), ⟨rfl, (rf_cat _), ⟨rfl, rfl, trivial⟩⟩⟩ (fun E X n0 s0 σ => tj_X2_draw_B0 d v0 v1 v2 σ)
theorem tj_X2_addLion_J60 {E : tj_E} {X : tj_X} {n0 s0 : Nat} (d : Nat) (l0 : Option Nat) (l1 : Int32) (l2 : Int32) (l3 : Int32) (p0 : Int32) (σ : hp_S) : tj_T E X RX2 "addLion" cX2_addLion 4 (some .int) (d + 1) [] n0 s0 em_i σ 60 [some (va_rf l0), some (.int l1), some (.int l2), some (.int l3)] [.int p0] (fn_X2_addLion_J60 d l0 l1 l2 l3 p0) := by
  unfold fn_X2_addLion_J60
  refine tj_bipush (115 : Int32) dX2_addLion_60 (by decide) ?_
  refine tj_callSN (as := [.int p0, .int (115 : Int32)]) (rest := []) (st' := (fun _ => [])) (ct_X1_demand d p0 (115 : Int32)) q1966 q1967 q96 q1968 md_X1_demand rfl (by decide) rfl (by decide) dX2_addLion_62 (fun _ => rfl) (fun _ σ => ?_) (by decide)
  refine tj_aload_n dX2_addLion_65 rfl ?_
  refine tj_new nw_X2_46 dX2_addLion_66 (fun a101 σ => ?_)
  refine tj_dup dX2_addLion_69 (rf_cat _) ?_
  refine tj_aload_n dX2_addLion_70 rfl ?_
  refine tj_getI fl_X2_73 dX2_addLion_71 (fun v102 => ?_)
  refine tj_iload_n dX2_addLion_74 rfl ?_
  refine tj_iload_n dX2_addLion_75 rfl ?_
  refine tj_null dX2_addLion_76 ?_
  refine tj_callI (as := [.int v102, .int l2, .int l3, va_rf none]) (rest := [va_rf (some a101), va_rf l0]) (st' := (fun _ => [va_rf (some a101), va_rf l0])) (fun a e => by cases e; exact ct_X8_init d _ _ _ _ _) q1999 q2000 q151 q2001 rfl md_X8_init rfl (by decide) rfl (by simp [rf_cat, cat_i, cat_l, cat_f, cat_d]) dX2_addLion_77 (fun _ => rfl) (fun _ σ => ?_) (by decide)
  refine tj_iload_n dX2_addLion_80 rfl ?_
  refine tj_callV (as := [va_rf (some a101), .int l1]) (rest := []) (st' := (fun _ => [])) (t := 2) (fun a e => by cases e; exact ct_X2_draw d _ _ _) (by decide) rfl q2029 q2031 qs19 q97 q2032 rfl md_X2_draw rfl (by decide) rfl (by decide) dX2_addLion_81 (fun _ => rfl) (fun _ σ => ?_) (by decide)
  refine tj_aload_n dX2_addLion_84 rfl ?_
  refine tj_dup dX2_addLion_85 (rf_cat _) ?_
  refine tj_getI fl_X2_73 dX2_addLion_86 (fun v103 => ?_)
  refine tj_iconst (1 : Int32) dX2_addLion_89 rfl ?_
  refine tj_iadd dX2_addLion_90 ?_
  refine tj_put fl_X2_73 rfl rfl dX2_addLion_91 (fun σ => ?_)
  refine tj_aload_n dX2_addLion_94 rfl ?_
  refine tj_getI fl_X2_73 dX2_addLion_95 (fun v104 => ?_)
  refine tj_iconst (1 : Int32) dX2_addLion_98 rfl ?_
  refine tj_isub dX2_addLion_99 ?_
  exact tj_iret dX2_addLion_100
theorem tj_X2_addLion_J25 {E : tj_E} {X : tj_X} {n0 s0 : Nat} (d : Nat) (l0 : Option Nat) (l1 : Int32) (l2 : Int32) (l3 : Int32) (p0 : Int32) (σ : hp_S) : tj_T E X RX2 "addLion" cX2_addLion 4 (some .int) (d + 1) [] n0 s0 em_i σ 25 [some (va_rf l0), some (.int l1), some (.int l2), some (.int l3)] [.int p0] (fn_X2_addLion_J25 d l0 l1 l2 l3 p0) := by
  unfold fn_X2_addLion_J25
  refine tj_bipush (97 : Int32) dX2_addLion_25 (by decide) ?_
  refine tj_callSN (as := [.int p0, .int (97 : Int32)]) (rest := []) (st' := (fun _ => [])) (ct_X1_demand d p0 (97 : Int32)) q1966 q1967 q96 q1968 md_X1_demand rfl (by decide) rfl (by decide) dX2_addLion_27 (fun _ => rfl) (fun _ σ => ?_) (by decide)
  refine tj_iload_n dX2_addLion_30 rfl ?_
  refine tj_iconst (0 : Int32) dX2_addLion_31 rfl ?_
  refine tj_sipush (999 : Int32) dX2_addLion_32 (by decide) ?_
  refine tj_callSN (as := [.int l3, .int (0 : Int32), .int (999 : Int32)]) (rest := []) (st' := (fun r => [.int r])) (ct_X1_isBetween d l3 (0 : Int32) (999 : Int32)) q1963 q1964 q96 q1965 md_X1_isBetween rfl (by decide) rfl (by decide) dX2_addLion_35 (fun _ => rfl) (fun r101 σ => ?_) (by decide)
  refine tj_bipush (97 : Int32) dX2_addLion_38 (by decide) ?_
  refine tj_callSN (as := [.int r101, .int (97 : Int32)]) (rest := []) (st' := (fun _ => [])) (ct_X1_demand d r101 (97 : Int32)) q1966 q1967 q96 q1968 md_X1_demand rfl (by decide) rfl (by decide) dX2_addLion_40 (fun _ => rfl) (fun _ σ => ?_) (by decide)
  refine tj_aload_n dX2_addLion_43 rfl ?_
  refine tj_getR fl_X2_12r dX2_addLion_44 (fun v102 => ?_)
  refine tj_callV (as := []) (rest := []) (st' := (fun r => [.int r])) (t := 18) (fun a e => by cases e; exact ct_J1_size d _) (by decide) rfl q1994 q1995 q1996 q99 q1997 rfl md_J1_size rfl (by decide) rfl (by decide) dX2_addLion_47 (fun _ => rfl) (fun r103 σ => ?_) (by decide)
  refine tj_bipush (10 : Int32) dX2_addLion_50 (by decide) ?_
  refine tj_icmp_ge 59 dX2_addLion_52 rfl (fun _ => ?_) (fun _ => ?_)
  · refine tj_iconst (0 : Int32) dX2_addLion_59 rfl ?_
    exact tj_X2_addLion_J60 d l0 l1 l2 l3 (0 : Int32) _
  · refine tj_iconst (1 : Int32) dX2_addLion_55 rfl ?_
    refine tj_goto 60 dX2_addLion_56 rfl ?_
    exact tj_X2_addLion_J60 d l0 l1 l2 l3 (1 : Int32) _
theorem tj_X2_addLion_J24 {E : tj_E} {X : tj_X} {n0 s0 : Nat} (d : Nat) (l0 : Option Nat) (l1 : Int32) (l2 : Int32) (l3 : Int32) (σ : hp_S) : tj_T E X RX2 "addLion" cX2_addLion 4 (some .int) (d + 1) [] n0 s0 em_i σ 24 [some (va_rf l0), some (.int l1), some (.int l2), some (.int l3)] [] (fn_X2_addLion_J24 d l0 l1 l2 l3) := by
  unfold fn_X2_addLion_J24
  refine tj_iconst (0 : Int32) dX2_addLion_24 rfl ?_
  exact tj_X2_addLion_J25 d l0 l1 l2 l3 (0 : Int32) _
theorem tj_X2_addLion_B0 {E : tj_E} {X : tj_X} {n0 s0 : Nat} (d : Nat) (v0 : Option Nat) (v1 : Int32) (v2 : Int32) (v3 : Int32) (σ : hp_S) : tj_T E X RX2 "addLion" cX2_addLion 4 (some .int) (d + 1) [] n0 s0 em_i σ 0 [some (va_rf v0), some (.int v1), some (.int v2), some (.int v3)] [] (fn_X2_addLion_B0 d v0 v1 v2 v3) := by
  unfold fn_X2_addLion_B0
  refine tj_iload_n dX2_addLion_0 rfl ?_
  refine tj_iconst (0 : Int32) dX2_addLion_1 rfl ?_
  refine tj_bipush (99 : Int32) dX2_addLion_2 (by decide) ?_
  refine tj_callSN (as := [.int v1, .int (0 : Int32), .int (99 : Int32)]) (rest := []) (st' := (fun r => [.int r])) (ct_X1_isBetween d v1 (0 : Int32) (99 : Int32)) q1963 q1964 q96 q1965 md_X1_isBetween rfl (by decide) rfl (by decide) dX2_addLion_4 (fun _ => rfl) (fun r101 σ => ?_) (by decide)
  refine tj_if_eq 24 dX2_addLion_7 rfl (fun _ => ?_) (fun _ => ?_)
  · exact tj_X2_addLion_J24 d v0 v1 v2 v3 _
  · refine tj_iload_n dX2_addLion_10 rfl ?_
    refine tj_iconst (1 : Int32) dX2_addLion_11 rfl ?_
    refine tj_bipush (9 : Int32) dX2_addLion_12 (by decide) ?_
    refine tj_callSN (as := [.int v2, .int (1 : Int32), .int (9 : Int32)]) (rest := []) (st' := (fun r => [.int r])) (ct_X1_isBetween d v2 (1 : Int32) (9 : Int32)) q1963 q1964 q96 q1965 md_X1_isBetween rfl (by decide) rfl (by decide) dX2_addLion_14 (fun _ => rfl) (fun r102 σ => ?_) (by decide)
    refine tj_if_eq 24 dX2_addLion_17 rfl (fun _ => ?_) (fun _ => ?_)
    · exact tj_X2_addLion_J24 d v0 v1 v2 v3 _
    · refine tj_iconst (1 : Int32) dX2_addLion_20 rfl ?_
      refine tj_goto 25 dX2_addLion_21 rfl ?_
      exact tj_X2_addLion_J25 d v0 v1 v2 v3 (1 : Int32) _
theorem ct_X2_addLion : ∀ (d : Nat) (v0 : Option Nat) (v1 : Int32) (v2 : Int32) (v3 : Int32), ct_ yX2_addLion (ws_ yX2_addLion cX2_addLion 4 (some .int)) d em_i [va_rf v0, .int v1, .int v2, .int v3] (fn_X2_addLion d v0 v1 v2 v3)
  | 0, _, _, _, _ => ct_fail
  | d + 1, v0, v1, v2, v3 => ct_of [(false, va_rf v0), (false, .int v1), (false, .int v2), (false, .int v3)] [some (va_rf v0), some (.int v1), some (.int v2), some (.int v3)] (by decide) rfl ⟨rfl, (rf_cat _), ⟨rfl, rfl, ⟨rfl, rfl, ⟨rfl, rfl, trivial⟩⟩⟩⟩ (fun E X n0 s0 σ => tj_X2_addLion_B0 d v0 v1 v2 v3 σ)
theorem tj_X8_hunger_B0 {E : tj_E} {X : tj_X} {n0 s0 : Nat} (d : Nat) (v0 : Option Nat) (σ : hp_S) : tj_T E X RX8 "hunger" cX8_hunger 1 (some .int) (d + 1) [] n0 s0 em_i σ 0 [some (va_rf v0)] [] (fn_X8_hunger_B0 d v0) := by
  unfold fn_X8_hunger_B0
  refine tj_aload_n dX8_hunger_0 rfl ?_
  refine tj_getR fl_X8_19r dX8_hunger_1 (fun v101 => ?_)
  refine tj_getI fl_X8_26r dX8_hunger_4 (fun v102 => ?_)
  exact tj_iret dX8_hunger_7
theorem ct_X8_hunger : ∀ (d : Nat) (v0 : Option Nat), ct_ yX8_hunger (ws_ yX8_hunger cX8_hunger 1 (some .int)) d em_i [va_rf v0] (fn_X8_hunger d v0)
  | 0, _ => ct_fail
  | d + 1, v0 => ct_of [(false, va_rf v0)] [some (va_rf v0)] (by decide) rfl ⟨rfl, (rf_cat _), trivial⟩ (fun E X n0 s0 σ => tj_X8_hunger_B0 d v0 σ)
theorem tj_X2_changeHunger_2_B0 {E : tj_E} {X : tj_X} {n0 s0 : Nat} (d : Nat) (v0 : Option Nat) (v1 : Option Nat) (v2 : Int32) (σ : hp_S) : tj_T E X RX2 "changeHunger" cX2_changeHunger_2 3 none (d + 1) [] n0 s0 em_v σ 0 [some (va_rf v0), some (va_rf v1), some (.int v2)] [] (fn_X2_changeHunger_2_B0 d v0 v1 v2) := by
  unfold fn_X2_changeHunger_2_B0
  refine tj_iload_n dX2_changeHunger_2_0 rfl ?_
  refine tj_aload_n dX2_changeHunger_2_1 rfl ?_
  refine tj_callV (as := []) (rest := [.int v2]) (st' := (fun r => [.int r, .int v2])) (t := 5) (fun a e => by cases e; exact ct_X8_hunger d _) (by decide) rfl q2419 q2420 q2421 q151 q2422 rfl md_X8_hunger rfl (by decide) rfl (by simp [rf_cat, cat_i, cat_l, cat_f, cat_d]) dX2_changeHunger_2_2 (fun _ => rfl) (fun r101 σ => ?_) (by decide)
  refine tj_icmp_eq 14 dX2_changeHunger_2_5 rfl (fun _ => ?_) (fun _ => ?_)
  · exact tj_vret dX2_changeHunger_2_14
  · refine tj_aload_n dX2_changeHunger_2_8 rfl ?_
    refine tj_aload_n dX2_changeHunger_2_9 rfl ?_
    refine tj_iload_n dX2_changeHunger_2_10 rfl ?_
    refine tj_callV (as := [va_rf v1, .int v2]) (rest := []) (st' := (fun _ => [])) (t := 2) (fun a e => by cases e; exact ct_X2_draw d _ _ _) (by decide) rfl q2029 q2031 qs19 q97 q2032 rfl md_X2_draw rfl (by decide) rfl (by decide) dX2_changeHunger_2_11 (fun _ => rfl) (fun _ σ => ?_) (by decide)
    exact tj_vret dX2_changeHunger_2_14
theorem ct_X2_changeHunger_2 : ∀ (d : Nat) (v0 : Option Nat) (v1 : Option Nat) (v2 : Int32), ct_ yX2_changeHunger_2 (ws_ yX2_changeHunger_2 cX2_changeHunger_2 3 none) d em_v [va_rf v0, va_rf v1, .int v2] (fn_X2_changeHunger_2 d v0 v1 v2)
  | 0, _, _, _ => ct_fail
  | d + 1, v0, v1, v2 => ct_of [(false, va_rf v0), (false, va_rf v1), (false, .int v2)] [some (va_rf v0), some (va_rf v1), some (.int v2)] (by decide) rfl ⟨rfl, (rf_cat _), ⟨rfl, (rf_cat _), ⟨rfl, rfl, trivial⟩⟩⟩ (fun E X n0 s0 σ => tj_X2_changeHunger_2_B0 d v0 v1 v2 σ)
theorem tj_X2_changeHunger_J65 {E : tj_E} {X : tj_X} {n0 s0 : Nat} (d : Nat) (l0 : Option Nat) (l1 : Int32) (p0 : Int32) (σ : hp_S) : tj_T E X RX2 "changeHunger" cX2_changeHunger 6 (some .int) (d + 1) [] n0 s0 em_i σ 65 [some (va_rf l0), some (.int l1), none, none, none, none] [.int p0] (fn_X2_changeHunger_J65 d l0 l1 p0) := by
  unfold fn_X2_changeHunger_J65
  refine tj_istore dX2_changeHunger_65 (by decide) trivial [some (va_rf l0), some (.int l1), none, none, none, some (.int p0)] rfl ?_
  refine tj_aload_n dX2_changeHunger_67 rfl ?_
  refine tj_aload_n dX2_changeHunger_68 rfl ?_
  refine tj_getR fl_X2_12r dX2_changeHunger_69 (fun v101 => ?_)
  refine tj_iload_n dX2_changeHunger_72 rfl ?_
  refine tj_callS (as := [.int l1]) (rest := [va_rf v101, va_rf l0]) (st' := (fun r => [va_rf r, va_rf v101, va_rf l0])) (ct_J27_valueOf d l1) q1428 q1429 q128 q1430 md_J27_valueOf rfl (by decide) rfl (by simp [rf_cat, cat_i, cat_l, cat_f, cat_d]) dX2_changeHunger_73 (fun _ => rfl) (fun r102 σ => ?_) (by decide)
  refine tj_callV (as := [va_rf r102]) (rest := [va_rf l0]) (st' := (fun r => [va_rf r, va_rf l0])) (t := 18) (fun a e => by cases e; exact ct_J1_get d _ _) (by decide) rfl q2211 q2212 q2213 q99 q2214 rfl md_J1_get rfl (by decide) rfl (by simp [rf_cat, cat_i, cat_l, cat_f, cat_d]) dX2_changeHunger_76 (fun _ => rfl) (fun r103 σ => ?_) (by decide)
  refine tj_cast (nm := "LionGate$Lion") q1427 ca_LionGate_Lion dX2_changeHunger_79 ?_
  refine tj_iload dX2_changeHunger_82 rfl ?_
  refine tj_callV (as := [va_rf r103, .int p0]) (rest := []) (st' := (fun _ => [])) (t := 2) (fun a e => by cases e; exact ct_X2_changeHunger_2 d _ _ _) (by decide) rfl q2425 q2427 qs28 q97 q2428 rfl md_X2_changeHunger_2 rfl (by decide) rfl (by decide) dX2_changeHunger_84 (fun _ => rfl) (fun _ σ => ?_) (by decide)
  refine tj_iload dX2_changeHunger_87 rfl ?_
  exact tj_iret dX2_changeHunger_89
theorem tj_X2_changeHunger_B0 {E : tj_E} {X : tj_X} {n0 s0 : Nat} (d : Nat) (v0 : Option Nat) (v1 : Int32) (v2 : Int32) (v3 : Int32) (σ : hp_S) : tj_T E X RX2 "changeHunger" cX2_changeHunger 6 (some .int) (d + 1) [] n0 s0 em_i σ 0 [some (va_rf v0), some (.int v1), some (.int v2), some (.int v3), none, none] [] (fn_X2_changeHunger_B0 d v0 v1 v2 v3) := by
  unfold fn_X2_changeHunger_B0
  refine tj_aload_n dX2_changeHunger_0 rfl ?_
  refine tj_iload_n dX2_changeHunger_1 rfl ?_
  refine tj_callV (as := [.int v1]) (rest := []) (st' := (fun r => [.int r])) (t := 2) (fun a e => by cases e; exact ct_X2_hasLion d _ _) (by decide) rfl q2195 q2196 q2197 q97 q2198 rfl md_X2_hasLion rfl (by decide) rfl (by decide) dX2_changeHunger_2 (fun _ => rfl) (fun r101 σ => ?_) (by decide)
  refine tj_bipush (101 : Int32) dX2_changeHunger_5 (by decide) ?_
  refine tj_callSN (as := [.int r101, .int (101 : Int32)]) (rest := []) (st' := (fun _ => [])) (ct_X1_demand d r101 (101 : Int32)) q1966 q1967 q96 q1968 md_X1_demand rfl (by decide) rfl (by decide) dX2_changeHunger_7 (fun _ => rfl) (fun _ σ => ?_) (by decide)
  refine tj_iload_n dX2_changeHunger_10 rfl ?_
  refine tj_iconst (1 : Int32) dX2_changeHunger_11 rfl ?_
  refine tj_bipush (50 : Int32) dX2_changeHunger_12 (by decide) ?_
  refine tj_callSN (as := [.int v2, .int (1 : Int32), .int (50 : Int32)]) (rest := []) (st' := (fun r => [.int r])) (ct_X1_isBetween d v2 (1 : Int32) (50 : Int32)) q1963 q1964 q96 q1965 md_X1_isBetween rfl (by decide) rfl (by decide) dX2_changeHunger_14 (fun _ => rfl) (fun r102 σ => ?_) (by decide)
  refine tj_bipush (97 : Int32) dX2_changeHunger_17 (by decide) ?_
  refine tj_callSN (as := [.int r102, .int (97 : Int32)]) (rest := []) (st' := (fun _ => [])) (ct_X1_demand d r102 (97 : Int32)) q1966 q1967 q96 q1968 md_X1_demand rfl (by decide) rfl (by decide) dX2_changeHunger_19 (fun _ => rfl) (fun _ σ => ?_) (by decide)
  refine tj_aload_n dX2_changeHunger_22 rfl ?_
  refine tj_getR fl_X2_12r dX2_changeHunger_23 (fun v103 => ?_)
  refine tj_iload_n dX2_changeHunger_26 rfl ?_
  refine tj_callS (as := [.int v1]) (rest := [va_rf v103]) (st' := (fun r => [va_rf r, va_rf v103])) (ct_J27_valueOf d v1) q1428 q1429 q128 q1430 md_J27_valueOf rfl (by decide) rfl (by simp [rf_cat, cat_i, cat_l, cat_f, cat_d]) dX2_changeHunger_27 (fun _ => rfl) (fun r104 σ => ?_) (by decide)
  refine tj_callV (as := [va_rf r104]) (rest := []) (st' := (fun r => [va_rf r])) (t := 18) (fun a e => by cases e; exact ct_J1_get d _ _) (by decide) rfl q2211 q2212 q2213 q99 q2214 rfl md_J1_get rfl (by decide) rfl (by decide) dX2_changeHunger_30 (fun _ => rfl) (fun r105 σ => ?_) (by decide)
  refine tj_cast (nm := "LionGate$Lion") q1427 ca_LionGate_Lion dX2_changeHunger_33 ?_
  refine tj_callV (as := []) (rest := []) (st' := (fun r => [.int r])) (t := 5) (fun a e => by cases e; exact ct_X8_hunger d _) (by decide) rfl q2419 q2420 q2421 q151 q2422 rfl md_X8_hunger rfl (by decide) rfl (by decide) dX2_changeHunger_36 (fun _ => rfl) (fun r106 σ => ?_) (by decide)
  refine tj_istore dX2_changeHunger_39 (by decide) rfl [some (va_rf v0), some (.int v1), some (.int v2), some (.int v3), some (.int r106), none] rfl ?_
  refine tj_iload_n dX2_changeHunger_41 rfl ?_
  refine tj_if_eq 57 dX2_changeHunger_42 rfl (fun _ => ?_) (fun _ => ?_)
  · refine tj_iconst (0 : Int32) dX2_changeHunger_57 rfl ?_
    refine tj_iload dX2_changeHunger_58 rfl ?_
    refine tj_iload_n dX2_changeHunger_60 rfl ?_
    refine tj_isub dX2_changeHunger_61 ?_
    refine tj_mmax q2424 (by decide) dX2_changeHunger_62 ?_
    refine tj_wk (L' := [some (va_rf v0), some (.int v1), none, none, none, none]) ⟨rfl, rfl, trivial⟩ ?_
    exact tj_X2_changeHunger_J65 d v0 v1 _ _
  · refine tj_bipush (99 : Int32) dX2_changeHunger_45 (by decide) ?_
    refine tj_iload dX2_changeHunger_47 rfl ?_
    refine tj_iload_n dX2_changeHunger_49 rfl ?_
    refine tj_iadd dX2_changeHunger_50 ?_
    refine tj_mmin q2423 (by decide) dX2_changeHunger_51 ?_
    refine tj_goto 65 dX2_changeHunger_54 rfl ?_
    refine tj_wk (L' := [some (va_rf v0), some (.int v1), none, none, none, none]) ⟨rfl, rfl, trivial⟩ ?_
    exact tj_X2_changeHunger_J65 d v0 v1 _ _
theorem ct_X2_changeHunger : ∀ (d : Nat) (v0 : Option Nat) (v1 : Int32) (v2 : Int32) (v3 : Int32), ct_ yX2_changeHunger (ws_ yX2_changeHunger cX2_changeHunger 6 (some .int)) d em_i [va_rf v0, .int v1, .int v2, .int v3] (fn_X2_changeHunger d v0 v1 v2 v3)
  | 0, _, _, _, _ => ct_fail
  | d + 1, v0, v1, v2, v3 => ct_of [(false, va_rf v0), (false, .int v1), (false, .int v2), (false, .int v3)] [some (va_rf v0), some (.int v1), some (.int v2), some (.int v3), none, none] (by decide) rfl ⟨rfl, (rf_cat _), ⟨rfl, rfl, ⟨rfl, rfl, ⟨rfl, rfl, trivial⟩⟩⟩⟩ (fun E X n0 s0 σ => tj_X2_changeHunger_B0 d v0 v1 v2 v3 σ)
theorem tj_X3_has_B0 {E : tj_E} {X : tj_X} {n0 s0 : Nat} (d : Nat) (v0 : Option Nat) (v1 : Int32) (σ : hp_S) : tj_T E X RX3 "has" cX3_has 2 (some .boolean) (d + 1) [] n0 s0 em_i σ 0 [some (va_rf v0), some (.int v1)] [] (fn_X3_has_B0 d v0 v1) := by
  unfold fn_X3_has_B0
  refine tj_iload_n dX3_has_0 rfl ?_
  refine tj_iconst (0 : Int32) dX3_has_1 rfl ?_
  refine tj_aload_n dX3_has_2 rfl ?_
  refine tj_getR fl_X3_12r dX3_has_3 (fun v101 => ?_)
  refine tj_callF (as := []) (rest := [.int (0 : Int32), .int v1]) (st' := (fun r => [.int r, .int (0 : Int32), .int v1])) (t := 16) (fun a e => by cases e; exact ct_J4_size d _) (by decide) rfl q2486 q2143 q1048 q103 q1049 (ev_i 9 rfl) q2145 q2144 q1323 md_i9 rfl (by decide) rfl (by simp [rf_cat, cat_i, cat_l, cat_f, cat_d]) dX3_has_6 (fun _ => rfl) (fun r102 σ => ?_) (by decide)
  refine tj_iconst (1 : Int32) dX3_has_11 rfl ?_
  refine tj_isub dX3_has_12 ?_
  refine tj_callSN (as := [.int v1, .int (0 : Int32), .int (r102 - (1 : Int32))]) (rest := []) (st' := (fun r => [.int r])) (ct_X1_isBetween d v1 (0 : Int32) _) q2514 q1964 q96 q1965 md_X1_isBetween rfl (by decide) rfl (by decide) dX3_has_13 (fun _ => rfl) (fun r103 σ => ?_) (by decide)
  exact tj_zret dX3_has_16
theorem ct_X3_has : ∀ (d : Nat) (v0 : Option Nat) (v1 : Int32), ct_ yX3_has (ws_ yX3_has cX3_has 2 (some .boolean)) d em_i [va_rf v0, .int v1] (fn_X3_has d v0 v1)
  | 0, _, _ => ct_fail
  | d + 1, v0, v1 => ct_of [(false, va_rf v0), (false, .int v1)] [some (va_rf v0), some (.int v1)] (by decide) rfl ⟨rfl, (rf_cat _), ⟨rfl, rfl, trivial⟩⟩ (fun E X n0 s0 σ => tj_X3_has_B0 d v0 v1 σ)
theorem tj_X2_dismissKeeper_B0 {E : tj_E} {X : tj_X} {n0 s0 : Nat} (d : Nat) (v0 : Option Nat) (v1 : Int32) (σ : hp_S) : tj_T E X RX2 "dismissKeeper" cX2_dismissKeeper 2 (some .int) (d + 1) [] n0 s0 em_i σ 0 [some (va_rf v0), some (.int v1)] [] (fn_X2_dismissKeeper_B0 d v0 v1) := by
  unfold fn_X2_dismissKeeper_B0
  refine tj_aload_n dX2_dismissKeeper_0 rfl ?_
  refine tj_getR fl_X2_21 dX2_dismissKeeper_1 (fun v101 => ?_)
  refine tj_iload_n dX2_dismissKeeper_4 rfl ?_
  refine tj_callV (as := [.int v1]) (rest := []) (st' := (fun r => [.int r])) (t := 3) (fun a e => by cases e; exact ct_X3_has d _ _) (by decide) rfl q2510 q2511 q2512 q100 q2513 rfl md_X3_has rfl (by decide) rfl (by decide) dX2_dismissKeeper_5 (fun _ => rfl) (fun r102 σ => ?_) (by decide)
  refine tj_bipush (105 : Int32) dX2_dismissKeeper_8 (by decide) ?_
  refine tj_callSN (as := [.int r102, .int (105 : Int32)]) (rest := []) (st' := (fun _ => [])) (ct_X1_demand d r102 (105 : Int32)) q1966 q1967 q96 q1968 md_X1_demand rfl (by decide) rfl (by decide) dX2_dismissKeeper_10 (fun _ => rfl) (fun _ σ => ?_) (by decide)
  refine tj_aload_n dX2_dismissKeeper_13 rfl ?_
  refine tj_getR fl_X2_21 dX2_dismissKeeper_14 (fun v103 => ?_)
  refine tj_getR fl_X2_220r dX2_dismissKeeper_17 (fun v104 => ?_)
  refine tj_iload_n dX2_dismissKeeper_20 rfl ?_
  refine tj_callF (as := [.int v1]) (rest := []) (st' := (fun r => [va_rf r])) (t := 16) (fun a e => by cases e; exact ct_J4_remove d _ _) (by decide) rfl q2516 q2519 q2233 q103 q2234 (ev_i 12 rfl) q2521 q2520 q1323 md_i12 rfl (by decide) rfl (by decide) dX2_dismissKeeper_21 (fun _ => rfl) (fun r105 σ => ?_) (by decide)
  refine tj_pop dX2_dismissKeeper_26 (rf_cat _) ?_
  refine tj_aload_n dX2_dismissKeeper_27 rfl ?_
  refine tj_getR fl_X2_21 dX2_dismissKeeper_28 (fun v106 => ?_)
  refine tj_callV (as := []) (rest := []) (st' := (fun r => [.int r])) (t := 3) (fun a e => by cases e; exact ct_X3_count d _) (by decide) rfl q2481 q2482 q2483 q100 q2484 rfl md_X3_count rfl (by decide) rfl (by decide) dX2_dismissKeeper_31 (fun _ => rfl) (fun r107 σ => ?_) (by decide)
  exact tj_iret dX2_dismissKeeper_34
theorem ct_X2_dismissKeeper : ∀ (d : Nat) (v0 : Option Nat) (v1 : Int32), ct_ yX2_dismissKeeper (ws_ yX2_dismissKeeper cX2_dismissKeeper 2 (some .int)) d em_i [va_rf v0, .int v1] (fn_X2_dismissKeeper d v0 v1)
  | 0, _, _ => ct_fail
  | d + 1, v0, v1 => ct_of [(false, va_rf v0), (false, .int v1)] [some (va_rf v0), some (.int v1)] (by decide) rfl ⟨rfl, (rf_cat _), ⟨rfl, rfl, trivial⟩⟩ (fun E X n0 s0 σ => tj_X2_dismissKeeper_B0 d v0 v1 σ)
theorem tj_X11_init_B0 {E : tj_E} {X : tj_X} {n0 s0 : Nat} (d : Nat) (v0 : Option Nat) (v1 : Int32) (v2 : Int32) (σ : hp_S) : tj_T E X RX11 "<init>" cX11_init 3 none (d + 1) [] n0 s0 em_v σ 0 [some (va_rf v0), some (.int v1), some (.int v2)] [] (fn_X11_init_B0 d v0 v1 v2) := by
  unfold fn_X11_init_B0
  refine tj_aload_n dX11_init_0 rfl ?_
  refine tj_objInit q2492 q183 q184 (by decide) dX11_init_1 (fun _ _ => ?_)
  refine tj_aload_n dX11_init_4 rfl ?_
  refine tj_iload_n dX11_init_5 rfl ?_
  refine tj_putF fl_X11_7 rfl rfl dX11_init_6 (fun σ => ?_)
  refine tj_aload_n dX11_init_9 rfl ?_
  refine tj_iload_n dX11_init_10 rfl ?_
  refine tj_putF fl_X11_13 rfl rfl dX11_init_11 (fun σ => ?_)
  exact tj_vret dX11_init_14
theorem ct_X11_init : ∀ (d : Nat) (v0 : Option Nat) (v1 : Int32) (v2 : Int32), ct_ yX11_init (ws_ yX11_init cX11_init 3 none) d em_v [va_rf v0, .int v1, .int v2] (fn_X11_init d v0 v1 v2)
  | 0, _, _, _ => ct_fail
  | d + 1, v0, v1, v2 => ct_of [(false, va_rf v0), (false, .int v1), (false, .int v2)] [some (va_rf v0), some (.int v1), some (.int v2)] (by decide) rfl ⟨rfl, (rf_cat _), ⟨rfl, rfl, ⟨rfl, rfl, trivial⟩⟩⟩ (fun E X n0 s0 σ => tj_X11_init_B0 d v0 v1 v2 σ)
theorem tj_X2_areHours_B0 {E : tj_E} {X : tj_X} {n0 s0 : Nat} (d : Nat) (v0 : Int32) (v1 : Int32) (σ : hp_S) : tj_T E X RX2 "areHours" cX2_areHours 2 (some .boolean) (d + 1) [] n0 s0 em_i σ 0 [some (.int v0), some (.int v1)] [] (fn_X2_areHours_B0 d v0 v1) := by
  unfold fn_X2_areHours_B0
  refine tj_iload_n dX2_areHours_0 rfl ?_
  refine tj_iconst (0 : Int32) dX2_areHours_1 rfl ?_
  refine tj_bipush (23 : Int32) dX2_areHours_2 (by decide) ?_
  refine tj_callSN (as := [.int v0, .int (0 : Int32), .int (23 : Int32)]) (rest := []) (st' := (fun r => [.int r])) (ct_X1_isBetween d v0 (0 : Int32) (23 : Int32)) q1963 q1964 q96 q1965 md_X1_isBetween rfl (by decide) rfl (by decide) dX2_areHours_4 (fun _ => rfl) (fun r101 σ => ?_) (by decide)
  refine tj_if_eq 26 dX2_areHours_7 rfl (fun _ => ?_) (fun _ => ?_)
  · refine tj_iconst (0 : Int32) dX2_areHours_26 rfl ?_
    exact tj_zpure rfl dX2_areHours_27
  · refine tj_iload_n dX2_areHours_10 rfl ?_
    refine tj_iload_n dX2_areHours_11 rfl ?_
    refine tj_iconst (1 : Int32) dX2_areHours_12 rfl ?_
    refine tj_iadd dX2_areHours_13 ?_
    refine tj_bipush (24 : Int32) dX2_areHours_14 (by decide) ?_
    refine tj_callSN (as := [.int v1, .int (v0 + (1 : Int32)), .int (24 : Int32)]) (rest := []) (st' := (fun r => [.int r])) (ct_X1_isBetween d v1 _ (24 : Int32)) q1963 q1964 q96 q1965 md_X1_isBetween rfl (by decide) rfl (by decide) dX2_areHours_16 (fun _ => rfl) (fun r102 σ => ?_) (by decide)
    refine tj_if_eq 26 dX2_areHours_19 rfl (fun _ => ?_) (fun _ => ?_)
    · refine tj_iconst (0 : Int32) dX2_areHours_26 rfl ?_
      exact tj_zpure rfl dX2_areHours_27
    · refine tj_iconst (1 : Int32) dX2_areHours_22 rfl ?_
      refine tj_goto 27 dX2_areHours_23 rfl ?_
      exact tj_zpure rfl dX2_areHours_27
theorem ct_X2_areHours : ∀ (d : Nat) (v0 : Int32) (v1 : Int32), ct_ yX2_areHours (ws_ yX2_areHours cX2_areHours 2 (some .boolean)) d em_i [.int v0, .int v1] (fn_X2_areHours d v0 v1)
  | 0, _, _ => ct_fail
  | d + 1, v0, v1 => ct_of [(false, .int v0), (false, .int v1)] [some (.int v0), some (.int v1)] (by decide) rfl ⟨rfl, rfl, ⟨rfl, rfl, trivial⟩⟩ (fun E X n0 s0 σ => tj_X2_areHours_B0 d v0 v1 σ)
theorem tj_J4_add_2_J11 {E : tj_E} {X : tj_X} {n0 s0 : Nat} (d : Nat) (l0 : Option Nat) (l1 : Option Nat) (l2 : Option Nat) (l3 : Int32) (σ : hp_S) : tj_T E X RJ4 "add" cJ4_add_2 4 none (d + 1) [] n0 s0 em_v σ 11 [some (va_rf l0), some (va_rf l1), some (va_rf l2), some (.int l3)] [] (fn_J4_add_2_J11 d l0 l1 l2 l3) := by
  unfold fn_J4_add_2_J11
  refine tj_aload_n dJ4_add_2_11 rfl ?_
  refine tj_iload_n dJ4_add_2_12 rfl ?_
  refine tj_aload_n dJ4_add_2_13 rfl ?_
  refine tj_aast dJ4_add_2_14 (fun σ => ?_)
  refine tj_aload_n dJ4_add_2_15 rfl ?_
  refine tj_iload_n dJ4_add_2_16 rfl ?_
  refine tj_iconst (1 : Int32) dJ4_add_2_17 rfl ?_
  refine tj_iadd dJ4_add_2_18 ?_
  refine tj_put fl_J4_48 rfl rfl dJ4_add_2_19 (fun σ => ?_)
  exact tj_vret dJ4_add_2_22
theorem tj_J4_add_2_B0 {E : tj_E} {X : tj_X} {n0 s0 : Nat} (d : Nat) (v0 : Option Nat) (v1 : Option Nat) (v2 : Option Nat) (v3 : Int32) (σ : hp_S) : tj_T E X RJ4 "add" cJ4_add_2 4 none (d + 1) [] n0 s0 em_v σ 0 [some (va_rf v0), some (va_rf v1), some (va_rf v2), some (.int v3)] [] (fn_J4_add_2_B0 d v0 v1 v2 v3) := by
  unfold fn_J4_add_2_B0
  refine tj_iload_n dJ4_add_2_0 rfl ?_
  refine tj_aload_n dJ4_add_2_1 rfl ?_
  refine tj_alen dJ4_add_2_2 (fun v101 => ?_)
  refine tj_icmp_ne 11 dJ4_add_2_3 rfl (fun _ => ?_) (fun _ => ?_)
  · refine tj_aload_n dJ4_add_2_6 rfl ?_
    refine tj_callV (as := []) (rest := []) (st' := (fun r => [va_rf r])) (t := 16) (fun a e => by cases e; exact ct_J4_grow d _) (by decide) rfl q1786 q1788 qs16 q103 q1789 rfl md_J4_grow rfl (by decide) rfl (by decide) dJ4_add_2_7 (fun _ => rfl) (fun r102 σ => ?_) (by decide)
    refine tj_astore_n dJ4_add_2_10 (by decide) (rf_cat _) [some (va_rf v0), some (va_rf v1), some (va_rf r102), some (.int v3)] rfl ?_
    exact tj_J4_add_2_J11 d v0 v1 r102 v3 _
  · exact tj_J4_add_2_J11 d v0 v1 v2 v3 _
theorem ct_J4_add_2 : ∀ (d : Nat) (v0 : Option Nat) (v1 : Option Nat) (v2 : Option Nat) (v3 : Int32), ct_ yJ4_add_2 (ws_ yJ4_add_2 cJ4_add_2 4 none) d em_v [va_rf v0, va_rf v1, va_rf v2, .int v3] (fn_J4_add_2 d v0 v1 v2 v3)
  | 0, _, _, _, _ => ct_fail
  | d + 1, v0, v1, v2, v3 => ct_of [(false, va_rf v0), (false, va_rf v1), (false, va_rf v2), (false, .int v3)] [some (va_rf v0), some (va_rf v1), some (va_rf v2), some (.int v3)] (by decide) rfl ⟨rfl, (rf_cat _), ⟨rfl, (rf_cat _), ⟨rfl, (rf_cat _), ⟨rfl, rfl, trivial⟩⟩⟩⟩ (fun E X n0 s0 σ => tj_J4_add_2_B0 d v0 v1 v2 v3 σ)
theorem tj_J4_add_B0 {E : tj_E} {X : tj_X} {n0 s0 : Nat} (d : Nat) (v0 : Option Nat) (v1 : Option Nat) (σ : hp_S) : tj_T E X RJ4 "add" cJ4_add 2 (some .boolean) (d + 1) [] n0 s0 em_i σ 0 [some (va_rf v0), some (va_rf v1)] [] (fn_J4_add_B0 d v0 v1) := by
  unfold fn_J4_add_B0
  refine tj_aload_n dJ4_add_0 rfl ?_
  refine tj_dup dJ4_add_1 (rf_cat _) ?_
  refine tj_getI fl_J4_63 dJ4_add_2 (fun v101 => ?_)
  refine tj_iconst (1 : Int32) dJ4_add_5 rfl ?_
  refine tj_iadd dJ4_add_6 ?_
  refine tj_put fl_J4_63 rfl rfl dJ4_add_7 (fun σ => ?_)
  refine tj_aload_n dJ4_add_10 rfl ?_
  refine tj_aload_n dJ4_add_11 rfl ?_
  refine tj_aload_n dJ4_add_12 rfl ?_
  refine tj_getR fl_J4_9 dJ4_add_13 (fun v102 => ?_)
  refine tj_aload_n dJ4_add_16 rfl ?_
  refine tj_getI fl_J4_48 dJ4_add_17 (fun v103 => ?_)
  refine tj_callV (as := [va_rf v1, va_rf v102, .int v103]) (rest := []) (st' := (fun _ => [])) (t := 16) (fun a e => by cases e; exact ct_J4_add_2 d _ _ _ _) (by decide) rfl q1782 q1784 qs15 q103 q1785 rfl md_J4_add_2 rfl (by decide) rfl (by decide) dJ4_add_20 (fun _ => rfl) (fun _ σ => ?_) (by decide)
  refine tj_iconst (1 : Int32) dJ4_add_23 rfl ?_
  exact tj_zpure rfl dJ4_add_24
theorem ct_J4_add : ∀ (d : Nat) (v0 : Option Nat) (v1 : Option Nat), ct_ yJ4_add (ws_ yJ4_add cJ4_add 2 (some .boolean)) d em_i [va_rf v0, va_rf v1] (fn_J4_add d v0 v1)
  | 0, _, _ => ct_fail
  | d + 1, v0, v1 => ct_of [(false, va_rf v0), (false, va_rf v1)] [some (va_rf v0), some (va_rf v1)] (by decide) rfl ⟨rfl, (rf_cat _), ⟨rfl, (rf_cat _), trivial⟩⟩ (fun E X n0 s0 σ => tj_J4_add_B0 d v0 v1 σ)
theorem tj_X2_hireKeeper_J27 {E : tj_E} {X : tj_X} {n0 s0 : Nat} (d : Nat) (l0 : Option Nat) (l1 : Int32) (l2 : Int32) (p0 : Int32) (σ : hp_S) : tj_T E X RX2 "hireKeeper" cX2_hireKeeper 3 (some .int) (d + 1) [] n0 s0 em_i σ 27 [some (va_rf l0), some (.int l1), some (.int l2)] [.int p0] (fn_X2_hireKeeper_J27 d l0 l1 l2 p0) := by
  unfold fn_X2_hireKeeper_J27
  refine tj_bipush (115 : Int32) dX2_hireKeeper_27 (by decide) ?_
  refine tj_callSN (as := [.int p0, .int (115 : Int32)]) (rest := []) (st' := (fun _ => [])) (ct_X1_demand d p0 (115 : Int32)) q1966 q1967 q96 q1968 md_X1_demand rfl (by decide) rfl (by decide) dX2_hireKeeper_29 (fun _ => rfl) (fun _ σ => ?_) (by decide)
  refine tj_aload_n dX2_hireKeeper_32 rfl ?_
  refine tj_getR fl_X2_21 dX2_hireKeeper_33 (fun v101 => ?_)
  refine tj_getR fl_X2_220r dX2_hireKeeper_36 (fun v102 => ?_)
  refine tj_new nw_X2_223 dX2_hireKeeper_39 (fun a103 σ => ?_)
  refine tj_dup dX2_hireKeeper_42 (rf_cat _) ?_
  refine tj_iload_n dX2_hireKeeper_43 rfl ?_
  refine tj_iload_n dX2_hireKeeper_44 rfl ?_
  refine tj_callI (as := [.int l1, .int l2]) (rest := [va_rf (some a103), va_rf v102]) (st' := (fun _ => [va_rf (some a103), va_rf v102])) (fun a e => by cases e; exact ct_X11_init d _ _ _) q2489 q2490 q160 q2491 rfl md_X11_init rfl (by decide) rfl (by simp [rf_cat, cat_i, cat_l, cat_f, cat_d]) dX2_hireKeeper_45 (fun _ => rfl) (fun _ σ => ?_) (by decide)
  refine tj_callF (as := [va_rf (some a103)]) (rest := []) (st' := (fun r => [.int r])) (t := 16) (fun a e => by cases e; exact ct_J4_add d _ _) (by decide) rfl q2505 q1777 q1779 q103 q1781 (ev_i 7 rfl) q1780 q1778 q1323 md_i7 rfl (by decide) rfl (by decide) dX2_hireKeeper_48 (fun _ => rfl) (fun r104 σ => ?_) (by decide)
  refine tj_pop dX2_hireKeeper_53 rfl ?_
  refine tj_aload_n dX2_hireKeeper_54 rfl ?_
  refine tj_getR fl_X2_21 dX2_hireKeeper_55 (fun v105 => ?_)
  refine tj_callV (as := []) (rest := []) (st' := (fun r => [.int r])) (t := 3) (fun a e => by cases e; exact ct_X3_count d _) (by decide) rfl q2481 q2482 q2483 q100 q2484 rfl md_X3_count rfl (by decide) rfl (by decide) dX2_hireKeeper_58 (fun _ => rfl) (fun r106 σ => ?_) (by decide)
  refine tj_iconst (1 : Int32) dX2_hireKeeper_61 rfl ?_
  refine tj_isub dX2_hireKeeper_62 ?_
  exact tj_iret dX2_hireKeeper_63
theorem tj_X2_hireKeeper_B0 {E : tj_E} {X : tj_X} {n0 s0 : Nat} (d : Nat) (v0 : Option Nat) (v1 : Int32) (v2 : Int32) (σ : hp_S) : tj_T E X RX2 "hireKeeper" cX2_hireKeeper 3 (some .int) (d + 1) [] n0 s0 em_i σ 0 [some (va_rf v0), some (.int v1), some (.int v2)] [] (fn_X2_hireKeeper_B0 d v0 v1 v2) := by
  unfold fn_X2_hireKeeper_B0
  refine tj_iload_n dX2_hireKeeper_0 rfl ?_
  refine tj_iload_n dX2_hireKeeper_1 rfl ?_
  refine tj_callS (as := [.int v1, .int v2]) (rest := []) (st' := (fun r => [.int r])) (ct_X2_areHours d v1 v2) q2478 q2479 q97 q2480 md_X2_areHours rfl (by decide) rfl (by decide) dX2_hireKeeper_2 (fun _ => rfl) (fun r101 σ => ?_) (by decide)
  refine tj_bipush (97 : Int32) dX2_hireKeeper_5 (by decide) ?_
  refine tj_callSN (as := [.int r101, .int (97 : Int32)]) (rest := []) (st' := (fun _ => [])) (ct_X1_demand d r101 (97 : Int32)) q1966 q1967 q96 q1968 md_X1_demand rfl (by decide) rfl (by decide) dX2_hireKeeper_7 (fun _ => rfl) (fun _ σ => ?_) (by decide)
  refine tj_aload_n dX2_hireKeeper_10 rfl ?_
  refine tj_getR fl_X2_21 dX2_hireKeeper_11 (fun v102 => ?_)
  refine tj_callV (as := []) (rest := []) (st' := (fun r => [.int r])) (t := 3) (fun a e => by cases e; exact ct_X3_count d _) (by decide) rfl q2481 q2482 q2483 q100 q2484 rfl md_X3_count rfl (by decide) rfl (by decide) dX2_hireKeeper_14 (fun _ => rfl) (fun r103 σ => ?_) (by decide)
  refine tj_bipush (6 : Int32) dX2_hireKeeper_17 (by decide) ?_
  refine tj_icmp_ge 26 dX2_hireKeeper_19 rfl (fun _ => ?_) (fun _ => ?_)
  · refine tj_iconst (0 : Int32) dX2_hireKeeper_26 rfl ?_
    exact tj_X2_hireKeeper_J27 d v0 v1 v2 (0 : Int32) _
  · refine tj_iconst (1 : Int32) dX2_hireKeeper_22 rfl ?_
    refine tj_goto 27 dX2_hireKeeper_23 rfl ?_
    exact tj_X2_hireKeeper_J27 d v0 v1 v2 (1 : Int32) _
theorem ct_X2_hireKeeper : ∀ (d : Nat) (v0 : Option Nat) (v1 : Int32) (v2 : Int32), ct_ yX2_hireKeeper (ws_ yX2_hireKeeper cX2_hireKeeper 3 (some .int)) d em_i [va_rf v0, .int v1, .int v2] (fn_X2_hireKeeper d v0 v1 v2)
  | 0, _, _, _ => ct_fail
  | d + 1, v0, v1, v2 => ct_of [(false, va_rf v0), (false, .int v1), (false, .int v2)] [some (va_rf v0), some (.int v1), some (.int v2)] (by decide) rfl ⟨rfl, (rf_cat _), ⟨rfl, rfl, ⟨rfl, rfl, trivial⟩⟩⟩ (fun E X n0 s0 σ => tj_X2_hireKeeper_B0 d v0 v1 v2 σ)
theorem tj_J1_fixAfterDeletion_J183 {E : tj_E} {X : tj_X} {n0 s0 : Nat} (d : Nat) {b0 : Option Nat → Option Nat → mx_M Unit} (h0 : ∀ (l0 : Option Nat) (l1 : Option Nat) (σ : hp_S), tj_T E X RJ1 "fixAfterDeletion" cJ1_fixAfterDeletion 3 none (d + 1) [] n0 s0 em_v σ 0 [some (va_rf l0), some (va_rf l1), none] [] (b0 l0 l1)) (l0 : Option Nat) (l1 : Option Nat) (σ : hp_S) : tj_T E X RJ1 "fixAfterDeletion" cJ1_fixAfterDeletion 3 none (d + 1) [] n0 s0 em_v σ 183 [some (va_rf l0), some (va_rf l1), none] [] (fn_J1_fixAfterDeletion_J183 d b0 l0 l1) := by
  unfold fn_J1_fixAfterDeletion_J183
  refine tj_goto 0 dJ1_fixAfterDeletion_183 rfl ?_
  exact h0 l0 l1 _
theorem tj_J1_fixAfterDeletion_J143 {E : tj_E} {X : tj_X} {n0 s0 : Nat} (d : Nat) {b0 : Option Nat → Option Nat → mx_M Unit} (h0 : ∀ (l0 : Option Nat) (l1 : Option Nat) (σ : hp_S), tj_T E X RJ1 "fixAfterDeletion" cJ1_fixAfterDeletion 3 none (d + 1) [] n0 s0 em_v σ 0 [some (va_rf l0), some (va_rf l1), none] [] (b0 l0 l1)) (l0 : Option Nat) (l1 : Option Nat) (l2 : Option Nat) (σ : hp_S) : tj_T E X RJ1 "fixAfterDeletion" cJ1_fixAfterDeletion 3 none (d + 1) [] n0 s0 em_v σ 143 [some (va_rf l0), some (va_rf l1), some (va_rf l2)] [] (fn_J1_fixAfterDeletion_J143 d b0 l0 l1 l2) := by
  unfold fn_J1_fixAfterDeletion_J143
  refine tj_aload_n dJ1_fixAfterDeletion_143 rfl ?_
  refine tj_aload_n dJ1_fixAfterDeletion_144 rfl ?_
  refine tj_callS (as := [va_rf l1]) (rest := [va_rf l2]) (st' := (fun r => [va_rf r, va_rf l2])) (ct_J1_parentOf d l1) q1731 q1732 q99 q1733 md_J1_parentOf rfl (by decide) rfl (by simp [rf_cat, cat_i, cat_l, cat_f, cat_d]) dJ1_fixAfterDeletion_145 (fun _ => rfl) (fun r101 σ => ?_) (by decide)
  refine tj_callS (as := [va_rf r101]) (rest := [va_rf l2]) (st' := (fun r => [.int r, va_rf l2])) (ct_J1_colorOf d r101) q1740 q1741 q99 q1742 md_J1_colorOf rfl (by decide) rfl (by simp [rf_cat, cat_i, cat_l, cat_f, cat_d]) dJ1_fixAfterDeletion_148 (fun _ => rfl) (fun r102 σ => ?_) (by decide)
  refine tj_callS (as := [va_rf l2, .int r102]) (rest := []) (st' := (fun _ => [])) (ct_J1_setColor d l2 r102) q1743 q1744 q99 q1745 md_J1_setColor rfl (by decide) rfl (by decide) dJ1_fixAfterDeletion_151 (fun _ => rfl) (fun _ σ => ?_) (by decide)
  refine tj_aload_n dJ1_fixAfterDeletion_154 rfl ?_
  refine tj_callS (as := [va_rf l1]) (rest := []) (st' := (fun r => [va_rf r])) (ct_J1_parentOf d l1) q1731 q1732 q99 q1733 md_J1_parentOf rfl (by decide) rfl (by decide) dJ1_fixAfterDeletion_155 (fun _ => rfl) (fun r103 σ => ?_) (by decide)
  refine tj_iconst (1 : Int32) dJ1_fixAfterDeletion_158 rfl ?_
  refine tj_callS (as := [va_rf r103, .int (1 : Int32)]) (rest := []) (st' := (fun _ => [])) (ct_J1_setColor d r103 (1 : Int32)) q1743 q1744 q99 q1745 md_J1_setColor rfl (by decide) rfl (by decide) dJ1_fixAfterDeletion_159 (fun _ => rfl) (fun _ σ => ?_) (by decide)
  refine tj_aload_n dJ1_fixAfterDeletion_162 rfl ?_
  refine tj_callS (as := [va_rf l2]) (rest := []) (st' := (fun r => [va_rf r])) (ct_J1_rightOf d l2) q1737 q1738 q99 q1739 md_J1_rightOf rfl (by decide) rfl (by decide) dJ1_fixAfterDeletion_163 (fun _ => rfl) (fun r104 σ => ?_) (by decide)
  refine tj_iconst (1 : Int32) dJ1_fixAfterDeletion_166 rfl ?_
  refine tj_callS (as := [va_rf r104, .int (1 : Int32)]) (rest := []) (st' := (fun _ => [])) (ct_J1_setColor d r104 (1 : Int32)) q1743 q1744 q99 q1745 md_J1_setColor rfl (by decide) rfl (by decide) dJ1_fixAfterDeletion_167 (fun _ => rfl) (fun _ σ => ?_) (by decide)
  refine tj_aload_n dJ1_fixAfterDeletion_170 rfl ?_
  refine tj_aload_n dJ1_fixAfterDeletion_171 rfl ?_
  refine tj_callS (as := [va_rf l1]) (rest := [va_rf l0]) (st' := (fun r => [va_rf r, va_rf l0])) (ct_J1_parentOf d l1) q1731 q1732 q99 q1733 md_J1_parentOf rfl (by decide) rfl (by simp [rf_cat, cat_i, cat_l, cat_f, cat_d]) dJ1_fixAfterDeletion_172 (fun _ => rfl) (fun r105 σ => ?_) (by decide)
  refine tj_callV (as := [va_rf r105]) (rest := []) (st' := (fun _ => [])) (t := 18) (fun a e => by cases e; exact ct_J1_rotateLeft d _ _) (by decide) rfl q1746 q1748 qs13 q99 q1749 rfl md_J1_rotateLeft rfl (by decide) rfl (by decide) dJ1_fixAfterDeletion_175 (fun _ => rfl) (fun _ σ => ?_) (by decide)
  refine tj_aload_n dJ1_fixAfterDeletion_178 rfl ?_
  refine tj_getR fl_J1_101 dJ1_fixAfterDeletion_179 (fun v106 => ?_)
  refine tj_astore_n dJ1_fixAfterDeletion_182 (by decide) (rf_cat _) [some (va_rf l0), some (va_rf v106), some (va_rf l2)] rfl ?_
  refine tj_wk (L' := [some (va_rf l0), some (va_rf v106), none]) ⟨rfl, rfl, trivial⟩ ?_
  exact tj_J1_fixAfterDeletion_J183 d h0 l0 v106 _
theorem tj_J1_fixAfterDeletion_J106 {E : tj_E} {X : tj_X} {n0 s0 : Nat} (d : Nat) {b0 : Option Nat → Option Nat → mx_M Unit} (h0 : ∀ (l0 : Option Nat) (l1 : Option Nat) (σ : hp_S), tj_T E X RJ1 "fixAfterDeletion" cJ1_fixAfterDeletion 3 none (d + 1) [] n0 s0 em_v σ 0 [some (va_rf l0), some (va_rf l1), none] [] (b0 l0 l1)) (l0 : Option Nat) (l1 : Option Nat) (l2 : Option Nat) (σ : hp_S) : tj_T E X RJ1 "fixAfterDeletion" cJ1_fixAfterDeletion 3 none (d + 1) [] n0 s0 em_v σ 106 [some (va_rf l0), some (va_rf l1), some (va_rf l2)] [] (fn_J1_fixAfterDeletion_J106 d b0 l0 l1 l2) := by
  unfold fn_J1_fixAfterDeletion_J106
  refine tj_aload_n dJ1_fixAfterDeletion_106 rfl ?_
  refine tj_callS (as := [va_rf l2]) (rest := []) (st' := (fun r => [va_rf r])) (ct_J1_rightOf d l2) q1737 q1738 q99 q1739 md_J1_rightOf rfl (by decide) rfl (by decide) dJ1_fixAfterDeletion_107 (fun _ => rfl) (fun r101 σ => ?_) (by decide)
  refine tj_callS (as := [va_rf r101]) (rest := []) (st' := (fun r => [.int r])) (ct_J1_colorOf d r101) q1740 q1741 q99 q1742 md_J1_colorOf rfl (by decide) rfl (by decide) dJ1_fixAfterDeletion_110 (fun _ => rfl) (fun r102 σ => ?_) (by decide)
  refine tj_iconst (1 : Int32) dJ1_fixAfterDeletion_113 rfl ?_
  refine tj_icmp_ne 143 dJ1_fixAfterDeletion_114 rfl (fun _ => ?_) (fun _ => ?_)
  · refine tj_aload_n dJ1_fixAfterDeletion_117 rfl ?_
    refine tj_callS (as := [va_rf l2]) (rest := []) (st' := (fun r => [va_rf r])) (ct_J1_leftOf d l2) q1734 q1735 q99 q1736 md_J1_leftOf rfl (by decide) rfl (by decide) dJ1_fixAfterDeletion_118 (fun _ => rfl) (fun r103 σ => ?_) (by decide)
    refine tj_iconst (1 : Int32) dJ1_fixAfterDeletion_121 rfl ?_
    refine tj_callS (as := [va_rf r103, .int (1 : Int32)]) (rest := []) (st' := (fun _ => [])) (ct_J1_setColor d r103 (1 : Int32)) q1743 q1744 q99 q1745 md_J1_setColor rfl (by decide) rfl (by decide) dJ1_fixAfterDeletion_122 (fun _ => rfl) (fun _ σ => ?_) (by decide)
    refine tj_aload_n dJ1_fixAfterDeletion_125 rfl ?_
    refine tj_iconst (0 : Int32) dJ1_fixAfterDeletion_126 rfl ?_
    refine tj_callS (as := [va_rf l2, .int (0 : Int32)]) (rest := []) (st' := (fun _ => [])) (ct_J1_setColor d l2 (0 : Int32)) q1743 q1744 q99 q1745 md_J1_setColor rfl (by decide) rfl (by decide) dJ1_fixAfterDeletion_127 (fun _ => rfl) (fun _ σ => ?_) (by decide)
    refine tj_aload_n dJ1_fixAfterDeletion_130 rfl ?_
    refine tj_aload_n dJ1_fixAfterDeletion_131 rfl ?_
    refine tj_callV (as := [va_rf l2]) (rest := []) (st' := (fun _ => [])) (t := 18) (fun a e => by cases e; exact ct_J1_rotateRight d _ _) (by decide) rfl q1750 q1752 qs14 q99 q1753 rfl md_J1_rotateRight rfl (by decide) rfl (by decide) dJ1_fixAfterDeletion_132 (fun _ => rfl) (fun _ σ => ?_) (by decide)
    refine tj_aload_n dJ1_fixAfterDeletion_135 rfl ?_
    refine tj_callS (as := [va_rf l1]) (rest := []) (st' := (fun r => [va_rf r])) (ct_J1_parentOf d l1) q1731 q1732 q99 q1733 md_J1_parentOf rfl (by decide) rfl (by decide) dJ1_fixAfterDeletion_136 (fun _ => rfl) (fun r104 σ => ?_) (by decide)
    refine tj_callS (as := [va_rf r104]) (rest := []) (st' := (fun r => [va_rf r])) (ct_J1_rightOf d r104) q1737 q1738 q99 q1739 md_J1_rightOf rfl (by decide) rfl (by decide) dJ1_fixAfterDeletion_139 (fun _ => rfl) (fun r105 σ => ?_) (by decide)
    refine tj_astore_n dJ1_fixAfterDeletion_142 (by decide) (rf_cat _) [some (va_rf l0), some (va_rf l1), some (va_rf r105)] rfl ?_
    exact tj_J1_fixAfterDeletion_J143 d h0 l0 l1 r105 _
  · exact tj_J1_fixAfterDeletion_J143 d h0 l0 l1 l2 _
theorem tj_J1_fixAfterDeletion_J71 {E : tj_E} {X : tj_X} {n0 s0 : Nat} (d : Nat) {b0 : Option Nat → Option Nat → mx_M Unit} (h0 : ∀ (l0 : Option Nat) (l1 : Option Nat) (σ : hp_S), tj_T E X RJ1 "fixAfterDeletion" cJ1_fixAfterDeletion 3 none (d + 1) [] n0 s0 em_v σ 0 [some (va_rf l0), some (va_rf l1), none] [] (b0 l0 l1)) (l0 : Option Nat) (l1 : Option Nat) (l2 : Option Nat) (σ : hp_S) : tj_T E X RJ1 "fixAfterDeletion" cJ1_fixAfterDeletion 3 none (d + 1) [] n0 s0 em_v σ 71 [some (va_rf l0), some (va_rf l1), some (va_rf l2)] [] (fn_J1_fixAfterDeletion_J71 d b0 l0 l1 l2) := by
  unfold fn_J1_fixAfterDeletion_J71
  refine tj_aload_n dJ1_fixAfterDeletion_71 rfl ?_
  refine tj_callS (as := [va_rf l2]) (rest := []) (st' := (fun r => [va_rf r])) (ct_J1_leftOf d l2) q1734 q1735 q99 q1736 md_J1_leftOf rfl (by decide) rfl (by decide) dJ1_fixAfterDeletion_72 (fun _ => rfl) (fun r101 σ => ?_) (by decide)
  refine tj_callS (as := [va_rf r101]) (rest := []) (st' := (fun r => [.int r])) (ct_J1_colorOf d r101) q1740 q1741 q99 q1742 md_J1_colorOf rfl (by decide) rfl (by decide) dJ1_fixAfterDeletion_75 (fun _ => rfl) (fun r102 σ => ?_) (by decide)
  refine tj_iconst (1 : Int32) dJ1_fixAfterDeletion_78 rfl ?_
  refine tj_icmp_ne 106 dJ1_fixAfterDeletion_79 rfl (fun _ => ?_) (fun _ => ?_)
  · refine tj_aload_n dJ1_fixAfterDeletion_82 rfl ?_
    refine tj_callS (as := [va_rf l2]) (rest := []) (st' := (fun r => [va_rf r])) (ct_J1_rightOf d l2) q1737 q1738 q99 q1739 md_J1_rightOf rfl (by decide) rfl (by decide) dJ1_fixAfterDeletion_83 (fun _ => rfl) (fun r103 σ => ?_) (by decide)
    refine tj_callS (as := [va_rf r103]) (rest := []) (st' := (fun r => [.int r])) (ct_J1_colorOf d r103) q1740 q1741 q99 q1742 md_J1_colorOf rfl (by decide) rfl (by decide) dJ1_fixAfterDeletion_86 (fun _ => rfl) (fun r104 σ => ?_) (by decide)
    refine tj_iconst (1 : Int32) dJ1_fixAfterDeletion_89 rfl ?_
    refine tj_icmp_ne 106 dJ1_fixAfterDeletion_90 rfl (fun _ => ?_) (fun _ => ?_)
    · refine tj_aload_n dJ1_fixAfterDeletion_93 rfl ?_
      refine tj_iconst (0 : Int32) dJ1_fixAfterDeletion_94 rfl ?_
      refine tj_callS (as := [va_rf l2, .int (0 : Int32)]) (rest := []) (st' := (fun _ => [])) (ct_J1_setColor d l2 (0 : Int32)) q1743 q1744 q99 q1745 md_J1_setColor rfl (by decide) rfl (by decide) dJ1_fixAfterDeletion_95 (fun _ => rfl) (fun _ σ => ?_) (by decide)
      refine tj_aload_n dJ1_fixAfterDeletion_98 rfl ?_
      refine tj_callS (as := [va_rf l1]) (rest := []) (st' := (fun r => [va_rf r])) (ct_J1_parentOf d l1) q1731 q1732 q99 q1733 md_J1_parentOf rfl (by decide) rfl (by decide) dJ1_fixAfterDeletion_99 (fun _ => rfl) (fun r105 σ => ?_) (by decide)
      refine tj_astore_n dJ1_fixAfterDeletion_102 (by decide) (rf_cat _) [some (va_rf l0), some (va_rf r105), some (va_rf l2)] rfl ?_
      refine tj_goto 183 dJ1_fixAfterDeletion_103 rfl ?_
      refine tj_wk (L' := [some (va_rf l0), some (va_rf r105), none]) ⟨rfl, rfl, trivial⟩ ?_
      exact tj_J1_fixAfterDeletion_J183 d h0 l0 r105 _
    · exact tj_J1_fixAfterDeletion_J106 d h0 l0 l1 l2 _
  · exact tj_J1_fixAfterDeletion_J106 d h0 l0 l1 l2 _
theorem tj_J1_fixAfterDeletion_J342 {E : tj_E} {X : tj_X} {n0 s0 : Nat} (d : Nat) {b0 : Option Nat → Option Nat → mx_M Unit} (h0 : ∀ (l0 : Option Nat) (l1 : Option Nat) (σ : hp_S), tj_T E X RJ1 "fixAfterDeletion" cJ1_fixAfterDeletion 3 none (d + 1) [] n0 s0 em_v σ 0 [some (va_rf l0), some (va_rf l1), none] [] (b0 l0 l1)) (l0 : Option Nat) (l1 : Option Nat) (σ : hp_S) : tj_T E X RJ1 "fixAfterDeletion" cJ1_fixAfterDeletion 3 none (d + 1) [] n0 s0 em_v σ 342 [some (va_rf l0), some (va_rf l1), none] [] (fn_J1_fixAfterDeletion_J342 d b0 l0 l1) := by
  unfold fn_J1_fixAfterDeletion_J342
  refine tj_goto 0 dJ1_fixAfterDeletion_342 rfl ?_
  exact h0 l0 l1 _
theorem tj_J1_fixAfterDeletion_J302 {E : tj_E} {X : tj_X} {n0 s0 : Nat} (d : Nat) {b0 : Option Nat → Option Nat → mx_M Unit} (h0 : ∀ (l0 : Option Nat) (l1 : Option Nat) (σ : hp_S), tj_T E X RJ1 "fixAfterDeletion" cJ1_fixAfterDeletion 3 none (d + 1) [] n0 s0 em_v σ 0 [some (va_rf l0), some (va_rf l1), none] [] (b0 l0 l1)) (l0 : Option Nat) (l1 : Option Nat) (l2 : Option Nat) (σ : hp_S) : tj_T E X RJ1 "fixAfterDeletion" cJ1_fixAfterDeletion 3 none (d + 1) [] n0 s0 em_v σ 302 [some (va_rf l0), some (va_rf l1), some (va_rf l2)] [] (fn_J1_fixAfterDeletion_J302 d b0 l0 l1 l2) := by
  unfold fn_J1_fixAfterDeletion_J302
  refine tj_aload_n dJ1_fixAfterDeletion_302 rfl ?_
  refine tj_aload_n dJ1_fixAfterDeletion_303 rfl ?_
  refine tj_callS (as := [va_rf l1]) (rest := [va_rf l2]) (st' := (fun r => [va_rf r, va_rf l2])) (ct_J1_parentOf d l1) q1731 q1732 q99 q1733 md_J1_parentOf rfl (by decide) rfl (by simp [rf_cat, cat_i, cat_l, cat_f, cat_d]) dJ1_fixAfterDeletion_304 (fun _ => rfl) (fun r101 σ => ?_) (by decide)
  refine tj_callS (as := [va_rf r101]) (rest := [va_rf l2]) (st' := (fun r => [.int r, va_rf l2])) (ct_J1_colorOf d r101) q1740 q1741 q99 q1742 md_J1_colorOf rfl (by decide) rfl (by simp [rf_cat, cat_i, cat_l, cat_f, cat_d]) dJ1_fixAfterDeletion_307 (fun _ => rfl) (fun r102 σ => ?_) (by decide)
  refine tj_callS (as := [va_rf l2, .int r102]) (rest := []) (st' := (fun _ => [])) (ct_J1_setColor d l2 r102) q1743 q1744 q99 q1745 md_J1_setColor rfl (by decide) rfl (by decide) dJ1_fixAfterDeletion_310 (fun _ => rfl) (fun _ σ => ?_) (by decide)
  refine tj_aload_n dJ1_fixAfterDeletion_313 rfl ?_
  refine tj_callS (as := [va_rf l1]) (rest := []) (st' := (fun r => [va_rf r])) (ct_J1_parentOf d l1) q1731 q1732 q99 q1733 md_J1_parentOf rfl (by decide) rfl (by decide) dJ1_fixAfterDeletion_314 (fun _ => rfl) (fun r103 σ => ?_) (by decide)
  refine tj_iconst (1 : Int32) dJ1_fixAfterDeletion_317 rfl ?_
  refine tj_callS (as := [va_rf r103, .int (1 : Int32)]) (rest := []) (st' := (fun _ => [])) (ct_J1_setColor d r103 (1 : Int32)) q1743 q1744 q99 q1745 md_J1_setColor rfl (by decide) rfl (by decide) dJ1_fixAfterDeletion_318 (fun _ => rfl) (fun _ σ => ?_) (by decide)
  refine tj_aload_n dJ1_fixAfterDeletion_321 rfl ?_
  refine tj_callS (as := [va_rf l2]) (rest := []) (st' := (fun r => [va_rf r])) (ct_J1_leftOf d l2) q1734 q1735 q99 q1736 md_J1_leftOf rfl (by decide) rfl (by decide) dJ1_fixAfterDeletion_322 (fun _ => rfl) (fun r104 σ => ?_) (by decide)
  refine tj_iconst (1 : Int32) dJ1_fixAfterDeletion_325 rfl ?_
  refine tj_callS (as := [va_rf r104, .int (1 : Int32)]) (rest := []) (st' := (fun _ => [])) (ct_J1_setColor d r104 (1 : Int32)) q1743 q1744 q99 q1745 md_J1_setColor rfl (by decide) rfl (by decide) dJ1_fixAfterDeletion_326 (fun _ => rfl) (fun _ σ => ?_) (by decide)
  refine tj_aload_n dJ1_fixAfterDeletion_329 rfl ?_
  refine tj_aload_n dJ1_fixAfterDeletion_330 rfl ?_
  refine tj_callS (as := [va_rf l1]) (rest := [va_rf l0]) (st' := (fun r => [va_rf r, va_rf l0])) (ct_J1_parentOf d l1) q1731 q1732 q99 q1733 md_J1_parentOf rfl (by decide) rfl (by simp [rf_cat, cat_i, cat_l, cat_f, cat_d]) dJ1_fixAfterDeletion_331 (fun _ => rfl) (fun r105 σ => ?_) (by decide)
  refine tj_callV (as := [va_rf r105]) (rest := []) (st' := (fun _ => [])) (t := 18) (fun a e => by cases e; exact ct_J1_rotateRight d _ _) (by decide) rfl q1750 q1752 qs14 q99 q1753 rfl md_J1_rotateRight rfl (by decide) rfl (by decide) dJ1_fixAfterDeletion_334 (fun _ => rfl) (fun _ σ => ?_) (by decide)
  refine tj_aload_n dJ1_fixAfterDeletion_337 rfl ?_
  refine tj_getR fl_J1_101 dJ1_fixAfterDeletion_338 (fun v106 => ?_)
  refine tj_astore_n dJ1_fixAfterDeletion_341 (by decide) (rf_cat _) [some (va_rf l0), some (va_rf v106), some (va_rf l2)] rfl ?_
  refine tj_wk (L' := [some (va_rf l0), some (va_rf v106), none]) ⟨rfl, rfl, trivial⟩ ?_
  exact tj_J1_fixAfterDeletion_J342 d h0 l0 v106 _
theorem tj_J1_fixAfterDeletion_J265 {E : tj_E} {X : tj_X} {n0 s0 : Nat} (d : Nat) {b0 : Option Nat → Option Nat → mx_M Unit} (h0 : ∀ (l0 : Option Nat) (l1 : Option Nat) (σ : hp_S), tj_T E X RJ1 "fixAfterDeletion" cJ1_fixAfterDeletion 3 none (d + 1) [] n0 s0 em_v σ 0 [some (va_rf l0), some (va_rf l1), none] [] (b0 l0 l1)) (l0 : Option Nat) (l1 : Option Nat) (l2 : Option Nat) (σ : hp_S) : tj_T E X RJ1 "fixAfterDeletion" cJ1_fixAfterDeletion 3 none (d + 1) [] n0 s0 em_v σ 265 [some (va_rf l0), some (va_rf l1), some (va_rf l2)] [] (fn_J1_fixAfterDeletion_J265 d b0 l0 l1 l2) := by
  unfold fn_J1_fixAfterDeletion_J265
  refine tj_aload_n dJ1_fixAfterDeletion_265 rfl ?_
  refine tj_callS (as := [va_rf l2]) (rest := []) (st' := (fun r => [va_rf r])) (ct_J1_leftOf d l2) q1734 q1735 q99 q1736 md_J1_leftOf rfl (by decide) rfl (by decide) dJ1_fixAfterDeletion_266 (fun _ => rfl) (fun r101 σ => ?_) (by decide)
  refine tj_callS (as := [va_rf r101]) (rest := []) (st' := (fun r => [.int r])) (ct_J1_colorOf d r101) q1740 q1741 q99 q1742 md_J1_colorOf rfl (by decide) rfl (by decide) dJ1_fixAfterDeletion_269 (fun _ => rfl) (fun r102 σ => ?_) (by decide)
  refine tj_iconst (1 : Int32) dJ1_fixAfterDeletion_272 rfl ?_
  refine tj_icmp_ne 302 dJ1_fixAfterDeletion_273 rfl (fun _ => ?_) (fun _ => ?_)
  · refine tj_aload_n dJ1_fixAfterDeletion_276 rfl ?_
    refine tj_callS (as := [va_rf l2]) (rest := []) (st' := (fun r => [va_rf r])) (ct_J1_rightOf d l2) q1737 q1738 q99 q1739 md_J1_rightOf rfl (by decide) rfl (by decide) dJ1_fixAfterDeletion_277 (fun _ => rfl) (fun r103 σ => ?_) (by decide)
    refine tj_iconst (1 : Int32) dJ1_fixAfterDeletion_280 rfl ?_
    refine tj_callS (as := [va_rf r103, .int (1 : Int32)]) (rest := []) (st' := (fun _ => [])) (ct_J1_setColor d r103 (1 : Int32)) q1743 q1744 q99 q1745 md_J1_setColor rfl (by decide) rfl (by decide) dJ1_fixAfterDeletion_281 (fun _ => rfl) (fun _ σ => ?_) (by decide)
    refine tj_aload_n dJ1_fixAfterDeletion_284 rfl ?_
    refine tj_iconst (0 : Int32) dJ1_fixAfterDeletion_285 rfl ?_
    refine tj_callS (as := [va_rf l2, .int (0 : Int32)]) (rest := []) (st' := (fun _ => [])) (ct_J1_setColor d l2 (0 : Int32)) q1743 q1744 q99 q1745 md_J1_setColor rfl (by decide) rfl (by decide) dJ1_fixAfterDeletion_286 (fun _ => rfl) (fun _ σ => ?_) (by decide)
    refine tj_aload_n dJ1_fixAfterDeletion_289 rfl ?_
    refine tj_aload_n dJ1_fixAfterDeletion_290 rfl ?_
    refine tj_callV (as := [va_rf l2]) (rest := []) (st' := (fun _ => [])) (t := 18) (fun a e => by cases e; exact ct_J1_rotateLeft d _ _) (by decide) rfl q1746 q1748 qs13 q99 q1749 rfl md_J1_rotateLeft rfl (by decide) rfl (by decide) dJ1_fixAfterDeletion_291 (fun _ => rfl) (fun _ σ => ?_) (by decide)
    refine tj_aload_n dJ1_fixAfterDeletion_294 rfl ?_
    refine tj_callS (as := [va_rf l1]) (rest := []) (st' := (fun r => [va_rf r])) (ct_J1_parentOf d l1) q1731 q1732 q99 q1733 md_J1_parentOf rfl (by decide) rfl (by decide) dJ1_fixAfterDeletion_295 (fun _ => rfl) (fun r104 σ => ?_) (by decide)
    refine tj_callS (as := [va_rf r104]) (rest := []) (st' := (fun r => [va_rf r])) (ct_J1_leftOf d r104) q1734 q1735 q99 q1736 md_J1_leftOf rfl (by decide) rfl (by decide) dJ1_fixAfterDeletion_298 (fun _ => rfl) (fun r105 σ => ?_) (by decide)
    refine tj_astore_n dJ1_fixAfterDeletion_301 (by decide) (rf_cat _) [some (va_rf l0), some (va_rf l1), some (va_rf r105)] rfl ?_
    exact tj_J1_fixAfterDeletion_J302 d h0 l0 l1 r105 _
  · exact tj_J1_fixAfterDeletion_J302 d h0 l0 l1 l2 _
theorem tj_J1_fixAfterDeletion_J230 {E : tj_E} {X : tj_X} {n0 s0 : Nat} (d : Nat) {b0 : Option Nat → Option Nat → mx_M Unit} (h0 : ∀ (l0 : Option Nat) (l1 : Option Nat) (σ : hp_S), tj_T E X RJ1 "fixAfterDeletion" cJ1_fixAfterDeletion 3 none (d + 1) [] n0 s0 em_v σ 0 [some (va_rf l0), some (va_rf l1), none] [] (b0 l0 l1)) (l0 : Option Nat) (l1 : Option Nat) (l2 : Option Nat) (σ : hp_S) : tj_T E X RJ1 "fixAfterDeletion" cJ1_fixAfterDeletion 3 none (d + 1) [] n0 s0 em_v σ 230 [some (va_rf l0), some (va_rf l1), some (va_rf l2)] [] (fn_J1_fixAfterDeletion_J230 d b0 l0 l1 l2) := by
  unfold fn_J1_fixAfterDeletion_J230
  refine tj_aload_n dJ1_fixAfterDeletion_230 rfl ?_
  refine tj_callS (as := [va_rf l2]) (rest := []) (st' := (fun r => [va_rf r])) (ct_J1_rightOf d l2) q1737 q1738 q99 q1739 md_J1_rightOf rfl (by decide) rfl (by decide) dJ1_fixAfterDeletion_231 (fun _ => rfl) (fun r101 σ => ?_) (by decide)
  refine tj_callS (as := [va_rf r101]) (rest := []) (st' := (fun r => [.int r])) (ct_J1_colorOf d r101) q1740 q1741 q99 q1742 md_J1_colorOf rfl (by decide) rfl (by decide) dJ1_fixAfterDeletion_234 (fun _ => rfl) (fun r102 σ => ?_) (by decide)
  refine tj_iconst (1 : Int32) dJ1_fixAfterDeletion_237 rfl ?_
  refine tj_icmp_ne 265 dJ1_fixAfterDeletion_238 rfl (fun _ => ?_) (fun _ => ?_)
  · refine tj_aload_n dJ1_fixAfterDeletion_241 rfl ?_
    refine tj_callS (as := [va_rf l2]) (rest := []) (st' := (fun r => [va_rf r])) (ct_J1_leftOf d l2) q1734 q1735 q99 q1736 md_J1_leftOf rfl (by decide) rfl (by decide) dJ1_fixAfterDeletion_242 (fun _ => rfl) (fun r103 σ => ?_) (by decide)
    refine tj_callS (as := [va_rf r103]) (rest := []) (st' := (fun r => [.int r])) (ct_J1_colorOf d r103) q1740 q1741 q99 q1742 md_J1_colorOf rfl (by decide) rfl (by decide) dJ1_fixAfterDeletion_245 (fun _ => rfl) (fun r104 σ => ?_) (by decide)
    refine tj_iconst (1 : Int32) dJ1_fixAfterDeletion_248 rfl ?_
    refine tj_icmp_ne 265 dJ1_fixAfterDeletion_249 rfl (fun _ => ?_) (fun _ => ?_)
    · refine tj_aload_n dJ1_fixAfterDeletion_252 rfl ?_
      refine tj_iconst (0 : Int32) dJ1_fixAfterDeletion_253 rfl ?_
      refine tj_callS (as := [va_rf l2, .int (0 : Int32)]) (rest := []) (st' := (fun _ => [])) (ct_J1_setColor d l2 (0 : Int32)) q1743 q1744 q99 q1745 md_J1_setColor rfl (by decide) rfl (by decide) dJ1_fixAfterDeletion_254 (fun _ => rfl) (fun _ σ => ?_) (by decide)
      refine tj_aload_n dJ1_fixAfterDeletion_257 rfl ?_
      refine tj_callS (as := [va_rf l1]) (rest := []) (st' := (fun r => [va_rf r])) (ct_J1_parentOf d l1) q1731 q1732 q99 q1733 md_J1_parentOf rfl (by decide) rfl (by decide) dJ1_fixAfterDeletion_258 (fun _ => rfl) (fun r105 σ => ?_) (by decide)
      refine tj_astore_n dJ1_fixAfterDeletion_261 (by decide) (rf_cat _) [some (va_rf l0), some (va_rf r105), some (va_rf l2)] rfl ?_
      refine tj_goto 342 dJ1_fixAfterDeletion_262 rfl ?_
      refine tj_wk (L' := [some (va_rf l0), some (va_rf r105), none]) ⟨rfl, rfl, trivial⟩ ?_
      exact tj_J1_fixAfterDeletion_J342 d h0 l0 r105 _
    · exact tj_J1_fixAfterDeletion_J265 d h0 l0 l1 l2 _
  · exact tj_J1_fixAfterDeletion_J265 d h0 l0 l1 l2 _
theorem tj_J1_fixAfterDeletion_J345 {E : tj_E} {X : tj_X} {n0 s0 : Nat} (d : Nat) (l1 : Option Nat) (σ : hp_S) : tj_T E X RJ1 "fixAfterDeletion" cJ1_fixAfterDeletion 3 none (d + 1) [] n0 s0 em_v σ 345 [none, some (va_rf l1), none] [] (fn_J1_fixAfterDeletion_J345 d l1) := by
  unfold fn_J1_fixAfterDeletion_J345
  refine tj_aload_n dJ1_fixAfterDeletion_345 rfl ?_
  refine tj_iconst (1 : Int32) dJ1_fixAfterDeletion_346 rfl ?_
  refine tj_callS (as := [va_rf l1, .int (1 : Int32)]) (rest := []) (st' := (fun _ => [])) (ct_J1_setColor d l1 (1 : Int32)) q1743 q1744 q99 q1745 md_J1_setColor rfl (by decide) rfl (by decide) dJ1_fixAfterDeletion_347 (fun _ => rfl) (fun _ σ => ?_) (by decide)
  exact tj_vret dJ1_fixAfterDeletion_350
theorem tj_J1_fixAfterDeletion_L0_b {E : tj_E} {X : tj_X} {n0 s0 : Nat} (d : Nat) {b0 : Option Nat → Option Nat → mx_M Unit} (h0 : ∀ (l0 : Option Nat) (l1 : Option Nat) (σ : hp_S), tj_T E X RJ1 "fixAfterDeletion" cJ1_fixAfterDeletion 3 none (d + 1) [] n0 s0 em_v σ 0 [some (va_rf l0), some (va_rf l1), none] [] (b0 l0 l1)) (l0 : Option Nat) (l1 : Option Nat) (σ : hp_S) : tj_T E X RJ1 "fixAfterDeletion" cJ1_fixAfterDeletion 3 none (d + 1) [] n0 s0 em_v σ 0 [some (va_rf l0), some (va_rf l1), none] [] (fn_J1_fixAfterDeletion_L0_b d b0 l0 l1) := by
  unfold fn_J1_fixAfterDeletion_L0_b
  refine tj_aload_n dJ1_fixAfterDeletion_0 rfl ?_
  refine tj_aload_n dJ1_fixAfterDeletion_1 rfl ?_
  refine tj_getR fl_J1_101 dJ1_fixAfterDeletion_2 (fun v101 => ?_)
  refine tj_acmp_eq 345 dJ1_fixAfterDeletion_5 rfl (fun _ => ?_) (fun _ => ?_)
  · refine tj_wk (L' := [none, some (va_rf l1), none]) ⟨rfl, trivial⟩ ?_
    exact tj_J1_fixAfterDeletion_J345 d l1 _
  · refine tj_aload_n dJ1_fixAfterDeletion_8 rfl ?_
    refine tj_callS (as := [va_rf l1]) (rest := []) (st' := (fun r => [.int r])) (ct_J1_colorOf d l1) q1740 q1741 q99 q1742 md_J1_colorOf rfl (by decide) rfl (by decide) dJ1_fixAfterDeletion_9 (fun _ => rfl) (fun r102 σ => ?_) (by decide)
    refine tj_iconst (1 : Int32) dJ1_fixAfterDeletion_12 rfl ?_
    refine tj_icmp_ne 345 dJ1_fixAfterDeletion_13 rfl (fun _ => ?_) (fun _ => ?_)
    · refine tj_aload_n dJ1_fixAfterDeletion_16 rfl ?_
      refine tj_aload_n dJ1_fixAfterDeletion_17 rfl ?_
      refine tj_callS (as := [va_rf l1]) (rest := [va_rf l1]) (st' := (fun r => [va_rf r, va_rf l1])) (ct_J1_parentOf d l1) q1731 q1732 q99 q1733 md_J1_parentOf rfl (by decide) rfl (by simp [rf_cat, cat_i, cat_l, cat_f, cat_d]) dJ1_fixAfterDeletion_18 (fun _ => rfl) (fun r103 σ => ?_) (by decide)
      refine tj_callS (as := [va_rf r103]) (rest := [va_rf l1]) (st' := (fun r => [va_rf r, va_rf l1])) (ct_J1_leftOf d r103) q1734 q1735 q99 q1736 md_J1_leftOf rfl (by decide) rfl (by simp [rf_cat, cat_i, cat_l, cat_f, cat_d]) dJ1_fixAfterDeletion_21 (fun _ => rfl) (fun r104 σ => ?_) (by decide)
      refine tj_acmp_ne 186 dJ1_fixAfterDeletion_24 rfl (fun _ => ?_) (fun _ => ?_)
      · refine tj_aload_n dJ1_fixAfterDeletion_27 rfl ?_
        refine tj_callS (as := [va_rf l1]) (rest := []) (st' := (fun r => [va_rf r])) (ct_J1_parentOf d l1) q1731 q1732 q99 q1733 md_J1_parentOf rfl (by decide) rfl (by decide) dJ1_fixAfterDeletion_28 (fun _ => rfl) (fun r105 σ => ?_) (by decide)
        refine tj_callS (as := [va_rf r105]) (rest := []) (st' := (fun r => [va_rf r])) (ct_J1_rightOf d r105) q1737 q1738 q99 q1739 md_J1_rightOf rfl (by decide) rfl (by decide) dJ1_fixAfterDeletion_31 (fun _ => rfl) (fun r106 σ => ?_) (by decide)
        refine tj_astore_n dJ1_fixAfterDeletion_34 (by decide) (rf_cat _) [some (va_rf l0), some (va_rf l1), some (va_rf r106)] rfl ?_
        refine tj_aload_n dJ1_fixAfterDeletion_35 rfl ?_
        refine tj_callS (as := [va_rf r106]) (rest := []) (st' := (fun r => [.int r])) (ct_J1_colorOf d r106) q1740 q1741 q99 q1742 md_J1_colorOf rfl (by decide) rfl (by decide) dJ1_fixAfterDeletion_36 (fun _ => rfl) (fun r107 σ => ?_) (by decide)
        refine tj_if_ne 71 dJ1_fixAfterDeletion_39 rfl (fun _ => ?_) (fun _ => ?_)
        · refine tj_aload_n dJ1_fixAfterDeletion_42 rfl ?_
          refine tj_iconst (1 : Int32) dJ1_fixAfterDeletion_43 rfl ?_
          refine tj_callS (as := [va_rf r106, .int (1 : Int32)]) (rest := []) (st' := (fun _ => [])) (ct_J1_setColor d r106 (1 : Int32)) q1743 q1744 q99 q1745 md_J1_setColor rfl (by decide) rfl (by decide) dJ1_fixAfterDeletion_44 (fun _ => rfl) (fun _ σ => ?_) (by decide)
          refine tj_aload_n dJ1_fixAfterDeletion_47 rfl ?_
          refine tj_callS (as := [va_rf l1]) (rest := []) (st' := (fun r => [va_rf r])) (ct_J1_parentOf d l1) q1731 q1732 q99 q1733 md_J1_parentOf rfl (by decide) rfl (by decide) dJ1_fixAfterDeletion_48 (fun _ => rfl) (fun r108 σ => ?_) (by decide)
          refine tj_iconst (0 : Int32) dJ1_fixAfterDeletion_51 rfl ?_
          refine tj_callS (as := [va_rf r108, .int (0 : Int32)]) (rest := []) (st' := (fun _ => [])) (ct_J1_setColor d r108 (0 : Int32)) q1743 q1744 q99 q1745 md_J1_setColor rfl (by decide) rfl (by decide) dJ1_fixAfterDeletion_52 (fun _ => rfl) (fun _ σ => ?_) (by decide)
          refine tj_aload_n dJ1_fixAfterDeletion_55 rfl ?_
          refine tj_aload_n dJ1_fixAfterDeletion_56 rfl ?_
          refine tj_callS (as := [va_rf l1]) (rest := [va_rf l0]) (st' := (fun r => [va_rf r, va_rf l0])) (ct_J1_parentOf d l1) q1731 q1732 q99 q1733 md_J1_parentOf rfl (by decide) rfl (by simp [rf_cat, cat_i, cat_l, cat_f, cat_d]) dJ1_fixAfterDeletion_57 (fun _ => rfl) (fun r109 σ => ?_) (by decide)
          refine tj_callV (as := [va_rf r109]) (rest := []) (st' := (fun _ => [])) (t := 18) (fun a e => by cases e; exact ct_J1_rotateLeft d _ _) (by decide) rfl q1746 q1748 qs13 q99 q1749 rfl md_J1_rotateLeft rfl (by decide) rfl (by decide) dJ1_fixAfterDeletion_60 (fun _ => rfl) (fun _ σ => ?_) (by decide)
          refine tj_aload_n dJ1_fixAfterDeletion_63 rfl ?_
          refine tj_callS (as := [va_rf l1]) (rest := []) (st' := (fun r => [va_rf r])) (ct_J1_parentOf d l1) q1731 q1732 q99 q1733 md_J1_parentOf rfl (by decide) rfl (by decide) dJ1_fixAfterDeletion_64 (fun _ => rfl) (fun r110 σ => ?_) (by decide)
          refine tj_callS (as := [va_rf r110]) (rest := []) (st' := (fun r => [va_rf r])) (ct_J1_rightOf d r110) q1737 q1738 q99 q1739 md_J1_rightOf rfl (by decide) rfl (by decide) dJ1_fixAfterDeletion_67 (fun _ => rfl) (fun r111 σ => ?_) (by decide)
          refine tj_astore_n dJ1_fixAfterDeletion_70 (by decide) (rf_cat _) [some (va_rf l0), some (va_rf l1), some (va_rf r111)] rfl ?_
          exact tj_J1_fixAfterDeletion_J71 d h0 l0 l1 r111 _
        · exact tj_J1_fixAfterDeletion_J71 d h0 l0 l1 r106 _
      · refine tj_aload_n dJ1_fixAfterDeletion_186 rfl ?_
        refine tj_callS (as := [va_rf l1]) (rest := []) (st' := (fun r => [va_rf r])) (ct_J1_parentOf d l1) q1731 q1732 q99 q1733 md_J1_parentOf rfl (by decide) rfl (by decide) dJ1_fixAfterDeletion_187 (fun _ => rfl) (fun r112 σ => ?_) (by decide)
        refine tj_callS (as := [va_rf r112]) (rest := []) (st' := (fun r => [va_rf r])) (ct_J1_leftOf d r112) q1734 q1735 q99 q1736 md_J1_leftOf rfl (by decide) rfl (by decide) dJ1_fixAfterDeletion_190 (fun _ => rfl) (fun r113 σ => ?_) (by decide)
        refine tj_astore_n dJ1_fixAfterDeletion_193 (by decide) (rf_cat _) [some (va_rf l0), some (va_rf l1), some (va_rf r113)] rfl ?_
        refine tj_aload_n dJ1_fixAfterDeletion_194 rfl ?_
        refine tj_callS (as := [va_rf r113]) (rest := []) (st' := (fun r => [.int r])) (ct_J1_colorOf d r113) q1740 q1741 q99 q1742 md_J1_colorOf rfl (by decide) rfl (by decide) dJ1_fixAfterDeletion_195 (fun _ => rfl) (fun r114 σ => ?_) (by decide)
        refine tj_if_ne 230 dJ1_fixAfterDeletion_198 rfl (fun _ => ?_) (fun _ => ?_)
        · refine tj_aload_n dJ1_fixAfterDeletion_201 rfl ?_
          refine tj_iconst (1 : Int32) dJ1_fixAfterDeletion_202 rfl ?_
          refine tj_callS (as := [va_rf r113, .int (1 : Int32)]) (rest := []) (st' := (fun _ => [])) (ct_J1_setColor d r113 (1 : Int32)) q1743 q1744 q99 q1745 md_J1_setColor rfl (by decide) rfl (by decide) dJ1_fixAfterDeletion_203 (fun _ => rfl) (fun _ σ => ?_) (by decide)
          refine tj_aload_n dJ1_fixAfterDeletion_206 rfl ?_
          refine tj_callS (as := [va_rf l1]) (rest := []) (st' := (fun r => [va_rf r])) (ct_J1_parentOf d l1) q1731 q1732 q99 q1733 md_J1_parentOf rfl (by decide) rfl (by decide) dJ1_fixAfterDeletion_207 (fun _ => rfl) (fun r115 σ => ?_) (by decide)
          refine tj_iconst (0 : Int32) dJ1_fixAfterDeletion_210 rfl ?_
          refine tj_callS (as := [va_rf r115, .int (0 : Int32)]) (rest := []) (st' := (fun _ => [])) (ct_J1_setColor d r115 (0 : Int32)) q1743 q1744 q99 q1745 md_J1_setColor rfl (by decide) rfl (by decide) dJ1_fixAfterDeletion_211 (fun _ => rfl) (fun _ σ => ?_) (by decide)
          refine tj_aload_n dJ1_fixAfterDeletion_214 rfl ?_
          refine tj_aload_n dJ1_fixAfterDeletion_215 rfl ?_
          refine tj_callS (as := [va_rf l1]) (rest := [va_rf l0]) (st' := (fun r => [va_rf r, va_rf l0])) (ct_J1_parentOf d l1) q1731 q1732 q99 q1733 md_J1_parentOf rfl (by decide) rfl (by simp [rf_cat, cat_i, cat_l, cat_f, cat_d]) dJ1_fixAfterDeletion_216 (fun _ => rfl) (fun r116 σ => ?_) (by decide)
          refine tj_callV (as := [va_rf r116]) (rest := []) (st' := (fun _ => [])) (t := 18) (fun a e => by cases e; exact ct_J1_rotateRight d _ _) (by decide) rfl q1750 q1752 qs14 q99 q1753 rfl md_J1_rotateRight rfl (by decide) rfl (by decide) dJ1_fixAfterDeletion_219 (fun _ => rfl) (fun _ σ => ?_) (by decide)
          refine tj_aload_n dJ1_fixAfterDeletion_222 rfl ?_
          refine tj_callS (as := [va_rf l1]) (rest := []) (st' := (fun r => [va_rf r])) (ct_J1_parentOf d l1) q1731 q1732 q99 q1733 md_J1_parentOf rfl (by decide) rfl (by decide) dJ1_fixAfterDeletion_223 (fun _ => rfl) (fun r117 σ => ?_) (by decide)
          refine tj_callS (as := [va_rf r117]) (rest := []) (st' := (fun r => [va_rf r])) (ct_J1_leftOf d r117) q1734 q1735 q99 q1736 md_J1_leftOf rfl (by decide) rfl (by decide) dJ1_fixAfterDeletion_226 (fun _ => rfl) (fun r118 σ => ?_) (by decide)
          refine tj_astore_n dJ1_fixAfterDeletion_229 (by decide) (rf_cat _) [some (va_rf l0), some (va_rf l1), some (va_rf r118)] rfl ?_
          exact tj_J1_fixAfterDeletion_J230 d h0 l0 l1 r118 _
        · exact tj_J1_fixAfterDeletion_J230 d h0 l0 l1 r113 _
    · refine tj_wk (L' := [none, some (va_rf l1), none]) ⟨rfl, trivial⟩ ?_
      exact tj_J1_fixAfterDeletion_J345 d l1 _
theorem tj_J1_fixAfterDeletion_L0 {E : tj_E} {X : tj_X} {n0 s0 : Nat} (d : Nat) : ∀ (k : Nat) (l0 : Option Nat) (l1 : Option Nat) (σ : hp_S), tj_T E X RJ1 "fixAfterDeletion" cJ1_fixAfterDeletion 3 none (d + 1) [] n0 s0 em_v σ 0 [some (va_rf l0), some (va_rf l1), none] [] (fn_J1_fixAfterDeletion_L0 d k l0 l1) := by
  intro k
  induction k with
  | zero =>
    intro l0 l1 σ
    exact tj_fail
  | succ k ih =>
    intro l0 l1 σ
    exact tj_J1_fixAfterDeletion_L0_b d ih l0 l1 σ
theorem tj_J1_fixAfterDeletion_E {E : tj_E} {X : tj_X} {n0 s0 : Nat} (d : Nat) (v0 : Option Nat) (v1 : Option Nat) (σ : hp_S) : tj_T E X RJ1 "fixAfterDeletion" cJ1_fixAfterDeletion 3 none (d + 1) [] n0 s0 em_v σ 0 [some (va_rf v0), some (va_rf v1), none] [] (fn_J1_fixAfterDeletion_E d v0 v1) := by
  unfold fn_J1_fixAfterDeletion_E
  exact tj_J1_fixAfterDeletion_L0 d mx_K v0 v1 _
theorem ct_J1_fixAfterDeletion : ∀ (d : Nat) (v0 : Option Nat) (v1 : Option Nat), ct_ yJ1_fixAfterDeletion (ws_ yJ1_fixAfterDeletion cJ1_fixAfterDeletion 3 none) d em_v [va_rf v0, va_rf v1] (fn_J1_fixAfterDeletion d v0 v1)
  | 0, _, _ => ct_fail
  | d + 1, v0, v1 => ct_of [(false, va_rf v0), (false, va_rf v1)] [some (va_rf v0), some (va_rf v1), none] (by decide) rfl ⟨rfl, (rf_cat _), ⟨rfl, (rf_cat _), trivial⟩⟩ (fun E X n0 s0 σ => tj_J1_fixAfterDeletion_E d v0 v1 σ)
theorem tj_J1_deleteEntry_J133 {E : tj_E} {X : tj_X} {n0 s0 : Nat} (d : Nat) (l0 : Option Nat) (l1 : Option Nat) (l2 : Option Nat) (σ : hp_S) : tj_T E X RJ1 "deleteEntry" cJ1_deleteEntry 3 none (d + 1) [] n0 s0 em_v σ 133 [some (va_rf l0), some (va_rf l1), some (va_rf l2)] [] (fn_J1_deleteEntry_J133 d l0 l1 l2) := by
  unfold fn_J1_deleteEntry_J133
  refine tj_aload_n dJ1_deleteEntry_133 rfl ?_
  refine tj_aload_n dJ1_deleteEntry_134 rfl ?_
  refine tj_aload_n dJ1_deleteEntry_135 rfl ?_
  refine tj_null dJ1_deleteEntry_136 ?_
  refine tj_dup_x1 dJ1_deleteEntry_137 (rf_cat _) (rf_cat _) ?_
  refine tj_put fl_J1_124 (nar_rf _) (fit_rf _) dJ1_deleteEntry_138 (fun σ => ?_)
  refine tj_dup_x1 dJ1_deleteEntry_141 (rf_cat _) (rf_cat _) ?_
  refine tj_put fl_J1_114 (nar_rf _) (fit_rf _) dJ1_deleteEntry_142 (fun σ => ?_)
  refine tj_put fl_J1_111 (nar_rf _) (fit_rf _) dJ1_deleteEntry_145 (fun σ => ?_)
  refine tj_aload_n dJ1_deleteEntry_148 rfl ?_
  refine tj_getI fl_J1_290 dJ1_deleteEntry_149 (fun v101 => ?_)
  refine tj_iconst (1 : Int32) dJ1_deleteEntry_152 rfl ?_
  refine tj_icmp_ne 245 dJ1_deleteEntry_153 rfl (fun _ => ?_) (fun _ => ?_)
  · refine tj_aload_n dJ1_deleteEntry_156 rfl ?_
    refine tj_aload_n dJ1_deleteEntry_157 rfl ?_
    refine tj_callV (as := [va_rf l2]) (rest := []) (st' := (fun _ => [])) (t := 18) (fun a e => by cases e; exact ct_J1_fixAfterDeletion d _ _) (by decide) rfl q2368 q2370 qs26 q99 q2371 rfl md_J1_fixAfterDeletion rfl (by decide) rfl (by decide) dJ1_deleteEntry_158 (fun _ => rfl) (fun _ σ => ?_) (by decide)
    refine tj_goto 245 dJ1_deleteEntry_161 rfl ?_
    exact tj_vret dJ1_deleteEntry_245
  · exact tj_vret dJ1_deleteEntry_245
theorem tj_J1_deleteEntry_J192 {E : tj_E} {X : tj_X} {n0 s0 : Nat} (d : Nat) (l1 : Option Nat) (σ : hp_S) : tj_T E X RJ1 "deleteEntry" cJ1_deleteEntry 3 none (d + 1) [] n0 s0 em_v σ 192 [none, some (va_rf l1), none] [] (fn_J1_deleteEntry_J192 d l1) := by
  unfold fn_J1_deleteEntry_J192
  refine tj_aload_n dJ1_deleteEntry_192 rfl ?_
  refine tj_getR fl_J1_124 dJ1_deleteEntry_193 (fun v101 => ?_)
  refine tj_ifnull 245 dJ1_deleteEntry_196 rfl (fun _ => ?_) (fun _ _ => ?_)
  · exact tj_vret dJ1_deleteEntry_245
  · refine tj_aload_n dJ1_deleteEntry_199 rfl ?_
    refine tj_aload_n dJ1_deleteEntry_200 rfl ?_
    refine tj_getR fl_J1_124 dJ1_deleteEntry_201 (fun v102 => ?_)
    refine tj_getR fl_J1_111 dJ1_deleteEntry_204 (fun v103 => ?_)
    refine tj_acmp_ne 221 dJ1_deleteEntry_207 rfl (fun _ => ?_) (fun _ => ?_)
    · refine tj_aload_n dJ1_deleteEntry_210 rfl ?_
      refine tj_getR fl_J1_124 dJ1_deleteEntry_211 (fun v104 => ?_)
      refine tj_null dJ1_deleteEntry_214 ?_
      refine tj_put fl_J1_111 (nar_rf _) (fit_rf _) dJ1_deleteEntry_215 (fun σ => ?_)
      refine tj_goto 240 dJ1_deleteEntry_218 rfl ?_
      refine tj_aload_n dJ1_deleteEntry_240 rfl ?_
      refine tj_null dJ1_deleteEntry_241 ?_
      refine tj_put fl_J1_124 (nar_rf _) (fit_rf _) dJ1_deleteEntry_242 (fun σ => ?_)
      exact tj_vret dJ1_deleteEntry_245
    · refine tj_aload_n dJ1_deleteEntry_221 rfl ?_
      refine tj_aload_n dJ1_deleteEntry_222 rfl ?_
      refine tj_getR fl_J1_124 dJ1_deleteEntry_223 (fun v105 => ?_)
      refine tj_getR fl_J1_114 dJ1_deleteEntry_226 (fun v106 => ?_)
      refine tj_acmp_ne 240 dJ1_deleteEntry_229 rfl (fun _ => ?_) (fun _ => ?_)
      · refine tj_aload_n dJ1_deleteEntry_232 rfl ?_
        refine tj_getR fl_J1_124 dJ1_deleteEntry_233 (fun v107 => ?_)
        refine tj_null dJ1_deleteEntry_236 ?_
        refine tj_put fl_J1_114 (nar_rf _) (fit_rf _) dJ1_deleteEntry_237 (fun σ => ?_)
        refine tj_aload_n dJ1_deleteEntry_240 rfl ?_
        refine tj_null dJ1_deleteEntry_241 ?_
        refine tj_put fl_J1_124 (nar_rf _) (fit_rf _) dJ1_deleteEntry_242 (fun σ => ?_)
        exact tj_vret dJ1_deleteEntry_245
      · refine tj_aload_n dJ1_deleteEntry_240 rfl ?_
        refine tj_null dJ1_deleteEntry_241 ?_
        refine tj_put fl_J1_124 (nar_rf _) (fit_rf _) dJ1_deleteEntry_242 (fun σ => ?_)
        exact tj_vret dJ1_deleteEntry_245
theorem tj_J1_deleteEntry_J75 {E : tj_E} {X : tj_X} {n0 s0 : Nat} (d : Nat) (l0 : Option Nat) (l1 : Option Nat) (p0 : Option Nat) (σ : hp_S) : tj_T E X RJ1 "deleteEntry" cJ1_deleteEntry 3 none (d + 1) [] n0 s0 em_v σ 75 [some (va_rf l0), some (va_rf l1), none] [va_rf p0] (fn_J1_deleteEntry_J75 d l0 l1 p0) := by
  unfold fn_J1_deleteEntry_J75
  refine tj_astore_n dJ1_deleteEntry_75 (by decide) (rf_cat _) [some (va_rf l0), some (va_rf l1), some (va_rf p0)] rfl ?_
  refine tj_aload_n dJ1_deleteEntry_76 rfl ?_
  refine tj_ifnull 164 dJ1_deleteEntry_77 rfl (fun _ => ?_) (fun _ _ => ?_)
  · refine tj_aload_n dJ1_deleteEntry_164 rfl ?_
    refine tj_getR fl_J1_124 dJ1_deleteEntry_165 (fun v101 => ?_)
    refine tj_ifnonnull 179 dJ1_deleteEntry_168 rfl (fun _ => ?_) (fun _ _ => ?_)
    · refine tj_aload_n dJ1_deleteEntry_171 rfl ?_
      refine tj_null dJ1_deleteEntry_172 ?_
      refine tj_put fl_J1_101 (nar_rf _) (fit_rf _) dJ1_deleteEntry_173 (fun σ => ?_)
      refine tj_goto 245 dJ1_deleteEntry_176 rfl ?_
      exact tj_vret dJ1_deleteEntry_245
    · refine tj_aload_n dJ1_deleteEntry_179 rfl ?_
      refine tj_getI fl_J1_290 dJ1_deleteEntry_180 (fun v102 => ?_)
      refine tj_iconst (1 : Int32) dJ1_deleteEntry_183 rfl ?_
      refine tj_icmp_ne 192 dJ1_deleteEntry_184 rfl (fun _ => ?_) (fun _ => ?_)
      · refine tj_aload_n dJ1_deleteEntry_187 rfl ?_
        refine tj_aload_n dJ1_deleteEntry_188 rfl ?_
        refine tj_callV (as := [va_rf l1]) (rest := []) (st' := (fun _ => [])) (t := 18) (fun a e => by cases e; exact ct_J1_fixAfterDeletion d _ _) (by decide) rfl q2368 q2370 qs26 q99 q2371 rfl md_J1_fixAfterDeletion rfl (by decide) rfl (by decide) dJ1_deleteEntry_189 (fun _ => rfl) (fun _ σ => ?_) (by decide)
        refine tj_wk (L' := [none, some (va_rf l1), none]) ⟨rfl, trivial⟩ ?_
        exact tj_J1_deleteEntry_J192 d l1 _
      · refine tj_wk (L' := [none, some (va_rf l1), none]) ⟨rfl, trivial⟩ ?_
        exact tj_J1_deleteEntry_J192 d l1 _
  · refine tj_aload_n dJ1_deleteEntry_80 rfl ?_
    refine tj_aload_n dJ1_deleteEntry_81 rfl ?_
    refine tj_getR fl_J1_124 dJ1_deleteEntry_82 (fun v103 => ?_)
    refine tj_put fl_J1_124 (nar_rf _) (fit_rf _) dJ1_deleteEntry_85 (fun σ => ?_)
    refine tj_aload_n dJ1_deleteEntry_88 rfl ?_
    refine tj_getR fl_J1_124 dJ1_deleteEntry_89 (fun v104 => ?_)
    refine tj_ifnonnull 103 dJ1_deleteEntry_92 rfl (fun _ => ?_) (fun _ _ => ?_)
    · refine tj_aload_n dJ1_deleteEntry_95 rfl ?_
      refine tj_aload_n dJ1_deleteEntry_96 rfl ?_
      refine tj_put fl_J1_101 (nar_rf _) (fit_rf _) dJ1_deleteEntry_97 (fun σ => ?_)
      refine tj_goto 133 dJ1_deleteEntry_100 rfl ?_
      exact tj_J1_deleteEntry_J133 d l0 l1 p0 _
    · refine tj_aload_n dJ1_deleteEntry_103 rfl ?_
      refine tj_aload_n dJ1_deleteEntry_104 rfl ?_
      refine tj_getR fl_J1_124 dJ1_deleteEntry_105 (fun v105 => ?_)
      refine tj_getR fl_J1_111 dJ1_deleteEntry_108 (fun v106 => ?_)
      refine tj_acmp_ne 125 dJ1_deleteEntry_111 rfl (fun _ => ?_) (fun _ => ?_)
      · refine tj_aload_n dJ1_deleteEntry_114 rfl ?_
        refine tj_getR fl_J1_124 dJ1_deleteEntry_115 (fun v107 => ?_)
        refine tj_aload_n dJ1_deleteEntry_118 rfl ?_
        refine tj_put fl_J1_111 (nar_rf _) (fit_rf _) dJ1_deleteEntry_119 (fun σ => ?_)
        refine tj_goto 133 dJ1_deleteEntry_122 rfl ?_
        exact tj_J1_deleteEntry_J133 d l0 l1 p0 _
      · refine tj_aload_n dJ1_deleteEntry_125 rfl ?_
        refine tj_getR fl_J1_124 dJ1_deleteEntry_126 (fun v108 => ?_)
        refine tj_aload_n dJ1_deleteEntry_129 rfl ?_
        refine tj_put fl_J1_114 (nar_rf _) (fit_rf _) dJ1_deleteEntry_130 (fun σ => ?_)
        exact tj_J1_deleteEntry_J133 d l0 l1 p0 _
theorem tj_J1_deleteEntry_J57 {E : tj_E} {X : tj_X} {n0 s0 : Nat} (d : Nat) (l0 : Option Nat) (l1 : Option Nat) (σ : hp_S) : tj_T E X RJ1 "deleteEntry" cJ1_deleteEntry 3 none (d + 1) [] n0 s0 em_v σ 57 [some (va_rf l0), some (va_rf l1), none] [] (fn_J1_deleteEntry_J57 d l0 l1) := by
  unfold fn_J1_deleteEntry_J57
  refine tj_aload_n dJ1_deleteEntry_57 rfl ?_
  refine tj_getR fl_J1_111 dJ1_deleteEntry_58 (fun v101 => ?_)
  refine tj_ifnull 71 dJ1_deleteEntry_61 rfl (fun _ => ?_) (fun _ _ => ?_)
  · refine tj_aload_n dJ1_deleteEntry_71 rfl ?_
    refine tj_getR fl_J1_114 dJ1_deleteEntry_72 (fun v102 => ?_)
    exact tj_J1_deleteEntry_J75 d l0 l1 v102 _
  · refine tj_aload_n dJ1_deleteEntry_64 rfl ?_
    refine tj_getR fl_J1_111 dJ1_deleteEntry_65 (fun v103 => ?_)
    refine tj_goto 75 dJ1_deleteEntry_68 rfl ?_
    exact tj_J1_deleteEntry_J75 d l0 l1 v103 _
theorem tj_J1_deleteEntry_B0 {E : tj_E} {X : tj_X} {n0 s0 : Nat} (d : Nat) (v0 : Option Nat) (v1 : Option Nat) (σ : hp_S) : tj_T E X RJ1 "deleteEntry" cJ1_deleteEntry 3 none (d + 1) [] n0 s0 em_v σ 0 [some (va_rf v0), some (va_rf v1), none] [] (fn_J1_deleteEntry_B0 d v0 v1) := by
  unfold fn_J1_deleteEntry_B0
  refine tj_aload_n dJ1_deleteEntry_0 rfl ?_
  refine tj_dup dJ1_deleteEntry_1 (rf_cat _) ?_
  refine tj_getI fl_J1_13 dJ1_deleteEntry_2 (fun v101 => ?_)
  refine tj_iconst (1 : Int32) dJ1_deleteEntry_5 rfl ?_
  refine tj_iadd dJ1_deleteEntry_6 ?_
  refine tj_put fl_J1_13 rfl rfl dJ1_deleteEntry_7 (fun σ => ?_)
  refine tj_aload_n dJ1_deleteEntry_10 rfl ?_
  refine tj_dup dJ1_deleteEntry_11 (rf_cat _) ?_
  refine tj_getI fl_J1_7 dJ1_deleteEntry_12 (fun v102 => ?_)
  refine tj_iconst (1 : Int32) dJ1_deleteEntry_15 rfl ?_
  refine tj_isub dJ1_deleteEntry_16 ?_
  refine tj_put fl_J1_7 rfl rfl dJ1_deleteEntry_17 (fun σ => ?_)
  refine tj_aload_n dJ1_deleteEntry_20 rfl ?_
  refine tj_getR fl_J1_111 dJ1_deleteEntry_21 (fun v103 => ?_)
  refine tj_ifnull 57 dJ1_deleteEntry_24 rfl (fun _ => ?_) (fun _ _ => ?_)
  · exact tj_J1_deleteEntry_J57 d v0 v1 _
  · refine tj_aload_n dJ1_deleteEntry_27 rfl ?_
    refine tj_getR fl_J1_114 dJ1_deleteEntry_28 (fun v104 => ?_)
    refine tj_ifnull 57 dJ1_deleteEntry_31 rfl (fun _ => ?_) (fun _ _ => ?_)
    · exact tj_J1_deleteEntry_J57 d v0 v1 _
    · refine tj_aload_n dJ1_deleteEntry_34 rfl ?_
      refine tj_callS (as := [va_rf v1]) (rest := []) (st' := (fun r => [va_rf r])) (ct_J1_successor d v1) q2367 q1409 q99 q1410 md_J1_successor rfl (by decide) rfl (by decide) dJ1_deleteEntry_35 (fun _ => rfl) (fun r105 σ => ?_) (by decide)
      refine tj_astore_n dJ1_deleteEntry_38 (by decide) (rf_cat _) [some (va_rf v0), some (va_rf v1), some (va_rf r105)] rfl ?_
      refine tj_aload_n dJ1_deleteEntry_39 rfl ?_
      refine tj_aload_n dJ1_deleteEntry_40 rfl ?_
      refine tj_getR fl_J1_105 dJ1_deleteEntry_41 (fun v106 => ?_)
      refine tj_put fl_J1_105 (nar_rf _) (fit_rf _) dJ1_deleteEntry_44 (fun σ => ?_)
      refine tj_aload_n dJ1_deleteEntry_47 rfl ?_
      refine tj_aload_n dJ1_deleteEntry_48 rfl ?_
      refine tj_getR fl_J1_58 dJ1_deleteEntry_49 (fun v107 => ?_)
      refine tj_put fl_J1_58 (nar_rf _) (fit_rf _) dJ1_deleteEntry_52 (fun σ => ?_)
      refine tj_aload_n dJ1_deleteEntry_55 rfl ?_
      refine tj_astore_n dJ1_deleteEntry_56 (by decide) (rf_cat _) [some (va_rf v0), some (va_rf r105), some (va_rf r105)] rfl ?_
      refine tj_wk (L' := [some (va_rf v0), some (va_rf r105), none]) ⟨rfl, rfl, trivial⟩ ?_
      exact tj_J1_deleteEntry_J57 d v0 r105 _
theorem ct_J1_deleteEntry : ∀ (d : Nat) (v0 : Option Nat) (v1 : Option Nat), ct_ yJ1_deleteEntry (ws_ yJ1_deleteEntry cJ1_deleteEntry 3 none) d em_v [va_rf v0, va_rf v1] (fn_J1_deleteEntry d v0 v1)
  | 0, _, _ => ct_fail
  | d + 1, v0, v1 => ct_of [(false, va_rf v0), (false, va_rf v1)] [some (va_rf v0), some (va_rf v1), none] (by decide) rfl ⟨rfl, (rf_cat _), ⟨rfl, (rf_cat _), trivial⟩⟩ (fun E X n0 s0 σ => tj_J1_deleteEntry_B0 d v0 v1 σ)
theorem tj_J1_remove_B0 {E : tj_E} {X : tj_X} {n0 s0 : Nat} (d : Nat) (v0 : Option Nat) (v1 : Option Nat) (σ : hp_S) : tj_T E X RJ1 "remove" cJ1_remove 4 (some (.object "java/lang/Object")) (d + 1) [] n0 s0 em_r σ 0 [some (va_rf v0), some (va_rf v1), none, none] [] (fn_J1_remove_B0 d v0 v1) := by
  unfold fn_J1_remove_B0
  refine tj_aload_n dJ1_remove_0 rfl ?_
  refine tj_aload_n dJ1_remove_1 rfl ?_
  refine tj_callV (as := [va_rf v1]) (rest := []) (st' := (fun r => [va_rf r])) (t := 18) (fun a e => by cases e; exact ct_J1_getEntry d _ _) (by decide) rfl q2203 q2204 q2205 q99 q2206 rfl md_J1_getEntry rfl (by decide) rfl (by decide) dJ1_remove_2 (fun _ => rfl) (fun r101 σ => ?_) (by decide)
  refine tj_astore_n dJ1_remove_5 (by decide) (rf_cat _) [some (va_rf v0), some (va_rf v1), some (va_rf r101), none] rfl ?_
  refine tj_aload_n dJ1_remove_6 rfl ?_
  refine tj_ifnonnull 12 dJ1_remove_7 rfl (fun _ => ?_) (fun _ _ => ?_)
  · refine tj_null dJ1_remove_10 ?_
    exact tj_aret (Or.inl ⟨_, rfl⟩) dJ1_remove_11
  · refine tj_aload_n dJ1_remove_12 rfl ?_
    refine tj_getR fl_J1_58 dJ1_remove_13 (fun v102 => ?_)
    refine tj_astore_n dJ1_remove_16 (by decide) (rf_cat _) [some (va_rf v0), some (va_rf v1), some (va_rf r101), some (va_rf v102)] rfl ?_
    refine tj_aload_n dJ1_remove_17 rfl ?_
    refine tj_aload_n dJ1_remove_18 rfl ?_
    refine tj_callV (as := [va_rf r101]) (rest := []) (st' := (fun _ => [])) (t := 18) (fun a e => by cases e; exact ct_J1_deleteEntry d _ _) (by decide) rfl q2437 q2365 qs25 q99 q2366 rfl md_J1_deleteEntry rfl (by decide) rfl (by decide) dJ1_remove_19 (fun _ => rfl) (fun _ σ => ?_) (by decide)
    refine tj_aload_n dJ1_remove_22 rfl ?_
    exact tj_aret (Or.inl ⟨_, rfl⟩) dJ1_remove_23
theorem ct_J1_remove : ∀ (d : Nat) (v0 : Option Nat) (v1 : Option Nat), ct_ yJ1_remove (ws_ yJ1_remove cJ1_remove 4 (some (.object "java/lang/Object"))) d em_r [va_rf v0, va_rf v1] (fn_J1_remove d v0 v1)
  | 0, _, _ => ct_fail
  | d + 1, v0, v1 => ct_of [(false, va_rf v0), (false, va_rf v1)] [some (va_rf v0), some (va_rf v1), none, none] (by decide) rfl ⟨rfl, (rf_cat _), ⟨rfl, (rf_cat _), trivial⟩⟩ (fun E X n0 s0 σ => tj_J1_remove_B0 d v0 v1 σ)
theorem tj_X2_leave_B0 {E : tj_E} {X : tj_X} {n0 s0 : Nat} (d : Nat) (v0 : Option Nat) (v1 : Int32) (σ : hp_S) : tj_T E X RX2 "leave" cX2_leave 2 (some .int) (d + 1) [] n0 s0 em_i σ 0 [some (va_rf v0), some (.int v1)] [] (fn_X2_leave_B0 d v0 v1) := by
  unfold fn_X2_leave_B0
  refine tj_aload_n dX2_leave_0 rfl ?_
  refine tj_iload_n dX2_leave_1 rfl ?_
  refine tj_callV (as := [.int v1]) (rest := []) (st' := (fun r => [.int r])) (t := 2) (fun a e => by cases e; exact ct_X2_hasLion d _ _) (by decide) rfl q2195 q2196 q2197 q97 q2198 rfl md_X2_hasLion rfl (by decide) rfl (by decide) dX2_leave_2 (fun _ => rfl) (fun r101 σ => ?_) (by decide)
  refine tj_bipush (101 : Int32) dX2_leave_5 (by decide) ?_
  refine tj_callSN (as := [.int r101, .int (101 : Int32)]) (rest := []) (st' := (fun _ => [])) (ct_X1_demand d r101 (101 : Int32)) q1966 q1967 q96 q1968 md_X1_demand rfl (by decide) rfl (by decide) dX2_leave_7 (fun _ => rfl) (fun _ σ => ?_) (by decide)
  refine tj_aload_n dX2_leave_10 rfl ?_
  refine tj_getR fl_X2_12r dX2_leave_11 (fun v102 => ?_)
  refine tj_iload_n dX2_leave_14 rfl ?_
  refine tj_callS (as := [.int v1]) (rest := [va_rf v102]) (st' := (fun r => [va_rf r, va_rf v102])) (ct_J27_valueOf d v1) q1428 q1429 q128 q1430 md_J27_valueOf rfl (by decide) rfl (by simp [rf_cat, cat_i, cat_l, cat_f, cat_d]) dX2_leave_15 (fun _ => rfl) (fun r103 σ => ?_) (by decide)
  refine tj_callV (as := [va_rf r103]) (rest := []) (st' := (fun r => [va_rf r])) (t := 18) (fun a e => by cases e; exact ct_J1_remove d _ _) (by decide) rfl q2433 q2434 q2435 q99 q2436 rfl md_J1_remove rfl (by decide) rfl (by decide) dX2_leave_18 (fun _ => rfl) (fun r104 σ => ?_) (by decide)
  refine tj_pop dX2_leave_21 (rf_cat _) ?_
  refine tj_aload_n dX2_leave_22 rfl ?_
  refine tj_getR fl_X2_12r dX2_leave_23 (fun v105 => ?_)
  refine tj_callV (as := []) (rest := []) (st' := (fun r => [.int r])) (t := 18) (fun a e => by cases e; exact ct_J1_size d _) (by decide) rfl q1994 q1995 q1996 q99 q1997 rfl md_J1_size rfl (by decide) rfl (by decide) dX2_leave_26 (fun _ => rfl) (fun r106 σ => ?_) (by decide)
  exact tj_iret dX2_leave_29
theorem ct_X2_leave : ∀ (d : Nat) (v0 : Option Nat) (v1 : Int32), ct_ yX2_leave (ws_ yX2_leave cX2_leave 2 (some .int)) d em_i [va_rf v0, .int v1] (fn_X2_leave d v0 v1)
  | 0, _, _ => ct_fail
  | d + 1, v0, v1 => ct_of [(false, va_rf v0), (false, .int v1)] [some (va_rf v0), some (.int v1)] (by decide) rfl ⟨rfl, (rf_cat _), ⟨rfl, rfl, trivial⟩⟩ (fun E X n0 s0 σ => tj_X2_leave_B0 d v0 v1 σ)
theorem tj_J35_next_B0 {E : tj_E} {X : tj_X} {n0 s0 : Nat} (d : Nat) (v0 : Option Nat) (σ : hp_S) : tj_T E X RJ35 "next" cJ35_next 1 (some (.object "java/lang/Object")) (d + 1) [] n0 s0 em_r σ 0 [some (va_rf v0)] [] (fn_J35_next_B0 d v0) := by
  unfold fn_J35_next_B0
  refine tj_aload_n dJ35_next_0 rfl ?_
  refine tj_callU (as := []) (rest := []) (st' := (fun r => [va_rf r])) (x0 := ⟨"java/util/TreeMap$KeyIterator", "nextEntry", "()Ljava/util/TreeMap$Entry;"⟩) (owner := "java/util/TreeMap$PrivateEntryIterator") (t := 23) (fun a e => by cases e; exact ct_J33_nextEntry d _) (by decide) rfl q1416 q1417 q1418 q1404 q135 q1405 rfl md_o_java_util_TreeMap_PrivateEntryIterator_nextEntry rfl (by decide) rfl (by decide) dJ35_next_1 (fun _ => rfl) (fun r101 σ => ?_) (by decide)
  refine tj_getR fl_J35_13 dJ35_next_4 (fun v102 => ?_)
  exact tj_aret (Or.inl ⟨_, rfl⟩) dJ35_next_7
theorem ct_J35_next : ∀ (d : Nat) (v0 : Option Nat), ct_ yJ35_next (ws_ yJ35_next cJ35_next 1 (some (.object "java/lang/Object"))) d em_r [va_rf v0] (fn_J35_next d v0)
  | 0, _ => ct_fail
  | d + 1, v0 => ct_of [(false, va_rf v0)] [some (va_rf v0)] (by decide) rfl ⟨rfl, (rf_cat _), trivial⟩ (fun E X n0 s0 σ => tj_J35_next_B0 d v0 σ)
theorem tj_J35_init_B0 {E : tj_E} {X : tj_X} {n0 s0 : Nat} (d : Nat) (v0 : Option Nat) (v1 : Option Nat) (v2 : Option Nat) (σ : hp_S) : tj_T E X RJ35 "<init>" cJ35_init 3 none (d + 1) [] n0 s0 em_v σ 0 [some (va_rf v0), some (va_rf v1), some (va_rf v2)] [] (fn_J35_init_B0 d v0 v1 v2) := by
  unfold fn_J35_init_B0
  refine tj_aload_n dJ35_init_0 rfl ?_
  refine tj_aload_n dJ35_init_1 rfl ?_
  refine tj_aload_n dJ35_init_2 rfl ?_
  refine tj_callI (as := [va_rf v1, va_rf v2]) (rest := []) (st' := (fun _ => [])) (fun a e => by cases e; exact ct_J33_init d _ _ _) q1007 q974 q135 q975 rfl md_J33_init rfl (by decide) rfl (by decide) dJ35_init_3 (fun _ => rfl) (fun _ σ => ?_) (by decide)
  exact tj_vret dJ35_init_6
theorem ct_J35_init : ∀ (d : Nat) (v0 : Option Nat) (v1 : Option Nat) (v2 : Option Nat), ct_ yJ35_init (ws_ yJ35_init cJ35_init 3 none) d em_v [va_rf v0, va_rf v1, va_rf v2] (fn_J35_init d v0 v1 v2)
  | 0, _, _, _ => ct_fail
  | d + 1, v0, v1, v2 => ct_of [(false, va_rf v0), (false, va_rf v1), (false, va_rf v2)] [some (va_rf v0), some (va_rf v1), some (va_rf v2)] (by decide) rfl ⟨rfl, (rf_cat _), ⟨rfl, (rf_cat _), ⟨rfl, (rf_cat _), trivial⟩⟩⟩ (fun E X n0 s0 σ => tj_J35_init_B0 d v0 v1 v2 σ)
theorem tj_J1_keyIterator_B0 {E : tj_E} {X : tj_X} {n0 s0 : Nat} (d : Nat) (v0 : Option Nat) (σ : hp_S) : tj_T E X RJ1 "keyIterator" cJ1_keyIterator 1 (some (.object "java/util/Iterator")) (d + 1) [] n0 s0 em_r σ 0 [some (va_rf v0)] [] (fn_J1_keyIterator_B0 d v0) := by
  unfold fn_J1_keyIterator_B0
  refine tj_new nw_J1_269 dJ1_keyIterator_0 (fun a101 σ => ?_)
  refine tj_dup dJ1_keyIterator_3 (rf_cat _) ?_
  refine tj_aload_n dJ1_keyIterator_4 rfl ?_
  refine tj_aload_n dJ1_keyIterator_5 rfl ?_
  refine tj_callV (as := []) (rest := [va_rf v0, va_rf (some a101), va_rf (some a101)]) (st' := (fun r => [va_rf r, va_rf v0, va_rf (some a101), va_rf (some a101)])) (t := 18) (fun a e => by cases e; exact ct_J1_getFirstEntry d _) (by decide) rfl q1003 q967 q968 q99 q969 rfl md_J1_getFirstEntry rfl (by decide) rfl (by simp [rf_cat, cat_i, cat_l, cat_f, cat_d]) dJ1_keyIterator_6 (fun _ => rfl) (fun r102 σ => ?_) (by decide)
  refine tj_callI (as := [va_rf v0, va_rf r102]) (rest := [va_rf (some a101)]) (st' := (fun _ => [va_rf (some a101)])) (fun a e => by cases e; exact ct_J35_init d _ _ _) q1004 q1005 q137 q1006 rfl md_J35_init rfl (by decide) rfl (by simp [rf_cat, cat_i, cat_l, cat_f, cat_d]) dJ1_keyIterator_9 (fun _ => rfl) (fun _ σ => ?_) (by decide)
  exact tj_aret (Or.inl ⟨_, rfl⟩) dJ1_keyIterator_12
theorem ct_J1_keyIterator : ∀ (d : Nat) (v0 : Option Nat), ct_ yJ1_keyIterator (ws_ yJ1_keyIterator cJ1_keyIterator 1 (some (.object "java/util/Iterator"))) d em_r [va_rf v0] (fn_J1_keyIterator d v0)
  | 0, _ => ct_fail
  | d + 1, v0 => ct_of [(false, va_rf v0)] [some (va_rf v0)] (by decide) rfl ⟨rfl, (rf_cat _), trivial⟩ (fun E X n0 s0 σ => tj_J1_keyIterator_B0 d v0 σ)
theorem tj_J51_iterator_B0 {E : tj_E} {X : tj_X} {n0 s0 : Nat} (d : Nat) (v0 : Option Nat) (σ : hp_S) : tj_T E X RJ51 "iterator" cJ51_iterator 1 (some (.object "java/util/Iterator")) (d + 1) [] n0 s0 em_r σ 0 [some (va_rf v0)] [] (fn_J51_iterator_B0 d v0) := by
  unfold fn_J51_iterator_B0
  refine tj_aload_n dJ51_iterator_0 rfl ?_
  refine tj_getR fl_J51_7r dJ51_iterator_1 (fun v101 => ?_)
  refine tj_inst (nm := "java/util/TreeMap") q996 ca_java_util_TreeMap nc_java_util_TreeMap_ dJ51_iterator_4 (fun v102 => ?_)
  refine tj_if_eq 21 dJ51_iterator_7 rfl (fun _ => ?_) (fun _ => ?_)
  · refine tj_aload_n dJ51_iterator_21 rfl ?_
    refine tj_getR fl_J51_7r dJ51_iterator_22 (fun v103 => ?_)
    exact tj_fail
  · refine tj_aload_n dJ51_iterator_10 rfl ?_
    refine tj_getR fl_J51_7r dJ51_iterator_11 (fun v104 => ?_)
    refine tj_cast (nm := "java/util/TreeMap") q996 ca_java_util_TreeMap dJ51_iterator_14 ?_
    refine tj_callV (as := []) (rest := []) (st' := (fun r => [va_rf r])) (t := 18) (fun a e => by cases e; exact ct_J1_keyIterator d _) (by decide) rfl q997 q998 q999 q99 q1000 rfl md_J1_keyIterator rfl (by decide) rfl (by decide) dJ51_iterator_17 (fun _ => rfl) (fun r105 σ => ?_) (by decide)
    exact tj_aret (Or.inl ⟨_, rfl⟩) dJ51_iterator_20
theorem ct_J51_iterator : ∀ (d : Nat) (v0 : Option Nat), ct_ yJ51_iterator (ws_ yJ51_iterator cJ51_iterator 1 (some (.object "java/util/Iterator"))) d em_r [va_rf v0] (fn_J51_iterator d v0)
  | 0, _ => ct_fail
  | d + 1, v0 => ct_of [(false, va_rf v0)] [some (va_rf v0)] (by decide) rfl ⟨rfl, (rf_cat _), trivial⟩ (fun E X n0 s0 σ => tj_J51_iterator_B0 d v0 σ)
theorem tj_J51_size_B0 {E : tj_E} {X : tj_X} {n0 s0 : Nat} (d : Nat) (v0 : Option Nat) (σ : hp_S) : tj_T E X RJ51 "size" cJ51_size 1 (some .int) (d + 1) [] n0 s0 em_i σ 0 [some (va_rf v0)] [] (fn_J51_size_B0 d v0) := by
  unfold fn_J51_size_B0
  refine tj_aload_n dJ51_size_0 rfl ?_
  refine tj_getR fl_J51_7r dJ51_size_1 (fun v101 => ?_)
  refine tj_callKS (st' := (fun r => [.int r])) (fun a e => by cases e; exact ct_J1_size d _) rfl q2603 q1995 q99 q1997 q2601 q2600 q2605 q2604 q2602 (by decide) rfl (by decide) dJ51_size_4 (fun _ => rfl) (fun r102 σ => ?_) (by decide)
  exact tj_iret dJ51_size_9
theorem ct_J51_size : ∀ (d : Nat) (v0 : Option Nat), ct_ yJ51_size (ws_ yJ51_size cJ51_size 1 (some .int)) d em_i [va_rf v0] (fn_J51_size d v0)
  | 0, _ => ct_fail
  | d + 1, v0 => ct_of [(false, va_rf v0)] [some (va_rf v0)] (by decide) rfl ⟨rfl, (rf_cat _), trivial⟩ (fun E X n0 s0 σ => tj_J51_size_B0 d v0 σ)
theorem tj_J11_size_B0 {E : tj_E} {X : tj_X} {n0 s0 : Nat} (d : Nat) (v0 : Option Nat) (σ : hp_S) : tj_T E X RJ11 "size" cJ11_size 1 (some .int) (d + 1) [] n0 s0 em_i σ 0 [some (va_rf v0)] [] (fn_J11_size_B0 d v0) := by
  unfold fn_J11_size_B0
  refine tj_aload_n dJ11_size_0 rfl ?_
  refine tj_getR fl_J11_1r dJ11_size_1 (fun v101 => ?_)
  refine tj_callV (as := []) (rest := []) (st' := (fun r => [.int r])) (t := 18) (fun a e => by cases e; exact ct_J1_size d _) (by decide) rfl q2608 q1995 q1996 q99 q1997 rfl md_J1_size rfl (by decide) rfl (by decide) dJ11_size_4 (fun _ => rfl) (fun r102 σ => ?_) (by decide)
  exact tj_iret dJ11_size_7
theorem ct_J11_size : ∀ (d : Nat) (v0 : Option Nat), ct_ yJ11_size (ws_ yJ11_size cJ11_size 1 (some .int)) d em_i [va_rf v0] (fn_J11_size d v0)
  | 0, _ => ct_fail
  | d + 1, v0 => ct_of [(false, va_rf v0)] [some (va_rf v0)] (by decide) rfl ⟨rfl, (rf_cat _), trivial⟩ (fun E X n0 s0 σ => tj_J11_size_B0 d v0 σ)
theorem tj_J2_toArray_L15_b {E : tj_E} {X : tj_X} {n0 s0 : Nat} (d : Nat) {b15 : Option Nat → Option Nat → Int32 → mx_M (Option Nat)} (h15 : ∀ (l1 : Option Nat) (l2 : Option Nat) (l3 : Int32) (σ : hp_S), tj_T E X RJ2 "toArray" cJ2_toArray 4 (some (.array (.object "java/lang/Object"))) (d + 1) [] n0 s0 em_r σ 15 [none, some (va_rf l1), some (va_rf l2), some (.int l3)] [] (b15 l1 l2 l3)) (l1 : Option Nat) (l2 : Option Nat) (l3 : Int32) (σ : hp_S) : tj_T E X RJ2 "toArray" cJ2_toArray 4 (some (.array (.object "java/lang/Object"))) (d + 1) [] n0 s0 em_r σ 15 [none, some (va_rf l1), some (va_rf l2), some (.int l3)] [] (fn_J2_toArray_L15_b d b15 l1 l2 l3) := by
  unfold fn_J2_toArray_L15_b
  refine tj_iload_n dJ2_toArray_15 rfl ?_
  refine tj_aload_n dJ2_toArray_16 rfl ?_
  refine tj_alen dJ2_toArray_17 (fun v101 => ?_)
  refine tj_icmp_ge 51 dJ2_toArray_18 rfl (fun _ => ?_) (fun _ => ?_)
  · refine tj_aload_n dJ2_toArray_51 rfl ?_
    refine tj_or (fun f' k' => tj_callF (as := []) (rest := []) (st' := (fun r => [.int r])) (t := 22) (fun a e => by cases e; exact ct_J33_hasNext d _) (by decide) rfl q2623 q1100 q1093 q135 q1095 (ev_i 1 rfl) q1094 q1101 q1099 md_i1 rfl (by decide) rfl (by decide) dJ2_toArray_52 (fun _ => rfl) k' (by decide)) (fun f' k' => tj_callF (as := []) (rest := []) (st' := (fun r => [.int r])) (t := 23) (fun a e => by cases e; exact ct_J33_hasNext d _) (by decide) rfl q2623 q1097 q1093 q135 q1095 (ev_i 1 rfl) q1094 q1098 q1096 md_i1 rfl (by decide) rfl (by decide) dJ2_toArray_52 (fun _ => rfl) k' (by decide)) (fun r102 σ => ?_)
    refine tj_if_eq 68 dJ2_toArray_57 rfl (fun _ => ?_) (fun _ => ?_)
    · refine tj_aload_n dJ2_toArray_68 rfl ?_
      exact tj_aret (Or.inr ⟨_, rfl⟩) dJ2_toArray_69
    · refine tj_aload_n dJ2_toArray_60 rfl ?_
      refine tj_aload_n dJ2_toArray_61 rfl ?_
      exact tj_fail
  · refine tj_aload_n dJ2_toArray_21 rfl ?_
    refine tj_or (fun f' k' => tj_callF (as := []) (rest := []) (st' := (fun r => [.int r])) (t := 22) (fun a e => by cases e; exact ct_J33_hasNext d _) (by decide) rfl q2623 q1100 q1093 q135 q1095 (ev_i 1 rfl) q1094 q1101 q1099 md_i1 rfl (by decide) rfl (by decide) dJ2_toArray_22 (fun _ => rfl) k' (by decide)) (fun f' k' => tj_callF (as := []) (rest := []) (st' := (fun r => [.int r])) (t := 23) (fun a e => by cases e; exact ct_J33_hasNext d _) (by decide) rfl q2623 q1097 q1093 q135 q1095 (ev_i 1 rfl) q1094 q1098 q1096 md_i1 rfl (by decide) rfl (by decide) dJ2_toArray_22 (fun _ => rfl) k' (by decide)) (fun r103 σ => ?_)
    refine tj_if_ne 36 dJ2_toArray_27 rfl (fun _ => ?_) (fun _ => ?_)
    · refine tj_aload_n dJ2_toArray_30 rfl ?_
      refine tj_iload_n dJ2_toArray_31 rfl ?_
      refine tj_callS (as := [va_rf l1, .int l3]) (rest := []) (st' := (fun r => [va_rf r])) (ct_J23_copyOf_2 d l1 l3) q2624 q1796 q123 q1797 md_J23_copyOf_2 rfl (by decide) rfl (by decide) dJ2_toArray_32 (fun _ => rfl) (fun r104 σ => ?_) (by decide)
      exact tj_aret (Or.inr ⟨_, rfl⟩) dJ2_toArray_35
    · refine tj_aload_n dJ2_toArray_36 rfl ?_
      refine tj_iload_n dJ2_toArray_37 rfl ?_
      refine tj_aload_n dJ2_toArray_38 rfl ?_
      refine tj_or (fun f' k' => tj_callF (as := []) (rest := [.int l3, va_rf l1]) (st' := (fun r => [va_rf r, .int l3, va_rf l1])) (t := 22) (fun a e => by cases e; exact ct_J36_next d _) (by decide) rfl q2626 q1419 q1421 q138 q1423 (ev_i 2 rfl) q1422 q1420 q1099 md_i2 rfl (by decide) rfl (by simp [rf_cat, cat_i, cat_l, cat_f, cat_d]) dJ2_toArray_39 (fun _ => rfl) k' (by decide)) (fun f' k' => tj_callF (as := []) (rest := [.int l3, va_rf l1]) (st' := (fun r => [va_rf r, .int l3, va_rf l1])) (t := 23) (fun a e => by cases e; exact ct_J35_next d _) (by decide) rfl q2626 q1411 q1413 q137 q1415 (ev_i 2 rfl) q1414 q1412 q1096 md_i2 rfl (by decide) rfl (by simp [rf_cat, cat_i, cat_l, cat_f, cat_d]) dJ2_toArray_39 (fun _ => rfl) k' (by decide)) (fun r105 σ => ?_)
      refine tj_aast dJ2_toArray_44 (fun σ => ?_)
      refine tj_iinc (1 : Int32) dJ2_toArray_45 rfl rfl (by decide) (rf_cat _) [none, some (va_rf l1), some (va_rf l2), some (.int (l3 + (1 : Int32)))] rfl ?_
      refine tj_goto 15 dJ2_toArray_48 rfl ?_
      exact h15 l1 l2 _ _
theorem tj_J2_toArray_L15 {E : tj_E} {X : tj_X} {n0 s0 : Nat} (d : Nat) : ∀ (k : Nat) (l1 : Option Nat) (l2 : Option Nat) (l3 : Int32) (σ : hp_S), tj_T E X RJ2 "toArray" cJ2_toArray 4 (some (.array (.object "java/lang/Object"))) (d + 1) [] n0 s0 em_r σ 15 [none, some (va_rf l1), some (va_rf l2), some (.int l3)] [] (fn_J2_toArray_L15 d k l1 l2 l3) := by
  intro k
  induction k with
  | zero =>
    intro l1 l2 l3 σ
    exact tj_fail
  | succ k ih =>
    intro l1 l2 l3 σ
    exact tj_J2_toArray_L15_b d ih l1 l2 l3 σ
theorem tj_J2_toArray_B0 {E : tj_E} {X : tj_X} {n0 s0 : Nat} (d : Nat) (v0 : Option Nat) (σ : hp_S) : tj_T E X RJ2 "toArray" cJ2_toArray 4 (some (.array (.object "java/lang/Object"))) (d + 1) [] n0 s0 em_r σ 0 [some (va_rf v0), none, none, none] [] (fn_J2_toArray_B0 d v0) := by
  unfold fn_J2_toArray_B0
  refine tj_aload_n dJ2_toArray_0 rfl ?_
  refine tj_or (fun f' k' => tj_callA (as := []) (rest := []) (st' := (fun r => [.int r])) (x0 := ⟨"java/util/AbstractCollection", "size", "()I"⟩) (owner := "java/util/AbstractCollection") (t := 20) (fun a e => by cases e; exact ct_J11_size d _) (by decide) rfl q2591 q4340 q4349 q2606 q111 q2607 q500 md_o_java_util_AbstractCollection_size rfl (by decide) rfl (by decide) dJ2_toArray_1 (fun _ => rfl) k' (by decide)) (fun f' k' => tj_callA (as := []) (rest := []) (st' := (fun r => [.int r])) (x0 := ⟨"java/util/AbstractCollection", "size", "()I"⟩) (owner := "java/util/AbstractCollection") (t := 21) (fun a e => by cases e; exact ct_J51_size d _) (by decide) rfl q2591 q4340 q4348 q2597 q162 q2598 q500 md_o_java_util_AbstractCollection_size rfl (by decide) rfl (by decide) dJ2_toArray_1 (fun _ => rfl) k' (by decide)) (fun r101 σ => ?_)
  refine tj_newO q2609 dJ2_toArray_4 (fun a102 σ => ?_)
  refine tj_astore_n dJ2_toArray_7 (by decide) (rf_cat _) [some (va_rf v0), some (va_rf (some a102)), none, none] rfl ?_
  refine tj_aload_n dJ2_toArray_8 rfl ?_
  refine tj_or (fun f' k' => tj_callA (as := []) (rest := []) (st' := (fun r => [va_rf r])) (x0 := ⟨"java/util/AbstractCollection", "iterator", "()Ljava/util/Iterator;"⟩) (owner := "java/util/AbstractCollection") (t := 20) (fun a e => by cases e; exact ct_J11_iterator d _) (by decide) rfl q2610 q2612 q2621 q1020 q111 q1022 q2611 md_o_java_util_AbstractCollection_iterator rfl (by decide) rfl (by decide) dJ2_toArray_9 (fun _ => rfl) k' (by decide)) (fun f' k' => tj_callA (as := []) (rest := []) (st' := (fun r => [va_rf r])) (x0 := ⟨"java/util/AbstractCollection", "iterator", "()Ljava/util/Iterator;"⟩) (owner := "java/util/AbstractCollection") (t := 21) (fun a e => by cases e; exact ct_J51_iterator d _) (by decide) rfl q2610 q2612 q2620 q993 q162 q995 q2611 md_o_java_util_AbstractCollection_iterator rfl (by decide) rfl (by decide) dJ2_toArray_9 (fun _ => rfl) k' (by decide)) (fun r103 σ => ?_)
  refine tj_astore_n dJ2_toArray_12 (by decide) (rf_cat _) [some (va_rf v0), some (va_rf (some a102)), some (va_rf r103), none] rfl ?_
  refine tj_iconst (0 : Int32) dJ2_toArray_13 rfl ?_
  refine tj_istore_n dJ2_toArray_14 (by decide) (rf_cat _) [some (va_rf v0), some (va_rf (some a102)), some (va_rf r103), some (.int (0 : Int32))] rfl ?_
  refine tj_wk (L' := [none, some (va_rf (some a102)), some (va_rf r103), some (.int (0 : Int32))]) ⟨rfl, rfl, rfl, trivial⟩ ?_
  exact tj_J2_toArray_L15 d mx_K (some a102) r103 (0 : Int32) _
theorem ct_J2_toArray : ∀ (d : Nat) (v0 : Option Nat), ct_ yJ2_toArray (ws_ yJ2_toArray cJ2_toArray 4 (some (.array (.object "java/lang/Object")))) d em_r [va_rf v0] (fn_J2_toArray d v0)
  | 0, _ => ct_fail
  | d + 1, v0 => ct_of [(false, va_rf v0)] [some (va_rf v0), none, none, none] (by decide) rfl ⟨rfl, (rf_cat _), trivial⟩ (fun E X n0 s0 σ => tj_J2_toArray_B0 d v0 σ)
theorem tj_J4_init_2_B0 {E : tj_E} {X : tj_X} {n0 s0 : Nat} (d : Nat) (v0 : Option Nat) (v1 : Option Nat) (σ : hp_S) : tj_T E X RJ4 "<init>" cJ4_init_2 3 none (d + 1) [] n0 s0 em_v σ 0 [some (va_rf v0), some (va_rf v1), none] [] (fn_J4_init_2_B0 d v0 v1) := by
  unfold fn_J4_init_2_B0
  refine tj_aload_n dJ4_init_2_0 rfl ?_
  refine tj_callI (as := []) (rest := []) (st' := (fun _ => [])) (fun a e => by cases e; exact ct_J3_init d _) q239 q240 q102 q241 rfl md_J3_init rfl (by decide) rfl (by decide) dJ4_init_2_1 (fun _ => rfl) (fun _ σ => ?_) (by decide)
  refine tj_aload_n dJ4_init_2_4 rfl ?_
  refine tj_or (fun f' k' => tj_callF (as := []) (rest := []) (st' := (fun r => [va_rf r])) (t := 20) (fun a e => by cases e; exact ct_J2_toArray d _) (by decide) rfl q2541 q2633 q2588 q101 q2590 (ev_i 13 rfl) q2589 q2634 q1017 md_i13 rfl (by decide) rfl (by decide) dJ4_init_2_5 (fun _ => rfl) k' (by decide)) (fun f' k' => tj_callF (as := []) (rest := []) (st' := (fun r => [va_rf r])) (t := 21) (fun a e => by cases e; exact ct_J2_toArray d _) (by decide) rfl q2541 q2631 q2588 q101 q2590 (ev_i 13 rfl) q2589 q2632 q990 md_i13 rfl (by decide) rfl (by decide) dJ4_init_2_5 (fun _ => rfl) k' (by decide)) (fun r101 σ => ?_)
  refine tj_astore_n dJ4_init_2_10 (by decide) (rf_cat _) [some (va_rf v0), some (va_rf v1), some (va_rf r101)] rfl ?_
  refine tj_aload_n dJ4_init_2_11 rfl ?_
  refine tj_aload_n dJ4_init_2_12 rfl ?_
  refine tj_alen dJ4_init_2_13 (fun v102 => ?_)
  refine tj_dup_x1 dJ4_init_2_14 rfl (rf_cat _) ?_
  refine tj_put fl_J4_48 rfl rfl dJ4_init_2_15 (fun σ => ?_)
  refine tj_if_eq 57 dJ4_init_2_18 rfl (fun _ => ?_) (fun _ => ?_)
  · refine tj_aload_n dJ4_init_2_57 rfl ?_
    refine tj_gets (ev_s 1 rfl) q2652 dJ4_init_2_58 (fun v103 => ?_)
    refine tj_put fl_J4_9 (nar_rf _) (fit_rfa _) dJ4_init_2_61 (fun σ => ?_)
    exact tj_vret dJ4_init_2_64
  · refine tj_aload_n dJ4_init_2_21 rfl ?_
    refine tj_getClassF q2636 (by decide) dJ4_init_2_22 (fun v104 => ?_)
    refine tj_ldcM (ev_m 0 rfl) q2649 dJ4_init_2_27 (fun v105 => ?_)
    refine tj_acmp_ne 40 dJ4_init_2_29 rfl (fun _ => ?_) (fun _ => ?_)
    · refine tj_aload_n dJ4_init_2_32 rfl ?_
      refine tj_aload_n dJ4_init_2_33 rfl ?_
      refine tj_put fl_J4_9 (nar_rf _) (fit_rfa _) dJ4_init_2_34 (fun σ => ?_)
      refine tj_goto 64 dJ4_init_2_37 rfl ?_
      exact tj_vret dJ4_init_2_64
    · refine tj_aload_n dJ4_init_2_40 rfl ?_
      refine tj_aload_n dJ4_init_2_41 rfl ?_
      refine tj_aload_n dJ4_init_2_42 rfl ?_
      refine tj_getI fl_J4_48 dJ4_init_2_43 (fun v106 => ?_)
      refine tj_ldcM (ev_m 3 rfl) q2650 dJ4_init_2_46 (fun v107 => ?_)
      refine tj_callS (as := [va_rf r101, .int v106, va_rf v107]) (rest := [va_rf v0]) (st' := (fun r => [va_rf r, va_rf v0])) (ct_J23_copyOf_3 d r101 v106 v107) q2651 q1800 q123 q1801 md_J23_copyOf_3 rfl (by decide) rfl (by simp [rf_cat, cat_i, cat_l, cat_f, cat_d]) dJ4_init_2_48 (fun _ => rfl) (fun r108 σ => ?_) (by decide)
      refine tj_put fl_J4_9 (nar_rf _) (fit_rfa _) dJ4_init_2_51 (fun σ => ?_)
      refine tj_goto 64 dJ4_init_2_54 rfl ?_
      exact tj_vret dJ4_init_2_64
theorem ct_J4_init_2 : ∀ (d : Nat) (v0 : Option Nat) (v1 : Option Nat), ct_ yJ4_init_2 (ws_ yJ4_init_2 cJ4_init_2 3 none) d em_v [va_rf v0, va_rf v1] (fn_J4_init_2 d v0 v1)
  | 0, _, _ => ct_fail
  | d + 1, v0, v1 => ct_of [(false, va_rf v0), (false, va_rf v1)] [some (va_rf v0), some (va_rf v1), none] (by decide) rfl ⟨rfl, (rf_cat _), ⟨rfl, (rf_cat _), trivial⟩⟩ (fun E X n0 s0 σ => tj_J4_init_2_B0 d v0 v1 σ)
theorem tj_X2_passHours_L47_b {E : tj_E} {X : tj_X} {n0 s0 : Nat} (d : Nat) {b14 : Option Nat → Int32 → Int32 → mx_M Int32} {b47 : Option Nat → Int32 → Int32 → Option Nat → mx_M Int32} (h14 : ∀ (l0 : Option Nat) (l1 : Int32) (l2 : Int32) (σ : hp_S), tj_T E X RX2 "passHours" cX2_passHours 5 (some .int) (d + 1) [] n0 s0 em_i σ 14 [some (va_rf l0), some (.int l1), some (.int l2), none, none] [] (b14 l0 l1 l2)) (h47 : ∀ (l0 : Option Nat) (l1 : Int32) (l2 : Int32) (l3 : Option Nat) (σ : hp_S), tj_T E X RX2 "passHours" cX2_passHours 5 (some .int) (d + 1) [] n0 s0 em_i σ 47 [some (va_rf l0), some (.int l1), some (.int l2), some (va_rf l3), none] [] (b47 l0 l1 l2 l3)) (l0 : Option Nat) (l1 : Int32) (l2 : Int32) (l3 : Option Nat) (σ : hp_S) : tj_T E X RX2 "passHours" cX2_passHours 5 (some .int) (d + 1) [] n0 s0 em_i σ 47 [some (va_rf l0), some (.int l1), some (.int l2), some (va_rf l3), none] [] (fn_X2_passHours_L47_b d b14 b47 l0 l1 l2 l3) := by
  unfold fn_X2_passHours_L47_b
  refine tj_aload_n dX2_passHours_47 rfl ?_
  refine tj_callF (as := []) (rest := []) (st' := (fun r => [.int r])) (t := 17) (fun a e => by cases e; exact ct_J14_hasNext d _) (by decide) rfl q1036 q1060 q1062 q114 q1064 (ev_i 1 rfl) q1063 q1061 q1059 md_i1 rfl (by decide) rfl (by decide) dX2_passHours_48 (fun _ => rfl) (fun r101 σ => ?_) (by decide)
  refine tj_if_eq 88 dX2_passHours_53 rfl (fun _ => ?_) (fun _ => ?_)
  · refine tj_iinc (1 : Int32) dX2_passHours_88 rfl rfl (by decide) rfl [some (va_rf l0), some (.int l1), some (.int (l2 + (1 : Int32))), some (va_rf l3), none] rfl ?_
    refine tj_goto 14 dX2_passHours_91 rfl ?_
    refine tj_wk (L' := [some (va_rf l0), some (.int l1), some (.int (l2 + (1 : Int32))), none, none]) ⟨rfl, rfl, rfl, trivial⟩ ?_
    exact h14 l0 l1 _ _
  · refine tj_aload_n dX2_passHours_56 rfl ?_
    refine tj_callF (as := []) (rest := []) (st' := (fun r => [va_rf r])) (t := 17) (fun a e => by cases e; exact ct_J14_next d _) (by decide) rfl q1103 q1299 q1301 q114 q1303 (ev_i 2 rfl) q1302 q1300 q1059 md_i2 rfl (by decide) rfl (by decide) dX2_passHours_57 (fun _ => rfl) (fun r102 σ => ?_) (by decide)
    refine tj_cast (nm := "LionGate$Lion") q1427 ca_LionGate_Lion dX2_passHours_62 ?_
    refine tj_astore dX2_passHours_65 (by decide) (rf_cat _) [some (va_rf l0), some (.int l1), some (.int l2), some (va_rf l3), some (va_rf r102)] rfl ?_
    refine tj_aload_n dX2_passHours_67 rfl ?_
    refine tj_aload dX2_passHours_68 rfl ?_
    refine tj_bipush (99 : Int32) dX2_passHours_70 (by decide) ?_
    refine tj_aload dX2_passHours_72 rfl ?_
    refine tj_callV (as := []) (rest := [.int (99 : Int32), va_rf r102, va_rf l0]) (st' := (fun r => [.int r, .int (99 : Int32), va_rf r102, va_rf l0])) (t := 5) (fun a e => by cases e; exact ct_X8_hunger d _) (by decide) rfl q2419 q2420 q2421 q151 q2422 rfl md_X8_hunger rfl (by decide) rfl (by simp [rf_cat, cat_i, cat_l, cat_f, cat_d]) dX2_passHours_74 (fun _ => rfl) (fun r103 σ => ?_) (by decide)
    refine tj_iconst (1 : Int32) dX2_passHours_77 rfl ?_
    refine tj_iadd dX2_passHours_78 ?_
    refine tj_mmin q2423 (by simp [rf_cat, cat_i, cat_l, cat_f, cat_d]) dX2_passHours_79 ?_
    refine tj_callV (as := [va_rf r102, .int (if (r103 + (1 : Int32)) < (99 : Int32) then (r103 + (1 : Int32)) else (99 : Int32))]) (rest := []) (st' := (fun _ => [])) (t := 2) (fun a e => by cases e; exact ct_X2_changeHunger_2 d _ _ _) (by decide) rfl q2425 q2427 qs28 q97 q2428 rfl md_X2_changeHunger_2 rfl (by decide) rfl (by decide) dX2_passHours_82 (fun _ => rfl) (fun _ σ => ?_) (by decide)
    refine tj_goto 47 dX2_passHours_85 rfl ?_
    refine tj_wk (L' := [some (va_rf l0), some (.int l1), some (.int l2), some (va_rf l3), none]) ⟨rfl, rfl, rfl, rfl, trivial⟩ ?_
    exact h47 l0 l1 l2 l3 _
theorem tj_X2_passHours_L47 {E : tj_E} {X : tj_X} {n0 s0 : Nat} (d : Nat) {b14 : Option Nat → Int32 → Int32 → mx_M Int32} (h14 : ∀ (l0 : Option Nat) (l1 : Int32) (l2 : Int32) (σ : hp_S), tj_T E X RX2 "passHours" cX2_passHours 5 (some .int) (d + 1) [] n0 s0 em_i σ 14 [some (va_rf l0), some (.int l1), some (.int l2), none, none] [] (b14 l0 l1 l2)) : ∀ (k : Nat) (l0 : Option Nat) (l1 : Int32) (l2 : Int32) (l3 : Option Nat) (σ : hp_S), tj_T E X RX2 "passHours" cX2_passHours 5 (some .int) (d + 1) [] n0 s0 em_i σ 47 [some (va_rf l0), some (.int l1), some (.int l2), some (va_rf l3), none] [] (fn_X2_passHours_L47 d b14 k l0 l1 l2 l3) := by
  intro k
  induction k with
  | zero =>
    intro l0 l1 l2 l3 σ
    exact tj_fail
  | succ k ih =>
    intro l0 l1 l2 l3 σ
    exact tj_X2_passHours_L47_b d h14 ih l0 l1 l2 l3 σ
theorem tj_X2_passHours_L14_b {E : tj_E} {X : tj_X} {n0 s0 : Nat} (d : Nat) {b14 : Option Nat → Int32 → Int32 → mx_M Int32} (h14 : ∀ (l0 : Option Nat) (l1 : Int32) (l2 : Int32) (σ : hp_S), tj_T E X RX2 "passHours" cX2_passHours 5 (some .int) (d + 1) [] n0 s0 em_i σ 14 [some (va_rf l0), some (.int l1), some (.int l2), none, none] [] (b14 l0 l1 l2)) (l0 : Option Nat) (l1 : Int32) (l2 : Int32) (σ : hp_S) : tj_T E X RX2 "passHours" cX2_passHours 5 (some .int) (d + 1) [] n0 s0 em_i σ 14 [some (va_rf l0), some (.int l1), some (.int l2), none, none] [] (fn_X2_passHours_L14_b d b14 l0 l1 l2) := by
  unfold fn_X2_passHours_L14_b
  refine tj_iload_n dX2_passHours_14 rfl ?_
  refine tj_iload_n dX2_passHours_15 rfl ?_
  refine tj_icmp_ge 94 dX2_passHours_16 rfl (fun _ => ?_) (fun _ => ?_)
  · refine tj_aload_n dX2_passHours_94 rfl ?_
    refine tj_getI fl_X2_82 dX2_passHours_95 (fun v101 => ?_)
    exact tj_iret dX2_passHours_98
  · refine tj_aload_n dX2_passHours_19 rfl ?_
    refine tj_dup dX2_passHours_20 (rf_cat _) ?_
    refine tj_getI fl_X2_82 dX2_passHours_21 (fun v102 => ?_)
    refine tj_iconst (1 : Int32) dX2_passHours_24 rfl ?_
    refine tj_iadd dX2_passHours_25 ?_
    refine tj_put fl_X2_82 rfl rfl dX2_passHours_26 (fun σ => ?_)
    refine tj_new nw_X2_237 dX2_passHours_29 (fun a103 σ => ?_)
    refine tj_dup dX2_passHours_32 (rf_cat _) ?_
    refine tj_aload_n dX2_passHours_33 rfl ?_
    refine tj_getR fl_X2_12r dX2_passHours_34 (fun v104 => ?_)
    refine tj_callV (as := []) (rest := [va_rf (some a103), va_rf (some a103)]) (st' := (fun r => [va_rf r, va_rf (some a103), va_rf (some a103)])) (t := 18) (fun a e => by cases e; exact ct_J1_values d _) (by decide) rfl q412 q413 q414 q99 q415 rfl md_J1_values rfl (by decide) rfl (by simp [rf_cat, cat_i, cat_l, cat_f, cat_d]) dX2_passHours_37 (fun _ => rfl) (fun r105 σ => ?_) (by decide)
    refine tj_callI (as := [va_rf r105]) (rest := [va_rf (some a103)]) (st' := (fun _ => [va_rf (some a103)])) (fun a e => by cases e; exact ct_J4_init_2 d _ _) q2537 q2538 q103 q2539 rfl md_J4_init_2 rfl (by decide) rfl (by simp [rf_cat, cat_i, cat_l, cat_f, cat_d]) dX2_passHours_40 (fun _ => rfl) (fun _ σ => ?_) (by decide)
    refine tj_callV (as := []) (rest := []) (st' := (fun r => [va_rf r])) (t := 16) (fun a e => by cases e; exact ct_J4_iterator d _) (by decide) rfl q2654 q466 q4350 q103 q468 rfl md_J4_iterator rfl (by decide) rfl (by decide) dX2_passHours_43 (fun _ => rfl) (fun r106 σ => ?_) (by decide)
    refine tj_astore_n dX2_passHours_46 (by decide) rfl [some (va_rf l0), some (.int l1), some (.int l2), some (va_rf r106), none] rfl ?_
    exact tj_X2_passHours_L47 d h14 mx_K l0 l1 l2 r106 _
theorem tj_X2_passHours_L14 {E : tj_E} {X : tj_X} {n0 s0 : Nat} (d : Nat) : ∀ (k : Nat) (l0 : Option Nat) (l1 : Int32) (l2 : Int32) (σ : hp_S), tj_T E X RX2 "passHours" cX2_passHours 5 (some .int) (d + 1) [] n0 s0 em_i σ 14 [some (va_rf l0), some (.int l1), some (.int l2), none, none] [] (fn_X2_passHours_L14 d k l0 l1 l2) := by
  intro k
  induction k with
  | zero =>
    intro l0 l1 l2 σ
    exact tj_fail
  | succ k ih =>
    intro l0 l1 l2 σ
    exact tj_X2_passHours_L14_b d ih l0 l1 l2 σ
theorem tj_X2_passHours_B0 {E : tj_E} {X : tj_X} {n0 s0 : Nat} (d : Nat) (v0 : Option Nat) (v1 : Int32) (σ : hp_S) : tj_T E X RX2 "passHours" cX2_passHours 5 (some .int) (d + 1) [] n0 s0 em_i σ 0 [some (va_rf v0), some (.int v1), none, none, none] [] (fn_X2_passHours_B0 d v0 v1) := by
  unfold fn_X2_passHours_B0
  refine tj_iload_n dX2_passHours_0 rfl ?_
  refine tj_iconst (1 : Int32) dX2_passHours_1 rfl ?_
  refine tj_bipush (24 : Int32) dX2_passHours_2 (by decide) ?_
  refine tj_callSN (as := [.int v1, .int (1 : Int32), .int (24 : Int32)]) (rest := []) (st' := (fun r => [.int r])) (ct_X1_isBetween d v1 (1 : Int32) (24 : Int32)) q1963 q1964 q96 q1965 md_X1_isBetween rfl (by decide) rfl (by decide) dX2_passHours_4 (fun _ => rfl) (fun r101 σ => ?_) (by decide)
  refine tj_bipush (97 : Int32) dX2_passHours_7 (by decide) ?_
  refine tj_callSN (as := [.int r101, .int (97 : Int32)]) (rest := []) (st' := (fun _ => [])) (ct_X1_demand d r101 (97 : Int32)) q1966 q1967 q96 q1968 md_X1_demand rfl (by decide) rfl (by decide) dX2_passHours_9 (fun _ => rfl) (fun _ σ => ?_) (by decide)
  refine tj_iconst (0 : Int32) dX2_passHours_12 rfl ?_
  refine tj_istore_n dX2_passHours_13 (by decide) rfl [some (va_rf v0), some (.int v1), some (.int (0 : Int32)), none, none] rfl ?_
  exact tj_X2_passHours_L14 d mx_K v0 v1 (0 : Int32) _
theorem ct_X2_passHours : ∀ (d : Nat) (v0 : Option Nat) (v1 : Int32), ct_ yX2_passHours (ws_ yX2_passHours cX2_passHours 5 (some .int)) d em_i [va_rf v0, .int v1] (fn_X2_passHours d v0 v1)
  | 0, _, _ => ct_fail
  | d + 1, v0, v1 => ct_of [(false, va_rf v0), (false, .int v1)] [some (va_rf v0), some (.int v1), none, none, none] (by decide) rfl ⟨rfl, (rf_cat _), ⟨rfl, rfl, trivial⟩⟩ (fun E X n0 s0 σ => tj_X2_passHours_B0 d v0 v1 σ)
theorem tj_X3_onDuty_J47 {E : tj_E} {X : tj_X} {n0 s0 : Nat} (d : Nat) {b12 : Int32 → Int32 → Option Nat → mx_M Int32} (h12 : ∀ (l1 : Int32) (l2 : Int32) (l3 : Option Nat) (σ : hp_S), tj_T E X RX3 "onDuty" cX3_onDuty 5 (some .int) (d + 1) [] n0 s0 em_i σ 12 [none, some (.int l1), some (.int l2), some (va_rf l3), none] [] (b12 l1 l2 l3)) (l1 : Int32) (l3 : Option Nat) (p0 : Int32) (p1 : Int32) (σ : hp_S) : tj_T E X RX3 "onDuty" cX3_onDuty 5 (some .int) (d + 1) [] n0 s0 em_i σ 47 [none, some (.int l1), none, some (va_rf l3), none] [.int p1, .int p0] (fn_X3_onDuty_J47 d b12 l1 l3 p0 p1) := by
  unfold fn_X3_onDuty_J47
  refine tj_iadd dX3_onDuty_47 ?_
  refine tj_topi (fun v101 => ?_)
  refine tj_istore_n dX3_onDuty_48 (by decide) rfl [none, some (.int l1), some (.int v101), some (va_rf l3), none] rfl ?_
  refine tj_goto 12 dX3_onDuty_49 rfl ?_
  exact h12 l1 v101 l3 _
theorem tj_X3_onDuty_L12_b {E : tj_E} {X : tj_X} {n0 s0 : Nat} (d : Nat) {b12 : Int32 → Int32 → Option Nat → mx_M Int32} (h12 : ∀ (l1 : Int32) (l2 : Int32) (l3 : Option Nat) (σ : hp_S), tj_T E X RX3 "onDuty" cX3_onDuty 5 (some .int) (d + 1) [] n0 s0 em_i σ 12 [none, some (.int l1), some (.int l2), some (va_rf l3), none] [] (b12 l1 l2 l3)) (l1 : Int32) (l2 : Int32) (l3 : Option Nat) (σ : hp_S) : tj_T E X RX3 "onDuty" cX3_onDuty 5 (some .int) (d + 1) [] n0 s0 em_i σ 12 [none, some (.int l1), some (.int l2), some (va_rf l3), none] [] (fn_X3_onDuty_L12_b d b12 l1 l2 l3) := by
  unfold fn_X3_onDuty_L12_b
  refine tj_aload_n dX3_onDuty_12 rfl ?_
  refine tj_callF (as := []) (rest := []) (st' := (fun r => [.int r])) (t := 17) (fun a e => by cases e; exact ct_J14_hasNext d _) (by decide) rfl q1769 q1060 q1062 q114 q1064 (ev_i 1 rfl) q1063 q1061 q1059 md_i1 rfl (by decide) rfl (by decide) dX3_onDuty_13 (fun _ => rfl) (fun r101 σ => ?_) (by decide)
  refine tj_if_eq 52 dX3_onDuty_18 rfl (fun _ => ?_) (fun _ => ?_)
  · refine tj_iload_n dX3_onDuty_52 rfl ?_
    exact tj_iret dX3_onDuty_53
  · refine tj_aload_n dX3_onDuty_21 rfl ?_
    refine tj_callF (as := []) (rest := []) (st' := (fun r => [va_rf r])) (t := 17) (fun a e => by cases e; exact ct_J14_next d _) (by decide) rfl q1771 q1299 q1301 q114 q1303 (ev_i 2 rfl) q1302 q1300 q1059 md_i2 rfl (by decide) rfl (by decide) dX3_onDuty_22 (fun _ => rfl) (fun r102 σ => ?_) (by decide)
    refine tj_cast (nm := "LionGate$Keeper") q1772 ca_LionGate_Keeper dX3_onDuty_27 ?_
    refine tj_astore dX3_onDuty_30 (by decide) (rf_cat _) [none, some (.int l1), some (.int l2), some (va_rf l3), some (va_rf r102)] rfl ?_
    refine tj_iload_n dX3_onDuty_32 rfl ?_
    refine tj_aload dX3_onDuty_33 rfl ?_
    refine tj_iload_n dX3_onDuty_35 rfl ?_
    refine tj_callV (as := [.int l1]) (rest := [.int l2]) (st' := (fun r => [.int r, .int l2])) (t := 4) (fun a e => by cases e; exact ct_X11_isOnDuty d _ _) (by decide) rfl q2457 q2458 q2459 q160 q2460 rfl md_X11_isOnDuty rfl (by decide) rfl (by simp [rf_cat, cat_i, cat_l, cat_f, cat_d]) dX3_onDuty_36 (fun _ => rfl) (fun r103 σ => ?_) (by decide)
    refine tj_if_eq 46 dX3_onDuty_39 rfl (fun _ => ?_) (fun _ => ?_)
    · refine tj_iconst (0 : Int32) dX3_onDuty_46 rfl ?_
      refine tj_wk (L' := [none, some (.int l1), none, some (va_rf l3), none]) ⟨rfl, rfl, trivial⟩ ?_
      exact tj_X3_onDuty_J47 d h12 l1 l3 l2 (0 : Int32) _
    · refine tj_iconst (1 : Int32) dX3_onDuty_42 rfl ?_
      refine tj_goto 47 dX3_onDuty_43 rfl ?_
      refine tj_wk (L' := [none, some (.int l1), none, some (va_rf l3), none]) ⟨rfl, rfl, trivial⟩ ?_
      exact tj_X3_onDuty_J47 d h12 l1 l3 l2 (1 : Int32) _
theorem tj_X3_onDuty_L12 {E : tj_E} {X : tj_X} {n0 s0 : Nat} (d : Nat) : ∀ (k : Nat) (l1 : Int32) (l2 : Int32) (l3 : Option Nat) (σ : hp_S), tj_T E X RX3 "onDuty" cX3_onDuty 5 (some .int) (d + 1) [] n0 s0 em_i σ 12 [none, some (.int l1), some (.int l2), some (va_rf l3), none] [] (fn_X3_onDuty_L12 d k l1 l2 l3) := by
  intro k
  induction k with
  | zero =>
    intro l1 l2 l3 σ
    exact tj_fail
  | succ k ih =>
    intro l1 l2 l3 σ
    exact tj_X3_onDuty_L12_b d ih l1 l2 l3 σ
theorem tj_X3_onDuty_B0 {E : tj_E} {X : tj_X} {n0 s0 : Nat} (d : Nat) (v0 : Option Nat) (v1 : Int32) (σ : hp_S) : tj_T E X RX3 "onDuty" cX3_onDuty 5 (some .int) (d + 1) [] n0 s0 em_i σ 0 [some (va_rf v0), some (.int v1), none, none, none] [] (fn_X3_onDuty_B0 d v0 v1) := by
  unfold fn_X3_onDuty_B0
  refine tj_iconst (0 : Int32) dX3_onDuty_0 rfl ?_
  refine tj_istore_n dX3_onDuty_1 (by decide) rfl [some (va_rf v0), some (.int v1), some (.int (0 : Int32)), none, none] rfl ?_
  refine tj_aload_n dX3_onDuty_2 rfl ?_
  refine tj_getR fl_X3_12r dX3_onDuty_3 (fun v101 => ?_)
  refine tj_callF (as := []) (rest := []) (st' := (fun r => [va_rf r])) (t := 16) (fun a e => by cases e; exact ct_J4_iterator d _) (by decide) rfl q1761 q1764 q466 q103 q468 (ev_i 6 rfl) q467 q465 q1323 md_i6 rfl (by decide) rfl (by decide) dX3_onDuty_6 (fun _ => rfl) (fun r102 σ => ?_) (by decide)
  refine tj_astore_n dX3_onDuty_11 (by decide) rfl [some (va_rf v0), some (.int v1), some (.int (0 : Int32)), some (va_rf r102), none] rfl ?_
  refine tj_wk (L' := [none, some (.int v1), some (.int (0 : Int32)), some (va_rf r102), none]) ⟨rfl, rfl, rfl, trivial⟩ ?_
  exact tj_X3_onDuty_L12 d mx_K v1 (0 : Int32) r102 _
theorem ct_X3_onDuty : ∀ (d : Nat) (v0 : Option Nat) (v1 : Int32), ct_ yX3_onDuty (ws_ yX3_onDuty cX3_onDuty 5 (some .int)) d em_i [va_rf v0, .int v1] (fn_X3_onDuty d v0 v1)
  | 0, _, _ => ct_fail
  | d + 1, v0, v1 => ct_of [(false, va_rf v0), (false, .int v1)] [some (va_rf v0), some (.int v1), none, none, none] (by decide) rfl ⟨rfl, (rf_cat _), ⟨rfl, rfl, trivial⟩⟩ (fun E X n0 s0 σ => tj_X3_onDuty_B0 d v0 v1 σ)
theorem tj_X2_take_B0 {E : tj_E} {X : tj_X} {n0 s0 : Nat} (d : Nat) (v0 : Option Nat) (σ : hp_S) : tj_T E X RX2 "take" cX2_take 2 (some (.object "LionGate$Ticket")) (d + 1) [] n0 s0 em_r σ 0 [some (va_rf v0), none] [] (fn_X2_take_B0 d v0) := by
  unfold fn_X2_take_B0
  refine tj_aload_n dX2_take_0 rfl ?_
  refine tj_getR fl_X2_66 dX2_take_1 (fun v101 => ?_)
  refine tj_getR fl_X2_127r dX2_take_4 (fun v102 => ?_)
  refine tj_astore_n dX2_take_7 (by decide) (rf_cat _) [some (va_rf v0), some (va_rf v102)] rfl ?_
  refine tj_aload_n dX2_take_8 rfl ?_
  refine tj_aload_n dX2_take_9 rfl ?_
  refine tj_getR fl_X2_66 dX2_take_10 (fun v103 => ?_)
  refine tj_callV (as := []) (rest := [va_rf v0]) (st' := (fun r => [va_rf r, va_rf v0])) (t := 7) (fun a e => by cases e; exact ct_X10_withoutTop d _) (by decide) rfl q2469 q2470 q2471 q157 q2472 rfl md_X10_withoutTop rfl (by decide) rfl (by simp [rf_cat, cat_i, cat_l, cat_f, cat_d]) dX2_take_13 (fun _ => rfl) (fun r104 σ => ?_) (by decide)
  refine tj_put fl_X2_66 (nar_rf _) (fit_rf _) dX2_take_16 (fun σ => ?_)
  refine tj_aload_n dX2_take_19 rfl ?_
  refine tj_dup dX2_take_20 (rf_cat _) ?_
  refine tj_getI fl_X2_70 dX2_take_21 (fun v105 => ?_)
  refine tj_iconst (1 : Int32) dX2_take_24 rfl ?_
  refine tj_isub dX2_take_25 ?_
  refine tj_put fl_X2_70 rfl rfl dX2_take_26 (fun σ => ?_)
  refine tj_aload_n dX2_take_29 rfl ?_
  exact tj_aret (Or.inl ⟨_, rfl⟩) dX2_take_30
theorem ct_X2_take : ∀ (d : Nat) (v0 : Option Nat), ct_ yX2_take (ws_ yX2_take cX2_take 2 (some (.object "LionGate$Ticket"))) d em_r [va_rf v0] (fn_X2_take d v0)
  | 0, _ => ct_fail
  | d + 1, v0 => ct_of [(false, va_rf v0)] [some (va_rf v0), none] (by decide) rfl ⟨rfl, (rf_cat _), trivial⟩ (fun E X n0 s0 σ => tj_X2_take_B0 d v0 σ)
theorem tj_X2_throwStale_L0_b {E : tj_E} {X : tj_X} {n0 s0 : Nat} (d : Nat) {b0 : Option Nat → mx_M Unit} (h0 : ∀ (l0 : Option Nat) (σ : hp_S), tj_T E X RX2 "throwStale" cX2_throwStale 1 none (d + 1) [] n0 s0 em_v σ 0 [some (va_rf l0)] [] (b0 l0)) (l0 : Option Nat) (σ : hp_S) : tj_T E X RX2 "throwStale" cX2_throwStale 1 none (d + 1) [] n0 s0 em_v σ 0 [some (va_rf l0)] [] (fn_X2_throwStale_L0_b d b0 l0) := by
  unfold fn_X2_throwStale_L0_b
  refine tj_aload_n dX2_throwStale_0 rfl ?_
  refine tj_aload_n dX2_throwStale_1 rfl ?_
  refine tj_getR fl_X2_66 dX2_throwStale_2 (fun v101 => ?_)
  refine tj_getR fl_X2_127r dX2_throwStale_5 (fun v102 => ?_)
  refine tj_callV (as := [va_rf v102]) (rest := []) (st' := (fun r => [.int r])) (t := 2) (fun a e => by cases e; exact ct_X2_isValid d _ _) (by decide) rfl q2191 q2192 q2193 q97 q2194 rfl md_X2_isValid rfl (by decide) rfl (by decide) dX2_throwStale_8 (fun _ => rfl) (fun r103 σ => ?_) (by decide)
  refine tj_if_ne 32 dX2_throwStale_11 rfl (fun _ => ?_) (fun _ => ?_)
  · refine tj_aload_n dX2_throwStale_14 rfl ?_
    refine tj_callV (as := []) (rest := []) (st' := (fun r => [va_rf r])) (t := 2) (fun a e => by cases e; exact ct_X2_take d _) (by decide) rfl q2465 q2467 qs30 q97 q2468 rfl md_X2_take rfl (by decide) rfl (by decide) dX2_throwStale_15 (fun _ => rfl) (fun r104 σ => ?_) (by decide)
    refine tj_pop dX2_throwStale_18 (rf_cat _) ?_
    refine tj_aload_n dX2_throwStale_19 rfl ?_
    refine tj_dup dX2_throwStale_20 (rf_cat _) ?_
    refine tj_getI fl_X2_79 dX2_throwStale_21 (fun v105 => ?_)
    refine tj_iconst (1 : Int32) dX2_throwStale_24 rfl ?_
    refine tj_iadd dX2_throwStale_25 ?_
    refine tj_put fl_X2_79 rfl rfl dX2_throwStale_26 (fun σ => ?_)
    refine tj_goto 0 dX2_throwStale_29 rfl ?_
    exact h0 l0 _
  · exact tj_vret dX2_throwStale_32
theorem tj_X2_throwStale_L0 {E : tj_E} {X : tj_X} {n0 s0 : Nat} (d : Nat) : ∀ (k : Nat) (l0 : Option Nat) (σ : hp_S), tj_T E X RX2 "throwStale" cX2_throwStale 1 none (d + 1) [] n0 s0 em_v σ 0 [some (va_rf l0)] [] (fn_X2_throwStale_L0 d k l0) := by
  intro k
  induction k with
  | zero =>
    intro l0 σ
    exact tj_fail
  | succ k ih =>
    intro l0 σ
    exact tj_X2_throwStale_L0_b d ih l0 σ
theorem tj_X2_throwStale_E {E : tj_E} {X : tj_X} {n0 s0 : Nat} (d : Nat) (v0 : Option Nat) (σ : hp_S) : tj_T E X RX2 "throwStale" cX2_throwStale 1 none (d + 1) [] n0 s0 em_v σ 0 [some (va_rf v0)] [] (fn_X2_throwStale_E d v0) := by
  unfold fn_X2_throwStale_E
  exact tj_X2_throwStale_L0 d mx_K v0 _
theorem ct_X2_throwStale : ∀ (d : Nat) (v0 : Option Nat), ct_ yX2_throwStale (ws_ yX2_throwStale cX2_throwStale 1 none) d em_v [va_rf v0] (fn_X2_throwStale d v0)
  | 0, _ => ct_fail
  | d + 1, v0 => ct_of [(false, va_rf v0)] [some (va_rf v0)] (by decide) rfl ⟨rfl, (rf_cat _), trivial⟩ (fun E X n0 s0 σ => tj_X2_throwStale_E d v0 σ)
theorem tj_J0_isEmpty_B0 {E : tj_E} {X : tj_X} {n0 s0 : Nat} (d : Nat) (v0 : Option Nat) (σ : hp_S) : tj_T E X RJ0 "isEmpty" cJ0_isEmpty 1 (some .boolean) (d + 1) [] n0 s0 em_i σ 0 [some (va_rf v0)] [] (fn_J0_isEmpty_B0 d v0) := by
  unfold fn_J0_isEmpty_B0
  refine tj_aload_n dJ0_isEmpty_0 rfl ?_
  refine tj_callA (as := []) (rest := []) (st' := (fun r => [.int r])) (x0 := ⟨"java/util/AbstractMap", "size", "()I"⟩) (owner := "java/util/AbstractMap") (t := 18) (fun a e => by cases e; exact ct_J1_size d _) (by decide) rfl q2448 q2450 q2451 q1995 q99 q1997 q2452 md_o_java_util_AbstractMap_size rfl (by decide) rfl (by decide) dJ0_isEmpty_1 (fun _ => rfl) (fun r101 σ => ?_) (by decide)
  refine tj_if_ne 11 dJ0_isEmpty_4 rfl (fun _ => ?_) (fun _ => ?_)
  · refine tj_iconst (1 : Int32) dJ0_isEmpty_7 rfl ?_
    refine tj_goto 12 dJ0_isEmpty_8 rfl ?_
    exact tj_zpure rfl dJ0_isEmpty_12
  · refine tj_iconst (0 : Int32) dJ0_isEmpty_11 rfl ?_
    exact tj_zpure rfl dJ0_isEmpty_12
theorem ct_J0_isEmpty : ∀ (d : Nat) (v0 : Option Nat), ct_ yJ0_isEmpty (ws_ yJ0_isEmpty cJ0_isEmpty 1 (some .boolean)) d em_i [va_rf v0] (fn_J0_isEmpty d v0)
  | 0, _ => ct_fail
  | d + 1, v0 => ct_of [(false, va_rf v0)] [some (va_rf v0)] (by decide) rfl ⟨rfl, (rf_cat _), trivial⟩ (fun E X n0 s0 σ => tj_J0_isEmpty_B0 d v0 σ)
theorem tj_X2_serve_J42 {E : tj_E} {X : tj_X} {n0 s0 : Nat} (d : Nat) (l0 : Option Nat) (p0 : Int32) (σ : hp_S) : tj_T E X RX2 "serve" cX2_serve 2 (some .int) (d + 1) [] n0 s0 em_i σ 42 [some (va_rf l0), none] [.int p0] (fn_X2_serve_J42 d l0 p0) := by
  unfold fn_X2_serve_J42
  refine tj_bipush (117 : Int32) dX2_serve_42 (by decide) ?_
  refine tj_callSN (as := [.int p0, .int (117 : Int32)]) (rest := []) (st' := (fun _ => [])) (ct_X1_demand d p0 (117 : Int32)) q1966 q1967 q96 q1968 md_X1_demand rfl (by decide) rfl (by decide) dX2_serve_44 (fun _ => rfl) (fun _ σ => ?_) (by decide)
  refine tj_aload_n dX2_serve_47 rfl ?_
  refine tj_callV (as := []) (rest := []) (st' := (fun _ => [])) (t := 2) (fun a e => by cases e; exact ct_X2_throwStale d _) (by decide) rfl q2461 q2463 qs29 q97 q2464 rfl md_X2_throwStale rfl (by decide) rfl (by decide) dX2_serve_48 (fun _ => rfl) (fun _ σ => ?_) (by decide)
  refine tj_aload_n dX2_serve_51 rfl ?_
  refine tj_getR fl_X2_12r dX2_serve_52 (fun v101 => ?_)
  refine tj_aload_n dX2_serve_55 rfl ?_
  refine tj_callV (as := []) (rest := [va_rf v101]) (st' := (fun r => [va_rf r, va_rf v101])) (t := 2) (fun a e => by cases e; exact ct_X2_take d _) (by decide) rfl q2465 q2467 qs30 q97 q2468 rfl md_X2_take rfl (by decide) rfl (by simp [rf_cat, cat_i, cat_l, cat_f, cat_d]) dX2_serve_56 (fun _ => rfl) (fun r102 σ => ?_) (by decide)
  refine tj_getI fl_X2_98r dX2_serve_59 (fun v103 => ?_)
  refine tj_callS (as := [.int v103]) (rest := [va_rf v101]) (st' := (fun r => [va_rf r, va_rf v101])) (ct_J27_valueOf d v103) q1428 q1429 q128 q1430 md_J27_valueOf rfl (by decide) rfl (by simp [rf_cat, cat_i, cat_l, cat_f, cat_d]) dX2_serve_62 (fun _ => rfl) (fun r104 σ => ?_) (by decide)
  refine tj_callV (as := [va_rf r104]) (rest := []) (st' := (fun r => [va_rf r])) (t := 18) (fun a e => by cases e; exact ct_J1_remove d _ _) (by decide) rfl q2433 q2434 q2435 q99 q2436 rfl md_J1_remove rfl (by decide) rfl (by decide) dX2_serve_65 (fun _ => rfl) (fun r105 σ => ?_) (by decide)
  refine tj_cast (nm := "LionGate$Lion") q1427 ca_LionGate_Lion dX2_serve_68 ?_
  refine tj_astore_n dX2_serve_71 (by decide) (rf_cat _) [some (va_rf l0), some (va_rf r105)] rfl ?_
  refine tj_aload_n dX2_serve_72 rfl ?_
  refine tj_dup dX2_serve_73 (rf_cat _) ?_
  refine tj_getI fl_X2_82 dX2_serve_74 (fun v106 => ?_)
  refine tj_aload_n dX2_serve_77 rfl ?_
  refine tj_getI fl_X2_198r dX2_serve_78 (fun v107 => ?_)
  refine tj_iadd dX2_serve_81 ?_
  refine tj_put fl_X2_82 rfl rfl dX2_serve_82 (fun σ => ?_)
  refine tj_aload_n dX2_serve_85 rfl ?_
  refine tj_dup dX2_serve_86 (rf_cat _) ?_
  refine tj_getI fl_X2_85 dX2_serve_87 (fun v108 => ?_)
  refine tj_iconst (1 : Int32) dX2_serve_90 rfl ?_
  refine tj_iadd dX2_serve_91 ?_
  refine tj_put fl_X2_85 rfl rfl dX2_serve_92 (fun σ => ?_)
  refine tj_aload_n dX2_serve_95 rfl ?_
  refine tj_dup dX2_serve_96 (rf_cat _) ?_
  refine tj_getI fl_X2_91 dX2_serve_97 (fun v109 => ?_)
  refine tj_aload_n dX2_serve_100 rfl ?_
  refine tj_getI fl_X2_198r dX2_serve_101 (fun v110 => ?_)
  refine tj_iadd dX2_serve_104 ?_
  refine tj_put fl_X2_91 rfl rfl dX2_serve_105 (fun σ => ?_)
  refine tj_aload_n dX2_serve_108 rfl ?_
  refine tj_dup dX2_serve_109 (rf_cat _) ?_
  refine tj_getI fl_X2_88 dX2_serve_110 (fun v111 => ?_)
  refine tj_aload_n dX2_serve_113 rfl ?_
  refine tj_getI fl_X2_82 dX2_serve_114 (fun v112 => ?_)
  refine tj_aload_n dX2_serve_117 rfl ?_
  refine tj_getI fl_X2_201r dX2_serve_118 (fun v113 => ?_)
  refine tj_icmp_le 128 dX2_serve_121 rfl (fun _ => ?_) (fun _ => ?_)
  · refine tj_iconst (0 : Int32) dX2_serve_128 rfl ?_
    refine tj_iadd dX2_serve_129 ?_
    refine tj_put fl_X2_88 rfl rfl dX2_serve_130 (fun σ => ?_)
    refine tj_aload_n dX2_serve_133 rfl ?_
    refine tj_getI fl_X2_48r dX2_serve_134 (fun v114 => ?_)
    exact tj_iret dX2_serve_137
  · refine tj_iconst (1 : Int32) dX2_serve_124 rfl ?_
    refine tj_goto 129 dX2_serve_125 rfl ?_
    refine tj_iadd dX2_serve_129 ?_
    refine tj_put fl_X2_88 rfl rfl dX2_serve_130 (fun σ => ?_)
    refine tj_aload_n dX2_serve_133 rfl ?_
    refine tj_getI fl_X2_48r dX2_serve_134 (fun v115 => ?_)
    exact tj_iret dX2_serve_137
theorem tj_X2_serve_J15 {E : tj_E} {X : tj_X} {n0 s0 : Nat} (d : Nat) (l0 : Option Nat) (p0 : Int32) (σ : hp_S) : tj_T E X RX2 "serve" cX2_serve 2 (some .int) (d + 1) [] n0 s0 em_i σ 15 [some (va_rf l0), none] [.int p0] (fn_X2_serve_J15 d l0 p0) := by
  unfold fn_X2_serve_J15
  refine tj_bipush (101 : Int32) dX2_serve_15 (by decide) ?_
  refine tj_callSN (as := [.int p0, .int (101 : Int32)]) (rest := []) (st' := (fun _ => [])) (ct_X1_demand d p0 (101 : Int32)) q1966 q1967 q96 q1968 md_X1_demand rfl (by decide) rfl (by decide) dX2_serve_17 (fun _ => rfl) (fun _ σ => ?_) (by decide)
  refine tj_aload_n dX2_serve_20 rfl ?_
  refine tj_getR fl_X2_21 dX2_serve_21 (fun v101 => ?_)
  refine tj_aload_n dX2_serve_24 rfl ?_
  refine tj_getI fl_X2_82 dX2_serve_25 (fun v102 => ?_)
  refine tj_bipush (24 : Int32) dX2_serve_28 (by decide) ?_
  refine tj_irem dX2_serve_30 (fun v103 => ?_)
  refine tj_callV (as := [.int v103]) (rest := []) (st' := (fun r => [.int r])) (t := 3) (fun a e => by cases e; exact ct_X3_onDuty d _ _) (by decide) rfl q2453 q2454 q2455 q100 q2456 rfl md_X3_onDuty rfl (by decide) rfl (by decide) dX2_serve_31 (fun _ => rfl) (fun r104 σ => ?_) (by decide)
  refine tj_if_le 41 dX2_serve_34 rfl (fun _ => ?_) (fun _ => ?_)
  · refine tj_iconst (0 : Int32) dX2_serve_41 rfl ?_
    exact tj_X2_serve_J42 d l0 (0 : Int32) _
  · refine tj_iconst (1 : Int32) dX2_serve_37 rfl ?_
    refine tj_goto 42 dX2_serve_38 rfl ?_
    exact tj_X2_serve_J42 d l0 (1 : Int32) _
theorem tj_X2_serve_B0 {E : tj_E} {X : tj_X} {n0 s0 : Nat} (d : Nat) (v0 : Option Nat) (σ : hp_S) : tj_T E X RX2 "serve" cX2_serve 2 (some .int) (d + 1) [] n0 s0 em_i σ 0 [some (va_rf v0), none] [] (fn_X2_serve_B0 d v0) := by
  unfold fn_X2_serve_B0
  refine tj_aload_n dX2_serve_0 rfl ?_
  refine tj_getR fl_X2_12r dX2_serve_1 (fun v101 => ?_)
  refine tj_callU (as := []) (rest := []) (st' := (fun r => [.int r])) (x0 := ⟨"java/util/TreeMap", "isEmpty", "()Z"⟩) (owner := "java/util/AbstractMap") (t := 18) (fun a e => by cases e; exact ct_J0_isEmpty d _) (by decide) rfl q2442 q2443 q2445 q2446 q98 q2447 rfl md_o_java_util_AbstractMap_isEmpty rfl (by decide) rfl (by decide) dX2_serve_4 (fun _ => rfl) (fun r102 σ => ?_) (by decide)
  refine tj_if_ne 14 dX2_serve_7 rfl (fun _ => ?_) (fun _ => ?_)
  · refine tj_iconst (1 : Int32) dX2_serve_10 rfl ?_
    refine tj_goto 15 dX2_serve_11 rfl ?_
    exact tj_X2_serve_J15 d v0 (1 : Int32) _
  · refine tj_iconst (0 : Int32) dX2_serve_14 rfl ?_
    exact tj_X2_serve_J15 d v0 (0 : Int32) _
theorem ct_X2_serve : ∀ (d : Nat) (v0 : Option Nat), ct_ yX2_serve (ws_ yX2_serve cX2_serve 2 (some .int)) d em_i [va_rf v0] (fn_X2_serve d v0)
  | 0, _ => ct_fail
  | d + 1, v0 => ct_of [(false, va_rf v0)] [some (va_rf v0), none] (by decide) rfl ⟨rfl, (rf_cat _), trivial⟩ (fun E X n0 s0 σ => tj_X2_serve_B0 d v0 σ)
theorem tj_J25_equals_L9_b {E : tj_E} {X : tj_X} {n0 s0 : Nat} (d : Nat) {b9 : Option Nat → Option Nat → Int32 → mx_M Int32} (h9 : ∀ (l0 : Option Nat) (l1 : Option Nat) (l2 : Int32) (σ : hp_S), tj_T E X RJ25 "equals" cJ25_equals 3 (some .boolean) (d + 1) [] n0 s0 em_i σ 9 [some (va_rf l0), some (va_rf l1), some (.int l2)] [] (b9 l0 l1 l2)) (l0 : Option Nat) (l1 : Option Nat) (l2 : Int32) (σ : hp_S) : tj_T E X RJ25 "equals" cJ25_equals 3 (some .boolean) (d + 1) [] n0 s0 em_i σ 9 [some (va_rf l0), some (va_rf l1), some (.int l2)] [] (fn_J25_equals_L9_b d b9 l0 l1 l2) := by
  unfold fn_J25_equals_L9_b
  refine tj_iload_n dJ25_equals_9 rfl ?_
  refine tj_aload_n dJ25_equals_10 rfl ?_
  refine tj_alen dJ25_equals_11 (fun v101 => ?_)
  refine tj_icmp_ge 32 dJ25_equals_12 rfl (fun _ => ?_) (fun _ => ?_)
  · refine tj_iconst (1 : Int32) dJ25_equals_32 rfl ?_
    exact tj_zpure rfl dJ25_equals_33
  · refine tj_aload_n dJ25_equals_15 rfl ?_
    refine tj_iload_n dJ25_equals_16 rfl ?_
    refine tj_bald dJ25_equals_17 (fun v102 => ?_)
    refine tj_aload_n dJ25_equals_18 rfl ?_
    refine tj_iload_n dJ25_equals_19 rfl ?_
    refine tj_bald dJ25_equals_20 (fun v103 => ?_)
    refine tj_icmp_eq 26 dJ25_equals_21 rfl (fun _ => ?_) (fun _ => ?_)
    · refine tj_iinc (1 : Int32) dJ25_equals_26 rfl rfl (by decide) (rf_cat _) [some (va_rf l0), some (va_rf l1), some (.int (l2 + (1 : Int32)))] rfl ?_
      refine tj_goto 9 dJ25_equals_29 rfl ?_
      exact h9 l0 l1 _ _
    · refine tj_iconst (0 : Int32) dJ25_equals_24 rfl ?_
      exact tj_zpure rfl dJ25_equals_25
theorem tj_J25_equals_L9 {E : tj_E} {X : tj_X} {n0 s0 : Nat} (d : Nat) : ∀ (k : Nat) (l0 : Option Nat) (l1 : Option Nat) (l2 : Int32) (σ : hp_S), tj_T E X RJ25 "equals" cJ25_equals 3 (some .boolean) (d + 1) [] n0 s0 em_i σ 9 [some (va_rf l0), some (va_rf l1), some (.int l2)] [] (fn_J25_equals_L9 d k l0 l1 l2) := by
  intro k
  induction k with
  | zero =>
    intro l0 l1 l2 σ
    exact tj_fail
  | succ k ih =>
    intro l0 l1 l2 σ
    exact tj_J25_equals_L9_b d ih l0 l1 l2 σ
theorem tj_J25_equals_B0 {E : tj_E} {X : tj_X} {n0 s0 : Nat} (d : Nat) (v0 : Option Nat) (v1 : Option Nat) (σ : hp_S) : tj_T E X RJ25 "equals" cJ25_equals 3 (some .boolean) (d + 1) [] n0 s0 em_i σ 0 [some (va_rf v0), some (va_rf v1), none] [] (fn_J25_equals_B0 d v0 v1) := by
  unfold fn_J25_equals_B0
  refine tj_aload_n dJ25_equals_0 rfl ?_
  refine tj_alen dJ25_equals_1 (fun v101 => ?_)
  refine tj_aload_n dJ25_equals_2 rfl ?_
  refine tj_alen dJ25_equals_3 (fun v102 => ?_)
  refine tj_icmp_ne 34 dJ25_equals_4 rfl (fun _ => ?_) (fun _ => ?_)
  · refine tj_iconst (0 : Int32) dJ25_equals_7 rfl ?_
    refine tj_istore_n dJ25_equals_8 (by decide) (rf_cat _) [some (va_rf v0), some (va_rf v1), some (.int (0 : Int32))] rfl ?_
    exact tj_J25_equals_L9 d mx_K v0 v1 (0 : Int32) _
  · refine tj_iconst (0 : Int32) dJ25_equals_34 rfl ?_
    exact tj_zpure rfl dJ25_equals_35
theorem ct_J25_equals : ∀ (d : Nat) (v0 : Option Nat) (v1 : Option Nat), ct_ yJ25_equals (ws_ yJ25_equals cJ25_equals 3 (some .boolean)) d em_i [va_rf v0, va_rf v1] (fn_J25_equals d v0 v1)
  | 0, _, _ => ct_fail
  | d + 1, v0, v1 => ct_of [(false, va_rf v0), (false, va_rf v1)] [some (va_rf v0), some (va_rf v1), none] (by decide) rfl ⟨rfl, (rf_cat _), ⟨rfl, (rf_cat _), trivial⟩⟩ (fun E X n0 s0 σ => tj_J25_equals_B0 d v0 v1 σ)
theorem tj_J9_equals_J36 {E : tj_E} {X : tj_X} {n0 s0 : Nat} (d : Nat) (l0 : Option Nat) (l2 : Option Nat) (σ : hp_S) : tj_T E X RJ9 "equals" cJ9_equals 3 (some .boolean) (d + 1) [] n0 s0 em_i σ 36 [some (va_rf l0), none, some (va_rf l2)] [] (fn_J9_equals_J36 d l0 l2) := by
  unfold fn_J9_equals_J36
  refine tj_aload_n dJ9_equals_36 rfl ?_
  refine tj_getR fl_J9_9r dJ9_equals_37 (fun v101 => ?_)
  refine tj_aload_n dJ9_equals_40 rfl ?_
  refine tj_getR fl_J9_9r dJ9_equals_41 (fun v102 => ?_)
  refine tj_callS (as := [va_rf v101, va_rf v102]) (rest := []) (st' := (fun r => [.int r])) (ct_J25_equals d v101 v102) q1945 q1946 q126 q1947 md_J25_equals rfl (by decide) rfl (by decide) dJ9_equals_44 (fun _ => rfl) (fun r103 σ => ?_) (by decide)
  refine tj_if_eq 54 dJ9_equals_47 rfl (fun _ => ?_) (fun _ => ?_)
  · refine tj_iconst (0 : Int32) dJ9_equals_54 rfl ?_
    exact tj_zpure rfl dJ9_equals_55
  · refine tj_iconst (1 : Int32) dJ9_equals_50 rfl ?_
    refine tj_goto 55 dJ9_equals_51 rfl ?_
    exact tj_zpure rfl dJ9_equals_55
theorem tj_J9_equals_B0 {E : tj_E} {X : tj_X} {n0 s0 : Nat} (d : Nat) (v0 : Option Nat) (v1 : Option Nat) (σ : hp_S) : tj_T E X RJ9 "equals" cJ9_equals 3 (some .boolean) (d + 1) [] n0 s0 em_i σ 0 [some (va_rf v0), some (va_rf v1), none] [] (fn_J9_equals_B0 d v0 v1) := by
  unfold fn_J9_equals_B0
  refine tj_aload_n dJ9_equals_0 rfl ?_
  refine tj_aload_n dJ9_equals_1 rfl ?_
  refine tj_acmp_ne 7 dJ9_equals_2 rfl (fun _ => ?_) (fun _ => ?_)
  · refine tj_iconst (1 : Int32) dJ9_equals_5 rfl ?_
    exact tj_zpure rfl dJ9_equals_6
  · refine tj_aload_n dJ9_equals_7 rfl ?_
    refine tj_inst (nm := "java/lang/String") q1488 ca_java_lang_String nc_java_lang_String_ dJ9_equals_8 (fun v101 => ?_)
    refine tj_if_eq 54 dJ9_equals_11 rfl (fun _ => ?_) (fun _ => ?_)
    · refine tj_iconst (0 : Int32) dJ9_equals_54 rfl ?_
      exact tj_zpure rfl dJ9_equals_55
    · refine tj_aload_n dJ9_equals_14 rfl ?_
      refine tj_cast (nm := "java/lang/String") q1488 ca_java_lang_String dJ9_equals_15 ?_
      refine tj_astore_n dJ9_equals_18 (by decide) (rf_cat _) [some (va_rf v0), some (va_rf v1), some (va_rf v1)] rfl ?_
      refine tj_getsI (v := (1 : Int32)) (ev_j 0 rfl) q693 dJ9_equals_19 ?_
      refine tj_if_eq 36 dJ9_equals_22 rfl (fun _ => ?_) (fun _ => ?_)
      · refine tj_wk (L' := [some (va_rf v0), none, some (va_rf v1)]) ⟨rfl, rfl, trivial⟩ ?_
        exact tj_J9_equals_J36 d v0 v1 _
      · refine tj_aload_n dJ9_equals_25 rfl ?_
        refine tj_getI fl_J9_15r dJ9_equals_26 (fun v102 => ?_)
        refine tj_aload_n dJ9_equals_29 rfl ?_
        refine tj_getI fl_J9_15r dJ9_equals_30 (fun v103 => ?_)
        refine tj_icmp_ne 54 dJ9_equals_33 rfl (fun _ => ?_) (fun _ => ?_)
        · refine tj_wk (L' := [some (va_rf v0), none, some (va_rf v1)]) ⟨rfl, rfl, trivial⟩ ?_
          exact tj_J9_equals_J36 d v0 v1 _
        · refine tj_iconst (0 : Int32) dJ9_equals_54 rfl ?_
          exact tj_zpure rfl dJ9_equals_55
theorem ct_J9_equals : ∀ (d : Nat) (v0 : Option Nat) (v1 : Option Nat), ct_ yJ9_equals (ws_ yJ9_equals cJ9_equals 3 (some .boolean)) d em_i [va_rf v0, va_rf v1] (fn_J9_equals d v0 v1)
  | 0, _, _ => ct_fail
  | d + 1, v0, v1 => ct_of [(false, va_rf v0), (false, va_rf v1)] [some (va_rf v0), some (va_rf v1), none] (by decide) rfl ⟨rfl, (rf_cat _), ⟨rfl, (rf_cat _), trivial⟩⟩ (fun E X n0 s0 σ => tj_J9_equals_B0 d v0 v1 σ)
theorem tj_J9_isLatin1_B0 {E : tj_E} {X : tj_X} {n0 s0 : Nat} (d : Nat) (v0 : Option Nat) (σ : hp_S) : tj_T E X RJ9 "isLatin1" cJ9_isLatin1 1 (some .boolean) (d + 1) [] n0 s0 em_i σ 0 [some (va_rf v0)] [] (fn_J9_isLatin1_B0 d v0) := by
  unfold fn_J9_isLatin1_B0
  refine tj_getsI (v := (1 : Int32)) (ev_j 0 rfl) q693 dJ9_isLatin1_0 ?_
  refine tj_if_eq 17 dJ9_isLatin1_3 rfl (fun _ => ?_) (fun _ => ?_)
  · refine tj_iconst (0 : Int32) dJ9_isLatin1_17 rfl ?_
    exact tj_zpure rfl dJ9_isLatin1_18
  · refine tj_aload_n dJ9_isLatin1_6 rfl ?_
    refine tj_getI fl_J9_15r dJ9_isLatin1_7 (fun v101 => ?_)
    refine tj_if_ne 17 dJ9_isLatin1_10 rfl (fun _ => ?_) (fun _ => ?_)
    · refine tj_iconst (1 : Int32) dJ9_isLatin1_13 rfl ?_
      refine tj_goto 18 dJ9_isLatin1_14 rfl ?_
      exact tj_zpure rfl dJ9_isLatin1_18
    · refine tj_iconst (0 : Int32) dJ9_isLatin1_17 rfl ?_
      exact tj_zpure rfl dJ9_isLatin1_18
theorem ct_J9_isLatin1 : ∀ (d : Nat) (v0 : Option Nat), ct_ yJ9_isLatin1 (ws_ yJ9_isLatin1 cJ9_isLatin1 1 (some .boolean)) d em_i [va_rf v0] (fn_J9_isLatin1 d v0)
  | 0, _ => ct_fail
  | d + 1, v0 => ct_of [(false, va_rf v0)] [some (va_rf v0)] (by decide) rfl ⟨rfl, (rf_cat _), trivial⟩ (fun E X n0 s0 σ => tj_J9_isLatin1_B0 d v0 σ)
theorem tj_J21_hashCode_2_L8_b {E : tj_E} {X : tj_X} {n0 s0 : Nat} (d : Nat) {b8 : Int32 → Option Nat → Int32 → Int32 → mx_M Int32} (h8 : ∀ (l0 : Int32) (l1 : Option Nat) (l4 : Int32) (l5 : Int32) (σ : hp_S), tj_T E X RJ21 "hashCode" cJ21_hashCode_2 6 (some .int) (d + 1) [] n0 s0 em_i σ 8 [some (.int l0), some (va_rf l1), none, none, some (.int l4), some (.int l5)] [] (b8 l0 l1 l4 l5)) (l0 : Int32) (l1 : Option Nat) (l4 : Int32) (l5 : Int32) (σ : hp_S) : tj_T E X RJ21 "hashCode" cJ21_hashCode_2 6 (some .int) (d + 1) [] n0 s0 em_i σ 8 [some (.int l0), some (va_rf l1), none, none, some (.int l4), some (.int l5)] [] (fn_J21_hashCode_2_L8_b d b8 l0 l1 l4 l5) := by
  unfold fn_J21_hashCode_2_L8_b
  refine tj_iload dJ21_hashCode_2_8 rfl ?_
  refine tj_iload dJ21_hashCode_2_10 rfl ?_
  refine tj_icmp_ge 31 dJ21_hashCode_2_12 rfl (fun _ => ?_) (fun _ => ?_)
  · refine tj_iload_n dJ21_hashCode_2_31 rfl ?_
    exact tj_iret dJ21_hashCode_2_32
  · refine tj_bipush (31 : Int32) dJ21_hashCode_2_15 (by decide) ?_
    refine tj_iload_n dJ21_hashCode_2_17 rfl ?_
    refine tj_imul dJ21_hashCode_2_18 ?_
    refine tj_aload_n dJ21_hashCode_2_19 rfl ?_
    refine tj_iload dJ21_hashCode_2_20 rfl ?_
    refine tj_bald dJ21_hashCode_2_22 (fun v101 => ?_)
    refine tj_iadd dJ21_hashCode_2_23 ?_
    refine tj_topi (fun v102 => ?_)
    refine tj_istore_n dJ21_hashCode_2_24 (by decide) trivial [some (.int v102), some (va_rf l1), none, none, some (.int l4), some (.int l5)] rfl ?_
    refine tj_iinc (1 : Int32) dJ21_hashCode_2_25 rfl rfl (by decide) rfl [some (.int v102), some (va_rf l1), none, none, some (.int l4), some (.int (l5 + (1 : Int32)))] rfl ?_
    refine tj_goto 8 dJ21_hashCode_2_28 rfl ?_
    exact h8 v102 l1 l4 _ _
theorem tj_J21_hashCode_2_L8 {E : tj_E} {X : tj_X} {n0 s0 : Nat} (d : Nat) : ∀ (k : Nat) (l0 : Int32) (l1 : Option Nat) (l4 : Int32) (l5 : Int32) (σ : hp_S), tj_T E X RJ21 "hashCode" cJ21_hashCode_2 6 (some .int) (d + 1) [] n0 s0 em_i σ 8 [some (.int l0), some (va_rf l1), none, none, some (.int l4), some (.int l5)] [] (fn_J21_hashCode_2_L8 d k l0 l1 l4 l5) := by
  intro k
  induction k with
  | zero =>
    intro l0 l1 l4 l5 σ
    exact tj_fail
  | succ k ih =>
    intro l0 l1 l4 l5 σ
    exact tj_J21_hashCode_2_L8_b d ih l0 l1 l4 l5 σ
theorem tj_J21_hashCode_2_B0 {E : tj_E} {X : tj_X} {n0 s0 : Nat} (d : Nat) (v0 : Int32) (v1 : Option Nat) (v2 : Int32) (v3 : Int32) (σ : hp_S) : tj_T E X RJ21 "hashCode" cJ21_hashCode_2 6 (some .int) (d + 1) [] n0 s0 em_i σ 0 [some (.int v0), some (va_rf v1), some (.int v2), some (.int v3), none, none] [] (fn_J21_hashCode_2_B0 d v0 v1 v2 v3) := by
  unfold fn_J21_hashCode_2_B0
  refine tj_iload_n dJ21_hashCode_2_0 rfl ?_
  refine tj_iload_n dJ21_hashCode_2_1 rfl ?_
  refine tj_iadd dJ21_hashCode_2_2 ?_
  refine tj_topi (fun v101 => ?_)
  refine tj_istore dJ21_hashCode_2_3 (by decide) rfl [some (.int v0), some (va_rf v1), some (.int v2), some (.int v3), some (.int v101), none] rfl ?_
  refine tj_iload_n dJ21_hashCode_2_5 rfl ?_
  refine tj_istore dJ21_hashCode_2_6 (by decide) rfl [some (.int v0), some (va_rf v1), some (.int v2), some (.int v3), some (.int v101), some (.int v2)] rfl ?_
  refine tj_wk (L' := [some (.int v0), some (va_rf v1), none, none, some (.int v101), some (.int v2)]) ⟨rfl, rfl, rfl, rfl, trivial⟩ ?_
  exact tj_J21_hashCode_2_L8 d mx_K v0 v1 v101 v2 _
theorem ct_J21_hashCode_2 : ∀ (d : Nat) (v0 : Int32) (v1 : Option Nat) (v2 : Int32) (v3 : Int32), ct_ yJ21_hashCode_2 (ws_ yJ21_hashCode_2 cJ21_hashCode_2 6 (some .int)) d em_i [.int v0, va_rf v1, .int v2, .int v3] (fn_J21_hashCode_2 d v0 v1 v2 v3)
  | 0, _, _, _, _ => ct_fail
  | d + 1, v0, v1, v2, v3 => ct_of [(false, .int v0), (false, va_rf v1), (false, .int v2), (false, .int v3)] [some (.int v0), some (va_rf v1), some (.int v2), some (.int v3), none, none] (by decide) rfl ⟨rfl, rfl, ⟨rfl, (rf_cat _), ⟨rfl, rfl, ⟨rfl, rfl, trivial⟩⟩⟩⟩ (fun E X n0 s0 σ => tj_J21_hashCode_2_B0 d v0 v1 v2 v3 σ)
