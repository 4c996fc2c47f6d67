set_option maxRecDepth 100000
theorem tj_J2_init_B0 {E : tj_E} {X : tj_X} {n0 s0 : Nat} (d : Nat) (v0 : Option Nat) (σ : hp_S) : tj_T E X RJ2 "<init>" cJ2_init 1 none (d + 1) [] n0 s0 em_v σ 0 [some (va_rf v0)] [] (fn_J2_init_B0 d v0) := by
  unfold fn_J2_init_B0
  refine tj_aload_n dJ2_init_0 rfl ?_
  refine tj_objInit q245 q183 q184 (by decide) dJ2_init_1 (fun _ _ => ?_)
  exact tj_vret dJ2_init_4
theorem ct_J2_init : ∀ (d : Nat) (v0 : Option Nat), ct_ yJ2_init (ws_ yJ2_init cJ2_init 1 none) d em_v [va_rf v0] (fn_J2_init d v0)
  | 0, _ => ct_fail
  | d + 1, v0 => ct_of [(false, va_rf v0)] [some (va_rf v0)] (by decide) rfl ⟨rfl, (rf_cat _), trivial⟩ (fun E X n0 s0 σ => tj_J2_init_B0 d v0 σ)
theorem tj_J3_init_B0 {E : tj_E} {X : tj_X} {n0 s0 : Nat} (d : Nat) (v0 : Option Nat) (σ : hp_S) : tj_T E X RJ3 "<init>" cJ3_init 1 none (d + 1) [] n0 s0 em_v σ 0 [some (va_rf v0)] [] (fn_J3_init_B0 d v0) := by
  unfold fn_J3_init_B0
  refine tj_aload_n dJ3_init_0 rfl ?_
  refine tj_callI (as := []) (rest := []) (st' := (fun _ => [])) (fun a e => by cases e; exact ct_J2_init d _) q242 q243 q101 q244 rfl md_J2_init rfl (by decide) rfl (by decide) dJ3_init_1 (fun _ => rfl) (fun _ σ => ?_) (by decide)
  refine tj_aload_n dJ3_init_4 rfl ?_
  refine tj_iconst (0 : Int32) dJ3_init_5 rfl ?_
  refine tj_put fl_J3_7 rfl rfl dJ3_init_6 (fun σ => ?_)
  exact tj_vret dJ3_init_9
theorem ct_J3_init : ∀ (d : Nat) (v0 : Option Nat), ct_ yJ3_init (ws_ yJ3_init cJ3_init 1 none) d em_v [va_rf v0] (fn_J3_init d v0)
  | 0, _ => ct_fail
  | d + 1, v0 => ct_of [(false, va_rf v0)] [some (va_rf v0)] (by decide) rfl ⟨rfl, (rf_cat _), trivial⟩ (fun E X n0 s0 σ => tj_J3_init_B0 d v0 σ)
theorem tj_J4_init_B0 {E : tj_E} {X : tj_X} {n0 s0 : Nat} (d : Nat) (v0 : Option Nat) (σ : hp_S) : tj_T E X RJ4 "<init>" cJ4_init 1 none (d + 1) [] n0 s0 em_v σ 0 [some (va_rf v0)] [] (fn_J4_init_B0 d v0) := by
  unfold fn_J4_init_B0
  refine tj_aload_n dJ4_init_0 rfl ?_
  refine tj_callI (as := []) (rest := []) (st' := (fun _ => [])) (fun a e => by cases e; exact ct_J3_init d _) q239 q240 q102 q241 rfl md_J3_init rfl (by decide) rfl (by decide) dJ4_init_1 (fun _ => rfl) (fun _ σ => ?_) (by decide)
  refine tj_aload_n dJ4_init_4 rfl ?_
  refine tj_gets (ev_s 0 rfl) q246 dJ4_init_5 (fun v101 => ?_)
  refine tj_put fl_J4_9 (nar_rf _) (fit_rfa _) dJ4_init_8 (fun σ => ?_)
  exact tj_vret dJ4_init_11
theorem ct_J4_init : ∀ (d : Nat) (v0 : Option Nat), ct_ yJ4_init (ws_ yJ4_init cJ4_init 1 none) d em_v [va_rf v0] (fn_J4_init d v0)
  | 0, _ => ct_fail
  | d + 1, v0 => ct_of [(false, va_rf v0)] [some (va_rf v0)] (by decide) rfl ⟨rfl, (rf_cat _), trivial⟩ (fun E X n0 s0 σ => tj_J4_init_B0 d v0 σ)
theorem tj_X3_init_B0 {E : tj_E} {X : tj_X} {n0 s0 : Nat} (d : Nat) (v0 : Option Nat) (σ : hp_S) : tj_T E X RX3 "<init>" cX3_init 1 none (d + 1) [] n0 s0 em_v σ 0 [some (va_rf v0)] [] (fn_X3_init_B0 d v0) := by
  unfold fn_X3_init_B0
  refine tj_aload_n dX3_init_0 rfl ?_
  refine tj_objInit q233 q183 q184 (by decide) dX3_init_1 (fun _ _ => ?_)
  refine tj_aload_n dX3_init_4 rfl ?_
  refine tj_new nw_X3_9 dX3_init_5 (fun a102 σ => ?_)
  refine tj_dup dX3_init_8 (rf_cat _) ?_
  refine tj_callI (as := []) (rest := [va_rf (some a102), va_rf v0]) (st' := (fun _ => [va_rf (some a102), va_rf v0])) (fun a e => by cases e; exact ct_J4_init d _) q236 q237 q103 q238 rfl md_J4_init rfl (by decide) rfl (by simp [rf_cat, cat_i, cat_l, cat_f, cat_d]) dX3_init_9 (fun _ => rfl) (fun _ σ => ?_) (by decide)
  refine tj_putF fl_X3_12 (nar_rf _) (fit_rf _) dX3_init_12 (fun σ => ?_)
  exact tj_vret dX3_init_15
theorem ct_X3_init : ∀ (d : Nat) (v0 : Option Nat), ct_ yX3_init (ws_ yX3_init cX3_init 1 none) d em_v [va_rf v0] (fn_X3_init d v0)
  | 0, _ => ct_fail
  | d + 1, v0 => ct_of [(false, va_rf v0)] [some (va_rf v0)] (by decide) rfl ⟨rfl, (rf_cat _), trivial⟩ (fun E X n0 s0 σ => tj_X3_init_B0 d v0 σ)
theorem tj_J0_init_B0 {E : tj_E} {X : tj_X} {n0 s0 : Nat} (d : Nat) (v0 : Option Nat) (σ : hp_S) : tj_T E X RJ0 "<init>" cJ0_init 1 none (d + 1) [] n0 s0 em_v σ 0 [some (va_rf v0)] [] (fn_J0_init_B0 d v0) := by
  unfold fn_J0_init_B0
  refine tj_aload_n dJ0_init_0 rfl ?_
  refine tj_objInit q199 q183 q184 (by decide) dJ0_init_1 (fun _ _ => ?_)
  exact tj_vret dJ0_init_4
theorem ct_J0_init : ∀ (d : Nat) (v0 : Option Nat), ct_ yJ0_init (ws_ yJ0_init cJ0_init 1 none) d em_v [va_rf v0] (fn_J0_init d v0)
  | 0, _ => ct_fail
  | d + 1, v0 => ct_of [(false, va_rf v0)] [some (va_rf v0)] (by decide) rfl ⟨rfl, (rf_cat _), trivial⟩ (fun E X n0 s0 σ => tj_J0_init_B0 d v0 σ)
theorem tj_J1_init_B0 {E : tj_E} {X : tj_X} {n0 s0 : Nat} (d : Nat) (v0 : Option Nat) (σ : hp_S) : tj_T E X RJ1 "<init>" cJ1_init 1 none (d + 1) [] n0 s0 em_v σ 0 [some (va_rf v0)] [] (fn_J1_init_B0 d v0) := by
  unfold fn_J1_init_B0
  refine tj_aload_n dJ1_init_0 rfl ?_
  refine tj_callI (as := []) (rest := []) (st' := (fun _ => [])) (fun a e => by cases e; exact ct_J0_init d _) q196 q197 q98 q198 rfl md_J0_init rfl (by decide) rfl (by decide) dJ1_init_1 (fun _ => rfl) (fun _ σ => ?_) (by decide)
  refine tj_aload_n dJ1_init_4 rfl ?_
  refine tj_iconst (0 : Int32) dJ1_init_5 rfl ?_
  refine tj_put fl_J1_7 rfl rfl dJ1_init_6 (fun σ => ?_)
  refine tj_aload_n dJ1_init_9 rfl ?_
  refine tj_iconst (0 : Int32) dJ1_init_10 rfl ?_
  refine tj_put fl_J1_13 rfl rfl dJ1_init_11 (fun σ => ?_)
  refine tj_aload_n dJ1_init_14 rfl ?_
  refine tj_null dJ1_init_15 ?_
  refine tj_putF fl_J1_16 (nar_rf _) (fit_rf _) dJ1_init_16 (fun σ => ?_)
  exact tj_vret dJ1_init_19
theorem ct_J1_init : ∀ (d : Nat) (v0 : Option Nat), ct_ yJ1_init (ws_ yJ1_init cJ1_init 1 none) d em_v [va_rf v0] (fn_J1_init d v0)
  | 0, _ => ct_fail
  | d + 1, v0 => ct_of [(false, va_rf v0)] [some (va_rf v0)] (by decide) rfl ⟨rfl, (rf_cat _), trivial⟩ (fun E X n0 s0 σ => tj_J1_init_B0 d v0 σ)
theorem tj_X2_init_B0 {E : tj_E} {X : tj_X} {n0 s0 : Nat} (d : Nat) (v0 : Option Nat) (σ : hp_S) : tj_T E X RX2 "<init>" cX2_init 1 none (d + 1) [] n0 s0 em_v σ 0 [some (va_rf v0)] [] (fn_X2_init_B0 d v0) := by
  unfold fn_X2_init_B0
  refine tj_aload_n dX2_init_0 rfl ?_
  refine tj_objInit q190 q183 q184 (by decide) dX2_init_1 (fun _ _ => ?_)
  refine tj_aload_n dX2_init_4 rfl ?_
  refine tj_new nw_X2_9 dX2_init_5 (fun a102 σ => ?_)
  refine tj_dup dX2_init_8 (rf_cat _) ?_
  refine tj_callI (as := []) (rest := [va_rf (some a102), va_rf v0]) (st' := (fun _ => [va_rf (some a102), va_rf v0])) (fun a e => by cases e; exact ct_J1_init d _) q193 q194 q99 q195 rfl md_J1_init rfl (by decide) rfl (by simp [rf_cat, cat_i, cat_l, cat_f, cat_d]) dX2_init_9 (fun _ => rfl) (fun _ σ => ?_) (by decide)
  refine tj_putF fl_X2_12 (nar_rf _) (fit_rf _) dX2_init_12 (fun σ => ?_)
  refine tj_aload_n dX2_init_15 rfl ?_
  refine tj_new nw_X2_18 dX2_init_16 (fun a103 σ => ?_)
  refine tj_dup dX2_init_19 (rf_cat _) ?_
  refine tj_callIN (as := []) (rest := [va_rf (some a103), va_rf v0]) (st' := (fun _ => [va_rf (some a103), va_rf v0])) (fun a e => by cases e; exact ct_X3_init d _) q230 q231 q100 q232 rfl md_X3_init rfl (by decide) rfl (by simp [rf_cat, cat_i, cat_l, cat_f, cat_d]) dX2_init_20 (fun _ => rfl) (fun _ σ => ?_) (by decide)
  refine tj_put fl_X2_21 (nar_rf _) (fit_rf _) dX2_init_23 (fun σ => ?_)
  exact tj_vret dX2_init_26
theorem ct_X2_init : ∀ (d : Nat) (v0 : Option Nat), ct_ yX2_init (ws_ yX2_init cX2_init 1 none) d em_v [va_rf v0] (fn_X2_init d v0)
  | 0, _ => ct_fail
  | d + 1, v0 => ct_of [(false, va_rf v0)] [some (va_rf v0)] (by decide) rfl ⟨rfl, (rf_cat _), trivial⟩ (fun E X n0 s0 σ => tj_X2_init_B0 d v0 σ)
theorem tj_J7_init_B0 {E : tj_E} {X : tj_X} {n0 s0 : Nat} (d : Nat) (v0 : Option Nat) (v1 : Int32) (σ : hp_S) : tj_T E X RJ7 "<init>" cJ7_init 2 none (d + 1) [] n0 s0 em_v σ 0 [some (va_rf v0), some (.int v1)] [] (fn_J7_init_B0 d v0 v1) := by
  unfold fn_J7_init_B0
  refine tj_aload_n dJ7_init_0 rfl ?_
  refine tj_objInit q345 q183 q184 (by decide) dJ7_init_1 (fun _ _ => ?_)
  refine tj_getsI (v := (1 : Int32)) (ev_j 0 rfl) q346 dJ7_init_4 ?_
  refine tj_if_eq 25 dJ7_init_7 rfl (fun _ => ?_) (fun _ => ?_)
  · refine tj_aload_n dJ7_init_25 rfl ?_
    refine tj_iload_n dJ7_init_26 rfl ?_
    exact tj_fail
  · refine tj_aload_n dJ7_init_10 rfl ?_
    refine tj_iload_n dJ7_init_11 rfl ?_
    refine tj_newB q369 dJ7_init_12 (fun a102 σ => ?_)
    refine tj_put fl_J7_15 (nar_rf _) (fit_rfa _) dJ7_init_14 (fun σ => ?_)
    refine tj_aload_n dJ7_init_17 rfl ?_
    refine tj_iconst (0 : Int32) dJ7_init_18 rfl ?_
    refine tj_put fl_J7_22 rfl rfl dJ7_init_19 (fun σ => ?_)
    refine tj_goto 38 dJ7_init_22 rfl ?_
    exact tj_vret dJ7_init_38
theorem ct_J7_init : ∀ (d : Nat) (v0 : Option Nat) (v1 : Int32), ct_ yJ7_init (ws_ yJ7_init cJ7_init 2 none) d em_v [va_rf v0, .int v1] (fn_J7_init d v0 v1)
  | 0, _, _ => ct_fail
  | d + 1, v0, v1 => ct_of [(false, va_rf v0), (false, .int v1)] [some (va_rf v0), some (.int v1)] (by decide) rfl ⟨rfl, (rf_cat _), ⟨rfl, rfl, trivial⟩⟩ (fun E X n0 s0 σ => tj_J7_init_B0 d v0 v1 σ)
theorem tj_J8_init_B0 {E : tj_E} {X : tj_X} {n0 s0 : Nat} (d : Nat) (v0 : Option Nat) (σ : hp_S) : tj_T E X RJ8 "<init>" cJ8_init 1 none (d + 1) [] n0 s0 em_v σ 0 [some (va_rf v0)] [] (fn_J8_init_B0 d v0) := by
  unfold fn_J8_init_B0
  refine tj_aload_n dJ8_init_0 rfl ?_
  refine tj_bipush (16 : Int32) dJ8_init_1 (by decide) ?_
  refine tj_callI (as := [.int (16 : Int32)]) (rest := []) (st' := (fun _ => [])) (fun a e => by cases e; exact ct_J7_init d _ _) q342 q343 q106 q344 rfl md_J7_init rfl (by decide) rfl (by decide) dJ8_init_3 (fun _ => rfl) (fun _ σ => ?_) (by decide)
  exact tj_vret dJ8_init_6
theorem ct_J8_init : ∀ (d : Nat) (v0 : Option Nat), ct_ yJ8_init (ws_ yJ8_init cJ8_init 1 none) d em_v [va_rf v0] (fn_J8_init d v0)
  | 0, _ => ct_fail
  | d + 1, v0 => ct_of [(false, va_rf v0)] [some (va_rf v0)] (by decide) rfl ⟨rfl, (rf_cat _), trivial⟩ (fun E X n0 s0 σ => tj_J8_init_B0 d v0 σ)
theorem tj_J5_init_B0 {E : tj_E} {X : tj_X} {n0 s0 : Nat} (d : Nat) (v0 : Option Nat) (σ : hp_S) : tj_T E X RJ5 "<init>" cJ5_init 1 none (d + 1) [] n0 s0 em_v σ 0 [some (va_rf v0)] [] (fn_J5_init_B0 d v0) := by
  unfold fn_J5_init_B0
  refine tj_aload_n dJ5_init_0 rfl ?_
  refine tj_callI (as := []) (rest := []) (st' := (fun _ => [])) (fun a e => by cases e; exact ct_J3_init d _) q324 q240 q102 q241 rfl md_J3_init rfl (by decide) rfl (by decide) dJ5_init_1 (fun _ => rfl) (fun _ σ => ?_) (by decide)
  exact tj_vret dJ5_init_4
theorem ct_J5_init : ∀ (d : Nat) (v0 : Option Nat), ct_ yJ5_init (ws_ yJ5_init cJ5_init 1 none) d em_v [va_rf v0] (fn_J5_init d v0)
  | 0, _ => ct_fail
  | d + 1, v0 => ct_of [(false, va_rf v0)] [some (va_rf v0)] (by decide) rfl ⟨rfl, (rf_cat _), trivial⟩ (fun E X n0 s0 σ => tj_J5_init_B0 d v0 σ)
theorem tj_J6_init_B0 {E : tj_E} {X : tj_X} {n0 s0 : Nat} (d : Nat) (v0 : Option Nat) (σ : hp_S) : tj_T E X RJ6 "<init>" cJ6_init 1 none (d + 1) [] n0 s0 em_v σ 0 [some (va_rf v0)] [] (fn_J6_init_B0 d v0) := by
  unfold fn_J6_init_B0
  refine tj_aload_n dJ6_init_0 rfl ?_
  refine tj_callI (as := []) (rest := []) (st' := (fun _ => [])) (fun a e => by cases e; exact ct_J5_init d _) q321 q322 q104 q323 rfl md_J5_init rfl (by decide) rfl (by decide) dJ6_init_1 (fun _ => rfl) (fun _ σ => ?_) (by decide)
  refine tj_aload_n dJ6_init_4 rfl ?_
  refine tj_iconst (0 : Int32) dJ6_init_5 rfl ?_
  refine tj_put fl_J6_7 rfl rfl dJ6_init_6 (fun σ => ?_)
  exact tj_vret dJ6_init_9
theorem ct_J6_init : ∀ (d : Nat) (v0 : Option Nat), ct_ yJ6_init (ws_ yJ6_init cJ6_init 1 none) d em_v [va_rf v0] (fn_J6_init d v0)
  | 0, _ => ct_fail
  | d + 1, v0 => ct_of [(false, va_rf v0)] [some (va_rf v0)] (by decide) rfl ⟨rfl, (rf_cat _), trivial⟩ (fun E X n0 s0 σ => tj_J6_init_B0 d v0 σ)
theorem tj_X1_init_B0 {E : tj_E} {X : tj_X} {n0 s0 : Nat} (d : Nat) (v0 : Option Nat) (σ : hp_S) : tj_T E X RX1 "<init>" cX1_init 1 none (d + 1) [] n0 s0 em_v σ 0 [some (va_rf v0)] [] (fn_X1_init_B0 d v0) := by
  unfold fn_X1_init_B0
  refine tj_aload_n dX1_init_0 rfl ?_
  refine tj_objInit q182 q183 q184 (by decide) dX1_init_1 (fun _ _ => ?_)
  refine tj_aload_n dX1_init_4 rfl ?_
  refine tj_new nw_X1_63 dX1_init_5 (fun a102 σ => ?_)
  refine tj_dup dX1_init_8 (rf_cat _) ?_
  refine tj_callIN (as := []) (rest := [va_rf (some a102), va_rf v0]) (st' := (fun _ => [va_rf (some a102), va_rf v0])) (fun a e => by cases e; exact ct_X2_init d _) q187 q188 q97 q189 rfl md_X2_init rfl (by decide) rfl (by simp [rf_cat, cat_i, cat_l, cat_f, cat_d]) dX1_init_9 (fun _ => rfl) (fun _ σ => ?_) (by decide)
  refine tj_put fl_X1_66 (nar_rf _) (fit_rf _) dX1_init_12 (fun σ => ?_)
  refine tj_aload_n dX1_init_15 rfl ?_
  refine tj_new nw_X1_72 dX1_init_16 (fun a103 σ => ?_)
  refine tj_dup dX1_init_19 (rf_cat _) ?_
  refine tj_callI (as := []) (rest := [va_rf (some a103), va_rf v0]) (st' := (fun _ => [va_rf (some a103), va_rf v0])) (fun a e => by cases e; exact ct_J6_init d _) q318 q319 q105 q320 rfl md_J6_init rfl (by decide) rfl (by simp [rf_cat, cat_i, cat_l, cat_f, cat_d]) dX1_init_20 (fun _ => rfl) (fun _ σ => ?_) (by decide)
  refine tj_putF fl_X1_75 (nar_rf _) (fit_rf _) dX1_init_23 (fun σ => ?_)
  refine tj_aload_n dX1_init_26 rfl ?_
  refine tj_new nw_X1_79 dX1_init_27 (fun a104 σ => ?_)
  refine tj_dup dX1_init_30 (rf_cat _) ?_
  refine tj_callI (as := []) (rest := [va_rf (some a104), va_rf v0]) (st' := (fun _ => [va_rf (some a104), va_rf v0])) (fun a e => by cases e; exact ct_J8_init d _) q339 q340 q107 q341 rfl md_J8_init rfl (by decide) rfl (by simp [rf_cat, cat_i, cat_l, cat_f, cat_d]) dX1_init_31 (fun _ => rfl) (fun _ σ => ?_) (by decide)
  refine tj_putF fl_X1_82 (nar_rf _) (fit_rf _) dX1_init_34 (fun σ => ?_)
  refine tj_aload_n dX1_init_37 rfl ?_
  refine tj_iconst (-1 : Int32) dX1_init_38 rfl ?_
  refine tj_put fl_X1_86 rfl rfl dX1_init_39 (fun σ => ?_)
  refine tj_aload_n dX1_init_42 rfl ?_
  refine tj_iconst (-1 : Int32) dX1_init_43 rfl ?_
  refine tj_put fl_X1_90 rfl rfl dX1_init_44 (fun σ => ?_)
  refine tj_aload_n dX1_init_47 rfl ?_
  refine tj_ldcS (ev_t 0 rfl) dX1_init_48 (fun v105 => ?_)
  refine tj_put fl_X1_95 (nar_rf _) (fit_rf _) dX1_init_50 (fun σ => ?_)
  exact tj_vret dX1_init_53
theorem ct_X1_init : ∀ (d : Nat) (v0 : Option Nat), ct_ yX1_init (ws_ yX1_init cX1_init 1 none) d em_v [va_rf v0] (fn_X1_init d v0)
  | 0, _ => ct_fail
  | d + 1, v0 => ct_of [(false, va_rf v0)] [some (va_rf v0)] (by decide) rfl ⟨rfl, (rf_cat _), trivial⟩ (fun E X n0 s0 σ => tj_X1_init_B0 d v0 σ)
theorem tj_J4_elementData_B0 {E : tj_E} {X : tj_X} {n0 s0 : Nat} (d : Nat) (v0 : Option Nat) (v1 : Int32) (σ : hp_S) : tj_T E X RJ4 "elementData" cJ4_elementData 2 (some (.object "java/lang/Object")) (d + 1) [] n0 s0 em_r σ 0 [some (va_rf v0), some (.int v1)] [] (fn_J4_elementData_B0 d v0 v1) := by
  unfold fn_J4_elementData_B0
  refine tj_aload_n dJ4_elementData_0 rfl ?_
  refine tj_getR fl_J4_9 dJ4_elementData_1 (fun v101 => ?_)
  refine tj_iload_n dJ4_elementData_4 rfl ?_
  refine tj_aald dJ4_elementData_5 (fun v102 => ?_)
  exact tj_aret (Or.inl ⟨_, rfl⟩) dJ4_elementData_6
theorem ct_J4_elementData : ∀ (d : Nat) (v0 : Option Nat) (v1 : Int32), ct_ yJ4_elementData (ws_ yJ4_elementData cJ4_elementData 2 (some (.object "java/lang/Object"))) d em_r [va_rf v0, .int v1] (fn_J4_elementData d v0 v1)
  | 0, _, _ => ct_fail
  | d + 1, v0, v1 => ct_of [(false, va_rf v0), (false, .int v1)] [some (va_rf v0), some (.int v1)] (by decide) rfl ⟨rfl, (rf_cat _), ⟨rfl, rfl, trivial⟩⟩ (fun E X n0 s0 σ => tj_J4_elementData_B0 d v0 v1 σ)
theorem tj_J24_checkIndex_B0 {E : tj_E} {X : tj_X} {n0 s0 : Nat} (d : Nat) (v0 : Int32) (v1 : Int32) (v2 : Option Nat) (σ : hp_S) : tj_T E X RJ24 "checkIndex" cJ24_checkIndex 3 (some .int) (d + 1) [] n0 s0 em_i σ 0 [some (.int v0), some (.int v1), some (va_rf v2)] [] (fn_J24_checkIndex_B0 d v0 v1 v2) := by
  unfold fn_J24_checkIndex_B0
  refine tj_iload_n dJ24_checkIndex_0 rfl ?_
  refine tj_if_lt 9 dJ24_checkIndex_1 rfl (fun _ => ?_) (fun _ => ?_)
  · refine tj_aload_n dJ24_checkIndex_9 rfl ?_
    refine tj_iload_n dJ24_checkIndex_10 rfl ?_
    refine tj_iload_n dJ24_checkIndex_11 rfl ?_
    exact tj_fail
  · refine tj_iload_n dJ24_checkIndex_4 rfl ?_
    refine tj_iload_n dJ24_checkIndex_5 rfl ?_
    refine tj_icmp_lt 16 dJ24_checkIndex_6 rfl (fun _ => ?_) (fun _ => ?_)
    · refine tj_iload_n dJ24_checkIndex_16 rfl ?_
      exact tj_iret dJ24_checkIndex_17
    · refine tj_aload_n dJ24_checkIndex_9 rfl ?_
      refine tj_iload_n dJ24_checkIndex_10 rfl ?_
      refine tj_iload_n dJ24_checkIndex_11 rfl ?_
      exact tj_fail
theorem ct_J24_checkIndex : ∀ (d : Nat) (v0 : Int32) (v1 : Int32) (v2 : Option Nat), ct_ yJ24_checkIndex (ws_ yJ24_checkIndex cJ24_checkIndex 3 (some .int)) d em_i [.int v0, .int v1, va_rf v2] (fn_J24_checkIndex d v0 v1 v2)
  | 0, _, _, _ => ct_fail
  | d + 1, v0, v1, v2 => ct_of [(false, .int v0), (false, .int v1), (false, va_rf v2)] [some (.int v0), some (.int v1), some (va_rf v2)] (by decide) rfl ⟨rfl, rfl, ⟨rfl, rfl, ⟨rfl, (rf_cat _), trivial⟩⟩⟩ (fun E X n0 s0 σ => tj_J24_checkIndex_B0 d v0 v1 v2 σ)
theorem tj_J37_checkIndex_B0 {E : tj_E} {X : tj_X} {n0 s0 : Nat} (d : Nat) (v0 : Int32) (v1 : Int32) (σ : hp_S) : tj_T E X RJ37 "checkIndex" cJ37_checkIndex 2 (some .int) (d + 1) [] n0 s0 em_i σ 0 [some (.int v0), some (.int v1)] [] (fn_J37_checkIndex_B0 d v0 v1) := by
  unfold fn_J37_checkIndex_B0
  refine tj_iload_n dJ37_checkIndex_0 rfl ?_
  refine tj_iload_n dJ37_checkIndex_1 rfl ?_
  refine tj_null dJ37_checkIndex_2 ?_
  refine tj_callS (as := [.int v0, .int v1, va_rf none]) (rest := []) (st' := (fun r => [.int r])) (ct_J24_checkIndex d v0 v1 none) q1125 q1126 q125 q1127 md_J24_checkIndex rfl (by decide) rfl (by decide) dJ37_checkIndex_3 (fun _ => rfl) (fun r101 σ => ?_) (by decide)
  exact tj_iret dJ37_checkIndex_6
theorem ct_J37_checkIndex : ∀ (d : Nat) (v0 : Int32) (v1 : Int32), ct_ yJ37_checkIndex (ws_ yJ37_checkIndex cJ37_checkIndex 2 (some .int)) d em_i [.int v0, .int v1] (fn_J37_checkIndex d v0 v1)
  | 0, _, _ => ct_fail
  | d + 1, v0, v1 => ct_of [(false, .int v0), (false, .int v1)] [some (.int v0), some (.int v1)] (by decide) rfl ⟨rfl, rfl, ⟨rfl, rfl, trivial⟩⟩ (fun E X n0 s0 σ => tj_J37_checkIndex_B0 d v0 v1 σ)
theorem tj_J4_get_B0 {E : tj_E} {X : tj_X} {n0 s0 : Nat} (d : Nat) (v0 : Option Nat) (v1 : Int32) (σ : hp_S) : tj_T E X RJ4 "get" cJ4_get 2 (some (.object "java/lang/Object")) (d + 1) [] n0 s0 em_r σ 0 [some (va_rf v0), some (.int v1)] [] (fn_J4_get_B0 d v0 v1) := by
  unfold fn_J4_get_B0
  refine tj_iload_n dJ4_get_0 rfl ?_
  refine tj_aload_n dJ4_get_1 rfl ?_
  refine tj_getI fl_J4_48 dJ4_get_2 (fun v101 => ?_)
  refine tj_callS (as := [.int v1, .int v101]) (rest := []) (st' := (fun r => [.int r])) (ct_J37_checkIndex d v1 v101) q1122 q1123 q139 q1124 md_J37_checkIndex rfl (by decide) rfl (by decide) dJ4_get_5 (fun _ => rfl) (fun r102 σ => ?_) (by decide)
  refine tj_pop dJ4_get_8 rfl ?_
  refine tj_aload_n dJ4_get_9 rfl ?_
  refine tj_iload_n dJ4_get_10 rfl ?_
  refine tj_callV (as := [.int v1]) (rest := []) (st' := (fun r => [va_rf r])) (t := 16) (fun a e => by cases e; exact ct_J4_elementData d _ _) (by decide) rfl q1128 q1129 q1130 q103 q1131 rfl md_J4_elementData rfl (by decide) rfl (by decide) dJ4_get_11 (fun _ => rfl) (fun r103 σ => ?_) (by decide)
  exact tj_aret (Or.inl ⟨_, rfl⟩) dJ4_get_14
theorem ct_J4_get : ∀ (d : Nat) (v0 : Option Nat) (v1 : Int32), ct_ yJ4_get (ws_ yJ4_get cJ4_get 2 (some (.object "java/lang/Object"))) d em_r [va_rf v0, .int v1] (fn_J4_get d v0 v1)
  | 0, _, _ => ct_fail
  | d + 1, v0, v1 => ct_of [(false, va_rf v0), (false, .int v1)] [some (va_rf v0), some (.int v1)] (by decide) rfl ⟨rfl, (rf_cat _), ⟨rfl, rfl, trivial⟩⟩ (fun E X n0 s0 σ => tj_J4_get_B0 d v0 v1 σ)
theorem tj_J4_size_B0 {E : tj_E} {X : tj_X} {n0 s0 : Nat} (d : Nat) (v0 : Option Nat) (σ : hp_S) : tj_T E X RJ4 "size" cJ4_size 1 (some .int) (d + 1) [] n0 s0 em_i σ 0 [some (va_rf v0)] [] (fn_J4_size_B0 d v0) := by
  unfold fn_J4_size_B0
  refine tj_aload_n dJ4_size_0 rfl ?_
  refine tj_getI fl_J4_48 dJ4_size_1 (fun v101 => ?_)
  exact tj_iret dJ4_size_4
theorem ct_J4_size : ∀ (d : Nat) (v0 : Option Nat), ct_ yJ4_size (ws_ yJ4_size cJ4_size 1 (some .int)) d em_i [va_rf v0] (fn_J4_size d v0)
  | 0, _ => ct_fail
  | d + 1, v0 => ct_of [(false, va_rf v0)] [some (va_rf v0)] (by decide) rfl ⟨rfl, (rf_cat _), trivial⟩ (fun E X n0 s0 σ => tj_J4_size_B0 d v0 σ)
theorem tj_X12_isInTime_J85 {E : tj_E} {X : tj_X} {n0 s0 : Nat} (d : Nat) {b10 : Option Nat → Int32 → Int32 → Int32 → Int32 → mx_M Int32} (h10 : ∀ (l0 : Option Nat) (l1 : Int32) (l2 : Int32) (l3 : Int32) (l4 : Int32) (σ : hp_S), tj_T E X RX12 "isInTime" cX12_isInTime 5 (some .boolean) (d + 1) [] n0 s0 em_i σ 10 [some (va_rf l0), some (.int l1), some (.int l2), some (.int l3), some (.int l4)] [] (b10 l0 l1 l2 l3 l4)) (l0 : Option Nat) (l1 : Int32) (l2 : Int32) (l3 : Int32) (l4 : Int32) (σ : hp_S) : tj_T E X RX12 "isInTime" cX12_isInTime 5 (some .boolean) (d + 1) [] n0 s0 em_i σ 85 [some (va_rf l0), some (.int l1), some (.int l2), some (.int l3), some (.int l4)] [] (fn_X12_isInTime_J85 d b10 l0 l1 l2 l3 l4) := by
  unfold fn_X12_isInTime_J85
  refine tj_iinc (1 : Int32) dX12_isInTime_85 rfl rfl (by decide) rfl [some (va_rf l0), some (.int l1), some (.int l2), some (.int l3), some (.int (l4 + (1 : Int32)))] rfl ?_
  refine tj_goto 10 dX12_isInTime_88 rfl ?_
  exact h10 l0 l1 l2 l3 _ _
theorem tj_X12_isInTime_J84 {E : tj_E} {X : tj_X} {n0 s0 : Nat} (d : Nat) {b10 : Option Nat → Int32 → Int32 → Int32 → Int32 → mx_M Int32} (h10 : ∀ (l0 : Option Nat) (l1 : Int32) (l2 : Int32) (l3 : Int32) (l4 : Int32) (σ : hp_S), tj_T E X RX12 "isInTime" cX12_isInTime 5 (some .boolean) (d + 1) [] n0 s0 em_i σ 10 [some (va_rf l0), some (.int l1), some (.int l2), some (.int l3), some (.int l4)] [] (b10 l0 l1 l2 l3 l4)) (l0 : Option Nat) (l1 : Int32) (l2 : Int32) (l4 : Int32) (p0 : Int32) (σ : hp_S) : tj_T E X RX12 "isInTime" cX12_isInTime 5 (some .boolean) (d + 1) [] n0 s0 em_i σ 84 [some (va_rf l0), some (.int l1), some (.int l2), none, some (.int l4)] [.int p0] (fn_X12_isInTime_J84 d b10 l0 l1 l2 l4 p0) := by
  unfold fn_X12_isInTime_J84
  refine tj_istore_n dX12_isInTime_84 (by decide) rfl [some (va_rf l0), some (.int l1), some (.int l2), some (.int p0), some (.int l4)] rfl ?_
  exact tj_X12_isInTime_J85 d h10 l0 l1 l2 p0 l4 _
theorem tj_X12_isInTime_L10_b {E : tj_E} {X : tj_X} {n0 s0 : Nat} (d : Nat) {b10 : Option Nat → Int32 → Int32 → Int32 → Int32 → mx_M Int32} (h10 : ∀ (l0 : Option Nat) (l1 : Int32) (l2 : Int32) (l3 : Int32) (l4 : Int32) (σ : hp_S), tj_T E X RX12 "isInTime" cX12_isInTime 5 (some .boolean) (d + 1) [] n0 s0 em_i σ 10 [some (va_rf l0), some (.int l1), some (.int l2), some (.int l3), some (.int l4)] [] (b10 l0 l1 l2 l3 l4)) (l0 : Option Nat) (l1 : Int32) (l2 : Int32) (l3 : Int32) (l4 : Int32) (σ : hp_S) : tj_T E X RX12 "isInTime" cX12_isInTime 5 (some .boolean) (d + 1) [] n0 s0 em_i σ 10 [some (va_rf l0), some (.int l1), some (.int l2), some (.int l3), some (.int l4)] [] (fn_X12_isInTime_L10_b d b10 l0 l1 l2 l3 l4) := by
  unfold fn_X12_isInTime_L10_b
  refine tj_iload dX12_isInTime_10 rfl ?_
  refine tj_aload_n dX12_isInTime_12 rfl ?_
  refine tj_getR fl_X12_10r dX12_isInTime_13 (fun v101 => ?_)
  refine tj_callF (as := []) (rest := [.int l4]) (st' := (fun r => [.int r, .int l4])) (t := 16) (fun a e => by cases e; exact ct_J4_size d _) (by decide) rfl q2762 q2143 q1048 q103 q1049 (ev_i 9 rfl) q2145 q2144 q1323 md_i9 rfl (by decide) rfl (by simp [rf_cat, cat_i, cat_l, cat_f, cat_d]) dX12_isInTime_16 (fun _ => rfl) (fun r102 σ => ?_) (by decide)
  refine tj_icmp_ge 91 dX12_isInTime_21 rfl (fun _ => ?_) (fun _ => ?_)
  · refine tj_iload_n dX12_isInTime_91 rfl ?_
    exact tj_zret dX12_isInTime_92
  · refine tj_iload_n dX12_isInTime_24 rfl ?_
    refine tj_if_eq 91 dX12_isInTime_25 rfl (fun _ => ?_) (fun _ => ?_)
    · refine tj_iload_n dX12_isInTime_91 rfl ?_
      exact tj_zret dX12_isInTime_92
    · refine tj_iload_n dX12_isInTime_28 rfl ?_
      refine tj_iload dX12_isInTime_29 rfl ?_
      refine tj_ishr dX12_isInTime_31 ?_
      refine tj_iconst (1 : Int32) dX12_isInTime_32 rfl ?_
      refine tj_iand dX12_isInTime_33 ?_
      refine tj_iconst (1 : Int32) dX12_isInTime_34 rfl ?_
      refine tj_icmp_ne 85 dX12_isInTime_35 rfl (fun _ => ?_) (fun _ => ?_)
      · refine tj_iload_n dX12_isInTime_38 rfl ?_
        refine tj_aload_n dX12_isInTime_39 rfl ?_
        refine tj_getR fl_X12_10r dX12_isInTime_40 (fun v103 => ?_)
        refine tj_iload dX12_isInTime_43 rfl ?_
        refine tj_callF (as := [.int l4]) (rest := [.int l2]) (st' := (fun r => [va_rf r, .int l2])) (t := 16) (fun a e => by cases e; exact ct_J4_get d _ _) (by decide) rfl q2764 q1324 q1120 q103 q1121 (ev_i 3 rfl) q1326 q1325 q1323 md_i3 rfl (by decide) rfl (by simp [rf_cat, cat_i, cat_l, cat_f, cat_d]) dX12_isInTime_45 (fun _ => rfl) (fun r104 σ => ?_) (by decide)
        refine tj_cast (nm := "LionGate$Lion") q2760 ca_LionGate_Lion dX12_isInTime_50 ?_
        refine tj_getI fl_X12_59r dX12_isInTime_53 (fun v105 => ?_)
        refine tj_iadd dX12_isInTime_56 ?_
        refine tj_topi (fun v106 => ?_)
        refine tj_istore_n dX12_isInTime_57 (by decide) rfl [some (va_rf l0), some (.int l1), some (.int v106), some (.int l3), some (.int l4)] rfl ?_
        refine tj_iload_n dX12_isInTime_58 rfl ?_
        refine tj_aload_n dX12_isInTime_59 rfl ?_
        refine tj_getR fl_X12_10r dX12_isInTime_60 (fun v107 => ?_)
        refine tj_iload dX12_isInTime_63 rfl ?_
        refine tj_callF (as := [.int l4]) (rest := [.int v106]) (st' := (fun r => [va_rf r, .int v106])) (t := 16) (fun a e => by cases e; exact ct_J4_get d _ _) (by decide) rfl q2764 q1324 q1120 q103 q1121 (ev_i 3 rfl) q1326 q1325 q1323 md_i3 rfl (by decide) rfl (by simp [rf_cat, cat_i, cat_l, cat_f, cat_d]) dX12_isInTime_65 (fun _ => rfl) (fun r108 σ => ?_) (by decide)
        refine tj_cast (nm := "LionGate$Lion") q2760 ca_LionGate_Lion dX12_isInTime_70 ?_
        refine tj_getI fl_X12_62r dX12_isInTime_73 (fun v109 => ?_)
        refine tj_icmp_gt 83 dX12_isInTime_76 rfl (fun _ => ?_) (fun _ => ?_)
        · refine tj_iconst (0 : Int32) dX12_isInTime_83 rfl ?_
          refine tj_wk (L' := [some (va_rf l0), some (.int l1), some (.int v106), none, some (.int l4)]) ⟨rfl, rfl, rfl, rfl, trivial⟩ ?_
          exact tj_X12_isInTime_J84 d h10 l0 l1 v106 l4 (0 : Int32) _
        · refine tj_iconst (1 : Int32) dX12_isInTime_79 rfl ?_
          refine tj_goto 84 dX12_isInTime_80 rfl ?_
          refine tj_wk (L' := [some (va_rf l0), some (.int l1), some (.int v106), none, some (.int l4)]) ⟨rfl, rfl, rfl, rfl, trivial⟩ ?_
          exact tj_X12_isInTime_J84 d h10 l0 l1 v106 l4 (1 : Int32) _
      · exact tj_X12_isInTime_J85 d h10 l0 l1 l2 l3 l4 _
theorem tj_X12_isInTime_L10 {E : tj_E} {X : tj_X} {n0 s0 : Nat} (d : Nat) : ∀ (k : Nat) (l0 : Option Nat) (l1 : Int32) (l2 : Int32) (l3 : Int32) (l4 : Int32) (σ : hp_S), tj_T E X RX12 "isInTime" cX12_isInTime 5 (some .boolean) (d + 1) [] n0 s0 em_i σ 10 [some (va_rf l0), some (.int l1), some (.int l2), some (.int l3), some (.int l4)] [] (fn_X12_isInTime_L10 d k l0 l1 l2 l3 l4) := by
  intro k
  induction k with
  | zero =>
    intro l0 l1 l2 l3 l4 σ
    exact tj_fail
  | succ k ih =>
    intro l0 l1 l2 l3 l4 σ
    exact tj_X12_isInTime_L10_b d ih l0 l1 l2 l3 l4 σ
theorem tj_X12_isInTime_B0 {E : tj_E} {X : tj_X} {n0 s0 : Nat} (d : Nat) (v0 : Option Nat) (v1 : Int32) (σ : hp_S) : tj_T E X RX12 "isInTime" cX12_isInTime 5 (some .boolean) (d + 1) [] n0 s0 em_i σ 0 [some (va_rf v0), some (.int v1), none, none, none] [] (fn_X12_isInTime_B0 d v0 v1) := by
  unfold fn_X12_isInTime_B0
  refine tj_aload_n dX12_isInTime_0 rfl ?_
  refine tj_getI fl_X12_16r dX12_isInTime_1 (fun v101 => ?_)
  refine tj_istore_n dX12_isInTime_4 (by decide) rfl [some (va_rf v0), some (.int v1), some (.int v101), none, none] rfl ?_
  refine tj_iconst (1 : Int32) dX12_isInTime_5 rfl ?_
  refine tj_istore_n dX12_isInTime_6 (by decide) rfl [some (va_rf v0), some (.int v1), some (.int v101), some (.int (1 : Int32)), none] rfl ?_
  refine tj_iconst (0 : Int32) dX12_isInTime_7 rfl ?_
  refine tj_istore dX12_isInTime_8 (by decide) rfl [some (va_rf v0), some (.int v1), some (.int v101), some (.int (1 : Int32)), some (.int (0 : Int32))] rfl ?_
  exact tj_X12_isInTime_L10 d mx_K v0 v1 v101 (1 : Int32) (0 : Int32) _
theorem ct_X12_isInTime : ∀ (d : Nat) (v0 : Option Nat) (v1 : Int32), ct_ yX12_isInTime (ws_ yX12_isInTime cX12_isInTime 5 (some .boolean)) d em_i [va_rf v0, .int v1] (fn_X12_isInTime d v0 v1)
  | 0, _, _ => ct_fail
  | d + 1, v0, v1 => ct_of [(false, va_rf v0), (false, .int v1)] [some (va_rf v0), some (.int v1), none, none, none] (by decide) rfl ⟨rfl, (rf_cat _), ⟨rfl, rfl, trivial⟩⟩ (fun E X n0 s0 σ => tj_X12_isInTime_B0 d v0 v1 σ)
theorem tj_X12_areAllInTime_B0 {E : tj_E} {X : tj_X} {n0 s0 : Nat} (d : Nat) (v0 : Option Nat) (σ : hp_S) : tj_T E X RX12 "areAllInTime" cX12_areAllInTime 1 (some .boolean) (d + 1) [] n0 s0 em_i σ 0 [some (va_rf v0)] [] (fn_X12_areAllInTime_B0 d v0) := by
  unfold fn_X12_areAllInTime_B0
  refine tj_aload_n dX12_areAllInTime_0 rfl ?_
  refine tj_iconst (1 : Int32) dX12_areAllInTime_1 rfl ?_
  refine tj_aload_n dX12_areAllInTime_2 rfl ?_
  refine tj_getR fl_X12_10r dX12_areAllInTime_3 (fun v101 => ?_)
  refine tj_callF (as := []) (rest := [.int (1 : Int32), va_rf v0]) (st' := (fun r => [.int r, .int (1 : Int32), va_rf v0])) (t := 16) (fun a e => by cases e; exact ct_J4_size d _) (by decide) rfl q2762 q2143 q1048 q103 q1049 (ev_i 9 rfl) q2145 q2144 q1323 md_i9 rfl (by decide) rfl (by simp [rf_cat, cat_i, cat_l, cat_f, cat_d]) dX12_areAllInTime_6 (fun _ => rfl) (fun r102 σ => ?_) (by decide)
  refine tj_ishl dX12_areAllInTime_11 ?_
  refine tj_iconst (1 : Int32) dX12_areAllInTime_12 rfl ?_
  refine tj_isub dX12_areAllInTime_13 ?_
  refine tj_callV (as := [.int (((1 : Int32) <<< (r102 &&& 31)) - (1 : Int32))]) (rest := []) (st' := (fun r => [.int r])) (t := 8) (fun a e => by cases e; exact ct_X12_isInTime d _ _) (by decide) rfl q2779 q2781 qs34 q163 q2782 rfl md_X12_isInTime rfl (by decide) rfl (by decide) dX12_areAllInTime_14 (fun _ => rfl) (fun r103 σ => ?_) (by decide)
  exact tj_zret dX12_areAllInTime_17
theorem ct_X12_areAllInTime : ∀ (d : Nat) (v0 : Option Nat), ct_ yX12_areAllInTime (ws_ yX12_areAllInTime cX12_areAllInTime 1 (some .boolean)) d em_i [va_rf v0] (fn_X12_areAllInTime d v0)
  | 0, _ => ct_fail
  | d + 1, v0 => ct_of [(false, va_rf v0)] [some (va_rf v0)] (by decide) rfl ⟨rfl, (rf_cat _), trivial⟩ (fun E X n0 s0 σ => tj_X12_areAllInTime_B0 d v0 σ)
theorem tj_X13_init_B0 {E : tj_E} {X : tj_X} {n0 s0 : Nat} (d : Nat) (v0 : Option Nat) (σ : hp_S) : tj_T E X RX13 "<init>" cX13_init 1 none (d + 1) [] n0 s0 em_v σ 0 [some (va_rf v0)] [] (fn_X13_init_B0 d v0) := by
  unfold fn_X13_init_B0
  refine tj_aload_n dX13_init_0 rfl ?_
  refine tj_objInit q2732 q183 q184 (by decide) dX13_init_1 (fun _ _ => ?_)
  exact tj_vret dX13_init_4
theorem ct_X13_init : ∀ (d : Nat) (v0 : Option Nat), ct_ yX13_init (ws_ yX13_init cX13_init 1 none) d em_v [va_rf v0] (fn_X13_init d v0)
  | 0, _ => ct_fail
  | d + 1, v0 => ct_of [(false, va_rf v0)] [some (va_rf v0)] (by decide) rfl ⟨rfl, (rf_cat _), trivial⟩ (fun E X n0 s0 σ => tj_X13_init_B0 d v0 σ)
theorem tj_X13_compare_2_B0 {E : tj_E} {X : tj_X} {n0 s0 : Nat} (d : Nat) (v0 : Option Nat) (v1 : Option Nat) (v2 : Option Nat) (σ : hp_S) : tj_T E X RX13 "compare" cX13_compare_2 3 (some .int) (d + 1) [] n0 s0 em_i σ 0 [some (va_rf v0), some (va_rf v1), some (va_rf v2)] [] (fn_X13_compare_2_B0 d v0 v1 v2) := by
  unfold fn_X13_compare_2_B0
  refine tj_aload_n dX13_compare_2_0 rfl ?_
  refine tj_getI fl_X13_7r dX13_compare_2_1 (fun v101 => ?_)
  refine tj_aload_n dX13_compare_2_4 rfl ?_
  refine tj_getI fl_X13_7r dX13_compare_2_5 (fun v102 => ?_)
  refine tj_icmp_ne 23 dX13_compare_2_8 rfl (fun _ => ?_) (fun _ => ?_)
  · refine tj_aload_n dX13_compare_2_11 rfl ?_
    refine tj_getI fl_X13_13r dX13_compare_2_12 (fun v103 => ?_)
    refine tj_aload_n dX13_compare_2_15 rfl ?_
    refine tj_getI fl_X13_13r dX13_compare_2_16 (fun v104 => ?_)
    refine tj_isub dX13_compare_2_19 ?_
    refine tj_goto 32 dX13_compare_2_20 rfl ?_
    exact tj_iret dX13_compare_2_32
  · refine tj_aload_n dX13_compare_2_23 rfl ?_
    refine tj_getI fl_X13_7r dX13_compare_2_24 (fun v105 => ?_)
    refine tj_aload_n dX13_compare_2_27 rfl ?_
    refine tj_getI fl_X13_7r dX13_compare_2_28 (fun v106 => ?_)
    refine tj_isub dX13_compare_2_31 ?_
    exact tj_iret dX13_compare_2_32
theorem ct_X13_compare_2 : ∀ (d : Nat) (v0 : Option Nat) (v1 : Option Nat) (v2 : Option Nat), ct_ yX13_compare_2 (ws_ yX13_compare_2 cX13_compare_2 3 (some .int)) d em_i [va_rf v0, va_rf v1, va_rf v2] (fn_X13_compare_2 d v0 v1 v2)
  | 0, _, _, _ => ct_fail
  | d + 1, v0, v1, v2 => ct_of [(false, va_rf v0), (false, va_rf v1), (false, va_rf v2)] [some (va_rf v0), some (va_rf v1), some (va_rf v2)] (by decide) rfl ⟨rfl, (rf_cat _), ⟨rfl, (rf_cat _), ⟨rfl, (rf_cat _), trivial⟩⟩⟩ (fun E X n0 s0 σ => tj_X13_compare_2_B0 d v0 v1 v2 σ)
theorem tj_J23_copyOf_3_B0 {E : tj_E} {X : tj_X} {n0 s0 : Nat} (d : Nat) (v0 : Option Nat) (v1 : Int32) (v2 : Option Nat) (σ : hp_S) : tj_T E X RJ23 "copyOf" cJ23_copyOf_3 4 (some (.array (.object "java/lang/Object"))) (d + 1) [] n0 s0 em_r σ 0 [some (va_rf v0), some (.int v1), some (va_rf v2), none] [] (fn_J23_copyOf_3_B0 d v0 v1 v2) := by
  unfold fn_J23_copyOf_3_B0
  refine tj_aload_n dJ23_copyOf_3_0 rfl ?_
  refine tj_ldcM (ev_m 3 rfl) q1802 dJ23_copyOf_3_1 (fun v101 => ?_)
  refine tj_acmp_ne 13 dJ23_copyOf_3_3 rfl (fun _ => ?_) (fun _ => ?_)
  · refine tj_iload_n dJ23_copyOf_3_6 rfl ?_
    refine tj_newO q1804 dJ23_copyOf_3_7 (fun a102 σ => ?_)
    refine tj_goto 24 dJ23_copyOf_3_10 rfl ?_
    refine tj_astore_n dJ23_copyOf_3_24 (by decide) (rf_cat _) [some (va_rf v0), some (.int v1), some (va_rf v2), some (va_rf (some a102))] rfl ?_
    refine tj_aload_n dJ23_copyOf_3_25 rfl ?_
    refine tj_iconst (0 : Int32) dJ23_copyOf_3_26 rfl ?_
    refine tj_aload_n dJ23_copyOf_3_27 rfl ?_
    refine tj_iconst (0 : Int32) dJ23_copyOf_3_28 rfl ?_
    refine tj_aload_n dJ23_copyOf_3_29 rfl ?_
    refine tj_alen dJ23_copyOf_3_30 (fun v103 => ?_)
    refine tj_iload_n dJ23_copyOf_3_31 rfl ?_
    refine tj_mmin q648 (by simp [rf_cat, cat_i, cat_l, cat_f, cat_d]) dJ23_copyOf_3_32 ?_
    refine tj_copy104 q651 (by decide) dJ23_copyOf_3_35 (fun σ => ?_)
    refine tj_aload_n dJ23_copyOf_3_38 rfl ?_
    exact tj_aret (Or.inr ⟨_, rfl⟩) dJ23_copyOf_3_39
  · refine tj_aload_n dJ23_copyOf_3_13 rfl ?_
    exact tj_fail
theorem ct_J23_copyOf_3 : ∀ (d : Nat) (v0 : Option Nat) (v1 : Int32) (v2 : Option Nat), ct_ yJ23_copyOf_3 (ws_ yJ23_copyOf_3 cJ23_copyOf_3 4 (some (.array (.object "java/lang/Object")))) d em_r [va_rf v0, .int v1, va_rf v2] (fn_J23_copyOf_3 d v0 v1 v2)
  | 0, _, _, _ => ct_fail
  | d + 1, v0, v1, v2 => ct_of [(false, va_rf v0), (false, .int v1), (false, va_rf v2)] [some (va_rf v0), some (.int v1), some (va_rf v2), none] (by decide) rfl ⟨rfl, (rf_cat _), ⟨rfl, rfl, ⟨rfl, (rf_cat _), trivial⟩⟩⟩ (fun E X n0 s0 σ => tj_J23_copyOf_3_B0 d v0 v1 v2 σ)
theorem tj_J23_copyOf_2_B0 {E : tj_E} {X : tj_X} {n0 s0 : Nat} (d : Nat) (v0 : Option Nat) (v1 : Int32) (σ : hp_S) : tj_T E X RJ23 "copyOf" cJ23_copyOf_2 2 (some (.array (.object "java/lang/Object"))) (d + 1) [] n0 s0 em_r σ 0 [some (va_rf v0), some (.int v1)] [] (fn_J23_copyOf_2_B0 d v0 v1) := by
  unfold fn_J23_copyOf_2_B0
  refine tj_aload_n dJ23_copyOf_2_0 rfl ?_
  refine tj_iload_n dJ23_copyOf_2_1 rfl ?_
  refine tj_aload_n dJ23_copyOf_2_2 rfl ?_
  refine tj_getClass q1798 (by simp [rf_cat, cat_i, cat_l, cat_f, cat_d]) dJ23_copyOf_2_3 (fun v101 => ?_)
  refine tj_callS (as := [va_rf v0, .int v1, va_rf v101]) (rest := []) (st' := (fun r => [va_rf r])) (ct_J23_copyOf_3 d v0 v1 v101) q1799 q1800 q123 q1801 md_J23_copyOf_3 rfl (by decide) rfl (by decide) dJ23_copyOf_2_6 (fun _ => rfl) (fun r102 σ => ?_) (by decide)
  exact tj_aret (Or.inr ⟨_, rfl⟩) dJ23_copyOf_2_9
theorem ct_J23_copyOf_2 : ∀ (d : Nat) (v0 : Option Nat) (v1 : Int32), ct_ yJ23_copyOf_2 (ws_ yJ23_copyOf_2 cJ23_copyOf_2 2 (some (.array (.object "java/lang/Object")))) d em_r [va_rf v0, .int v1] (fn_J23_copyOf_2 d v0 v1)
  | 0, _, _ => ct_fail
  | d + 1, v0, v1 => ct_of [(false, va_rf v0), (false, .int v1)] [some (va_rf v0), some (.int v1)] (by decide) rfl ⟨rfl, (rf_cat _), ⟨rfl, rfl, trivial⟩⟩ (fun E X n0 s0 σ => tj_J23_copyOf_2_B0 d v0 v1 σ)
theorem tj_J21_newLength_B0 {E : tj_E} {X : tj_X} {n0 s0 : Nat} (d : Nat) (v0 : Int32) (v1 : Int32) (v2 : Int32) (σ : hp_S) : tj_T E X RJ21 "newLength" cJ21_newLength 4 (some .int) (d + 1) [] n0 s0 em_i σ 0 [some (.int v0), some (.int v1), some (.int v2), none] [] (fn_J21_newLength_B0 d v0 v1 v2) := by
  unfold fn_J21_newLength_B0
  refine tj_iload_n dJ21_newLength_0 rfl ?_
  refine tj_iload_n dJ21_newLength_1 rfl ?_
  refine tj_iload_n dJ21_newLength_2 rfl ?_
  refine tj_mmax q630 (by simp [rf_cat, cat_i, cat_l, cat_f, cat_d]) dJ21_newLength_3 ?_
  refine tj_iadd dJ21_newLength_6 ?_
  refine tj_topi (fun v101 => ?_)
  refine tj_istore_n dJ21_newLength_7 (by decide) rfl [some (.int v0), some (.int v1), some (.int v2), some (.int v101)] rfl ?_
  refine tj_iconst (0 : Int32) dJ21_newLength_8 rfl ?_
  refine tj_iload_n dJ21_newLength_9 rfl ?_
  refine tj_icmp_ge 21 dJ21_newLength_10 rfl (fun _ => ?_) (fun _ => ?_)
  · refine tj_iload_n dJ21_newLength_21 rfl ?_
    refine tj_iload_n dJ21_newLength_22 rfl ?_
    exact tj_fail
  · refine tj_iload_n dJ21_newLength_13 rfl ?_
    refine tj_ldc (v := (2147483639 : Int32)) dJ21_newLength_14 q633 ?_
    refine tj_icmp_gt 21 dJ21_newLength_16 rfl (fun _ => ?_) (fun _ => ?_)
    · refine tj_iload_n dJ21_newLength_21 rfl ?_
      refine tj_iload_n dJ21_newLength_22 rfl ?_
      exact tj_fail
    · refine tj_iload_n dJ21_newLength_19 rfl ?_
      exact tj_iret dJ21_newLength_20
theorem ct_J21_newLength : ∀ (d : Nat) (v0 : Int32) (v1 : Int32) (v2 : Int32), ct_ yJ21_newLength (ws_ yJ21_newLength cJ21_newLength 4 (some .int)) d em_i [.int v0, .int v1, .int v2] (fn_J21_newLength d v0 v1 v2)
  | 0, _, _, _ => ct_fail
  | d + 1, v0, v1, v2 => ct_of [(false, .int v0), (false, .int v1), (false, .int v2)] [some (.int v0), some (.int v1), some (.int v2), none] (by decide) rfl ⟨rfl, rfl, ⟨rfl, rfl, ⟨rfl, rfl, trivial⟩⟩⟩ (fun E X n0 s0 σ => tj_J21_newLength_B0 d v0 v1 v2 σ)
theorem tj_J4_grow_2_J20 {E : tj_E} {X : tj_X} {n0 s0 : Nat} (d : Nat) (l0 : Option Nat) (l1 : Int32) (l2 : Int32) (σ : hp_S) : tj_T E X RJ4 "grow" cJ4_grow_2 4 (some (.array (.object "java/lang/Object"))) (d + 1) [] n0 s0 em_r σ 20 [some (va_rf l0), some (.int l1), some (.int l2), none] [] (fn_J4_grow_2_J20 d l0 l1 l2) := by
  unfold fn_J4_grow_2_J20
  refine tj_iload_n dJ4_grow_2_20 rfl ?_
  refine tj_iload_n dJ4_grow_2_21 rfl ?_
  refine tj_iload_n dJ4_grow_2_22 rfl ?_
  refine tj_isub dJ4_grow_2_23 ?_
  refine tj_iload_n dJ4_grow_2_24 rfl ?_
  refine tj_iconst (1 : Int32) dJ4_grow_2_25 rfl ?_
  refine tj_ishr dJ4_grow_2_26 ?_
  refine tj_callS (as := [.int l2, .int (l1 - l2), .int (l2 >>> ((1 : Int32) &&& 31))]) (rest := []) (st' := (fun r => [.int r])) (ct_J21_newLength d l2 _ _) q1794 q628 q121 q629 md_J21_newLength rfl (by decide) rfl (by decide) dJ4_grow_2_27 (fun _ => rfl) (fun r101 σ => ?_) (by decide)
  refine tj_istore_n dJ4_grow_2_30 (by decide) rfl [some (va_rf l0), some (.int l1), some (.int l2), some (.int r101)] rfl ?_
  refine tj_aload_n dJ4_grow_2_31 rfl ?_
  refine tj_aload_n dJ4_grow_2_32 rfl ?_
  refine tj_getR fl_J4_9 dJ4_grow_2_33 (fun v102 => ?_)
  refine tj_iload_n dJ4_grow_2_36 rfl ?_
  refine tj_callS (as := [va_rf v102, .int r101]) (rest := [va_rf l0]) (st' := (fun r => [va_rf r, va_rf l0])) (ct_J23_copyOf_2 d v102 r101) q1795 q1796 q123 q1797 md_J23_copyOf_2 rfl (by decide) rfl (by simp [rf_cat, cat_i, cat_l, cat_f, cat_d]) dJ4_grow_2_37 (fun _ => rfl) (fun r103 σ => ?_) (by decide)
  refine tj_dup_x1 dJ4_grow_2_40 (rf_cat _) (rf_cat _) ?_
  refine tj_put fl_J4_9 (nar_rf _) (fit_rfa _) dJ4_grow_2_41 (fun σ => ?_)
  exact tj_aret (Or.inr ⟨_, rfl⟩) dJ4_grow_2_44
theorem tj_J4_grow_2_B0 {E : tj_E} {X : tj_X} {n0 s0 : Nat} (d : Nat) (v0 : Option Nat) (v1 : Int32) (σ : hp_S) : tj_T E X RJ4 "grow" cJ4_grow_2 4 (some (.array (.object "java/lang/Object"))) (d + 1) [] n0 s0 em_r σ 0 [some (va_rf v0), some (.int v1), none, none] [] (fn_J4_grow_2_B0 d v0 v1) := by
  unfold fn_J4_grow_2_B0
  refine tj_aload_n dJ4_grow_2_0 rfl ?_
  refine tj_getR fl_J4_9 dJ4_grow_2_1 (fun v101 => ?_)
  refine tj_alen dJ4_grow_2_4 (fun v102 => ?_)
  refine tj_istore_n dJ4_grow_2_5 (by decide) rfl [some (va_rf v0), some (.int v1), some (.int v102), none] rfl ?_
  refine tj_iload_n dJ4_grow_2_6 rfl ?_
  refine tj_if_gt 20 dJ4_grow_2_7 rfl (fun _ => ?_) (fun _ => ?_)
  · exact tj_J4_grow_2_J20 d v0 v1 v102 _
  · refine tj_aload_n dJ4_grow_2_10 rfl ?_
    refine tj_getR fl_J4_9 dJ4_grow_2_11 (fun v103 => ?_)
    refine tj_gets (ev_s 0 rfl) q246 dJ4_grow_2_14 (fun v104 => ?_)
    refine tj_acmp_eq 45 dJ4_grow_2_17 rfl (fun _ => ?_) (fun _ => ?_)
    · refine tj_aload_n dJ4_grow_2_45 rfl ?_
      refine tj_bipush (10 : Int32) dJ4_grow_2_46 (by decide) ?_
      refine tj_iload_n dJ4_grow_2_48 rfl ?_
      refine tj_mmax q1805 (by simp [rf_cat, cat_i, cat_l, cat_f, cat_d]) dJ4_grow_2_49 ?_
      refine tj_newO q1806 dJ4_grow_2_52 (fun a105 σ => ?_)
      refine tj_dup_x1 dJ4_grow_2_55 (rf_cat _) (rf_cat _) ?_
      refine tj_put fl_J4_9 (nar_rf _) (fit_rfa _) dJ4_grow_2_56 (fun σ => ?_)
      exact tj_aret (Or.inr ⟨_, rfl⟩) dJ4_grow_2_59
    · exact tj_J4_grow_2_J20 d v0 v1 v102 _
theorem ct_J4_grow_2 : ∀ (d : Nat) (v0 : Option Nat) (v1 : Int32), ct_ yJ4_grow_2 (ws_ yJ4_grow_2 cJ4_grow_2 4 (some (.array (.object "java/lang/Object")))) d em_r [va_rf v0, .int v1] (fn_J4_grow_2 d v0 v1)
  | 0, _, _ => ct_fail
  | d + 1, v0, v1 => ct_of [(false, va_rf v0), (false, .int v1)] [some (va_rf v0), some (.int v1), none, none] (by decide) rfl ⟨rfl, (rf_cat _), ⟨rfl, rfl, trivial⟩⟩ (fun E X n0 s0 σ => tj_J4_grow_2_B0 d v0 v1 σ)
theorem tj_J4_grow_B0 {E : tj_E} {X : tj_X} {n0 s0 : Nat} (d : Nat) (v0 : Option Nat) (σ : hp_S) : tj_T E X RJ4 "grow" cJ4_grow 1 (some (.array (.object "java/lang/Object"))) (d + 1) [] n0 s0 em_r σ 0 [some (va_rf v0)] [] (fn_J4_grow_B0 d v0) := by
  unfold fn_J4_grow_B0
  refine tj_aload_n dJ4_grow_0 rfl ?_
  refine tj_aload_n dJ4_grow_1 rfl ?_
  refine tj_getI fl_J4_48 dJ4_grow_2 (fun v101 => ?_)
  refine tj_iconst (1 : Int32) dJ4_grow_5 rfl ?_
  refine tj_iadd dJ4_grow_6 ?_
  refine tj_callV (as := [.int (v101 + (1 : Int32))]) (rest := []) (st' := (fun r => [va_rf r])) (t := 16) (fun a e => by cases e; exact ct_J4_grow_2 d _ _) (by decide) rfl q1790 q1792 qs17 q103 q1793 rfl md_J4_grow_2 rfl (by decide) rfl (by decide) dJ4_grow_7 (fun _ => rfl) (fun r102 σ => ?_) (by decide)
  exact tj_aret (Or.inr ⟨_, rfl⟩) dJ4_grow_10
theorem ct_J4_grow : ∀ (d : Nat) (v0 : Option Nat), ct_ yJ4_grow (ws_ yJ4_grow cJ4_grow 1 (some (.array (.object "java/lang/Object")))) d em_r [va_rf v0] (fn_J4_grow d v0)
  | 0, _ => ct_fail
  | d + 1, v0 => ct_of [(false, va_rf v0)] [some (va_rf v0)] (by decide) rfl ⟨rfl, (rf_cat _), trivial⟩ (fun E X n0 s0 σ => tj_J4_grow_B0 d v0 σ)
theorem tj_J4_rangeCheckForAdd_B0 {E : tj_E} {X : tj_X} {n0 s0 : Nat} (d : Nat) (v0 : Option Nat) (v1 : Int32) (σ : hp_S) : tj_T E X RJ4 "rangeCheckForAdd" cJ4_rangeCheckForAdd 2 none (d + 1) [] n0 s0 em_v σ 0 [some (va_rf v0), some (.int v1)] [] (fn_J4_rangeCheckForAdd_B0 d v0 v1) := by
  unfold fn_J4_rangeCheckForAdd_B0
  refine tj_iload_n dJ4_rangeCheckForAdd_0 rfl ?_
  refine tj_aload_n dJ4_rangeCheckForAdd_1 rfl ?_
  refine tj_getI fl_J4_48 dJ4_rangeCheckForAdd_2 (fun v101 => ?_)
  refine tj_icmp_gt 12 dJ4_rangeCheckForAdd_5 rfl (fun _ => ?_) (fun _ => ?_)
  · exact tj_fail
  · refine tj_iload_n dJ4_rangeCheckForAdd_8 rfl ?_
    refine tj_if_ge 25 dJ4_rangeCheckForAdd_9 rfl (fun _ => ?_) (fun _ => ?_)
    · exact tj_vret dJ4_rangeCheckForAdd_25
    · exact tj_fail
theorem ct_J4_rangeCheckForAdd : ∀ (d : Nat) (v0 : Option Nat) (v1 : Int32), ct_ yJ4_rangeCheckForAdd (ws_ yJ4_rangeCheckForAdd cJ4_rangeCheckForAdd 2 none) d em_v [va_rf v0, .int v1] (fn_J4_rangeCheckForAdd d v0 v1)
  | 0, _, _ => ct_fail
  | d + 1, v0, v1 => ct_of [(false, va_rf v0), (false, .int v1)] [some (va_rf v0), some (.int v1)] (by decide) rfl ⟨rfl, (rf_cat _), ⟨rfl, rfl, trivial⟩⟩ (fun E X n0 s0 σ => tj_J4_rangeCheckForAdd_B0 d v0 v1 σ)
theorem tj_J4_add_3_J38 {E : tj_E} {X : tj_X} {n0 s0 : Nat} (d : Nat) (l0 : Option Nat) (l1 : Int32) (l2 : Option Nat) (l3 : Int32) (l4 : Option Nat) (σ : hp_S) : tj_T E X RJ4 "add" cJ4_add_3 5 none (d + 1) [] n0 s0 em_v σ 38 [some (va_rf l0), some (.int l1), some (va_rf l2), some (.int l3), some (va_rf l4)] [] (fn_J4_add_3_J38 d l0 l1 l2 l3 l4) := by
  unfold fn_J4_add_3_J38
  refine tj_aload dJ4_add_3_38 rfl ?_
  refine tj_iload_n dJ4_add_3_40 rfl ?_
  refine tj_aload dJ4_add_3_41 rfl ?_
  refine tj_iload_n dJ4_add_3_43 rfl ?_
  refine tj_iconst (1 : Int32) dJ4_add_3_44 rfl ?_
  refine tj_iadd dJ4_add_3_45 ?_
  refine tj_iload_n dJ4_add_3_46 rfl ?_
  refine tj_iload_n dJ4_add_3_47 rfl ?_
  refine tj_isub dJ4_add_3_48 ?_
  refine tj_copy104 q2171 (by decide) dJ4_add_3_49 (fun σ => ?_)
  refine tj_aload dJ4_add_3_52 rfl ?_
  refine tj_iload_n dJ4_add_3_54 rfl ?_
  refine tj_aload_n dJ4_add_3_55 rfl ?_
  refine tj_aast dJ4_add_3_56 (fun σ => ?_)
  refine tj_aload_n dJ4_add_3_57 rfl ?_
  refine tj_iload_n dJ4_add_3_58 rfl ?_
  refine tj_iconst (1 : Int32) dJ4_add_3_59 rfl ?_
  refine tj_iadd dJ4_add_3_60 ?_
  refine tj_put fl_J4_48 rfl rfl dJ4_add_3_61 (fun σ => ?_)
  exact tj_vret dJ4_add_3_64
theorem tj_J4_add_3_B0 {E : tj_E} {X : tj_X} {n0 s0 : Nat} (d : Nat) (v0 : Option Nat) (v1 : Int32) (v2 : Option Nat) (σ : hp_S) : tj_T E X RJ4 "add" cJ4_add_3 5 none (d + 1) [] n0 s0 em_v σ 0 [some (va_rf v0), some (.int v1), some (va_rf v2), none, none] [] (fn_J4_add_3_B0 d v0 v1 v2) := by
  unfold fn_J4_add_3_B0
  refine tj_aload_n dJ4_add_3_0 rfl ?_
  refine tj_iload_n dJ4_add_3_1 rfl ?_
  refine tj_callV (as := [.int v1]) (rest := []) (st' := (fun _ => [])) (t := 16) (fun a e => by cases e; exact ct_J4_rangeCheckForAdd d _ _) (by decide) rfl q547 q549 qs1 q103 q550 rfl md_J4_rangeCheckForAdd rfl (by decide) rfl (by decide) dJ4_add_3_2 (fun _ => rfl) (fun _ σ => ?_) (by decide)
  refine tj_aload_n dJ4_add_3_5 rfl ?_
  refine tj_dup dJ4_add_3_6 (rf_cat _) ?_
  refine tj_getI fl_J4_63 dJ4_add_3_7 (fun v101 => ?_)
  refine tj_iconst (1 : Int32) dJ4_add_3_10 rfl ?_
  refine tj_iadd dJ4_add_3_11 ?_
  refine tj_put fl_J4_63 rfl rfl dJ4_add_3_12 (fun σ => ?_)
  refine tj_aload_n dJ4_add_3_15 rfl ?_
  refine tj_getI fl_J4_48 dJ4_add_3_16 (fun v102 => ?_)
  refine tj_dup dJ4_add_3_19 rfl ?_
  refine tj_istore_n dJ4_add_3_20 (by decide) (rf_cat _) [some (va_rf v0), some (.int v1), some (va_rf v2), some (.int v102), none] rfl ?_
  refine tj_aload_n dJ4_add_3_21 rfl ?_
  refine tj_getR fl_J4_9 dJ4_add_3_22 (fun v103 => ?_)
  refine tj_dup dJ4_add_3_25 (rf_cat _) ?_
  refine tj_astore dJ4_add_3_26 (by decide) rfl [some (va_rf v0), some (.int v1), some (va_rf v2), some (.int v102), some (va_rf v103)] rfl ?_
  refine tj_alen dJ4_add_3_28 (fun v104 => ?_)
  refine tj_icmp_ne 38 dJ4_add_3_29 rfl (fun _ => ?_) (fun _ => ?_)
  · refine tj_aload_n dJ4_add_3_32 rfl ?_
    refine tj_callV (as := []) (rest := []) (st' := (fun r => [va_rf r])) (t := 16) (fun a e => by cases e; exact ct_J4_grow d _) (by decide) rfl q1786 q1788 qs16 q103 q1789 rfl md_J4_grow rfl (by decide) rfl (by decide) dJ4_add_3_33 (fun _ => rfl) (fun r105 σ => ?_) (by decide)
    refine tj_astore dJ4_add_3_36 (by decide) rfl [some (va_rf v0), some (.int v1), some (va_rf v2), some (.int v102), some (va_rf r105)] rfl ?_
    exact tj_J4_add_3_J38 d v0 v1 v2 v102 r105 _
  · exact tj_J4_add_3_J38 d v0 v1 v2 v102 v103 _
theorem ct_J4_add_3 : ∀ (d : Nat) (v0 : Option Nat) (v1 : Int32) (v2 : Option Nat), ct_ yJ4_add_3 (ws_ yJ4_add_3 cJ4_add_3 5 none) d em_v [va_rf v0, .int v1, va_rf v2] (fn_J4_add_3 d v0 v1 v2)
  | 0, _, _, _ => ct_fail
  | d + 1, v0, v1, v2 => ct_of [(false, va_rf v0), (false, .int v1), (false, va_rf v2)] [some (va_rf v0), some (.int v1), some (va_rf v2), none, none] (by decide) rfl ⟨rfl, (rf_cat _), ⟨rfl, rfl, ⟨rfl, (rf_cat _), trivial⟩⟩⟩ (fun E X n0 s0 σ => tj_J4_add_3_B0 d v0 v1 v2 σ)
theorem tj_J33_hasNext_B0 {E : tj_E} {X : tj_X} {n0 s0 : Nat} (d : Nat) (v0 : Option Nat) (σ : hp_S) : tj_T E X RJ33 "hasNext" cJ33_hasNext 1 (some .boolean) (d + 1) [] n0 s0 em_i σ 0 [some (va_rf v0)] [] (fn_J33_hasNext_B0 d v0) := by
  unfold fn_J33_hasNext_B0
  refine tj_aload_n dJ33_hasNext_0 rfl ?_
  refine tj_getR fl_J33_26 dJ33_hasNext_1 (fun v101 => ?_)
  refine tj_ifnull 11 dJ33_hasNext_4 rfl (fun _ => ?_) (fun _ _ => ?_)
  · refine tj_iconst (0 : Int32) dJ33_hasNext_11 rfl ?_
    exact tj_zpure rfl dJ33_hasNext_12
  · refine tj_iconst (1 : Int32) dJ33_hasNext_7 rfl ?_
    refine tj_goto 12 dJ33_hasNext_8 rfl ?_
    exact tj_zpure rfl dJ33_hasNext_12
theorem ct_J33_hasNext : ∀ (d : Nat) (v0 : Option Nat), ct_ yJ33_hasNext (ws_ yJ33_hasNext cJ33_hasNext 1 (some .boolean)) d em_i [va_rf v0] (fn_J33_hasNext d v0)
  | 0, _ => ct_fail
  | d + 1, v0 => ct_of [(false, va_rf v0)] [some (va_rf v0)] (by decide) rfl ⟨rfl, (rf_cat _), trivial⟩ (fun E X n0 s0 σ => tj_J33_hasNext_B0 d v0 σ)
theorem tj_J1_successor_L18_b {E : tj_E} {X : tj_X} {n0 s0 : Nat} (d : Nat) {b18 : Option Nat → mx_M (Option Nat)} (h18 : ∀ (l1 : Option Nat) (σ : hp_S), tj_T E X RJ1 "successor" cJ1_successor 3 (some (.object "java/util/TreeMap$Entry")) (d + 1) [] n0 s0 em_r σ 18 [none, some (va_rf l1), none] [] (b18 l1)) (l1 : Option Nat) (σ : hp_S) : tj_T E X RJ1 "successor" cJ1_successor 3 (some (.object "java/util/TreeMap$Entry")) (d + 1) [] n0 s0 em_r σ 18 [none, some (va_rf l1), none] [] (fn_J1_successor_L18_b d b18 l1) := by
  unfold fn_J1_successor_L18_b
  refine tj_aload_n dJ1_successor_18 rfl ?_
  refine tj_getR fl_J1_111 dJ1_successor_19 (fun v101 => ?_)
  refine tj_ifnull 33 dJ1_successor_22 rfl (fun _ => ?_) (fun _ _ => ?_)
  · refine tj_aload_n dJ1_successor_33 rfl ?_
    exact tj_aret (Or.inl ⟨_, rfl⟩) dJ1_successor_34
  · refine tj_aload_n dJ1_successor_25 rfl ?_
    refine tj_getR fl_J1_111 dJ1_successor_26 (fun v102 => ?_)
    refine tj_astore_n dJ1_successor_29 (by decide) trivial [none, some (va_rf v102), none] rfl ?_
    refine tj_goto 18 dJ1_successor_30 rfl ?_
    exact h18 v102 _
theorem tj_J1_successor_L18 {E : tj_E} {X : tj_X} {n0 s0 : Nat} (d : Nat) : ∀ (k : Nat) (l1 : Option Nat) (σ : hp_S), tj_T E X RJ1 "successor" cJ1_successor 3 (some (.object "java/util/TreeMap$Entry")) (d + 1) [] n0 s0 em_r σ 18 [none, some (va_rf l1), none] [] (fn_J1_successor_L18 d k l1) := by
  intro k
  induction k with
  | zero =>
    intro l1 σ
    exact tj_fail
  | succ k ih =>
    intro l1 σ
    exact tj_J1_successor_L18_b d ih l1 σ
theorem tj_J1_successor_L42_b {E : tj_E} {X : tj_X} {n0 s0 : Nat} (d : Nat) {b42 : Option Nat → Option Nat → mx_M (Option Nat)} (h42 : ∀ (l1 : Option Nat) (l2 : Option Nat) (σ : hp_S), tj_T E X RJ1 "successor" cJ1_successor 3 (some (.object "java/util/TreeMap$Entry")) (d + 1) [] n0 s0 em_r σ 42 [none, some (va_rf l1), some (va_rf l2)] [] (b42 l1 l2)) (l1 : Option Nat) (l2 : Option Nat) (σ : hp_S) : tj_T E X RJ1 "successor" cJ1_successor 3 (some (.object "java/util/TreeMap$Entry")) (d + 1) [] n0 s0 em_r σ 42 [none, some (va_rf l1), some (va_rf l2)] [] (fn_J1_successor_L42_b d b42 l1 l2) := by
  unfold fn_J1_successor_L42_b
  refine tj_aload_n dJ1_successor_42 rfl ?_
  refine tj_ifnull 64 dJ1_successor_43 rfl (fun _ => ?_) (fun _ _ => ?_)
  · refine tj_aload_n dJ1_successor_64 rfl ?_
    exact tj_aret (Or.inl ⟨_, rfl⟩) dJ1_successor_65
  · refine tj_aload_n dJ1_successor_46 rfl ?_
    refine tj_aload_n dJ1_successor_47 rfl ?_
    refine tj_getR fl_J1_114 dJ1_successor_48 (fun v101 => ?_)
    refine tj_acmp_ne 64 dJ1_successor_51 rfl (fun _ => ?_) (fun _ => ?_)
    · refine tj_aload_n dJ1_successor_54 rfl ?_
      refine tj_astore_n dJ1_successor_55 (by decide) (rf_cat _) [none, some (va_rf l1), some (va_rf l1)] rfl ?_
      refine tj_aload_n dJ1_successor_56 rfl ?_
      refine tj_getR fl_J1_124 dJ1_successor_57 (fun v102 => ?_)
      refine tj_astore_n dJ1_successor_60 (by decide) trivial [none, some (va_rf v102), some (va_rf l1)] rfl ?_
      refine tj_goto 42 dJ1_successor_61 rfl ?_
      exact h42 v102 l1 _
    · refine tj_aload_n dJ1_successor_64 rfl ?_
      exact tj_aret (Or.inl ⟨_, rfl⟩) dJ1_successor_65
theorem tj_J1_successor_L42 {E : tj_E} {X : tj_X} {n0 s0 : Nat} (d : Nat) : ∀ (k : Nat) (l1 : Option Nat) (l2 : Option Nat) (σ : hp_S), tj_T E X RJ1 "successor" cJ1_successor 3 (some (.object "java/util/TreeMap$Entry")) (d + 1) [] n0 s0 em_r σ 42 [none, some (va_rf l1), some (va_rf l2)] [] (fn_J1_successor_L42 d k l1 l2) := by
  intro k
  induction k with
  | zero =>
    intro l1 l2 σ
    exact tj_fail
  | succ k ih =>
    intro l1 l2 σ
    exact tj_J1_successor_L42_b d ih l1 l2 σ
theorem tj_J1_successor_B0 {E : tj_E} {X : tj_X} {n0 s0 : Nat} (d : Nat) (v0 : Option Nat) (σ : hp_S) : tj_T E X RJ1 "successor" cJ1_successor 3 (some (.object "java/util/TreeMap$Entry")) (d + 1) [] n0 s0 em_r σ 0 [some (va_rf v0), none, none] [] (fn_J1_successor_B0 d v0) := by
  unfold fn_J1_successor_B0
  refine tj_aload_n dJ1_successor_0 rfl ?_
  refine tj_ifnonnull 6 dJ1_successor_1 rfl (fun _ => ?_) (fun _ _ => ?_)
  · refine tj_null dJ1_successor_4 ?_
    exact tj_aret (Or.inl ⟨_, rfl⟩) dJ1_successor_5
  · refine tj_aload_n dJ1_successor_6 rfl ?_
    refine tj_getR fl_J1_114 dJ1_successor_7 (fun v101 => ?_)
    refine tj_ifnull 35 dJ1_successor_10 rfl (fun _ => ?_) (fun _ _ => ?_)
    · refine tj_aload_n dJ1_successor_35 rfl ?_
      refine tj_getR fl_J1_124 dJ1_successor_36 (fun v102 => ?_)
      refine tj_astore_n dJ1_successor_39 (by decide) (rf_cat _) [some (va_rf v0), some (va_rf v102), none] rfl ?_
      refine tj_aload_n dJ1_successor_40 rfl ?_
      refine tj_astore_n dJ1_successor_41 (by decide) (rf_cat _) [some (va_rf v0), some (va_rf v102), some (va_rf v0)] rfl ?_
      refine tj_wk (L' := [none, some (va_rf v102), some (va_rf v0)]) ⟨rfl, rfl, trivial⟩ ?_
      exact tj_J1_successor_L42 d mx_K v102 v0 _
    · refine tj_aload_n dJ1_successor_13 rfl ?_
      refine tj_getR fl_J1_114 dJ1_successor_14 (fun v103 => ?_)
      refine tj_astore_n dJ1_successor_17 (by decide) (rf_cat _) [some (va_rf v0), some (va_rf v103), none] rfl ?_
      refine tj_wk (L' := [none, some (va_rf v103), none]) ⟨rfl, trivial⟩ ?_
      exact tj_J1_successor_L18 d mx_K v103 _
theorem ct_J1_successor : ∀ (d : Nat) (v0 : Option Nat), ct_ yJ1_successor (ws_ yJ1_successor cJ1_successor 3 (some (.object "java/util/TreeMap$Entry"))) d em_r [va_rf v0] (fn_J1_successor d v0)
  | 0, _ => ct_fail
  | d + 1, v0 => ct_of [(false, va_rf v0)] [some (va_rf v0), none, none] (by decide) rfl ⟨rfl, (rf_cat _), trivial⟩ (fun E X n0 s0 σ => tj_J1_successor_B0 d v0 σ)
theorem tj_J33_nextEntry_B0 {E : tj_E} {X : tj_X} {n0 s0 : Nat} (d : Nat) (v0 : Option Nat) (σ : hp_S) : tj_T E X RJ33 "nextEntry" cJ33_nextEntry 2 (some (.object "java/util/TreeMap$Entry")) (d + 1) [] n0 s0 em_r σ 0 [some (va_rf v0), none] [] (fn_J33_nextEntry_B0 d v0) := by
  unfold fn_J33_nextEntry_B0
  refine tj_aload_n dJ33_nextEntry_0 rfl ?_
  refine tj_getR fl_J33_26 dJ33_nextEntry_1 (fun v101 => ?_)
  refine tj_astore_n dJ33_nextEntry_4 (by decide) (rf_cat _) [some (va_rf v0), some (va_rf v101)] rfl ?_
  refine tj_aload_n dJ33_nextEntry_5 rfl ?_
  refine tj_ifnonnull 17 dJ33_nextEntry_6 rfl (fun _ => ?_) (fun _ _ => ?_)
  · exact tj_fail
  · refine tj_aload_n dJ33_nextEntry_17 rfl ?_
    refine tj_getR fl_J33_1r dJ33_nextEntry_18 (fun v102 => ?_)
    refine tj_getI fl_J33_13 dJ33_nextEntry_21 (fun v103 => ?_)
    refine tj_aload_n dJ33_nextEntry_24 rfl ?_
    refine tj_getI fl_J33_19 dJ33_nextEntry_25 (fun v104 => ?_)
    refine tj_icmp_eq 39 dJ33_nextEntry_28 rfl (fun _ => ?_) (fun _ => ?_)
    · refine tj_aload_n dJ33_nextEntry_39 rfl ?_
      refine tj_aload_n dJ33_nextEntry_40 rfl ?_
      refine tj_callS (as := [va_rf v101]) (rest := [va_rf v0]) (st' := (fun r => [va_rf r, va_rf v0])) (ct_J1_successor d v101) q1408 q1409 q99 q1410 md_J1_successor rfl (by decide) rfl (by simp [rf_cat, cat_i, cat_l, cat_f, cat_d]) dJ33_nextEntry_41 (fun _ => rfl) (fun r105 σ => ?_) (by decide)
      refine tj_put fl_J33_26 (nar_rf _) (fit_rf _) dJ33_nextEntry_44 (fun σ => ?_)
      refine tj_aload_n dJ33_nextEntry_47 rfl ?_
      refine tj_aload_n dJ33_nextEntry_48 rfl ?_
      refine tj_put fl_J33_22 (nar_rf _) (fit_rf _) dJ33_nextEntry_49 (fun σ => ?_)
      refine tj_aload_n dJ33_nextEntry_52 rfl ?_
      exact tj_aret (Or.inl ⟨_, rfl⟩) dJ33_nextEntry_53
    · exact tj_fail
theorem ct_J33_nextEntry : ∀ (d : Nat) (v0 : Option Nat), ct_ yJ33_nextEntry (ws_ yJ33_nextEntry cJ33_nextEntry 2 (some (.object "java/util/TreeMap$Entry"))) d em_r [va_rf v0] (fn_J33_nextEntry d v0)
  | 0, _ => ct_fail
  | d + 1, v0 => ct_of [(false, va_rf v0)] [some (va_rf v0), none] (by decide) rfl ⟨rfl, (rf_cat _), trivial⟩ (fun E X n0 s0 σ => tj_J33_nextEntry_B0 d v0 σ)
theorem tj_J36_next_B0 {E : tj_E} {X : tj_X} {n0 s0 : Nat} (d : Nat) (v0 : Option Nat) (σ : hp_S) : tj_T E X RJ36 "next" cJ36_next 1 (some (.object "java/lang/Object")) (d + 1) [] n0 s0 em_r σ 0 [some (va_rf v0)] [] (fn_J36_next_B0 d v0) := by
  unfold fn_J36_next_B0
  refine tj_aload_n dJ36_next_0 rfl ?_
  refine tj_callU (as := []) (rest := []) (st' := (fun r => [va_rf r])) (x0 := ⟨"java/util/TreeMap$ValueIterator", "nextEntry", "()Ljava/util/TreeMap$Entry;"⟩) (owner := "java/util/TreeMap$PrivateEntryIterator") (t := 22) (fun a e => by cases e; exact ct_J33_nextEntry d _) (by decide) rfl q1424 q1425 q1426 q1404 q135 q1405 rfl md_o_java_util_TreeMap_PrivateEntryIterator_nextEntry rfl (by decide) rfl (by decide) dJ36_next_1 (fun _ => rfl) (fun r101 σ => ?_) (by decide)
  refine tj_getR fl_J36_13 dJ36_next_4 (fun v102 => ?_)
  exact tj_aret (Or.inl ⟨_, rfl⟩) dJ36_next_7
theorem ct_J36_next : ∀ (d : Nat) (v0 : Option Nat), ct_ yJ36_next (ws_ yJ36_next cJ36_next 1 (some (.object "java/lang/Object"))) d em_r [va_rf v0] (fn_J36_next d v0)
  | 0, _ => ct_fail
  | d + 1, v0 => ct_of [(false, va_rf v0)] [some (va_rf v0)] (by decide) rfl ⟨rfl, (rf_cat _), trivial⟩ (fun E X n0 s0 σ => tj_J36_next_B0 d v0 σ)
theorem tj_J1_getFirstEntry_L9_b {E : tj_E} {X : tj_X} {n0 s0 : Nat} (d : Nat) {b9 : Option Nat → mx_M (Option Nat)} (h9 : ∀ (l1 : Option Nat) (σ : hp_S), tj_T E X RJ1 "getFirstEntry" cJ1_getFirstEntry 2 (some (.object "java/util/TreeMap$Entry")) (d + 1) [] n0 s0 em_r σ 9 [none, some (va_rf l1)] [] (b9 l1)) (l1 : Option Nat) (σ : hp_S) : tj_T E X RJ1 "getFirstEntry" cJ1_getFirstEntry 2 (some (.object "java/util/TreeMap$Entry")) (d + 1) [] n0 s0 em_r σ 9 [none, some (va_rf l1)] [] (fn_J1_getFirstEntry_L9_b d b9 l1) := by
  unfold fn_J1_getFirstEntry_L9_b
  refine tj_aload_n dJ1_getFirstEntry_9 rfl ?_
  refine tj_getR fl_J1_111 dJ1_getFirstEntry_10 (fun v101 => ?_)
  refine tj_ifnull 24 dJ1_getFirstEntry_13 rfl (fun _ => ?_) (fun _ _ => ?_)
  · refine tj_aload_n dJ1_getFirstEntry_24 rfl ?_
    exact tj_aret (Or.inl ⟨_, rfl⟩) dJ1_getFirstEntry_25
  · refine tj_aload_n dJ1_getFirstEntry_16 rfl ?_
    refine tj_getR fl_J1_111 dJ1_getFirstEntry_17 (fun v102 => ?_)
    refine tj_astore_n dJ1_getFirstEntry_20 (by decide) trivial [none, some (va_rf v102)] rfl ?_
    refine tj_goto 9 dJ1_getFirstEntry_21 rfl ?_
    exact h9 v102 _
theorem tj_J1_getFirstEntry_L9 {E : tj_E} {X : tj_X} {n0 s0 : Nat} (d : Nat) : ∀ (k : Nat) (l1 : Option Nat) (σ : hp_S), tj_T E X RJ1 "getFirstEntry" cJ1_getFirstEntry 2 (some (.object "java/util/TreeMap$Entry")) (d + 1) [] n0 s0 em_r σ 9 [none, some (va_rf l1)] [] (fn_J1_getFirstEntry_L9 d k l1) := by
  intro k
  induction k with
  | zero =>
    intro l1 σ
    exact tj_fail
  | succ k ih =>
    intro l1 σ
    exact tj_J1_getFirstEntry_L9_b d ih l1 σ
theorem tj_J1_getFirstEntry_B0 {E : tj_E} {X : tj_X} {n0 s0 : Nat} (d : Nat) (v0 : Option Nat) (σ : hp_S) : tj_T E X RJ1 "getFirstEntry" cJ1_getFirstEntry 2 (some (.object "java/util/TreeMap$Entry")) (d + 1) [] n0 s0 em_r σ 0 [some (va_rf v0), none] [] (fn_J1_getFirstEntry_B0 d v0) := by
  unfold fn_J1_getFirstEntry_B0
  refine tj_aload_n dJ1_getFirstEntry_0 rfl ?_
  refine tj_getR fl_J1_101 dJ1_getFirstEntry_1 (fun v101 => ?_)
  refine tj_astore_n dJ1_getFirstEntry_4 (by decide) (rf_cat _) [some (va_rf v0), some (va_rf v101)] rfl ?_
  refine tj_aload_n dJ1_getFirstEntry_5 rfl ?_
  refine tj_ifnull 24 dJ1_getFirstEntry_6 rfl (fun _ => ?_) (fun _ _ => ?_)
  · refine tj_aload_n dJ1_getFirstEntry_24 rfl ?_
    exact tj_aret (Or.inl ⟨_, rfl⟩) dJ1_getFirstEntry_25
  · refine tj_wk (L' := [none, some (va_rf v101)]) ⟨rfl, trivial⟩ ?_
    exact tj_J1_getFirstEntry_L9 d mx_K v101 _
theorem ct_J1_getFirstEntry : ∀ (d : Nat) (v0 : Option Nat), ct_ yJ1_getFirstEntry (ws_ yJ1_getFirstEntry cJ1_getFirstEntry 2 (some (.object "java/util/TreeMap$Entry"))) d em_r [va_rf v0] (fn_J1_getFirstEntry d v0)
  | 0, _ => ct_fail
  | d + 1, v0 => ct_of [(false, va_rf v0)] [some (va_rf v0), none] (by decide) rfl ⟨rfl, (rf_cat _), trivial⟩ (fun E X n0 s0 σ => tj_J1_getFirstEntry_B0 d v0 σ)
theorem tj_J33_init_B0 {E : tj_E} {X : tj_X} {n0 s0 : Nat} (d : Nat) (v0 : Option Nat) (v1 : Option Nat) (v2 : Option Nat) (σ : hp_S) : tj_T E X RJ33 "<init>" cJ33_init 3 none (d + 1) [] n0 s0 em_v σ 0 [some (va_rf v0), some (va_rf v1), some (va_rf v2)] [] (fn_J33_init_B0 d v0 v1 v2) := by
  unfold fn_J33_init_B0
  refine tj_aload_n dJ33_init_0 rfl ?_
  refine tj_aload_n dJ33_init_1 rfl ?_
  refine tj_putF fl_J33_1 (nar_rf _) (fit_rf _) dJ33_init_2 (fun σ => ?_)
  refine tj_aload_n dJ33_init_5 rfl ?_
  refine tj_objInit q976 q183 q184 (by decide) dJ33_init_6 (fun _ _ => ?_)
  refine tj_aload_n dJ33_init_9 rfl ?_
  refine tj_aload_n dJ33_init_10 rfl ?_
  refine tj_getI fl_J33_13 dJ33_init_11 (fun v102 => ?_)
  refine tj_put fl_J33_19 rfl rfl dJ33_init_14 (fun σ => ?_)
  refine tj_aload_n dJ33_init_17 rfl ?_
  refine tj_null dJ33_init_18 ?_
  refine tj_put fl_J33_22 (nar_rf _) (fit_rf _) dJ33_init_19 (fun σ => ?_)
  refine tj_aload_n dJ33_init_22 rfl ?_
  refine tj_aload_n dJ33_init_23 rfl ?_
  refine tj_put fl_J33_26 (nar_rf _) (fit_rf _) dJ33_init_24 (fun σ => ?_)
  exact tj_vret dJ33_init_27
theorem ct_J33_init : ∀ (d : Nat) (v0 : Option Nat) (v1 : Option Nat) (v2 : Option Nat), ct_ yJ33_init (ws_ yJ33_init cJ33_init 3 none) d em_v [va_rf v0, va_rf v1, va_rf v2] (fn_J33_init d v0 v1 v2)
  | 0, _, _, _ => ct_fail
  | d + 1, v0, v1, v2 => ct_of [(false, va_rf v0), (false, va_rf v1), (false, va_rf v2)] [some (va_rf v0), some (va_rf v1), some (va_rf v2)] (by decide) rfl ⟨rfl, (rf_cat _), ⟨rfl, (rf_cat _), ⟨rfl, (rf_cat _), trivial⟩⟩⟩ (fun E X n0 s0 σ => tj_J33_init_B0 d v0 v1 v2 σ)
theorem tj_J36_init_B0 {E : tj_E} {X : tj_X} {n0 s0 : Nat} (d : Nat) (v0 : Option Nat) (v1 : Option Nat) (v2 : Option Nat) (σ : hp_S) : tj_T E X RJ36 "<init>" cJ36_init 3 none (d + 1) [] n0 s0 em_v σ 0 [some (va_rf v0), some (va_rf v1), some (va_rf v2)] [] (fn_J36_init_B0 d v0 v1 v2) := by
  unfold fn_J36_init_B0
  refine tj_aload_n dJ36_init_0 rfl ?_
  refine tj_aload_n dJ36_init_1 rfl ?_
  refine tj_aload_n dJ36_init_2 rfl ?_
  refine tj_callI (as := [va_rf v1, va_rf v2]) (rest := []) (st' := (fun _ => [])) (fun a e => by cases e; exact ct_J33_init d _ _ _) q1029 q974 q135 q975 rfl md_J33_init rfl (by decide) rfl (by decide) dJ36_init_3 (fun _ => rfl) (fun _ σ => ?_) (by decide)
  exact tj_vret dJ36_init_6
theorem ct_J36_init : ∀ (d : Nat) (v0 : Option Nat) (v1 : Option Nat) (v2 : Option Nat), ct_ yJ36_init (ws_ yJ36_init cJ36_init 3 none) d em_v [va_rf v0, va_rf v1, va_rf v2] (fn_J36_init d v0 v1 v2)
  | 0, _, _, _ => ct_fail
  | d + 1, v0, v1, v2 => ct_of [(false, va_rf v0), (false, va_rf v1), (false, va_rf v2)] [some (va_rf v0), some (va_rf v1), some (va_rf v2)] (by decide) rfl ⟨rfl, (rf_cat _), ⟨rfl, (rf_cat _), ⟨rfl, (rf_cat _), trivial⟩⟩⟩ (fun E X n0 s0 σ => tj_J36_init_B0 d v0 v1 v2 σ)
theorem tj_J11_iterator_B0 {E : tj_E} {X : tj_X} {n0 s0 : Nat} (d : Nat) (v0 : Option Nat) (σ : hp_S) : tj_T E X RJ11 "iterator" cJ11_iterator 1 (some (.object "java/util/Iterator")) (d + 1) [] n0 s0 em_r σ 0 [some (va_rf v0)] [] (fn_J11_iterator_B0 d v0) := by
  unfold fn_J11_iterator_B0
  refine tj_new nw_J11_13 dJ11_iterator_0 (fun a101 σ => ?_)
  refine tj_dup dJ11_iterator_3 (rf_cat _) ?_
  refine tj_aload_n dJ11_iterator_4 rfl ?_
  refine tj_getR fl_J11_1r dJ11_iterator_5 (fun v102 => ?_)
  refine tj_aload_n dJ11_iterator_8 rfl ?_
  refine tj_getR fl_J11_1r dJ11_iterator_9 (fun v103 => ?_)
  refine tj_callV (as := []) (rest := [va_rf v102, va_rf (some a101), va_rf (some a101)]) (st' := (fun r => [va_rf r, va_rf v102, va_rf (some a101), va_rf (some a101)])) (t := 18) (fun a e => by cases e; exact ct_J1_getFirstEntry d _) (by decide) rfl q1025 q967 q968 q99 q969 rfl md_J1_getFirstEntry rfl (by decide) rfl (by simp [rf_cat, cat_i, cat_l, cat_f, cat_d]) dJ11_iterator_12 (fun _ => rfl) (fun r104 σ => ?_) (by decide)
  refine tj_callI (as := [va_rf v102, va_rf r104]) (rest := [va_rf (some a101)]) (st' := (fun _ => [va_rf (some a101)])) (fun a e => by cases e; exact ct_J36_init d _ _ _) q1026 q1027 q138 q1028 rfl md_J36_init rfl (by decide) rfl (by simp [rf_cat, cat_i, cat_l, cat_f, cat_d]) dJ11_iterator_15 (fun _ => rfl) (fun _ σ => ?_) (by decide)
  exact tj_aret (Or.inl ⟨_, rfl⟩) dJ11_iterator_18
theorem ct_J11_iterator : ∀ (d : Nat) (v0 : Option Nat), ct_ yJ11_iterator (ws_ yJ11_iterator cJ11_iterator 1 (some (.object "java/util/Iterator"))) d em_r [va_rf v0] (fn_J11_iterator d v0)
  | 0, _ => ct_fail
  | d + 1, v0 => ct_of [(false, va_rf v0)] [some (va_rf v0)] (by decide) rfl ⟨rfl, (rf_cat _), trivial⟩ (fun E X n0 s0 σ => tj_J11_iterator_B0 d v0 σ)
theorem tj_X12_init_J105 {E : tj_E} {X : tj_X} {n0 s0 : Nat} (d : Nat) {b36 : Option Nat → Option Nat → Option Nat → mx_M Unit} (h36 : ∀ (l0 : Option Nat) (l3 : Option Nat) (l4 : Option Nat) (σ : hp_S), tj_T E X RX12 "<init>" cX12_init 7 none (d + 1) [] n0 s0 em_v σ 36 [some (va_rf l0), none, none, some (va_rf l3), some (va_rf l4), none, none] [] (b36 l0 l3 l4)) (l0 : Option Nat) (l3 : Option Nat) (l4 : Option Nat) (l5 : Option Nat) (l6 : Int32) (σ : hp_S) : tj_T E X RX12 "<init>" cX12_init 7 none (d + 1) [] n0 s0 em_v σ 105 [some (va_rf l0), none, none, some (va_rf l3), some (va_rf l4), some (va_rf l5), some (.int l6)] [] (fn_X12_init_J105 d b36 l0 l3 l4 l5 l6) := by
  unfold fn_X12_init_J105
  refine tj_aload_n dX12_init_105 rfl ?_
  refine tj_getR fl_X12_10r dX12_init_106 (fun v101 => ?_)
  refine tj_iload dX12_init_109 rfl ?_
  refine tj_aload dX12_init_111 rfl ?_
  refine tj_callF (as := [.int l6, va_rf l5]) (rest := []) (st' := (fun _ => [])) (t := 16) (fun a e => by cases e; exact ct_J4_add_3 d _ _ _) (by decide) rfl q2767 q2166 q2168 q103 q2170 (ev_i 10 rfl) q2169 q2167 q1323 md_i10 rfl (by decide) rfl (by decide) dX12_init_113 (fun _ => rfl) (fun _ σ => ?_) (by decide)
  refine tj_goto 36 dX12_init_118 rfl ?_
  refine tj_wk (L' := [some (va_rf l0), none, none, some (va_rf l3), some (va_rf l4), none, none]) ⟨rfl, rfl, rfl, trivial⟩ ?_
  exact h36 l0 l3 l4 _
theorem tj_X12_init_L69_b {E : tj_E} {X : tj_X} {n0 s0 : Nat} (d : Nat) {b36 : Option Nat → Option Nat → Option Nat → mx_M Unit} {b69 : Option Nat → Option Nat → Option Nat → Option Nat → Int32 → mx_M Unit} (h36 : ∀ (l0 : Option Nat) (l3 : Option Nat) (l4 : Option Nat) (σ : hp_S), tj_T E X RX12 "<init>" cX12_init 7 none (d + 1) [] n0 s0 em_v σ 36 [some (va_rf l0), none, none, some (va_rf l3), some (va_rf l4), none, none] [] (b36 l0 l3 l4)) (h69 : ∀ (l0 : Option Nat) (l3 : Option Nat) (l4 : Option Nat) (l5 : Option Nat) (l6 : Int32) (σ : hp_S), tj_T E X RX12 "<init>" cX12_init 7 none (d + 1) [] n0 s0 em_v σ 69 [some (va_rf l0), none, none, some (va_rf l3), some (va_rf l4), some (va_rf l5), some (.int l6)] [] (b69 l0 l3 l4 l5 l6)) (l0 : Option Nat) (l3 : Option Nat) (l4 : Option Nat) (l5 : Option Nat) (l6 : Int32) (σ : hp_S) : tj_T E X RX12 "<init>" cX12_init 7 none (d + 1) [] n0 s0 em_v σ 69 [some (va_rf l0), none, none, some (va_rf l3), some (va_rf l4), some (va_rf l5), some (.int l6)] [] (fn_X12_init_L69_b d b36 b69 l0 l3 l4 l5 l6) := by
  unfold fn_X12_init_L69_b
  refine tj_iload dX12_init_69 rfl ?_
  refine tj_if_le 105 dX12_init_71 rfl (fun _ => ?_) (fun _ => ?_)
  · exact tj_X12_init_J105 d h36 l0 l3 l4 l5 l6 _
  · refine tj_aload_n dX12_init_74 rfl ?_
    refine tj_aload_n dX12_init_75 rfl ?_
    refine tj_getR fl_X12_10r dX12_init_76 (fun v101 => ?_)
    refine tj_iload dX12_init_79 rfl ?_
    refine tj_iconst (1 : Int32) dX12_init_81 rfl ?_
    refine tj_isub dX12_init_82 ?_
    refine tj_callF (as := [.int (l6 - (1 : Int32))]) (rest := [va_rf l3]) (st' := (fun r => [va_rf r, va_rf l3])) (t := 16) (fun a e => by cases e; exact ct_J4_get d _ _) (by decide) rfl q2764 q1324 q1120 q103 q1121 (ev_i 3 rfl) q1326 q1325 q1323 md_i3 rfl (by decide) rfl (by simp [rf_cat, cat_i, cat_l, cat_f, cat_d]) dX12_init_83 (fun _ => rfl) (fun r102 σ => ?_) (by decide)
    refine tj_cast (nm := "LionGate$Lion") q2760 ca_LionGate_Lion dX12_init_88 ?_
    refine tj_aload dX12_init_91 rfl ?_
    refine tj_callV (as := [va_rf r102, va_rf l5]) (rest := []) (st' := (fun r => [.int r])) (t := 9) (fun a e => by cases e; exact ct_X13_compare_2 d _ _ _) (by decide) rfl q2765 q1673 q1674 q164 q1675 rfl md_X13_compare_2 rfl (by decide) rfl (by decide) dX12_init_93 (fun _ => rfl) (fun r103 σ => ?_) (by decide)
    refine tj_if_le 105 dX12_init_96 rfl (fun _ => ?_) (fun _ => ?_)
    · exact tj_X12_init_J105 d h36 l0 l3 l4 l5 l6 _
    · refine tj_iinc (-1 : Int32) dX12_init_99 rfl rfl (by decide) (rf_cat _) [some (va_rf l0), none, none, some (va_rf l3), some (va_rf l4), some (va_rf l5), some (.int (l6 + (-1 : Int32)))] rfl ?_
      refine tj_goto 69 dX12_init_102 rfl ?_
      exact h69 l0 l3 l4 l5 _ _
theorem tj_X12_init_L69 {E : tj_E} {X : tj_X} {n0 s0 : Nat} (d : Nat) {b36 : Option Nat → Option Nat → Option Nat → mx_M Unit} (h36 : ∀ (l0 : Option Nat) (l3 : Option Nat) (l4 : Option Nat) (σ : hp_S), tj_T E X RX12 "<init>" cX12_init 7 none (d + 1) [] n0 s0 em_v σ 36 [some (va_rf l0), none, none, some (va_rf l3), some (va_rf l4), none, none] [] (b36 l0 l3 l4)) : ∀ (k : Nat) (l0 : Option Nat) (l3 : Option Nat) (l4 : Option Nat) (l5 : Option Nat) (l6 : Int32) (σ : hp_S), tj_T E X RX12 "<init>" cX12_init 7 none (d + 1) [] n0 s0 em_v σ 69 [some (va_rf l0), none, none, some (va_rf l3), some (va_rf l4), some (va_rf l5), some (.int l6)] [] (fn_X12_init_L69 d b36 k l0 l3 l4 l5 l6) := by
  intro k
  induction k with
  | zero =>
    intro l0 l3 l4 l5 l6 σ
    exact tj_fail
  | succ k ih =>
    intro l0 l3 l4 l5 l6 σ
    exact tj_X12_init_L69_b d h36 ih l0 l3 l4 l5 l6 σ
theorem tj_X12_init_L36_b {E : tj_E} {X : tj_X} {n0 s0 : Nat} (d : Nat) {b36 : Option Nat → Option Nat → Option Nat → mx_M Unit} (h36 : ∀ (l0 : Option Nat) (l3 : Option Nat) (l4 : Option Nat) (σ : hp_S), tj_T E X RX12 "<init>" cX12_init 7 none (d + 1) [] n0 s0 em_v σ 36 [some (va_rf l0), none, none, some (va_rf l3), some (va_rf l4), none, none] [] (b36 l0 l3 l4)) (l0 : Option Nat) (l3 : Option Nat) (l4 : Option Nat) (σ : hp_S) : tj_T E X RX12 "<init>" cX12_init 7 none (d + 1) [] n0 s0 em_v σ 36 [some (va_rf l0), none, none, some (va_rf l3), some (va_rf l4), none, none] [] (fn_X12_init_L36_b d b36 l0 l3 l4) := by
  unfold fn_X12_init_L36_b
  refine tj_aload dX12_init_36 rfl ?_
  refine tj_callF (as := []) (rest := []) (st' := (fun r => [.int r])) (t := 22) (fun a e => by cases e; exact ct_J33_hasNext d _) (by decide) rfl q2757 q1100 q1093 q135 q1095 (ev_i 1 rfl) q1094 q1101 q1099 md_i1 rfl (by decide) rfl (by decide) dX12_init_38 (fun _ => rfl) (fun r101 σ => ?_) (by decide)
  refine tj_if_eq 121 dX12_init_43 rfl (fun _ => ?_) (fun _ => ?_)
  · exact tj_vret dX12_init_121
  · refine tj_aload dX12_init_46 rfl ?_
    refine tj_callF (as := []) (rest := []) (st' := (fun r => [va_rf r])) (t := 22) (fun a e => by cases e; exact ct_J36_next d _) (by decide) rfl q2759 q1419 q1421 q138 q1423 (ev_i 2 rfl) q1422 q1420 q1099 md_i2 rfl (by decide) rfl (by decide) dX12_init_48 (fun _ => rfl) (fun r102 σ => ?_) (by decide)
    refine tj_cast (nm := "LionGate$Lion") q2760 ca_LionGate_Lion dX12_init_53 ?_
    refine tj_astore dX12_init_56 (by decide) (rf_cat _) [some (va_rf l0), none, none, some (va_rf l3), some (va_rf l4), some (va_rf r102), none] rfl ?_
    refine tj_aload_n dX12_init_58 rfl ?_
    refine tj_getR fl_X12_10r dX12_init_59 (fun v103 => ?_)
    refine tj_callF (as := []) (rest := []) (st' := (fun r => [.int r])) (t := 16) (fun a e => by cases e; exact ct_J4_size d _) (by decide) rfl q2762 q2143 q1048 q103 q1049 (ev_i 9 rfl) q2145 q2144 q1323 md_i9 rfl (by decide) rfl (by decide) dX12_init_62 (fun _ => rfl) (fun r104 σ => ?_) (by decide)
    refine tj_istore dX12_init_67 (by decide) (rf_cat _) [some (va_rf l0), none, none, some (va_rf l3), some (va_rf l4), some (va_rf r102), some (.int r104)] rfl ?_
    exact tj_X12_init_L69 d h36 mx_K l0 l3 l4 r102 r104 _
theorem tj_X12_init_L36 {E : tj_E} {X : tj_X} {n0 s0 : Nat} (d : Nat) : ∀ (k : Nat) (l0 : Option Nat) (l3 : Option Nat) (l4 : Option Nat) (σ : hp_S), tj_T E X RX12 "<init>" cX12_init 7 none (d + 1) [] n0 s0 em_v σ 36 [some (va_rf l0), none, none, some (va_rf l3), some (va_rf l4), none, none] [] (fn_X12_init_L36 d k l0 l3 l4) := by
  intro k
  induction k with
  | zero =>
    intro l0 l3 l4 σ
    exact tj_fail
  | succ k ih =>
    intro l0 l3 l4 σ
    exact tj_X12_init_L36_b d ih l0 l3 l4 σ
theorem tj_X12_init_B0 {E : tj_E} {X : tj_X} {n0 s0 : Nat} (d : Nat) (v0 : Option Nat) (v1 : Option Nat) (v2 : Int32) (σ : hp_S) : tj_T E X RX12 "<init>" cX12_init 7 none (d + 1) [] n0 s0 em_v σ 0 [some (va_rf v0), some (va_rf v1), some (.int v2), none, none, none, none] [] (fn_X12_init_B0 d v0 v1 v2) := by
  unfold fn_X12_init_B0
  refine tj_aload_n dX12_init_0 rfl ?_
  refine tj_objInit q2724 q183 q184 (by decide) dX12_init_1 (fun _ _ => ?_)
  refine tj_aload_n dX12_init_4 rfl ?_
  refine tj_new nw_X12_7 dX12_init_5 (fun a102 σ => ?_)
  refine tj_dup dX12_init_8 (rf_cat _) ?_
  refine tj_callI (as := []) (rest := [va_rf (some a102), va_rf v0]) (st' := (fun _ => [va_rf (some a102), va_rf v0])) (fun a e => by cases e; exact ct_J4_init d _) q2726 q237 q103 q238 rfl md_J4_init rfl (by decide) rfl (by simp [rf_cat, cat_i, cat_l, cat_f, cat_d]) dX12_init_9 (fun _ => rfl) (fun _ σ => ?_) (by decide)
  refine tj_putF fl_X12_10 (nar_rf _) (fit_rf _) dX12_init_12 (fun σ => ?_)
  refine tj_aload_n dX12_init_15 rfl ?_
  refine tj_iload_n dX12_init_16 rfl ?_
  refine tj_putF fl_X12_16 rfl rfl dX12_init_17 (fun σ => ?_)
  refine tj_new nw_X12_20 dX12_init_20 (fun a103 σ => ?_)
  refine tj_dup dX12_init_23 (rf_cat _) ?_
  refine tj_callIN (as := []) (rest := [va_rf (some a103)]) (st' := (fun _ => [va_rf (some a103)])) (fun a e => by cases e; exact ct_X13_init d _) q2729 q2730 q164 q2731 rfl md_X13_init rfl (by decide) rfl (by simp [rf_cat, cat_i, cat_l, cat_f, cat_d]) dX12_init_24 (fun _ => rfl) (fun _ σ => ?_) (by decide)
  refine tj_astore_n dX12_init_27 (by decide) rfl [some (va_rf v0), some (va_rf v1), some (.int v2), some (va_rf (some a103)), none, none, none] rfl ?_
  refine tj_aload_n dX12_init_28 rfl ?_
  refine tj_callF (as := []) (rest := []) (st' := (fun r => [va_rf r])) (t := 20) (fun a e => by cases e; exact ct_J11_iterator d _) (by decide) rfl q2735 q2755 q1020 q111 q1022 (ev_i 14 rfl) q1021 q1019 q2754 md_i14 rfl (by decide) rfl (by decide) dX12_init_29 (fun _ => rfl) (fun r104 σ => ?_) (by decide)
  refine tj_astore dX12_init_34 (by decide) (rf_cat _) [some (va_rf v0), some (va_rf v1), some (.int v2), some (va_rf (some a103)), some (va_rf r104), none, none] rfl ?_
  refine tj_wk (L' := [some (va_rf v0), none, none, some (va_rf (some a103)), some (va_rf r104), none, none]) ⟨rfl, rfl, rfl, trivial⟩ ?_
  exact tj_X12_init_L36 d mx_K v0 (some a103) r104 _
theorem ct_X12_init : ∀ (d : Nat) (v0 : Option Nat) (v1 : Option Nat) (v2 : Int32), ct_ yX12_init (ws_ yX12_init cX12_init 7 none) d em_v [va_rf v0, va_rf v1, .int v2] (fn_X12_init d v0 v1 v2)
  | 0, _, _, _ => ct_fail
  | d + 1, v0, v1, v2 => ct_of [(false, va_rf v0), (false, va_rf v1), (false, .int v2)] [some (va_rf v0), some (va_rf v1), some (.int v2), none, none, none, none] (by decide) rfl ⟨rfl, (rf_cat _), ⟨rfl, (rf_cat _), ⟨rfl, rfl, trivial⟩⟩⟩ (fun E X n0 s0 σ => tj_X12_init_B0 d v0 v1 v2 σ)
theorem tj_J11_init_B0 {E : tj_E} {X : tj_X} {n0 s0 : Nat} (d : Nat) (v0 : Option Nat) (v1 : Option Nat) (σ : hp_S) : tj_T E X RJ11 "<init>" cJ11_init 2 none (d + 1) [] n0 s0 em_v σ 0 [some (va_rf v0), some (va_rf v1)] [] (fn_J11_init_B0 d v0 v1) := by
  unfold fn_J11_init_B0
  refine tj_aload_n dJ11_init_0 rfl ?_
  refine tj_aload_n dJ11_init_1 rfl ?_
  refine tj_putF fl_J11_1 (nar_rf _) (fit_rf _) dJ11_init_2 (fun σ => ?_)
  refine tj_aload_n dJ11_init_5 rfl ?_
  refine tj_callI (as := []) (rest := []) (st' := (fun _ => [])) (fun a e => by cases e; exact ct_J2_init d _) q421 q243 q101 q244 rfl md_J2_init rfl (by decide) rfl (by decide) dJ11_init_6 (fun _ => rfl) (fun _ σ => ?_) (by decide)
  exact tj_vret dJ11_init_9
theorem ct_J11_init : ∀ (d : Nat) (v0 : Option Nat) (v1 : Option Nat), ct_ yJ11_init (ws_ yJ11_init cJ11_init 2 none) d em_v [va_rf v0, va_rf v1] (fn_J11_init d v0 v1)
  | 0, _, _ => ct_fail
  | d + 1, v0, v1 => ct_of [(false, va_rf v0), (false, va_rf v1)] [some (va_rf v0), some (va_rf v1)] (by decide) rfl ⟨rfl, (rf_cat _), ⟨rfl, (rf_cat _), trivial⟩⟩ (fun E X n0 s0 σ => tj_J11_init_B0 d v0 v1 σ)
theorem tj_J1_values_B0 {E : tj_E} {X : tj_X} {n0 s0 : Nat} (d : Nat) (v0 : Option Nat) (σ : hp_S) : tj_T E X RJ1 "values" cJ1_values 2 (some (.object "java/util/Collection")) (d + 1) [] n0 s0 em_r σ 0 [some (va_rf v0), none] [] (fn_J1_values_B0 d v0) := by
  unfold fn_J1_values_B0
  refine tj_aload_n dJ1_values_0 rfl ?_
  refine tj_getR fl_J1_233 dJ1_values_1 (fun v101 => ?_)
  refine tj_astore_n dJ1_values_4 (by decide) (rf_cat _) [some (va_rf v0), some (va_rf v101)] rfl ?_
  refine tj_aload_n dJ1_values_5 rfl ?_
  refine tj_ifnonnull 23 dJ1_values_6 rfl (fun _ => ?_) (fun _ _ => ?_)
  · refine tj_new nw_J1_237 dJ1_values_9 (fun a102 σ => ?_)
    refine tj_dup dJ1_values_12 (rf_cat _) ?_
    refine tj_aload_n dJ1_values_13 rfl ?_
    refine tj_callI (as := [va_rf v0]) (rest := [va_rf (some a102)]) (st' := (fun _ => [va_rf (some a102)])) (fun a e => by cases e; exact ct_J11_init d _ _) q418 q419 q111 q420 rfl md_J11_init rfl (by decide) rfl (by simp [rf_cat, cat_i, cat_l, cat_f, cat_d]) dJ1_values_14 (fun _ => rfl) (fun _ σ => ?_) (by decide)
    refine tj_astore_n dJ1_values_17 (by decide) (rf_cat _) [some (va_rf v0), some (va_rf (some a102))] rfl ?_
    refine tj_aload_n dJ1_values_18 rfl ?_
    refine tj_aload_n dJ1_values_19 rfl ?_
    refine tj_put fl_J1_233 (nar_rf _) (fit_rf _) dJ1_values_20 (fun σ => ?_)
    refine tj_aload_n dJ1_values_23 rfl ?_
    exact tj_aret (Or.inl ⟨_, rfl⟩) dJ1_values_24
  · refine tj_aload_n dJ1_values_23 rfl ?_
    exact tj_aret (Or.inl ⟨_, rfl⟩) dJ1_values_24
theorem ct_J1_values : ∀ (d : Nat) (v0 : Option Nat), ct_ yJ1_values (ws_ yJ1_values cJ1_values 2 (some (.object "java/util/Collection"))) d em_r [va_rf v0] (fn_J1_values d v0)
  | 0, _ => ct_fail
  | d + 1, v0 => ct_of [(false, va_rf v0)] [some (va_rf v0), none] (by decide) rfl ⟨rfl, (rf_cat _), trivial⟩ (fun E X n0 s0 σ => tj_J1_values_B0 d v0 σ)
theorem tj_X2_feeding_B0 {E : tj_E} {X : tj_X} {n0 s0 : Nat} (d : Nat) (v0 : Option Nat) (σ : hp_S) : tj_T E X RX2 "feeding" cX2_feeding 1 (some (.object "LionGate$Feeding")) (d + 1) [] n0 s0 em_r σ 0 [some (va_rf v0)] [] (fn_X2_feeding_B0 d v0) := by
  unfold fn_X2_feeding_B0
  refine tj_new nw_X2_246 dX2_feeding_0 (fun a101 σ => ?_)
  refine tj_dup dX2_feeding_3 (rf_cat _) ?_
  refine tj_aload_n dX2_feeding_4 rfl ?_
  refine tj_getR fl_X2_12r dX2_feeding_5 (fun v102 => ?_)
  refine tj_callV (as := []) (rest := [va_rf (some a101), va_rf (some a101)]) (st' := (fun r => [va_rf r, va_rf (some a101), va_rf (some a101)])) (t := 18) (fun a e => by cases e; exact ct_J1_values d _) (by decide) rfl q412 q413 q414 q99 q415 rfl md_J1_values rfl (by decide) rfl (by simp [rf_cat, cat_i, cat_l, cat_f, cat_d]) dX2_feeding_8 (fun _ => rfl) (fun r103 σ => ?_) (by decide)
  refine tj_aload_n dX2_feeding_11 rfl ?_
  refine tj_getI fl_X2_82 dX2_feeding_12 (fun v104 => ?_)
  refine tj_callI (as := [va_rf r103, .int v104]) (rest := [va_rf (some a101)]) (st' := (fun _ => [va_rf (some a101)])) (fun a e => by cases e; exact ct_X12_init d _ _ _) q2721 q2722 q163 q2723 rfl md_X12_init rfl (by decide) rfl (by simp [rf_cat, cat_i, cat_l, cat_f, cat_d]) dX2_feeding_15 (fun _ => rfl) (fun _ σ => ?_) (by decide)
  exact tj_aret (Or.inl ⟨_, rfl⟩) dX2_feeding_18
theorem ct_X2_feeding : ∀ (d : Nat) (v0 : Option Nat), ct_ yX2_feeding (ws_ yX2_feeding cX2_feeding 1 (some (.object "LionGate$Feeding"))) d em_r [va_rf v0] (fn_X2_feeding d v0)
  | 0, _ => ct_fail
  | d + 1, v0 => ct_of [(false, va_rf v0)] [some (va_rf v0)] (by decide) rfl ⟨rfl, (rf_cat _), trivial⟩ (fun E X n0 s0 σ => tj_X2_feeding_B0 d v0 σ)
theorem tj_X1_areAllInTime_B0 {E : tj_E} {X : tj_X} {n0 s0 : Nat} (d : Nat) (v0 : Option Nat) (σ : hp_S) : tj_T E X RX1 "areAllInTime" cX1_areAllInTime 1 (some .boolean) (d + 1) [] n0 s0 em_i σ 0 [some (va_rf v0)] [] (fn_X1_areAllInTime_B0 d v0) := by
  unfold fn_X1_areAllInTime_B0
  refine tj_aload_n dX1_areAllInTime_0 rfl ?_
  refine tj_getR fl_X1_66 dX1_areAllInTime_1 (fun v101 => ?_)
  refine tj_callV (as := []) (rest := []) (st' := (fun r => [va_rf r])) (t := 2) (fun a e => by cases e; exact ct_X2_feeding d _) (by decide) rfl q2715 q2716 q2717 q97 q2718 rfl md_X2_feeding rfl (by decide) rfl (by decide) dX1_areAllInTime_4 (fun _ => rfl) (fun r102 σ => ?_) (by decide)
  refine tj_callV (as := []) (rest := []) (st' := (fun r => [.int r])) (t := 8) (fun a e => by cases e; exact ct_X12_areAllInTime d _) (by decide) rfl q2775 q2776 q2777 q163 q2778 rfl md_X12_areAllInTime rfl (by decide) rfl (by decide) dX1_areAllInTime_7 (fun _ => rfl) (fun r103 σ => ?_) (by decide)
  exact tj_zret dX1_areAllInTime_10
theorem ct_X1_areAllInTime : ∀ (d : Nat) (v0 : Option Nat), ct_ yX1_areAllInTime (ws_ yX1_areAllInTime cX1_areAllInTime 1 (some .boolean)) d em_i [va_rf v0] (fn_X1_areAllInTime d v0)
  | 0, _ => ct_fail
  | d + 1, v0 => ct_of [(false, va_rf v0)] [some (va_rf v0)] (by decide) rfl ⟨rfl, (rf_cat _), trivial⟩ (fun E X n0 s0 σ => tj_X1_areAllInTime_B0 d v0 σ)
theorem tj_X1_drawnTotal_B0 {E : tj_E} {X : tj_X} {n0 s0 : Nat} (d : Nat) (v0 : Option Nat) (σ : hp_S) : tj_T E X RX1 "drawnTotal" cX1_drawnTotal 1 (some .int) (d + 1) [] n0 s0 em_i σ 0 [some (va_rf v0)] [] (fn_X1_drawnTotal_B0 d v0) := by
  unfold fn_X1_drawnTotal_B0
  refine tj_aload_n dX1_drawnTotal_0 rfl ?_
  refine tj_getR fl_X1_66 dX1_drawnTotal_1 (fun v101 => ?_)
  refine tj_getI fl_X1_337 dX1_drawnTotal_4 (fun v102 => ?_)
  exact tj_iret dX1_drawnTotal_7
theorem ct_X1_drawnTotal : ∀ (d : Nat) (v0 : Option Nat), ct_ yX1_drawnTotal (ws_ yX1_drawnTotal cX1_drawnTotal 1 (some .int)) d em_i [va_rf v0] (fn_X1_drawnTotal d v0)
  | 0, _ => ct_fail
  | d + 1, v0 => ct_of [(false, va_rf v0)] [some (va_rf v0)] (by decide) rfl ⟨rfl, (rf_cat _), trivial⟩ (fun E X n0 s0 σ => tj_X1_drawnTotal_B0 d v0 σ)
theorem tj_X1_hour_B0 {E : tj_E} {X : tj_X} {n0 s0 : Nat} (d : Nat) (v0 : Option Nat) (σ : hp_S) : tj_T E X RX1 "hour" cX1_hour 1 (some .int) (d + 1) [] n0 s0 em_i σ 0 [some (va_rf v0)] [] (fn_X1_hour_B0 d v0) := by
  unfold fn_X1_hour_B0
  refine tj_aload_n dX1_hour_0 rfl ?_
  refine tj_getR fl_X1_66 dX1_hour_1 (fun v101 => ?_)
  refine tj_getI fl_X1_325 dX1_hour_4 (fun v102 => ?_)
  exact tj_iret dX1_hour_7
theorem ct_X1_hour : ∀ (d : Nat) (v0 : Option Nat), ct_ yX1_hour (ws_ yX1_hour cX1_hour 1 (some .int)) d em_i [va_rf v0] (fn_X1_hour d v0)
  | 0, _ => ct_fail
  | d + 1, v0 => ct_of [(false, va_rf v0)] [some (va_rf v0)] (by decide) rfl ⟨rfl, (rf_cat _), trivial⟩ (fun E X n0 s0 σ => tj_X1_hour_B0 d v0 σ)
theorem tj_X14_init_B0 {E : tj_E} {X : tj_X} {n0 s0 : Nat} (d : Nat) (v0 : Option Nat) (σ : hp_S) : tj_T E X RX14 "<init>" cX14_init 1 none (d + 1) [] n0 s0 em_v σ 0 [some (va_rf v0)] [] (fn_X14_init_B0 d v0) := by
  unfold fn_X14_init_B0
  refine tj_aload_n dX14_init_0 rfl ?_
  refine tj_objInit q2797 q183 q184 (by decide) dX14_init_1 (fun _ _ => ?_)
  exact tj_vret dX14_init_4
theorem ct_X14_init : ∀ (d : Nat) (v0 : Option Nat), ct_ yX14_init (ws_ yX14_init cX14_init 1 none) d em_v [va_rf v0] (fn_X14_init d v0)
  | 0, _ => ct_fail
  | d + 1, v0 => ct_of [(false, va_rf v0)] [some (va_rf v0)] (by decide) rfl ⟨rfl, (rf_cat _), trivial⟩ (fun E X n0 s0 σ => tj_X14_init_B0 d v0 σ)
theorem tj_J14_init_B0 {E : tj_E} {X : tj_X} {n0 s0 : Nat} (d : Nat) (v0 : Option Nat) (v1 : Option Nat) (σ : hp_S) : tj_T E X RJ14 "<init>" cJ14_init 2 none (d + 1) [] n0 s0 em_v σ 0 [some (va_rf v0), some (va_rf v1)] [] (fn_J14_init_B0 d v0 v1) := by
  unfold fn_J14_init_B0
  refine tj_aload_n dJ14_init_0 rfl ?_
  refine tj_aload_n dJ14_init_1 rfl ?_
  refine tj_putF fl_J14_1 (nar_rf _) (fit_rf _) dJ14_init_2 (fun σ => ?_)
  refine tj_aload_n dJ14_init_5 rfl ?_
  refine tj_objInit q474 q183 q184 (by decide) dJ14_init_6 (fun _ _ => ?_)
  refine tj_aload_n dJ14_init_9 rfl ?_
  refine tj_iconst (-1 : Int32) dJ14_init_10 rfl ?_
  refine tj_put fl_J14_13 rfl rfl dJ14_init_11 (fun σ => ?_)
  refine tj_aload_n dJ14_init_14 rfl ?_
  refine tj_aload_n dJ14_init_15 rfl ?_
  refine tj_getR fl_J14_1r dJ14_init_16 (fun v102 => ?_)
  refine tj_getI fl_J14_17 dJ14_init_19 (fun v103 => ?_)
  refine tj_put fl_J14_22 rfl rfl dJ14_init_22 (fun σ => ?_)
  exact tj_vret dJ14_init_25
theorem ct_J14_init : ∀ (d : Nat) (v0 : Option Nat) (v1 : Option Nat), ct_ yJ14_init (ws_ yJ14_init cJ14_init 2 none) d em_v [va_rf v0, va_rf v1] (fn_J14_init d v0 v1)
  | 0, _, _ => ct_fail
  | d + 1, v0, v1 => ct_of [(false, va_rf v0), (false, va_rf v1)] [some (va_rf v0), some (va_rf v1)] (by decide) rfl ⟨rfl, (rf_cat _), ⟨rfl, (rf_cat _), trivial⟩⟩ (fun E X n0 s0 σ => tj_J14_init_B0 d v0 v1 σ)
theorem tj_J4_iterator_B0 {E : tj_E} {X : tj_X} {n0 s0 : Nat} (d : Nat) (v0 : Option Nat) (σ : hp_S) : tj_T E X RJ4 "iterator" cJ4_iterator 1 (some (.object "java/util/Iterator")) (d + 1) [] n0 s0 em_r σ 0 [some (va_rf v0)] [] (fn_J4_iterator_B0 d v0) := by
  unfold fn_J4_iterator_B0
  refine tj_new nw_J4_267 dJ4_iterator_0 (fun a101 σ => ?_)
  refine tj_dup dJ4_iterator_3 (rf_cat _) ?_
  refine tj_aload_n dJ4_iterator_4 rfl ?_
  refine tj_callI (as := [va_rf v0]) (rest := [va_rf (some a101)]) (st' := (fun _ => [va_rf (some a101)])) (fun a e => by cases e; exact ct_J14_init d _ _) q471 q472 q114 q473 rfl md_J14_init rfl (by decide) rfl (by simp [rf_cat, cat_i, cat_l, cat_f, cat_d]) dJ4_iterator_5 (fun _ => rfl) (fun _ σ => ?_) (by decide)
  exact tj_aret (Or.inl ⟨_, rfl⟩) dJ4_iterator_8
theorem ct_J4_iterator : ∀ (d : Nat) (v0 : Option Nat), ct_ yJ4_iterator (ws_ yJ4_iterator cJ4_iterator 1 (some (.object "java/util/Iterator"))) d em_r [va_rf v0] (fn_J4_iterator d v0)
  | 0, _ => ct_fail
  | d + 1, v0 => ct_of [(false, va_rf v0)] [some (va_rf v0)] (by decide) rfl ⟨rfl, (rf_cat _), trivial⟩ (fun E X n0 s0 σ => tj_J4_iterator_B0 d v0 σ)
theorem tj_J14_hasNext_B0 {E : tj_E} {X : tj_X} {n0 s0 : Nat} (d : Nat) (v0 : Option Nat) (σ : hp_S) : tj_T E X RJ14 "hasNext" cJ14_hasNext 1 (some .boolean) (d + 1) [] n0 s0 em_i σ 0 [some (va_rf v0)] [] (fn_J14_hasNext_B0 d v0) := by
  unfold fn_J14_hasNext_B0
  refine tj_aload_n dJ14_hasNext_0 rfl ?_
  refine tj_getI fl_J14_25 dJ14_hasNext_1 (fun v101 => ?_)
  refine tj_aload_n dJ14_hasNext_4 rfl ?_
  refine tj_getR fl_J14_1r dJ14_hasNext_5 (fun v102 => ?_)
  refine tj_getI fl_J14_28 dJ14_hasNext_8 (fun v103 => ?_)
  refine tj_icmp_eq 18 dJ14_hasNext_11 rfl (fun _ => ?_) (fun _ => ?_)
  · refine tj_iconst (0 : Int32) dJ14_hasNext_18 rfl ?_
    exact tj_zpure rfl dJ14_hasNext_19
  · refine tj_iconst (1 : Int32) dJ14_hasNext_14 rfl ?_
    refine tj_goto 19 dJ14_hasNext_15 rfl ?_
    exact tj_zpure rfl dJ14_hasNext_19
theorem ct_J14_hasNext : ∀ (d : Nat) (v0 : Option Nat), ct_ yJ14_hasNext (ws_ yJ14_hasNext cJ14_hasNext 1 (some .boolean)) d em_i [va_rf v0] (fn_J14_hasNext d v0)
  | 0, _ => ct_fail
  | d + 1, v0 => ct_of [(false, va_rf v0)] [some (va_rf v0)] (by decide) rfl ⟨rfl, (rf_cat _), trivial⟩ (fun E X n0 s0 σ => tj_J14_hasNext_B0 d v0 σ)
theorem tj_J14_checkForComodification_B0 {E : tj_E} {X : tj_X} {n0 s0 : Nat} (d : Nat) (v0 : Option Nat) (σ : hp_S) : tj_T E X RJ14 "checkForComodification" cJ14_checkForComodification 1 none (d + 1) [] n0 s0 em_v σ 0 [some (va_rf v0)] [] (fn_J14_checkForComodification_B0 d v0) := by
  unfold fn_J14_checkForComodification_B0
  refine tj_aload_n dJ14_checkForComodification_0 rfl ?_
  refine tj_getR fl_J14_1r dJ14_checkForComodification_1 (fun v101 => ?_)
  refine tj_getI fl_J14_17 dJ14_checkForComodification_4 (fun v102 => ?_)
  refine tj_aload_n dJ14_checkForComodification_7 rfl ?_
  refine tj_getI fl_J14_22 dJ14_checkForComodification_8 (fun v103 => ?_)
  refine tj_icmp_eq 22 dJ14_checkForComodification_11 rfl (fun _ => ?_) (fun _ => ?_)
  · exact tj_vret dJ14_checkForComodification_22
  · exact tj_fail
theorem ct_J14_checkForComodification : ∀ (d : Nat) (v0 : Option Nat), ct_ yJ14_checkForComodification (ws_ yJ14_checkForComodification cJ14_checkForComodification 1 none) d em_v [va_rf v0] (fn_J14_checkForComodification d v0)
  | 0, _ => ct_fail
  | d + 1, v0 => ct_of [(false, va_rf v0)] [some (va_rf v0)] (by decide) rfl ⟨rfl, (rf_cat _), trivial⟩ (fun E X n0 s0 σ => tj_J14_checkForComodification_B0 d v0 σ)
theorem tj_J14_next_B0 {E : tj_E} {X : tj_X} {n0 s0 : Nat} (d : Nat) (v0 : Option Nat) (σ : hp_S) : tj_T E X RJ14 "next" cJ14_next 3 (some (.object "java/lang/Object")) (d + 1) [] n0 s0 em_r σ 0 [some (va_rf v0), none, none] [] (fn_J14_next_B0 d v0) := by
  unfold fn_J14_next_B0
  refine tj_aload_n dJ14_next_0 rfl ?_
  refine tj_callV (as := []) (rest := []) (st' := (fun _ => [])) (t := 17) (fun a e => by cases e; exact ct_J14_checkForComodification d _) (by decide) rfl q1304 q1305 q1306 q114 q1309 rfl md_J14_checkForComodification rfl (by decide) rfl (by decide) dJ14_next_1 (fun _ => rfl) (fun _ σ => ?_) (by decide)
  refine tj_aload_n dJ14_next_4 rfl ?_
  refine tj_getI fl_J14_25 dJ14_next_5 (fun v101 => ?_)
  refine tj_istore_n dJ14_next_8 (by decide) (rf_cat _) [some (va_rf v0), some (.int v101), none] rfl ?_
  refine tj_iload_n dJ14_next_9 rfl ?_
  refine tj_aload_n dJ14_next_10 rfl ?_
  refine tj_getR fl_J14_1r dJ14_next_11 (fun v102 => ?_)
  refine tj_getI fl_J14_28 dJ14_next_14 (fun v103 => ?_)
  refine tj_icmp_lt 28 dJ14_next_17 rfl (fun _ => ?_) (fun _ => ?_)
  · refine tj_aload_n dJ14_next_28 rfl ?_
    refine tj_getR fl_J14_1r dJ14_next_29 (fun v104 => ?_)
    refine tj_getR fl_J14_37 dJ14_next_32 (fun v105 => ?_)
    refine tj_astore_n dJ14_next_35 (by decide) rfl [some (va_rf v0), some (.int v101), some (va_rf v105)] rfl ?_
    refine tj_iload_n dJ14_next_36 rfl ?_
    refine tj_aload_n dJ14_next_37 rfl ?_
    refine tj_alen dJ14_next_38 (fun v106 => ?_)
    refine tj_icmp_lt 50 dJ14_next_39 rfl (fun _ => ?_) (fun _ => ?_)
    · refine tj_aload_n dJ14_next_50 rfl ?_
      refine tj_iload_n dJ14_next_51 rfl ?_
      refine tj_iconst (1 : Int32) dJ14_next_52 rfl ?_
      refine tj_iadd dJ14_next_53 ?_
      refine tj_put fl_J14_25 rfl rfl dJ14_next_54 (fun σ => ?_)
      refine tj_aload_n dJ14_next_57 rfl ?_
      refine tj_aload_n dJ14_next_58 rfl ?_
      refine tj_iload_n dJ14_next_59 rfl ?_
      refine tj_dup_x1 dJ14_next_60 rfl (rf_cat _) ?_
      refine tj_put fl_J14_13 rfl rfl dJ14_next_61 (fun σ => ?_)
      refine tj_aald dJ14_next_64 (fun v107 => ?_)
      exact tj_aret (Or.inl ⟨_, rfl⟩) dJ14_next_65
    · exact tj_fail
  · exact tj_fail
theorem ct_J14_next : ∀ (d : Nat) (v0 : Option Nat), ct_ yJ14_next (ws_ yJ14_next cJ14_next 3 (some (.object "java/lang/Object"))) d em_r [va_rf v0] (fn_J14_next d v0)
  | 0, _ => ct_fail
  | d + 1, v0 => ct_of [(false, va_rf v0)] [some (va_rf v0), none, none] (by decide) rfl ⟨rfl, (rf_cat _), trivial⟩ (fun E X n0 s0 σ => tj_J14_next_B0 d v0 σ)
theorem tj_J46_init_B0 {E : tj_E} {X : tj_X} {n0 s0 : Nat} (d : Nat) (v0 : Option Nat) (σ : hp_S) : tj_T E X RJ46 "<init>" cJ46_init 1 none (d + 1) [] n0 s0 em_v σ 0 [some (va_rf v0)] [] (fn_J46_init_B0 d v0) := by
  unfold fn_J46_init_B0
  refine tj_aload_n dJ46_init_0 rfl ?_
  refine tj_callI (as := []) (rest := []) (st' := (fun _ => [])) (fun a e => by cases e; exact ct_J2_init d _) q2808 q243 q101 q244 rfl md_J2_init rfl (by decide) rfl (by decide) dJ46_init_1 (fun _ => rfl) (fun _ σ => ?_) (by decide)
  exact tj_vret dJ46_init_4
theorem ct_J46_init : ∀ (d : Nat) (v0 : Option Nat), ct_ yJ46_init (ws_ yJ46_init cJ46_init 1 none) d em_v [va_rf v0] (fn_J46_init d v0)
  | 0, _ => ct_fail
  | d + 1, v0 => ct_of [(false, va_rf v0)] [some (va_rf v0)] (by decide) rfl ⟨rfl, (rf_cat _), trivial⟩ (fun E X n0 s0 σ => tj_J46_init_B0 d v0 σ)
theorem tj_J47_init_2_B0 {E : tj_E} {X : tj_X} {n0 s0 : Nat} (d : Nat) (v0 : Option Nat) (v1 : Int32) (v2 : Option Nat) (σ : hp_S) : tj_T E X RJ47 "<init>" cJ47_init_2 3 none (d + 1) [] n0 s0 em_v σ 0 [some (va_rf v0), some (.int v1), some (va_rf v2)] [] (fn_J47_init_2_B0 d v0 v1 v2) := by
  unfold fn_J47_init_2_B0
  refine tj_aload_n dJ47_init_2_0 rfl ?_
  refine tj_callI (as := []) (rest := []) (st' := (fun _ => [])) (fun a e => by cases e; exact ct_J46_init d _) q2805 q2806 q155 q2807 rfl md_J46_init rfl (by decide) rfl (by decide) dJ47_init_2_1 (fun _ => rfl) (fun _ σ => ?_) (by decide)
  refine tj_iload_n dJ47_init_2_4 rfl ?_
  refine tj_iconst (1 : Int32) dJ47_init_2_5 rfl ?_
  refine tj_icmp_ge 17 dJ47_init_2_6 rfl (fun _ => ?_) (fun _ => ?_)
  · refine tj_aload_n dJ47_init_2_17 rfl ?_
    refine tj_iload_n dJ47_init_2_18 rfl ?_
    refine tj_newO q2811 dJ47_init_2_19 (fun a101 σ => ?_)
    refine tj_put fl_J47_17 (nar_rf _) (fit_rfa _) dJ47_init_2_22 (fun σ => ?_)
    refine tj_aload_n dJ47_init_2_25 rfl ?_
    refine tj_aload_n dJ47_init_2_26 rfl ?_
    refine tj_putF fl_J47_21 (nar_rf _) (fit_rf _) dJ47_init_2_27 (fun σ => ?_)
    exact tj_vret dJ47_init_2_30
  · exact tj_fail
theorem ct_J47_init_2 : ∀ (d : Nat) (v0 : Option Nat) (v1 : Int32) (v2 : Option Nat), ct_ yJ47_init_2 (ws_ yJ47_init_2 cJ47_init_2 3 none) d em_v [va_rf v0, .int v1, va_rf v2] (fn_J47_init_2 d v0 v1 v2)
  | 0, _, _, _ => ct_fail
  | d + 1, v0, v1, v2 => ct_of [(false, va_rf v0), (false, .int v1), (false, va_rf v2)] [some (va_rf v0), some (.int v1), some (va_rf v2)] (by decide) rfl ⟨rfl, (rf_cat _), ⟨rfl, rfl, ⟨rfl, (rf_cat _), trivial⟩⟩⟩ (fun E X n0 s0 σ => tj_J47_init_2_B0 d v0 v1 v2 σ)
theorem tj_J47_init_B0 {E : tj_E} {X : tj_X} {n0 s0 : Nat} (d : Nat) (v0 : Option Nat) (v1 : Option Nat) (σ : hp_S) : tj_T E X RJ47 "<init>" cJ47_init 2 none (d + 1) [] n0 s0 em_v σ 0 [some (va_rf v0), some (va_rf v1)] [] (fn_J47_init_B0 d v0 v1) := by
  unfold fn_J47_init_B0
  refine tj_aload_n dJ47_init_0 rfl ?_
  refine tj_bipush (11 : Int32) dJ47_init_1 (by decide) ?_
  refine tj_aload_n dJ47_init_3 rfl ?_
  refine tj_callI (as := [.int (11 : Int32), va_rf v1]) (rest := []) (st' := (fun _ => [])) (fun a e => by cases e; exact ct_J47_init_2 d _ _ _) q2802 q2803 q156 q2804 rfl md_J47_init_2 rfl (by decide) rfl (by decide) dJ47_init_4 (fun _ => rfl) (fun _ σ => ?_) (by decide)
  exact tj_vret dJ47_init_7
theorem ct_J47_init : ∀ (d : Nat) (v0 : Option Nat) (v1 : Option Nat), ct_ yJ47_init (ws_ yJ47_init cJ47_init 2 none) d em_v [va_rf v0, va_rf v1] (fn_J47_init d v0 v1)
  | 0, _, _ => ct_fail
  | d + 1, v0, v1 => ct_of [(false, va_rf v0), (false, va_rf v1)] [some (va_rf v0), some (va_rf v1)] (by decide) rfl ⟨rfl, (rf_cat _), ⟨rfl, (rf_cat _), trivial⟩⟩ (fun E X n0 s0 σ => tj_J47_init_B0 d v0 v1 σ)
theorem tj_J47_grow_J25 {E : tj_E} {X : tj_X} {n0 s0 : Nat} (d : Nat) (l0 : Option Nat) (p0 : Int32) (p1 : Int32) (p2 : Int32) (σ : hp_S) : tj_T E X RJ47 "grow" cJ47_grow 4 none (d + 1) [] n0 s0 em_v σ 25 [some (va_rf l0), none, none, none] [.int p2, .int p1, .int p0] (fn_J47_grow_J25 d l0 p0 p1 p2) := by
  unfold fn_J47_grow_J25
  refine tj_callS (as := [.int p0, .int p1, .int p2]) (rest := []) (st' := (fun r => [.int r])) (ct_J21_newLength d p0 p1 p2) q2842 q628 q121 q629 md_J21_newLength rfl (by decide) rfl (by decide) dJ47_grow_25 (fun _ => rfl) (fun r101 σ => ?_) (by decide)
  refine tj_istore_n dJ47_grow_28 (by decide) trivial [some (va_rf l0), none, none, some (.int r101)] rfl ?_
  refine tj_aload_n dJ47_grow_29 rfl ?_
  refine tj_aload_n dJ47_grow_30 rfl ?_
  refine tj_getR fl_J47_17 dJ47_grow_31 (fun v102 => ?_)
  refine tj_iload_n dJ47_grow_34 rfl ?_
  refine tj_callS (as := [va_rf v102, .int r101]) (rest := [va_rf l0]) (st' := (fun r => [va_rf r, va_rf l0])) (ct_J23_copyOf_2 d v102 r101) q2585 q1796 q123 q1797 md_J23_copyOf_2 rfl (by decide) rfl (by simp [rf_cat, cat_i, cat_l, cat_f, cat_d]) dJ47_grow_35 (fun _ => rfl) (fun r103 σ => ?_) (by decide)
  refine tj_put fl_J47_17 (nar_rf _) (fit_rfa _) dJ47_grow_38 (fun σ => ?_)
  exact tj_vret dJ47_grow_41
theorem tj_J47_grow_B0 {E : tj_E} {X : tj_X} {n0 s0 : Nat} (d : Nat) (v0 : Option Nat) (v1 : Int32) (σ : hp_S) : tj_T E X RJ47 "grow" cJ47_grow 4 none (d + 1) [] n0 s0 em_v σ 0 [some (va_rf v0), some (.int v1), none, none] [] (fn_J47_grow_B0 d v0 v1) := by
  unfold fn_J47_grow_B0
  refine tj_aload_n dJ47_grow_0 rfl ?_
  refine tj_getR fl_J47_17 dJ47_grow_1 (fun v101 => ?_)
  refine tj_alen dJ47_grow_4 (fun v102 => ?_)
  refine tj_istore_n dJ47_grow_5 (by decide) rfl [some (va_rf v0), some (.int v1), some (.int v102), none] rfl ?_
  refine tj_iload_n dJ47_grow_6 rfl ?_
  refine tj_iload_n dJ47_grow_7 rfl ?_
  refine tj_iload_n dJ47_grow_8 rfl ?_
  refine tj_isub dJ47_grow_9 ?_
  refine tj_iload_n dJ47_grow_10 rfl ?_
  refine tj_bipush (64 : Int32) dJ47_grow_11 (by decide) ?_
  refine tj_icmp_ge 22 dJ47_grow_13 rfl (fun _ => ?_) (fun _ => ?_)
  · refine tj_iload_n dJ47_grow_22 rfl ?_
    refine tj_iconst (1 : Int32) dJ47_grow_23 rfl ?_
    refine tj_ishr dJ47_grow_24 ?_
    refine tj_wk (L' := [some (va_rf v0), none, none, none]) ⟨rfl, trivial⟩ ?_
    exact tj_J47_grow_J25 d v0 v102 _ _ _
  · refine tj_iload_n dJ47_grow_16 rfl ?_
    refine tj_iconst (2 : Int32) dJ47_grow_17 rfl ?_
    refine tj_iadd dJ47_grow_18 ?_
    refine tj_goto 25 dJ47_grow_19 rfl ?_
    refine tj_wk (L' := [some (va_rf v0), none, none, none]) ⟨rfl, trivial⟩ ?_
    exact tj_J47_grow_J25 d v0 v102 _ _ _
theorem ct_J47_grow : ∀ (d : Nat) (v0 : Option Nat) (v1 : Int32), ct_ yJ47_grow (ws_ yJ47_grow cJ47_grow 4 none) d em_v [va_rf v0, .int v1] (fn_J47_grow d v0 v1)
  | 0, _, _ => ct_fail
  | d + 1, v0, v1 => ct_of [(false, va_rf v0), (false, .int v1)] [some (va_rf v0), some (.int v1), none, none] (by decide) rfl ⟨rfl, (rf_cat _), ⟨rfl, rfl, trivial⟩⟩ (fun E X n0 s0 σ => tj_J47_grow_B0 d v0 v1 σ)
theorem tj_X14_compare_2_B0 {E : tj_E} {X : tj_X} {n0 s0 : Nat} (d : Nat) (v0 : Option Nat) (v1 : Option Nat) (v2 : Option Nat) (σ : hp_S) : tj_T E X RX14 "compare" cX14_compare_2 3 (some .int) (d + 1) [] n0 s0 em_i σ 0 [some (va_rf v0), some (va_rf v1), some (va_rf v2)] [] (fn_X14_compare_2_B0 d v0 v1 v2) := by
  unfold fn_X14_compare_2_B0
  refine tj_aload_n dX14_compare_2_0 rfl ?_
  refine tj_getI fl_X14_7r dX14_compare_2_1 (fun v101 => ?_)
  refine tj_aload_n dX14_compare_2_4 rfl ?_
  refine tj_getI fl_X14_7r dX14_compare_2_5 (fun v102 => ?_)
  refine tj_icmp_ne 23 dX14_compare_2_8 rfl (fun _ => ?_) (fun _ => ?_)
  · refine tj_aload_n dX14_compare_2_11 rfl ?_
    refine tj_getI fl_X14_13r dX14_compare_2_12 (fun v103 => ?_)
    refine tj_aload_n dX14_compare_2_15 rfl ?_
    refine tj_getI fl_X14_13r dX14_compare_2_16 (fun v104 => ?_)
    refine tj_isub dX14_compare_2_19 ?_
    refine tj_goto 32 dX14_compare_2_20 rfl ?_
    exact tj_iret dX14_compare_2_32
  · refine tj_aload_n dX14_compare_2_23 rfl ?_
    refine tj_getI fl_X14_7r dX14_compare_2_24 (fun v105 => ?_)
    refine tj_aload_n dX14_compare_2_27 rfl ?_
    refine tj_getI fl_X14_7r dX14_compare_2_28 (fun v106 => ?_)
    refine tj_isub dX14_compare_2_31 ?_
    exact tj_iret dX14_compare_2_32
theorem ct_X14_compare_2 : ∀ (d : Nat) (v0 : Option Nat) (v1 : Option Nat) (v2 : Option Nat), ct_ yX14_compare_2 (ws_ yX14_compare_2 cX14_compare_2 3 (some .int)) d em_i [va_rf v0, va_rf v1, va_rf v2] (fn_X14_compare_2 d v0 v1 v2)
  | 0, _, _, _ => ct_fail
  | d + 1, v0, v1, v2 => ct_of [(false, va_rf v0), (false, va_rf v1), (false, va_rf v2)] [some (va_rf v0), some (va_rf v1), some (va_rf v2)] (by decide) rfl ⟨rfl, (rf_cat _), ⟨rfl, (rf_cat _), ⟨rfl, (rf_cat _), trivial⟩⟩⟩ (fun E X n0 s0 σ => tj_X14_compare_2_B0 d v0 v1 v2 σ)
theorem tj_X14_compare_B0 {E : tj_E} {X : tj_X} {n0 s0 : Nat} (d : Nat) (v0 : Option Nat) (v1 : Option Nat) (v2 : Option Nat) (σ : hp_S) : tj_T E X RX14 "compare" cX14_compare 3 (some .int) (d + 1) [] n0 s0 em_i σ 0 [some (va_rf v0), some (va_rf v1), some (va_rf v2)] [] (fn_X14_compare_B0 d v0 v1 v2) := by
  unfold fn_X14_compare_B0
  refine tj_aload_n dX14_compare_0 rfl ?_
  refine tj_aload_n dX14_compare_1 rfl ?_
  refine tj_cast (nm := "LionGate$Lion") q1682 ca_LionGate_Lion dX14_compare_2 ?_
  refine tj_aload_n dX14_compare_5 rfl ?_
  refine tj_cast (nm := "LionGate$Lion") q1682 ca_LionGate_Lion dX14_compare_6 ?_
  refine tj_callV (as := [va_rf v1, va_rf v2]) (rest := []) (st' := (fun r => [.int r])) (t := 10) (fun a e => by cases e; exact ct_X14_compare_2 d _ _ _) (by decide) rfl q1683 q1684 q1685 q165 q1686 rfl md_X14_compare_2 rfl (by decide) rfl (by decide) dX14_compare_9 (fun _ => rfl) (fun r101 σ => ?_) (by decide)
  exact tj_iret dX14_compare_12
theorem ct_X14_compare : ∀ (d : Nat) (v0 : Option Nat) (v1 : Option Nat) (v2 : Option Nat), ct_ yX14_compare (ws_ yX14_compare cX14_compare 3 (some .int)) d em_i [va_rf v0, va_rf v1, va_rf v2] (fn_X14_compare d v0 v1 v2)
  | 0, _, _, _ => ct_fail
  | d + 1, v0, v1, v2 => ct_of [(false, va_rf v0), (false, va_rf v1), (false, va_rf v2)] [some (va_rf v0), some (va_rf v1), some (va_rf v2)] (by decide) rfl ⟨rfl, (rf_cat _), ⟨rfl, (rf_cat _), ⟨rfl, (rf_cat _), trivial⟩⟩⟩ (fun E X n0 s0 σ => tj_X14_compare_B0 d v0 v1 v2 σ)
theorem tj_J47_siftUpUsingComparator_L0_b {E : tj_E} {X : tj_X} {n0 s0 : Nat} (d : Nat) {b0 : Int32 → Option Nat → Option Nat → Option Nat → mx_M Unit} (h0 : ∀ (l0 : Int32) (l1 : Option Nat) (l2 : Option Nat) (l3 : Option Nat) (σ : hp_S), tj_T E X RJ47 "siftUpUsingComparator" cJ47_siftUpUsingComparator 6 none (d + 1) [] n0 s0 em_v σ 0 [some (.int l0), some (va_rf l1), some (va_rf l2), some (va_rf l3), none, none] [] (b0 l0 l1 l2 l3)) (l0 : Int32) (l1 : Option Nat) (l2 : Option Nat) (l3 : Option Nat) (σ : hp_S) : tj_T E X RJ47 "siftUpUsingComparator" cJ47_siftUpUsingComparator 6 none (d + 1) [] n0 s0 em_v σ 0 [some (.int l0), some (va_rf l1), some (va_rf l2), some (va_rf l3), none, none] [] (fn_J47_siftUpUsingComparator_L0_b d b0 l0 l1 l2 l3) := by
  unfold fn_J47_siftUpUsingComparator_L0_b
  refine tj_iload_n dJ47_siftUpUsingComparator_0 rfl ?_
  refine tj_if_le 43 dJ47_siftUpUsingComparator_1 rfl (fun _ => ?_) (fun _ => ?_)
  · refine tj_aload_n dJ47_siftUpUsingComparator_43 rfl ?_
    refine tj_iload_n dJ47_siftUpUsingComparator_44 rfl ?_
    refine tj_aload_n dJ47_siftUpUsingComparator_45 rfl ?_
    refine tj_aast dJ47_siftUpUsingComparator_46 (fun σ => ?_)
    exact tj_vret dJ47_siftUpUsingComparator_47
  · refine tj_iload_n dJ47_siftUpUsingComparator_4 rfl ?_
    refine tj_iconst (1 : Int32) dJ47_siftUpUsingComparator_5 rfl ?_
    refine tj_isub dJ47_siftUpUsingComparator_6 ?_
    refine tj_iconst (1 : Int32) dJ47_siftUpUsingComparator_7 rfl ?_
    refine tj_iushr dJ47_siftUpUsingComparator_8 ?_
    refine tj_topi (fun v101 => ?_)
    refine tj_istore dJ47_siftUpUsingComparator_9 (by decide) (rf_cat _) [some (.int l0), some (va_rf l1), some (va_rf l2), some (va_rf l3), some (.int v101), none] rfl ?_
    refine tj_aload_n dJ47_siftUpUsingComparator_11 rfl ?_
    refine tj_iload dJ47_siftUpUsingComparator_12 rfl ?_
    refine tj_aald dJ47_siftUpUsingComparator_14 (fun v102 => ?_)
    refine tj_astore dJ47_siftUpUsingComparator_15 (by decide) rfl [some (.int l0), some (va_rf l1), some (va_rf l2), some (va_rf l3), some (.int v101), some (va_rf v102)] rfl ?_
    refine tj_aload_n dJ47_siftUpUsingComparator_17 rfl ?_
    refine tj_aload_n dJ47_siftUpUsingComparator_18 rfl ?_
    refine tj_aload dJ47_siftUpUsingComparator_19 rfl ?_
    refine tj_callF (as := [va_rf l1, va_rf v102]) (rest := []) (st' := (fun r => [.int r])) (t := 10) (fun a e => by cases e; exact ct_X14_compare d _ _ _) (by decide) rfl q2322 q1677 q1679 q165 q1681 (ev_i 5 rfl) q1680 q1678 q1676 md_i5 rfl (by decide) rfl (by decide) dJ47_siftUpUsingComparator_21 (fun _ => rfl) (fun r103 σ => ?_) (by decide)
    refine tj_if_lt 32 dJ47_siftUpUsingComparator_26 rfl (fun _ => ?_) (fun _ => ?_)
    · refine tj_aload_n dJ47_siftUpUsingComparator_32 rfl ?_
      refine tj_iload_n dJ47_siftUpUsingComparator_33 rfl ?_
      refine tj_aload dJ47_siftUpUsingComparator_34 rfl ?_
      refine tj_aast dJ47_siftUpUsingComparator_36 (fun σ => ?_)
      refine tj_iload dJ47_siftUpUsingComparator_37 rfl ?_
      refine tj_istore_n dJ47_siftUpUsingComparator_39 (by decide) trivial [some (.int v101), some (va_rf l1), some (va_rf l2), some (va_rf l3), some (.int v101), some (va_rf v102)] rfl ?_
      refine tj_goto 0 dJ47_siftUpUsingComparator_40 rfl ?_
      refine tj_wk (L' := [some (.int v101), some (va_rf l1), some (va_rf l2), some (va_rf l3), none, none]) ⟨rfl, rfl, rfl, rfl, trivial⟩ ?_
      exact h0 v101 l1 l2 l3 _
    · refine tj_goto 43 dJ47_siftUpUsingComparator_29 rfl ?_
      refine tj_aload_n dJ47_siftUpUsingComparator_43 rfl ?_
      refine tj_iload_n dJ47_siftUpUsingComparator_44 rfl ?_
      refine tj_aload_n dJ47_siftUpUsingComparator_45 rfl ?_
      refine tj_aast dJ47_siftUpUsingComparator_46 (fun σ => ?_)
      exact tj_vret dJ47_siftUpUsingComparator_47
theorem tj_J47_siftUpUsingComparator_L0 {E : tj_E} {X : tj_X} {n0 s0 : Nat} (d : Nat) : ∀ (k : Nat) (l0 : Int32) (l1 : Option Nat) (l2 : Option Nat) (l3 : Option Nat) (σ : hp_S), tj_T E X RJ47 "siftUpUsingComparator" cJ47_siftUpUsingComparator 6 none (d + 1) [] n0 s0 em_v σ 0 [some (.int l0), some (va_rf l1), some (va_rf l2), some (va_rf l3), none, none] [] (fn_J47_siftUpUsingComparator_L0 d k l0 l1 l2 l3) := by
  intro k
  induction k with
  | zero =>
    intro l0 l1 l2 l3 σ
    exact tj_fail
  | succ k ih =>
    intro l0 l1 l2 l3 σ
    exact tj_J47_siftUpUsingComparator_L0_b d ih l0 l1 l2 l3 σ
theorem tj_J47_siftUpUsingComparator_E {E : tj_E} {X : tj_X} {n0 s0 : Nat} (d : Nat) (v0 : Int32) (v1 : Option Nat) (v2 : Option Nat) (v3 : Option Nat) (σ : hp_S) : tj_T E X RJ47 "siftUpUsingComparator" cJ47_siftUpUsingComparator 6 none (d + 1) [] n0 s0 em_v σ 0 [some (.int v0), some (va_rf v1), some (va_rf v2), some (va_rf v3), none, none] [] (fn_J47_siftUpUsingComparator_E d v0 v1 v2 v3) := by
  unfold fn_J47_siftUpUsingComparator_E
  exact tj_J47_siftUpUsingComparator_L0 d mx_K v0 v1 v2 v3 _
theorem ct_J47_siftUpUsingComparator : ∀ (d : Nat) (v0 : Int32) (v1 : Option Nat) (v2 : Option Nat) (v3 : Option Nat), ct_ yJ47_siftUpUsingComparator (ws_ yJ47_siftUpUsingComparator cJ47_siftUpUsingComparator 6 none) d em_v [.int v0, va_rf v1, va_rf v2, va_rf v3] (fn_J47_siftUpUsingComparator d v0 v1 v2 v3)
  | 0, _, _, _, _ => ct_fail
  | d + 1, v0, v1, v2, v3 => ct_of [(false, .int v0), (false, va_rf v1), (false, va_rf v2), (false, va_rf v3)] [some (.int v0), some (va_rf v1), some (va_rf v2), some (va_rf v3), none, none] (by decide) rfl ⟨rfl, rfl, ⟨rfl, (rf_cat _), ⟨rfl, (rf_cat _), ⟨rfl, (rf_cat _), trivial⟩⟩⟩⟩ (fun E X n0 s0 σ => tj_J47_siftUpUsingComparator_E d v0 v1 v2 v3 σ)
theorem tj_J47_siftUp_B0 {E : tj_E} {X : tj_X} {n0 s0 : Nat} (d : Nat) (v0 : Option Nat) (v1 : Int32) (v2 : Option Nat) (σ : hp_S) : tj_T E X RJ47 "siftUp" cJ47_siftUp 3 none (d + 1) [] n0 s0 em_v σ 0 [some (va_rf v0), some (.int v1), some (va_rf v2)] [] (fn_J47_siftUp_B0 d v0 v1 v2) := by
  unfold fn_J47_siftUp_B0
  refine tj_aload_n dJ47_siftUp_0 rfl ?_
  refine tj_getR fl_J47_21r dJ47_siftUp_1 (fun v101 => ?_)
  refine tj_ifnull 23 dJ47_siftUp_4 rfl (fun _ => ?_) (fun _ _ => ?_)
  · refine tj_iload_n dJ47_siftUp_23 rfl ?_
    refine tj_aload_n dJ47_siftUp_24 rfl ?_
    refine tj_aload_n dJ47_siftUp_25 rfl ?_
    refine tj_getR fl_J47_17 dJ47_siftUp_26 (fun v102 => ?_)
    exact tj_fail
  · refine tj_iload_n dJ47_siftUp_7 rfl ?_
    refine tj_aload_n dJ47_siftUp_8 rfl ?_
    refine tj_aload_n dJ47_siftUp_9 rfl ?_
    refine tj_getR fl_J47_17 dJ47_siftUp_10 (fun v103 => ?_)
    refine tj_aload_n dJ47_siftUp_13 rfl ?_
    refine tj_getR fl_J47_21r dJ47_siftUp_14 (fun v104 => ?_)
    refine tj_callS (as := [.int v1, va_rf v2, va_rf v103, va_rf v104]) (rest := []) (st' := (fun _ => [])) (ct_J47_siftUpUsingComparator d v1 v2 v103 v104) q2333 q2334 q156 q2335 md_J47_siftUpUsingComparator rfl (by decide) rfl (by decide) dJ47_siftUp_17 (fun _ => rfl) (fun _ σ => ?_) (by decide)
    refine tj_goto 32 dJ47_siftUp_20 rfl ?_
    exact tj_vret dJ47_siftUp_32
theorem ct_J47_siftUp : ∀ (d : Nat) (v0 : Option Nat) (v1 : Int32) (v2 : Option Nat), ct_ yJ47_siftUp (ws_ yJ47_siftUp cJ47_siftUp 3 none) d em_v [va_rf v0, .int v1, va_rf v2] (fn_J47_siftUp d v0 v1 v2)
  | 0, _, _, _ => ct_fail
  | d + 1, v0, v1, v2 => ct_of [(false, va_rf v0), (false, .int v1), (false, va_rf v2)] [some (va_rf v0), some (.int v1), some (va_rf v2)] (by decide) rfl ⟨rfl, (rf_cat _), ⟨rfl, rfl, ⟨rfl, (rf_cat _), trivial⟩⟩⟩ (fun E X n0 s0 σ => tj_J47_siftUp_B0 d v0 v1 v2 σ)
theorem tj_J47_offer_J43 {E : tj_E} {X : tj_X} {n0 s0 : Nat} (d : Nat) (l0 : Option Nat) (l1 : Option Nat) (l2 : Int32) (σ : hp_S) : tj_T E X RJ47 "offer" cJ47_offer 3 (some .boolean) (d + 1) [] n0 s0 em_i σ 43 [some (va_rf l0), some (va_rf l1), some (.int l2)] [] (fn_J47_offer_J43 d l0 l1 l2) := by
  unfold fn_J47_offer_J43
  refine tj_aload_n dJ47_offer_43 rfl ?_
  refine tj_iload_n dJ47_offer_44 rfl ?_
  refine tj_aload_n dJ47_offer_45 rfl ?_
  refine tj_callV (as := [.int l2, va_rf l1]) (rest := []) (st' := (fun _ => [])) (t := 27) (fun a e => by cases e; exact ct_J47_siftUp d _ _ _) (by decide) rfl q2329 q2331 qs24 q156 q2332 rfl md_J47_siftUp rfl (by decide) rfl (by decide) dJ47_offer_46 (fun _ => rfl) (fun _ σ => ?_) (by decide)
  refine tj_aload_n dJ47_offer_49 rfl ?_
  refine tj_iload_n dJ47_offer_50 rfl ?_
  refine tj_iconst (1 : Int32) dJ47_offer_51 rfl ?_
  refine tj_iadd dJ47_offer_52 ?_
  refine tj_put fl_J47_58 rfl rfl dJ47_offer_53 (fun σ => ?_)
  refine tj_iconst (1 : Int32) dJ47_offer_56 rfl ?_
  exact tj_zpure rfl dJ47_offer_57
theorem tj_J47_offer_B0 {E : tj_E} {X : tj_X} {n0 s0 : Nat} (d : Nat) (v0 : Option Nat) (v1 : Option Nat) (σ : hp_S) : tj_T E X RJ47 "offer" cJ47_offer 3 (some .boolean) (d + 1) [] n0 s0 em_i σ 0 [some (va_rf v0), some (va_rf v1), none] [] (fn_J47_offer_B0 d v0 v1) := by
  unfold fn_J47_offer_B0
  refine tj_aload_n dJ47_offer_0 rfl ?_
  refine tj_ifnonnull 12 dJ47_offer_1 rfl (fun _ => ?_) (fun _ _ => ?_)
  · exact tj_fail
  · refine tj_aload_n dJ47_offer_12 rfl ?_
    refine tj_dup dJ47_offer_13 (rf_cat _) ?_
    refine tj_getI fl_J47_93 dJ47_offer_14 (fun v101 => ?_)
    refine tj_iconst (1 : Int32) dJ47_offer_17 rfl ?_
    refine tj_iadd dJ47_offer_18 ?_
    refine tj_put fl_J47_93 rfl rfl dJ47_offer_19 (fun σ => ?_)
    refine tj_aload_n dJ47_offer_22 rfl ?_
    refine tj_getI fl_J47_58 dJ47_offer_23 (fun v102 => ?_)
    refine tj_istore_n dJ47_offer_26 (by decide) (rf_cat _) [some (va_rf v0), some (va_rf v1), some (.int v102)] rfl ?_
    refine tj_iload_n dJ47_offer_27 rfl ?_
    refine tj_aload_n dJ47_offer_28 rfl ?_
    refine tj_getR fl_J47_17 dJ47_offer_29 (fun v103 => ?_)
    refine tj_alen dJ47_offer_32 (fun v104 => ?_)
    refine tj_icmp_lt 43 dJ47_offer_33 rfl (fun _ => ?_) (fun _ => ?_)
    · exact tj_J47_offer_J43 d v0 v1 v102 _
    · refine tj_aload_n dJ47_offer_36 rfl ?_
      refine tj_iload_n dJ47_offer_37 rfl ?_
      refine tj_iconst (1 : Int32) dJ47_offer_38 rfl ?_
      refine tj_iadd dJ47_offer_39 ?_
      refine tj_callV (as := [.int (v102 + (1 : Int32))]) (rest := []) (st' := (fun _ => [])) (t := 27) (fun a e => by cases e; exact ct_J47_grow d _ _) (by decide) rfl q2838 q2840 qs35 q156 q2841 rfl md_J47_grow rfl (by decide) rfl (by decide) dJ47_offer_40 (fun _ => rfl) (fun _ σ => ?_) (by decide)
      exact tj_J47_offer_J43 d v0 v1 v102 _
theorem ct_J47_offer : ∀ (d : Nat) (v0 : Option Nat) (v1 : Option Nat), ct_ yJ47_offer (ws_ yJ47_offer cJ47_offer 3 (some .boolean)) d em_i [va_rf v0, va_rf v1] (fn_J47_offer d v0 v1)
  | 0, _, _ => ct_fail
  | d + 1, v0, v1 => ct_of [(false, va_rf v0), (false, va_rf v1)] [some (va_rf v0), some (va_rf v1), none] (by decide) rfl ⟨rfl, (rf_cat _), ⟨rfl, (rf_cat _), trivial⟩⟩ (fun E X n0 s0 σ => tj_J47_offer_B0 d v0 v1 σ)
theorem tj_J47_add_B0 {E : tj_E} {X : tj_X} {n0 s0 : Nat} (d : Nat) (v0 : Option Nat) (v1 : Option Nat) (σ : hp_S) : tj_T E X RJ47 "add" cJ47_add 2 (some .boolean) (d + 1) [] n0 s0 em_i σ 0 [some (va_rf v0), some (va_rf v1)] [] (fn_J47_add_B0 d v0 v1) := by
  unfold fn_J47_add_B0
  refine tj_aload_n dJ47_add_0 rfl ?_
  refine tj_aload_n dJ47_add_1 rfl ?_
  refine tj_callV (as := [va_rf v1]) (rest := []) (st' := (fun r => [.int r])) (t := 27) (fun a e => by cases e; exact ct_J47_offer d _ _) (by decide) rfl q2834 q2835 q2836 q156 q2837 rfl md_J47_offer rfl (by decide) rfl (by decide) dJ47_add_2 (fun _ => rfl) (fun r101 σ => ?_) (by decide)
  exact tj_zret dJ47_add_5
theorem ct_J47_add : ∀ (d : Nat) (v0 : Option Nat) (v1 : Option Nat), ct_ yJ47_add (ws_ yJ47_add cJ47_add 2 (some .boolean)) d em_i [va_rf v0, va_rf v1] (fn_J47_add d v0 v1)
  | 0, _, _ => ct_fail
  | d + 1, v0, v1 => ct_of [(false, va_rf v0), (false, va_rf v1)] [some (va_rf v0), some (va_rf v1)] (by decide) rfl ⟨rfl, (rf_cat _), ⟨rfl, (rf_cat _), trivial⟩⟩ (fun E X n0 s0 σ => tj_J47_add_B0 d v0 v1 σ)
theorem tj_J47_siftDownUsingComparator_J61 {E : tj_E} {X : tj_X} {n0 s0 : Nat} (d : Nat) {b5 : Int32 → Option Nat → Option Nat → Int32 → Option Nat → Int32 → mx_M Unit} (h5 : ∀ (l0 : Int32) (l1 : Option Nat) (l2 : Option Nat) (l3 : Int32) (l4 : Option Nat) (l5 : Int32) (σ : hp_S), tj_T E X RJ47 "siftDownUsingComparator" cJ47_siftDownUsingComparator 9 none (d + 1) [] n0 s0 em_v σ 5 [some (.int l0), some (va_rf l1), some (va_rf l2), some (.int l3), some (va_rf l4), some (.int l5), none, none, none] [] (b5 l0 l1 l2 l3 l4 l5)) (l0 : Int32) (l1 : Option Nat) (l2 : Option Nat) (l3 : Int32) (l4 : Option Nat) (l5 : Int32) (l6 : Int32) (l7 : Option Nat) (σ : hp_S) : tj_T E X RJ47 "siftDownUsingComparator" cJ47_siftDownUsingComparator 9 none (d + 1) [] n0 s0 em_v σ 61 [some (.int l0), some (va_rf l1), some (va_rf l2), some (.int l3), some (va_rf l4), some (.int l5), some (.int l6), some (va_rf l7), none] [] (fn_J47_siftDownUsingComparator_J61 d b5 l0 l1 l2 l3 l4 l5 l6 l7) := by
  unfold fn_J47_siftDownUsingComparator_J61
  refine tj_aload dJ47_siftDownUsingComparator_61 rfl ?_
  refine tj_aload_n dJ47_siftDownUsingComparator_63 rfl ?_
  refine tj_aload dJ47_siftDownUsingComparator_64 rfl ?_
  refine tj_callF (as := [va_rf l1, va_rf l7]) (rest := []) (st' := (fun r => [.int r])) (t := 10) (fun a e => by cases e; exact ct_X14_compare d _ _ _) (by decide) rfl q2322 q1677 q1679 q165 q1681 (ev_i 5 rfl) q1680 q1678 q1676 md_i5 rfl (by decide) rfl (by decide) dJ47_siftDownUsingComparator_66 (fun _ => rfl) (fun r101 σ => ?_) (by decide)
  refine tj_if_gt 77 dJ47_siftDownUsingComparator_71 rfl (fun _ => ?_) (fun _ => ?_)
  · refine tj_aload_n dJ47_siftDownUsingComparator_77 rfl ?_
    refine tj_iload_n dJ47_siftDownUsingComparator_78 rfl ?_
    refine tj_aload dJ47_siftDownUsingComparator_79 rfl ?_
    refine tj_aast dJ47_siftDownUsingComparator_81 (fun σ => ?_)
    refine tj_iload dJ47_siftDownUsingComparator_82 rfl ?_
    refine tj_istore_n dJ47_siftDownUsingComparator_84 (by decide) trivial [some (.int l6), some (va_rf l1), some (va_rf l2), some (.int l3), some (va_rf l4), some (.int l5), some (.int l6), some (va_rf l7), none] rfl ?_
    refine tj_goto 5 dJ47_siftDownUsingComparator_85 rfl ?_
    refine tj_wk (L' := [some (.int l6), some (va_rf l1), some (va_rf l2), some (.int l3), some (va_rf l4), some (.int l5), none, none, none]) ⟨rfl, rfl, rfl, rfl, rfl, rfl, trivial⟩ ?_
    exact h5 l6 l1 l2 l3 l4 l5 _
  · refine tj_goto 88 dJ47_siftDownUsingComparator_74 rfl ?_
    refine tj_aload_n dJ47_siftDownUsingComparator_88 rfl ?_
    refine tj_iload_n dJ47_siftDownUsingComparator_89 rfl ?_
    refine tj_aload_n dJ47_siftDownUsingComparator_90 rfl ?_
    refine tj_aast dJ47_siftDownUsingComparator_91 (fun σ => ?_)
    exact tj_vret dJ47_siftDownUsingComparator_92
theorem tj_J47_siftDownUsingComparator_L5_b {E : tj_E} {X : tj_X} {n0 s0 : Nat} (d : Nat) {b5 : Int32 → Option Nat → Option Nat → Int32 → Option Nat → Int32 → mx_M Unit} (h5 : ∀ (l0 : Int32) (l1 : Option Nat) (l2 : Option Nat) (l3 : Int32) (l4 : Option Nat) (l5 : Int32) (σ : hp_S), tj_T E X RJ47 "siftDownUsingComparator" cJ47_siftDownUsingComparator 9 none (d + 1) [] n0 s0 em_v σ 5 [some (.int l0), some (va_rf l1), some (va_rf l2), some (.int l3), some (va_rf l4), some (.int l5), none, none, none] [] (b5 l0 l1 l2 l3 l4 l5)) (l0 : Int32) (l1 : Option Nat) (l2 : Option Nat) (l3 : Int32) (l4 : Option Nat) (l5 : Int32) (σ : hp_S) : tj_T E X RJ47 "siftDownUsingComparator" cJ47_siftDownUsingComparator 9 none (d + 1) [] n0 s0 em_v σ 5 [some (.int l0), some (va_rf l1), some (va_rf l2), some (.int l3), some (va_rf l4), some (.int l5), none, none, none] [] (fn_J47_siftDownUsingComparator_L5_b d b5 l0 l1 l2 l3 l4 l5) := by
  unfold fn_J47_siftDownUsingComparator_L5_b
  refine tj_iload_n dJ47_siftDownUsingComparator_5 rfl ?_
  refine tj_iload dJ47_siftDownUsingComparator_6 rfl ?_
  refine tj_icmp_ge 88 dJ47_siftDownUsingComparator_8 rfl (fun _ => ?_) (fun _ => ?_)
  · refine tj_aload_n dJ47_siftDownUsingComparator_88 rfl ?_
    refine tj_iload_n dJ47_siftDownUsingComparator_89 rfl ?_
    refine tj_aload_n dJ47_siftDownUsingComparator_90 rfl ?_
    refine tj_aast dJ47_siftDownUsingComparator_91 (fun σ => ?_)
    exact tj_vret dJ47_siftDownUsingComparator_92
  · refine tj_iload_n dJ47_siftDownUsingComparator_11 rfl ?_
    refine tj_iconst (1 : Int32) dJ47_siftDownUsingComparator_12 rfl ?_
    refine tj_ishl dJ47_siftDownUsingComparator_13 ?_
    refine tj_iconst (1 : Int32) dJ47_siftDownUsingComparator_14 rfl ?_
    refine tj_iadd dJ47_siftDownUsingComparator_15 ?_
    refine tj_topi (fun v101 => ?_)
    refine tj_istore dJ47_siftDownUsingComparator_16 (by decide) rfl [some (.int l0), some (va_rf l1), some (va_rf l2), some (.int l3), some (va_rf l4), some (.int l5), some (.int v101), none, none] rfl ?_
    refine tj_aload_n dJ47_siftDownUsingComparator_18 rfl ?_
    refine tj_iload dJ47_siftDownUsingComparator_19 rfl ?_
    refine tj_aald dJ47_siftDownUsingComparator_21 (fun v102 => ?_)
    refine tj_astore dJ47_siftDownUsingComparator_22 (by decide) rfl [some (.int l0), some (va_rf l1), some (va_rf l2), some (.int l3), some (va_rf l4), some (.int l5), some (.int v101), some (va_rf v102), none] rfl ?_
    refine tj_iload dJ47_siftDownUsingComparator_24 rfl ?_
    refine tj_iconst (1 : Int32) dJ47_siftDownUsingComparator_26 rfl ?_
    refine tj_iadd dJ47_siftDownUsingComparator_27 ?_
    refine tj_topi (fun v103 => ?_)
    refine tj_istore dJ47_siftDownUsingComparator_28 (by decide) (rf_cat _) [some (.int l0), some (va_rf l1), some (va_rf l2), some (.int l3), some (va_rf l4), some (.int l5), some (.int v101), some (va_rf v102), some (.int v103)] rfl ?_
    refine tj_iload dJ47_siftDownUsingComparator_30 rfl ?_
    refine tj_iload_n dJ47_siftDownUsingComparator_32 rfl ?_
    refine tj_icmp_ge 61 dJ47_siftDownUsingComparator_33 rfl (fun _ => ?_) (fun _ => ?_)
    · refine tj_wk (L' := [some (.int l0), some (va_rf l1), some (va_rf l2), some (.int l3), some (va_rf l4), some (.int l5), some (.int v101), some (va_rf v102), none]) ⟨rfl, rfl, rfl, rfl, rfl, rfl, rfl, rfl, trivial⟩ ?_
      exact tj_J47_siftDownUsingComparator_J61 d h5 l0 l1 l2 l3 l4 l5 v101 v102 _
    · refine tj_aload dJ47_siftDownUsingComparator_36 rfl ?_
      refine tj_aload dJ47_siftDownUsingComparator_38 rfl ?_
      refine tj_aload_n dJ47_siftDownUsingComparator_40 rfl ?_
      refine tj_iload dJ47_siftDownUsingComparator_41 rfl ?_
      refine tj_aald dJ47_siftDownUsingComparator_43 (fun v104 => ?_)
      refine tj_callF (as := [va_rf v102, va_rf v104]) (rest := []) (st' := (fun r => [.int r])) (t := 10) (fun a e => by cases e; exact ct_X14_compare d _ _ _) (by decide) rfl q2322 q1677 q1679 q165 q1681 (ev_i 5 rfl) q1680 q1678 q1676 md_i5 rfl (by decide) rfl (by decide) dJ47_siftDownUsingComparator_44 (fun _ => rfl) (fun r105 σ => ?_) (by decide)
      refine tj_if_le 61 dJ47_siftDownUsingComparator_49 rfl (fun _ => ?_) (fun _ => ?_)
      · refine tj_wk (L' := [some (.int l0), some (va_rf l1), some (va_rf l2), some (.int l3), some (va_rf l4), some (.int l5), some (.int v101), some (va_rf v102), none]) ⟨rfl, rfl, rfl, rfl, rfl, rfl, rfl, rfl, trivial⟩ ?_
        exact tj_J47_siftDownUsingComparator_J61 d h5 l0 l1 l2 l3 l4 l5 v101 v102 _
      · refine tj_aload_n dJ47_siftDownUsingComparator_52 rfl ?_
        refine tj_iload dJ47_siftDownUsingComparator_53 rfl ?_
        refine tj_dup dJ47_siftDownUsingComparator_55 rfl ?_
        refine tj_istore dJ47_siftDownUsingComparator_56 (by decide) rfl [some (.int l0), some (va_rf l1), some (va_rf l2), some (.int l3), some (va_rf l4), some (.int l5), some (.int v103), some (va_rf v102), some (.int v103)] rfl ?_
        refine tj_aald dJ47_siftDownUsingComparator_58 (fun v106 => ?_)
        refine tj_astore dJ47_siftDownUsingComparator_59 (by decide) rfl [some (.int l0), some (va_rf l1), some (va_rf l2), some (.int l3), some (va_rf l4), some (.int l5), some (.int v103), some (va_rf v106), some (.int v103)] rfl ?_
        refine tj_wk (L' := [some (.int l0), some (va_rf l1), some (va_rf l2), some (.int l3), some (va_rf l4), some (.int l5), some (.int v103), some (va_rf v106), none]) ⟨rfl, rfl, rfl, rfl, rfl, rfl, rfl, rfl, trivial⟩ ?_
        exact tj_J47_siftDownUsingComparator_J61 d h5 l0 l1 l2 l3 l4 l5 v103 v106 _
theorem tj_J47_siftDownUsingComparator_L5 {E : tj_E} {X : tj_X} {n0 s0 : Nat} (d : Nat) : ∀ (k : Nat) (l0 : Int32) (l1 : Option Nat) (l2 : Option Nat) (l3 : Int32) (l4 : Option Nat) (l5 : Int32) (σ : hp_S), tj_T E X RJ47 "siftDownUsingComparator" cJ47_siftDownUsingComparator 9 none (d + 1) [] n0 s0 em_v σ 5 [some (.int l0), some (va_rf l1), some (va_rf l2), some (.int l3), some (va_rf l4), some (.int l5), none, none, none] [] (fn_J47_siftDownUsingComparator_L5 d k l0 l1 l2 l3 l4 l5) := by
  intro k
  induction k with
  | zero =>
    intro l0 l1 l2 l3 l4 l5 σ
    exact tj_fail
  | succ k ih =>
    intro l0 l1 l2 l3 l4 l5 σ
    exact tj_J47_siftDownUsingComparator_L5_b d ih l0 l1 l2 l3 l4 l5 σ
theorem tj_J47_siftDownUsingComparator_B0 {E : tj_E} {X : tj_X} {n0 s0 : Nat} (d : Nat) (v0 : Int32) (v1 : Option Nat) (v2 : Option Nat) (v3 : Int32) (v4 : Option Nat) (σ : hp_S) : tj_T E X RJ47 "siftDownUsingComparator" cJ47_siftDownUsingComparator 9 none (d + 1) [] n0 s0 em_v σ 0 [some (.int v0), some (va_rf v1), some (va_rf v2), some (.int v3), some (va_rf v4), none, none, none, none] [] (fn_J47_siftDownUsingComparator_B0 d v0 v1 v2 v3 v4) := by
  unfold fn_J47_siftDownUsingComparator_B0
  refine tj_iload_n dJ47_siftDownUsingComparator_0 rfl ?_
  refine tj_iconst (1 : Int32) dJ47_siftDownUsingComparator_1 rfl ?_
  refine tj_iushr dJ47_siftDownUsingComparator_2 ?_
  refine tj_topi (fun v101 => ?_)
  refine tj_istore dJ47_siftDownUsingComparator_3 (by decide) (rf_cat _) [some (.int v0), some (va_rf v1), some (va_rf v2), some (.int v3), some (va_rf v4), some (.int v101), none, none, none] rfl ?_
  exact tj_J47_siftDownUsingComparator_L5 d mx_K v0 v1 v2 v3 v4 v101 _
theorem ct_J47_siftDownUsingComparator : ∀ (d : Nat) (v0 : Int32) (v1 : Option Nat) (v2 : Option Nat) (v3 : Int32) (v4 : Option Nat), ct_ yJ47_siftDownUsingComparator (ws_ yJ47_siftDownUsingComparator cJ47_siftDownUsingComparator 9 none) d em_v [.int v0, va_rf v1, va_rf v2, .int v3, va_rf v4] (fn_J47_siftDownUsingComparator d v0 v1 v2 v3 v4)
  | 0, _, _, _, _, _ => ct_fail
  | d + 1, v0, v1, v2, v3, v4 => ct_of [(false, .int v0), (false, va_rf v1), (false, va_rf v2), (false, .int v3), (false, va_rf v4)] [some (.int v0), some (va_rf v1), some (va_rf v2), some (.int v3), some (va_rf v4), none, none, none, none] (by decide) rfl ⟨rfl, rfl, ⟨rfl, (rf_cat _), ⟨rfl, (rf_cat _), ⟨rfl, rfl, ⟨rfl, (rf_cat _), trivial⟩⟩⟩⟩⟩ (fun E X n0 s0 σ => tj_J47_siftDownUsingComparator_B0 d v0 v1 v2 v3 v4 σ)
theorem tj_J47_poll_B0 {E : tj_E} {X : tj_X} {n0 s0 : Nat} (d : Nat) (v0 : Option Nat) (σ : hp_S) : tj_T E X RJ47 "poll" cJ47_poll 6 (some (.object "java/lang/Object")) (d + 1) [] n0 s0 em_r σ 0 [some (va_rf v0), none, none, none, none, none] [] (fn_J47_poll_B0 d v0) := by
  unfold fn_J47_poll_B0
  refine tj_aload_n dJ47_poll_0 rfl ?_
  refine tj_getR fl_J47_17 dJ47_poll_1 (fun v101 => ?_)
  refine tj_dup dJ47_poll_4 (rf_cat _) ?_
  refine tj_astore_n dJ47_poll_5 (by decide) (rf_cat _) [some (va_rf v0), some (va_rf v101), none, none, none, none] rfl ?_
  refine tj_iconst (0 : Int32) dJ47_poll_6 rfl ?_
  refine tj_aald dJ47_poll_7 (fun v102 => ?_)
  refine tj_dup dJ47_poll_8 (rf_cat _) ?_
  refine tj_astore_n dJ47_poll_9 (by decide) (rf_cat _) [some (va_rf v0), some (va_rf v101), some (va_rf v102), none, none, none] rfl ?_
  refine tj_ifnull 79 dJ47_poll_10 rfl (fun _ => ?_) (fun _ _ => ?_)
  · refine tj_aload_n dJ47_poll_79 rfl ?_
    exact tj_aret (Or.inl ⟨_, rfl⟩) dJ47_poll_80
  · refine tj_aload_n dJ47_poll_13 rfl ?_
    refine tj_dup dJ47_poll_14 (rf_cat _) ?_
    refine tj_getI fl_J47_93 dJ47_poll_15 (fun v103 => ?_)
    refine tj_iconst (1 : Int32) dJ47_poll_18 rfl ?_
    refine tj_iadd dJ47_poll_19 ?_
    refine tj_put fl_J47_93 rfl rfl dJ47_poll_20 (fun σ => ?_)
    refine tj_aload_n dJ47_poll_23 rfl ?_
    refine tj_aload_n dJ47_poll_24 rfl ?_
    refine tj_dup dJ47_poll_25 (rf_cat _) ?_
    refine tj_getI fl_J47_58 dJ47_poll_26 (fun v104 => ?_)
    refine tj_iconst (1 : Int32) dJ47_poll_29 rfl ?_
    refine tj_isub dJ47_poll_30 ?_
    refine tj_topi (fun v105 => ?_)
    refine tj_dup_x1 dJ47_poll_31 rfl (rf_cat _) ?_
    refine tj_put fl_J47_58 rfl rfl dJ47_poll_32 (fun σ => ?_)
    refine tj_dup dJ47_poll_35 rfl ?_
    refine tj_istore_n dJ47_poll_36 (by decide) (rf_cat _) [some (va_rf v0), some (va_rf v101), some (va_rf v102), some (.int v105), none, none] rfl ?_
    refine tj_aald dJ47_poll_37 (fun v106 => ?_)
    refine tj_astore dJ47_poll_38 (by decide) rfl [some (va_rf v0), some (va_rf v101), some (va_rf v102), some (.int v105), some (va_rf v106), none] rfl ?_
    refine tj_aload_n dJ47_poll_40 rfl ?_
    refine tj_iload_n dJ47_poll_41 rfl ?_
    refine tj_null dJ47_poll_42 ?_
    refine tj_aast dJ47_poll_43 (fun σ => ?_)
    refine tj_iload_n dJ47_poll_44 rfl ?_
    refine tj_if_le 79 dJ47_poll_45 rfl (fun _ => ?_) (fun _ => ?_)
    · refine tj_aload_n dJ47_poll_79 rfl ?_
      exact tj_aret (Or.inl ⟨_, rfl⟩) dJ47_poll_80
    · refine tj_aload_n dJ47_poll_48 rfl ?_
      refine tj_getR fl_J47_21r dJ47_poll_49 (fun v107 => ?_)
      refine tj_dup dJ47_poll_52 (rf_cat _) ?_
      refine tj_astore dJ47_poll_53 (by decide) (rf_cat _) [some (va_rf v0), some (va_rf v101), some (va_rf v102), some (.int v105), some (va_rf v106), some (va_rf v107)] rfl ?_
      refine tj_ifnonnull 69 dJ47_poll_55 rfl (fun _ => ?_) (fun _ _ => ?_)
      · refine tj_iconst (0 : Int32) dJ47_poll_58 rfl ?_
        refine tj_aload dJ47_poll_59 rfl ?_
        refine tj_aload_n dJ47_poll_61 rfl ?_
        refine tj_iload_n dJ47_poll_62 rfl ?_
        exact tj_fail
      · refine tj_iconst (0 : Int32) dJ47_poll_69 rfl ?_
        refine tj_aload dJ47_poll_70 rfl ?_
        refine tj_aload_n dJ47_poll_72 rfl ?_
        refine tj_iload_n dJ47_poll_73 rfl ?_
        refine tj_aload dJ47_poll_74 rfl ?_
        refine tj_callS (as := [.int (0 : Int32), va_rf v106, va_rf v101, .int v105, va_rf v107]) (rest := []) (st' := (fun _ => [])) (ct_J47_siftDownUsingComparator d (0 : Int32) v106 v101 v105 v107) q2318 q2319 q156 q2320 md_J47_siftDownUsingComparator rfl (by decide) rfl (by decide) dJ47_poll_76 (fun _ => rfl) (fun _ σ => ?_) (by decide)
        refine tj_aload_n dJ47_poll_79 rfl ?_
        exact tj_aret (Or.inl ⟨_, rfl⟩) dJ47_poll_80
theorem ct_J47_poll : ∀ (d : Nat) (v0 : Option Nat), ct_ yJ47_poll (ws_ yJ47_poll cJ47_poll 6 (some (.object "java/lang/Object"))) d em_r [va_rf v0] (fn_J47_poll d v0)
  | 0, _ => ct_fail
  | d + 1, v0 => ct_of [(false, va_rf v0)] [some (va_rf v0), none, none, none, none, none] (by decide) rfl ⟨rfl, (rf_cat _), trivial⟩ (fun E X n0 s0 σ => tj_J47_poll_B0 d v0 σ)
theorem tj_J47_size_B0 {E : tj_E} {X : tj_X} {n0 s0 : Nat} (d : Nat) (v0 : Option Nat) (σ : hp_S) : tj_T E X RJ47 "size" cJ47_size 1 (some .int) (d + 1) [] n0 s0 em_i σ 0 [some (va_rf v0)] [] (fn_J47_size_B0 d v0) := by
  unfold fn_J47_size_B0
  refine tj_aload_n dJ47_size_0 rfl ?_
  refine tj_getI fl_J47_58 dJ47_size_1 (fun v101 => ?_)
  exact tj_iret dJ47_size_4
theorem ct_J47_size : ∀ (d : Nat) (v0 : Option Nat), ct_ yJ47_size (ws_ yJ47_size cJ47_size 1 (some .int)) d em_i [va_rf v0] (fn_J47_size d v0)
  | 0, _ => ct_fail
  | d + 1, v0 => ct_of [(false, va_rf v0)] [some (va_rf v0)] (by decide) rfl ⟨rfl, (rf_cat _), trivial⟩ (fun E X n0 s0 σ => tj_J47_size_B0 d v0 σ)
theorem tj_X12_most_J87 {E : tj_E} {X : tj_X} {n0 s0 : Nat} (d : Nat) {b30 : Option Nat → Int32 → Option Nat → mx_M Int32} (h30 : ∀ (l1 : Option Nat) (l2 : Int32) (l3 : Option Nat) (σ : hp_S), tj_T E X RX12 "most" cX12_most 5 (some .int) (d + 1) [] n0 s0 em_i σ 30 [none, some (va_rf l1), some (.int l2), some (va_rf l3), none] [] (b30 l1 l2 l3)) (l1 : Option Nat) (l2 : Int32) (l3 : Option Nat) (σ : hp_S) : tj_T E X RX12 "most" cX12_most 5 (some .int) (d + 1) [] n0 s0 em_i σ 87 [none, some (va_rf l1), some (.int l2), some (va_rf l3), none] [] (fn_X12_most_J87 d b30 l1 l2 l3) := by
  unfold fn_X12_most_J87
  refine tj_goto 30 dX12_most_87 rfl ?_
  exact h30 l1 l2 l3 _
theorem tj_X12_most_L30_b {E : tj_E} {X : tj_X} {n0 s0 : Nat} (d : Nat) {b30 : Option Nat → Int32 → Option Nat → mx_M Int32} (h30 : ∀ (l1 : Option Nat) (l2 : Int32) (l3 : Option Nat) (σ : hp_S), tj_T E X RX12 "most" cX12_most 5 (some .int) (d + 1) [] n0 s0 em_i σ 30 [none, some (va_rf l1), some (.int l2), some (va_rf l3), none] [] (b30 l1 l2 l3)) (l1 : Option Nat) (l2 : Int32) (l3 : Option Nat) (σ : hp_S) : tj_T E X RX12 "most" cX12_most 5 (some .int) (d + 1) [] n0 s0 em_i σ 30 [none, some (va_rf l1), some (.int l2), some (va_rf l3), none] [] (fn_X12_most_L30_b d b30 l1 l2 l3) := by
  unfold fn_X12_most_L30_b
  refine tj_aload_n dX12_most_30 rfl ?_
  refine tj_callF (as := []) (rest := []) (st' := (fun r => [.int r])) (t := 17) (fun a e => by cases e; exact ct_J14_hasNext d _) (by decide) rfl q2757 q1060 q1062 q114 q1064 (ev_i 1 rfl) q1063 q1061 q1059 md_i1 rfl (by decide) rfl (by decide) dX12_most_31 (fun _ => rfl) (fun r101 σ => ?_) (by decide)
  refine tj_if_eq 90 dX12_most_36 rfl (fun _ => ?_) (fun _ => ?_)
  · refine tj_aload_n dX12_most_90 rfl ?_
    refine tj_callV (as := []) (rest := []) (st' := (fun r => [.int r])) (t := 27) (fun a e => by cases e; exact ct_J47_size d _) (by decide) rfl q2847 q2592 q4352 q156 q2593 rfl md_J47_size rfl (by decide) rfl (by decide) dX12_most_91 (fun _ => rfl) (fun r102 σ => ?_) (by decide)
    exact tj_iret dX12_most_94
  · refine tj_aload_n dX12_most_39 rfl ?_
    refine tj_callF (as := []) (rest := []) (st' := (fun r => [va_rf r])) (t := 17) (fun a e => by cases e; exact ct_J14_next d _) (by decide) rfl q2759 q1299 q1301 q114 q1303 (ev_i 2 rfl) q1302 q1300 q1059 md_i2 rfl (by decide) rfl (by decide) dX12_most_40 (fun _ => rfl) (fun r103 σ => ?_) (by decide)
    refine tj_cast (nm := "LionGate$Lion") q2760 ca_LionGate_Lion dX12_most_45 ?_
    refine tj_astore dX12_most_48 (by decide) (rf_cat _) [none, some (va_rf l1), some (.int l2), some (va_rf l3), some (va_rf r103)] rfl ?_
    refine tj_aload_n dX12_most_50 rfl ?_
    refine tj_aload dX12_most_51 rfl ?_
    refine tj_callV (as := [va_rf r103]) (rest := []) (st' := (fun r => [.int r])) (t := 27) (fun a e => by cases e; exact ct_J47_add d _ _) (by decide) rfl q2830 q2831 q2832 q156 q2833 rfl md_J47_add rfl (by decide) rfl (by decide) dX12_most_53 (fun _ => rfl) (fun r104 σ => ?_) (by decide)
    refine tj_pop dX12_most_56 rfl ?_
    refine tj_iload_n dX12_most_57 rfl ?_
    refine tj_aload dX12_most_58 rfl ?_
    refine tj_getI fl_X12_59r dX12_most_60 (fun v105 => ?_)
    refine tj_iadd dX12_most_63 ?_
    refine tj_topi (fun v106 => ?_)
    refine tj_istore_n dX12_most_64 (by decide) (rf_cat _) [none, some (va_rf l1), some (.int v106), some (va_rf l3), some (va_rf r103)] rfl ?_
    refine tj_iload_n dX12_most_65 rfl ?_
    refine tj_aload dX12_most_66 rfl ?_
    refine tj_getI fl_X12_62r dX12_most_68 (fun v107 => ?_)
    refine tj_icmp_le 87 dX12_most_71 rfl (fun _ => ?_) (fun _ => ?_)
    · refine tj_wk (L' := [none, some (va_rf l1), some (.int v106), some (va_rf l3), none]) ⟨rfl, rfl, rfl, trivial⟩ ?_
      exact tj_X12_most_J87 d h30 l1 v106 l3 _
    · refine tj_iload_n dX12_most_74 rfl ?_
      refine tj_aload_n dX12_most_75 rfl ?_
      refine tj_callV (as := []) (rest := [.int v106]) (st' := (fun r => [va_rf r, .int v106])) (t := 27) (fun a e => by cases e; exact ct_J47_poll d _) (by decide) rfl q2843 q2844 q2845 q156 q2846 rfl md_J47_poll rfl (by decide) rfl (by simp [rf_cat, cat_i, cat_l, cat_f, cat_d]) dX12_most_76 (fun _ => rfl) (fun r108 σ => ?_) (by decide)
      refine tj_cast (nm := "LionGate$Lion") q2760 ca_LionGate_Lion dX12_most_79 ?_
      refine tj_getI fl_X12_59r dX12_most_82 (fun v109 => ?_)
      refine tj_isub dX12_most_85 ?_
      refine tj_topi (fun v110 => ?_)
      refine tj_istore_n dX12_most_86 (by decide) (rf_cat _) [none, some (va_rf l1), some (.int v110), some (va_rf l3), some (va_rf r103)] rfl ?_
      refine tj_wk (L' := [none, some (va_rf l1), some (.int v110), some (va_rf l3), none]) ⟨rfl, rfl, rfl, trivial⟩ ?_
      exact tj_X12_most_J87 d h30 l1 v110 l3 _
theorem tj_X12_most_L30 {E : tj_E} {X : tj_X} {n0 s0 : Nat} (d : Nat) : ∀ (k : Nat) (l1 : Option Nat) (l2 : Int32) (l3 : Option Nat) (σ : hp_S), tj_T E X RX12 "most" cX12_most 5 (some .int) (d + 1) [] n0 s0 em_i σ 30 [none, some (va_rf l1), some (.int l2), some (va_rf l3), none] [] (fn_X12_most_L30 d k l1 l2 l3) := by
  intro k
  induction k with
  | zero =>
    intro l1 l2 l3 σ
    exact tj_fail
  | succ k ih =>
    intro l1 l2 l3 σ
    exact tj_X12_most_L30_b d ih l1 l2 l3 σ
theorem tj_X12_most_B0 {E : tj_E} {X : tj_X} {n0 s0 : Nat} (d : Nat) (v0 : Option Nat) (σ : hp_S) : tj_T E X RX12 "most" cX12_most 5 (some .int) (d + 1) [] n0 s0 em_i σ 0 [some (va_rf v0), none, none, none, none] [] (fn_X12_most_B0 d v0) := by
  unfold fn_X12_most_B0
  refine tj_new nw_X12_69 dX12_most_0 (fun a101 σ => ?_)
  refine tj_dup dX12_most_3 (rf_cat _) ?_
  refine tj_new nw_X12_71 dX12_most_4 (fun a102 σ => ?_)
  refine tj_dup dX12_most_7 (rf_cat _) ?_
  refine tj_callIN (as := []) (rest := [va_rf (some a102), va_rf (some a101), va_rf (some a101)]) (st' := (fun _ => [va_rf (some a102), va_rf (some a101), va_rf (some a101)])) (fun a e => by cases e; exact ct_X14_init d _) q2794 q2795 q165 q2796 rfl md_X14_init rfl (by decide) rfl (by simp [rf_cat, cat_i, cat_l, cat_f, cat_d]) dX12_most_8 (fun _ => rfl) (fun _ σ => ?_) (by decide)
  refine tj_callI (as := [va_rf (some a102)]) (rest := [va_rf (some a101)]) (st' := (fun _ => [va_rf (some a101)])) (fun a e => by cases e; exact ct_J47_init d _ _) q2799 q2800 q156 q2801 rfl md_J47_init rfl (by decide) rfl (by simp [rf_cat, cat_i, cat_l, cat_f, cat_d]) dX12_most_11 (fun _ => rfl) (fun _ σ => ?_) (by decide)
  refine tj_astore_n dX12_most_14 (by decide) (rf_cat _) [some (va_rf v0), some (va_rf (some a101)), none, none, none] rfl ?_
  refine tj_aload_n dX12_most_15 rfl ?_
  refine tj_getI fl_X12_16r dX12_most_16 (fun v103 => ?_)
  refine tj_istore_n dX12_most_19 (by decide) (rf_cat _) [some (va_rf v0), some (va_rf (some a101)), some (.int v103), none, none] rfl ?_
  refine tj_aload_n dX12_most_20 rfl ?_
  refine tj_getR fl_X12_10r dX12_most_21 (fun v104 => ?_)
  refine tj_callF (as := []) (rest := []) (st' := (fun r => [va_rf r])) (t := 16) (fun a e => by cases e; exact ct_J4_iterator d _) (by decide) rfl q2829 q1764 q466 q103 q468 (ev_i 6 rfl) q467 q465 q1323 md_i6 rfl (by decide) rfl (by decide) dX12_most_24 (fun _ => rfl) (fun r105 σ => ?_) (by decide)
  refine tj_astore_n dX12_most_29 (by decide) rfl [some (va_rf v0), some (va_rf (some a101)), some (.int v103), some (va_rf r105), none] rfl ?_
  refine tj_wk (L' := [none, some (va_rf (some a101)), some (.int v103), some (va_rf r105), none]) ⟨rfl, rfl, rfl, trivial⟩ ?_
  exact tj_X12_most_L30 d mx_K (some a101) v103 r105 _
theorem ct_X12_most : ∀ (d : Nat) (v0 : Option Nat), ct_ yX12_most (ws_ yX12_most cX12_most 5 (some .int)) d em_i [va_rf v0] (fn_X12_most d v0)
  | 0, _ => ct_fail
  | d + 1, v0 => ct_of [(false, va_rf v0)] [some (va_rf v0), none, none, none, none] (by decide) rfl ⟨rfl, (rf_cat _), trivial⟩ (fun E X n0 s0 σ => tj_X12_most_B0 d v0 σ)
theorem tj_J27_bitCount_B0 {E : tj_E} {X : tj_X} {n0 s0 : Nat} (d : Nat) (v0 : Int32) (σ : hp_S) : tj_T E X RJ27 "bitCount" cJ27_bitCount 1 (some .int) (d + 1) [] n0 s0 em_i σ 0 [some (.int v0)] [] (fn_J27_bitCount_B0 d v0) := by
  unfold fn_J27_bitCount_B0
  refine tj_iload_n dJ27_bitCount_0 rfl ?_
  refine tj_iload_n dJ27_bitCount_1 rfl ?_
  refine tj_iconst (1 : Int32) dJ27_bitCount_2 rfl ?_
  refine tj_iushr dJ27_bitCount_3 ?_
  refine tj_ldcw (v := (1431655765 : Int32)) dJ27_bitCount_4 q2859 ?_
  refine tj_iand dJ27_bitCount_7 ?_
  refine tj_isub dJ27_bitCount_8 ?_
  refine tj_topi (fun v101 => ?_)
  refine tj_istore_n dJ27_bitCount_9 (by decide) trivial [some (.int v101)] rfl ?_
  refine tj_iload_n dJ27_bitCount_10 rfl ?_
  refine tj_ldcw (v := (858993459 : Int32)) dJ27_bitCount_11 q2860 ?_
  refine tj_iand dJ27_bitCount_14 ?_
  refine tj_iload_n dJ27_bitCount_15 rfl ?_
  refine tj_iconst (2 : Int32) dJ27_bitCount_16 rfl ?_
  refine tj_iushr dJ27_bitCount_17 ?_
  refine tj_ldcw (v := (858993459 : Int32)) dJ27_bitCount_18 q2860 ?_
  refine tj_iand dJ27_bitCount_21 ?_
  refine tj_iadd dJ27_bitCount_22 ?_
  refine tj_topi (fun v102 => ?_)
  refine tj_istore_n dJ27_bitCount_23 (by decide) trivial [some (.int v102)] rfl ?_
  refine tj_iload_n dJ27_bitCount_24 rfl ?_
  refine tj_iload_n dJ27_bitCount_25 rfl ?_
  refine tj_iconst (4 : Int32) dJ27_bitCount_26 rfl ?_
  refine tj_iushr dJ27_bitCount_27 ?_
  refine tj_iadd dJ27_bitCount_28 ?_
  refine tj_ldcw (v := (252645135 : Int32)) dJ27_bitCount_29 q2861 ?_
  refine tj_iand dJ27_bitCount_32 ?_
  refine tj_topi (fun v103 => ?_)
  refine tj_istore_n dJ27_bitCount_33 (by decide) trivial [some (.int v103)] rfl ?_
  refine tj_iload_n dJ27_bitCount_34 rfl ?_
  refine tj_iload_n dJ27_bitCount_35 rfl ?_
  refine tj_bipush (8 : Int32) dJ27_bitCount_36 (by decide) ?_
  refine tj_iushr dJ27_bitCount_38 ?_
  refine tj_iadd dJ27_bitCount_39 ?_
  refine tj_topi (fun v104 => ?_)
  refine tj_istore_n dJ27_bitCount_40 (by decide) trivial [some (.int v104)] rfl ?_
  refine tj_iload_n dJ27_bitCount_41 rfl ?_
  refine tj_iload_n dJ27_bitCount_42 rfl ?_
  refine tj_bipush (16 : Int32) dJ27_bitCount_43 (by decide) ?_
  refine tj_iushr dJ27_bitCount_45 ?_
  refine tj_iadd dJ27_bitCount_46 ?_
  refine tj_topi (fun v105 => ?_)
  refine tj_istore_n dJ27_bitCount_47 (by decide) trivial [some (.int v105)] rfl ?_
  refine tj_iload_n dJ27_bitCount_48 rfl ?_
  refine tj_bipush (63 : Int32) dJ27_bitCount_49 (by decide) ?_
  refine tj_iand dJ27_bitCount_51 ?_
  exact tj_iret dJ27_bitCount_52
theorem ct_J27_bitCount : ∀ (d : Nat) (v0 : Int32), ct_ yJ27_bitCount (ws_ yJ27_bitCount cJ27_bitCount 1 (some .int)) d em_i [.int v0] (fn_J27_bitCount d v0)
  | 0, _ => ct_fail
  | d + 1, v0 => ct_of [(false, .int v0)] [some (.int v0)] (by decide) rfl ⟨rfl, rfl, trivial⟩ (fun E X n0 s0 σ => tj_J27_bitCount_B0 d v0 σ)
theorem tj_X12_mostBySets_J43 {E : tj_E} {X : tj_X} {n0 s0 : Nat} (d : Nat) {b4 : Option Nat → Int32 → Int32 → mx_M Int32} (h4 : ∀ (l0 : Option Nat) (l1 : Int32) (l2 : Int32) (σ : hp_S), tj_T E X RX12 "mostBySets" cX12_mostBySets 3 (some .int) (d + 1) [] n0 s0 em_i σ 4 [some (va_rf l0), some (.int l1), some (.int l2)] [] (b4 l0 l1 l2)) (l0 : Option Nat) (l2 : Int32) (p0 : Int32) (σ : hp_S) : tj_T E X RX12 "mostBySets" cX12_mostBySets 3 (some .int) (d + 1) [] n0 s0 em_i σ 43 [some (va_rf l0), none, some (.int l2)] [.int p0] (fn_X12_mostBySets_J43 d b4 l0 l2 p0) := by
  unfold fn_X12_mostBySets_J43
  refine tj_istore_n dX12_mostBySets_43 (by decide) (rf_cat _) [some (va_rf l0), some (.int p0), some (.int l2)] rfl ?_
  refine tj_iinc (1 : Int32) dX12_mostBySets_44 rfl rfl (by decide) rfl [some (va_rf l0), some (.int p0), some (.int (l2 + (1 : Int32)))] rfl ?_
  refine tj_goto 4 dX12_mostBySets_47 rfl ?_
  exact h4 l0 p0 _ _
theorem tj_X12_mostBySets_J42 {E : tj_E} {X : tj_X} {n0 s0 : Nat} (d : Nat) {b4 : Option Nat → Int32 → Int32 → mx_M Int32} (h4 : ∀ (l0 : Option Nat) (l1 : Int32) (l2 : Int32) (σ : hp_S), tj_T E X RX12 "mostBySets" cX12_mostBySets 3 (some .int) (d + 1) [] n0 s0 em_i σ 4 [some (va_rf l0), some (.int l1), some (.int l2)] [] (b4 l0 l1 l2)) (l0 : Option Nat) (l1 : Int32) (l2 : Int32) (σ : hp_S) : tj_T E X RX12 "mostBySets" cX12_mostBySets 3 (some .int) (d + 1) [] n0 s0 em_i σ 42 [some (va_rf l0), some (.int l1), some (.int l2)] [] (fn_X12_mostBySets_J42 d b4 l0 l1 l2) := by
  unfold fn_X12_mostBySets_J42
  refine tj_iload_n dX12_mostBySets_42 rfl ?_
  refine tj_wk (L' := [some (va_rf l0), none, some (.int l2)]) ⟨rfl, rfl, trivial⟩ ?_
  exact tj_X12_mostBySets_J43 d h4 l0 l2 l1 _
theorem tj_X12_mostBySets_L4_b {E : tj_E} {X : tj_X} {n0 s0 : Nat} (d : Nat) {b4 : Option Nat → Int32 → Int32 → mx_M Int32} (h4 : ∀ (l0 : Option Nat) (l1 : Int32) (l2 : Int32) (σ : hp_S), tj_T E X RX12 "mostBySets" cX12_mostBySets 3 (some .int) (d + 1) [] n0 s0 em_i σ 4 [some (va_rf l0), some (.int l1), some (.int l2)] [] (b4 l0 l1 l2)) (l0 : Option Nat) (l1 : Int32) (l2 : Int32) (σ : hp_S) : tj_T E X RX12 "mostBySets" cX12_mostBySets 3 (some .int) (d + 1) [] n0 s0 em_i σ 4 [some (va_rf l0), some (.int l1), some (.int l2)] [] (fn_X12_mostBySets_L4_b d b4 l0 l1 l2) := by
  unfold fn_X12_mostBySets_L4_b
  refine tj_iload_n dX12_mostBySets_4 rfl ?_
  refine tj_iconst (1 : Int32) dX12_mostBySets_5 rfl ?_
  refine tj_aload_n dX12_mostBySets_6 rfl ?_
  refine tj_getR fl_X12_10r dX12_mostBySets_7 (fun v101 => ?_)
  refine tj_callF (as := []) (rest := [.int (1 : Int32), .int l2]) (st' := (fun r => [.int r, .int (1 : Int32), .int l2])) (t := 16) (fun a e => by cases e; exact ct_J4_size d _) (by decide) rfl q2762 q2143 q1048 q103 q1049 (ev_i 9 rfl) q2145 q2144 q1323 md_i9 rfl (by decide) rfl (by simp [rf_cat, cat_i, cat_l, cat_f, cat_d]) dX12_mostBySets_10 (fun _ => rfl) (fun r102 σ => ?_) (by decide)
  refine tj_ishl dX12_mostBySets_15 ?_
  refine tj_icmp_ge 50 dX12_mostBySets_16 rfl (fun _ => ?_) (fun _ => ?_)
  · refine tj_iload_n dX12_mostBySets_50 rfl ?_
    exact tj_iret dX12_mostBySets_51
  · refine tj_iload_n dX12_mostBySets_19 rfl ?_
    refine tj_callS (as := [.int l2]) (rest := []) (st' := (fun r => [.int r])) (ct_J27_bitCount d l2) q2856 q2857 q128 q2858 md_J27_bitCount rfl (by decide) rfl (by decide) dX12_mostBySets_20 (fun _ => rfl) (fun r103 σ => ?_) (by decide)
    refine tj_iload_n dX12_mostBySets_23 rfl ?_
    refine tj_icmp_le 42 dX12_mostBySets_24 rfl (fun _ => ?_) (fun _ => ?_)
    · exact tj_X12_mostBySets_J42 d h4 l0 l1 l2 _
    · refine tj_aload_n dX12_mostBySets_27 rfl ?_
      refine tj_iload_n dX12_mostBySets_28 rfl ?_
      refine tj_callV (as := [.int l2]) (rest := []) (st' := (fun r => [.int r])) (t := 8) (fun a e => by cases e; exact ct_X12_isInTime d _ _) (by decide) rfl q2779 q2781 qs34 q163 q2782 rfl md_X12_isInTime rfl (by decide) rfl (by decide) dX12_mostBySets_29 (fun _ => rfl) (fun r104 σ => ?_) (by decide)
      refine tj_if_eq 42 dX12_mostBySets_32 rfl (fun _ => ?_) (fun _ => ?_)
      · exact tj_X12_mostBySets_J42 d h4 l0 l1 l2 _
      · refine tj_iload_n dX12_mostBySets_35 rfl ?_
        refine tj_callS (as := [.int l2]) (rest := []) (st' := (fun r => [.int r])) (ct_J27_bitCount d l2) q2856 q2857 q128 q2858 md_J27_bitCount rfl (by decide) rfl (by decide) dX12_mostBySets_36 (fun _ => rfl) (fun r105 σ => ?_) (by decide)
        refine tj_goto 43 dX12_mostBySets_39 rfl ?_
        refine tj_wk (L' := [some (va_rf l0), none, some (.int l2)]) ⟨rfl, rfl, trivial⟩ ?_
        exact tj_X12_mostBySets_J43 d h4 l0 l2 r105 _
theorem tj_X12_mostBySets_L4 {E : tj_E} {X : tj_X} {n0 s0 : Nat} (d : Nat) : ∀ (k : Nat) (l0 : Option Nat) (l1 : Int32) (l2 : Int32) (σ : hp_S), tj_T E X RX12 "mostBySets" cX12_mostBySets 3 (some .int) (d + 1) [] n0 s0 em_i σ 4 [some (va_rf l0), some (.int l1), some (.int l2)] [] (fn_X12_mostBySets_L4 d k l0 l1 l2) := by
  intro k
  induction k with
  | zero =>
    intro l0 l1 l2 σ
    exact tj_fail
  | succ k ih =>
    intro l0 l1 l2 σ
    exact tj_X12_mostBySets_L4_b d ih l0 l1 l2 σ
theorem tj_X12_mostBySets_B0 {E : tj_E} {X : tj_X} {n0 s0 : Nat} (d : Nat) (v0 : Option Nat) (σ : hp_S) : tj_T E X RX12 "mostBySets" cX12_mostBySets 3 (some .int) (d + 1) [] n0 s0 em_i σ 0 [some (va_rf v0), none, none] [] (fn_X12_mostBySets_B0 d v0) := by
  unfold fn_X12_mostBySets_B0
  refine tj_iconst (0 : Int32) dX12_mostBySets_0 rfl ?_
  refine tj_istore_n dX12_mostBySets_1 (by decide) (rf_cat _) [some (va_rf v0), some (.int (0 : Int32)), none] rfl ?_
  refine tj_iconst (1 : Int32) dX12_mostBySets_2 rfl ?_
  refine tj_istore_n dX12_mostBySets_3 (by decide) rfl [some (va_rf v0), some (.int (0 : Int32)), some (.int (1 : Int32))] rfl ?_
  exact tj_X12_mostBySets_L4 d mx_K v0 (0 : Int32) (1 : Int32) _
theorem ct_X12_mostBySets : ∀ (d : Nat) (v0 : Option Nat), ct_ yX12_mostBySets (ws_ yX12_mostBySets cX12_mostBySets 3 (some .int)) d em_i [va_rf v0] (fn_X12_mostBySets d v0)
  | 0, _ => ct_fail
  | d + 1, v0 => ct_of [(false, va_rf v0)] [some (va_rf v0), none, none] (by decide) rfl ⟨rfl, (rf_cat _), trivial⟩ (fun E X n0 s0 σ => tj_X12_mostBySets_B0 d v0 σ)
theorem tj_X11_isOnDuty_B0 {E : tj_E} {X : tj_X} {n0 s0 : Nat} (d : Nat) (v0 : Option Nat) (v1 : Int32) (σ : hp_S) : tj_T E X RX11 "isOnDuty" cX11_isOnDuty 2 (some .boolean) (d + 1) [] n0 s0 em_i σ 0 [some (va_rf v0), some (.int v1)] [] (fn_X11_isOnDuty_B0 d v0 v1) := by
  unfold fn_X11_isOnDuty_B0
  refine tj_iload_n dX11_isOnDuty_0 rfl ?_
  refine tj_aload_n dX11_isOnDuty_1 rfl ?_
  refine tj_getI fl_X11_7r dX11_isOnDuty_2 (fun v101 => ?_)
  refine tj_icmp_lt 20 dX11_isOnDuty_5 rfl (fun _ => ?_) (fun _ => ?_)
  · refine tj_iconst (0 : Int32) dX11_isOnDuty_20 rfl ?_
    exact tj_zpure rfl dX11_isOnDuty_21
  · refine tj_iload_n dX11_isOnDuty_8 rfl ?_
    refine tj_aload_n dX11_isOnDuty_9 rfl ?_
    refine tj_getI fl_X11_13r dX11_isOnDuty_10 (fun v102 => ?_)
    refine tj_icmp_ge 20 dX11_isOnDuty_13 rfl (fun _ => ?_) (fun _ => ?_)
    · refine tj_iconst (0 : Int32) dX11_isOnDuty_20 rfl ?_
      exact tj_zpure rfl dX11_isOnDuty_21
    · refine tj_iconst (1 : Int32) dX11_isOnDuty_16 rfl ?_
      refine tj_goto 21 dX11_isOnDuty_17 rfl ?_
      exact tj_zpure rfl dX11_isOnDuty_21
theorem ct_X11_isOnDuty : ∀ (d : Nat) (v0 : Option Nat) (v1 : Int32), ct_ yX11_isOnDuty (ws_ yX11_isOnDuty cX11_isOnDuty 2 (some .boolean)) d em_i [va_rf v0, .int v1] (fn_X11_isOnDuty d v0 v1)
  | 0, _, _ => ct_fail
  | d + 1, v0, v1 => ct_of [(false, va_rf v0), (false, .int v1)] [some (va_rf v0), some (.int v1)] (by decide) rfl ⟨rfl, (rf_cat _), ⟨rfl, rfl, trivial⟩⟩ (fun E X n0 s0 σ => tj_X11_isOnDuty_B0 d v0 v1 σ)
