set_option maxRecDepth 100000
theorem tj_X4_tells_B0 {E : tj_E} {X : tj_X} {n0 s0 : Nat} (d : Nat) (v0 : Option Nat) (v1 : Int32) (σ : hp_S) : tj_T E X RX4 "tells" cX4_tells 2 (some .int) (d + 1) [] n0 s0 em_i σ 0 [some (va_rf v0), some (.int v1)] [] (fn_X4_tells_B0 d v0 v1) := by
  unfold fn_X4_tells_B0
  refine tj_aload_n dX4_tells_0 rfl ?_
  refine tj_iconst (0 : Int32) dX4_tells_1 rfl ?_
  refine tj_put fl_X4_50 rfl rfl dX4_tells_2 (fun σ => ?_)
  refine tj_aload_n dX4_tells_5 rfl ?_
  refine tj_getR fl_X4_16r dX4_tells_6 (fun v101 => ?_)
  refine tj_iload_n dX4_tells_9 rfl ?_
  refine tj_iald dX4_tells_10 (fun v102 => ?_)
  exact tj_iret dX4_tells_11
theorem ct_X4_tells : ∀ (d : Nat) (v0 : Option Nat) (v1 : Int32), ct_ yX4_tells (ws_ yX4_tells cX4_tells 2 (some .int)) d em_i [va_rf v0, .int v1] (fn_X4_tells d v0 v1)
  | 0, _, _ => ct_fail
  | d + 1, v0, v1 => ct_of [(false, va_rf v0), (false, .int v1)] [some (va_rf v0), some (.int v1)] (by decide) rfl ⟨rfl, (rf_cat _), ⟨rfl, rfl, trivial⟩⟩ (fun E X n0 s0 σ => tj_X4_tells_B0 d v0 v1 σ)
theorem tj_X4_drawnTotal_B0 {E : tj_E} {X : tj_X} {n0 s0 : Nat} (d : Nat) (v0 : Option Nat) (σ : hp_S) : tj_T E X RX4 "drawnTotal" cX4_drawnTotal 1 (some .int) (d + 1) [] n0 s0 em_i σ 0 [some (va_rf v0)] [] (fn_X4_drawnTotal_B0 d v0) := by
  unfold fn_X4_drawnTotal_B0
  refine tj_aload_n dX4_drawnTotal_0 rfl ?_
  refine tj_iconst (2 : Int32) dX4_drawnTotal_1 rfl ?_
  refine tj_callV (as := [.int (2 : Int32)]) (rest := []) (st' := (fun r => [.int r])) (t := 1) (fun a e => by cases e; exact ct_X4_tells d _ _) (by decide) rfl q4080 q4082 qs78 q110 q4083 rfl md_X4_tells rfl (by decide) rfl (by decide) dX4_drawnTotal_2 (fun _ => rfl) (fun r101 σ => ?_) (by decide)
  exact tj_iret dX4_drawnTotal_5
theorem ct_X4_drawnTotal : ∀ (d : Nat) (v0 : Option Nat), ct_ yX4_drawnTotal (ws_ yX4_drawnTotal cX4_drawnTotal 1 (some .int)) d em_i [va_rf v0] (fn_X4_drawnTotal d v0)
  | 0, _ => ct_fail
  | d + 1, v0 => ct_of [(false, va_rf v0)] [some (va_rf v0)] (by decide) rfl ⟨rfl, (rf_cat _), trivial⟩ (fun E X n0 s0 σ => tj_X4_drawnTotal_B0 d v0 σ)
theorem tj_X4_shift_J22 {E : tj_E} {X : tj_X} {n0 s0 : Nat} (d : Nat) (l0 : Option Nat) (l1 : Int32) (l2 : Int32) (p0 : Option Nat) (p1 : Int32) (σ : hp_S) : tj_T E X RX4 "shift" cX4_shift 3 (some .int) (d + 1) [] n0 s0 em_i σ 22 [some (va_rf l0), some (.int l1), some (.int l2)] [.int p1, va_rf p0] (fn_X4_shift_J22 d l0 l1 l2 p0 p1) := by
  unfold fn_X4_shift_J22
  refine tj_put fl_X4_50 rfl rfl dX4_shift_22 (fun σ => ?_)
  refine tj_aload_n dX4_shift_25 rfl ?_
  refine tj_getI fl_X4_50 dX4_shift_26 (fun v101 => ?_)
  refine tj_if_ne 48 dX4_shift_29 rfl (fun _ => ?_) (fun _ => ?_)
  · refine tj_aload_n dX4_shift_32 rfl ?_
    refine tj_getR fl_X4_16r dX4_shift_33 (fun v102 => ?_)
    refine tj_bipush (60 : Int32) dX4_shift_36 (by decide) ?_
    refine tj_iconst (2 : Int32) dX4_shift_38 rfl ?_
    refine tj_iload_n dX4_shift_39 rfl ?_
    refine tj_imul dX4_shift_40 ?_
    refine tj_iadd dX4_shift_41 ?_
    refine tj_iload_n dX4_shift_42 rfl ?_
    refine tj_iadd dX4_shift_43 ?_
    refine tj_iald dX4_shift_44 (fun v103 => ?_)
    refine tj_goto 49 dX4_shift_45 rfl ?_
    exact tj_iret dX4_shift_49
  · refine tj_iconst (0 : Int32) dX4_shift_48 rfl ?_
    exact tj_iret dX4_shift_49
theorem tj_X4_shift_B0 {E : tj_E} {X : tj_X} {n0 s0 : Nat} (d : Nat) (v0 : Option Nat) (v1 : Int32) (v2 : Int32) (σ : hp_S) : tj_T E X RX4 "shift" cX4_shift 3 (some .int) (d + 1) [] n0 s0 em_i σ 0 [some (va_rf v0), some (.int v1), some (.int v2)] [] (fn_X4_shift_B0 d v0 v1 v2) := by
  unfold fn_X4_shift_B0
  refine tj_aload_n dX4_shift_0 rfl ?_
  refine tj_iload_n dX4_shift_1 rfl ?_
  refine tj_iconst (0 : Int32) dX4_shift_2 rfl ?_
  refine tj_aload_n dX4_shift_3 rfl ?_
  refine tj_getR fl_X4_16r dX4_shift_4 (fun v101 => ?_)
  refine tj_iconst (4 : Int32) dX4_shift_7 rfl ?_
  refine tj_iald dX4_shift_8 (fun v102 => ?_)
  refine tj_iconst (1 : Int32) dX4_shift_9 rfl ?_
  refine tj_isub dX4_shift_10 ?_
  refine tj_callS (as := [.int v1, .int (0 : Int32), .int (v102 - (1 : Int32))]) (rest := [va_rf v0]) (st' := (fun r => [.int r, va_rf v0])) (ct_X4_isIn d v1 (0 : Int32) _) q3971 q3972 q110 q3973 md_X4_isIn rfl (by decide) rfl (by simp [rf_cat, cat_i, cat_l, cat_f, cat_d]) dX4_shift_11 (fun _ => rfl) (fun r103 σ => ?_) (by decide)
  refine tj_if_eq 21 dX4_shift_14 rfl (fun _ => ?_) (fun _ => ?_)
  · refine tj_iconst (1 : Int32) dX4_shift_21 rfl ?_
    exact tj_X4_shift_J22 d v0 v1 v2 v0 (1 : Int32) _
  · refine tj_iconst (0 : Int32) dX4_shift_17 rfl ?_
    refine tj_goto 22 dX4_shift_18 rfl ?_
    exact tj_X4_shift_J22 d v0 v1 v2 v0 (0 : Int32) _
theorem ct_X4_shift : ∀ (d : Nat) (v0 : Option Nat) (v1 : Int32) (v2 : Int32), ct_ yX4_shift (ws_ yX4_shift cX4_shift 3 (some .int)) d em_i [va_rf v0, .int v1, .int v2] (fn_X4_shift d v0 v1 v2)
  | 0, _, _, _ => ct_fail
  | d + 1, v0, v1, v2 => ct_of [(false, va_rf v0), (false, .int v1), (false, .int v2)] [some (va_rf v0), some (.int v1), some (.int v2)] (by decide) rfl ⟨rfl, (rf_cat _), ⟨rfl, rfl, ⟨rfl, rfl, trivial⟩⟩⟩ (fun E X n0 s0 σ => tj_X4_shift_B0 d v0 v1 v2 σ)
theorem tj_X4_endOf_B0 {E : tj_E} {X : tj_X} {n0 s0 : Nat} (d : Nat) (v0 : Option Nat) (v1 : Int32) (σ : hp_S) : tj_T E X RX4 "endOf" cX4_endOf 2 (some .int) (d + 1) [] n0 s0 em_i σ 0 [some (va_rf v0), some (.int v1)] [] (fn_X4_endOf_B0 d v0 v1) := by
  unfold fn_X4_endOf_B0
  refine tj_aload_n dX4_endOf_0 rfl ?_
  refine tj_iload_n dX4_endOf_1 rfl ?_
  refine tj_iconst (1 : Int32) dX4_endOf_2 rfl ?_
  refine tj_callV (as := [.int v1, .int (1 : Int32)]) (rest := []) (st' := (fun r => [.int r])) (t := 1) (fun a e => by cases e; exact ct_X4_shift d _ _ _) (by decide) rfl q4169 q4171 qs82 q110 q4172 rfl md_X4_shift rfl (by decide) rfl (by decide) dX4_endOf_3 (fun _ => rfl) (fun r101 σ => ?_) (by decide)
  exact tj_iret dX4_endOf_6
theorem ct_X4_endOf : ∀ (d : Nat) (v0 : Option Nat) (v1 : Int32), ct_ yX4_endOf (ws_ yX4_endOf cX4_endOf 2 (some .int)) d em_i [va_rf v0, .int v1] (fn_X4_endOf d v0 v1)
  | 0, _, _ => ct_fail
  | d + 1, v0, v1 => ct_of [(false, va_rf v0), (false, .int v1)] [some (va_rf v0), some (.int v1)] (by decide) rfl ⟨rfl, (rf_cat _), ⟨rfl, rfl, trivial⟩⟩ (fun E X n0 s0 σ => tj_X4_endOf_B0 d v0 v1 σ)
theorem tj_X4_errorPosition_J13 {E : tj_E} {X : tj_X} {n0 s0 : Nat} (d : Nat) (l0 : Option Nat) (p0 : Option Nat) (p1 : Int32) (σ : hp_S) : tj_T E X RX4 "errorPosition" cX4_errorPosition 1 (some .int) (d + 1) [] n0 s0 em_i σ 13 [some (va_rf l0)] [.int p1, va_rf p0] (fn_X4_errorPosition_J13 d l0 p0 p1) := by
  unfold fn_X4_errorPosition_J13
  refine tj_put fl_X4_50 rfl rfl dX4_errorPosition_13 (fun σ => ?_)
  refine tj_aload_n dX4_errorPosition_16 rfl ?_
  refine tj_getI fl_X4_50 dX4_errorPosition_17 (fun v101 => ?_)
  refine tj_if_ne 30 dX4_errorPosition_20 rfl (fun _ => ?_) (fun _ => ?_)
  · refine tj_aload_n dX4_errorPosition_23 rfl ?_
    refine tj_getI fl_X4_7 dX4_errorPosition_24 (fun v102 => ?_)
    refine tj_goto 31 dX4_errorPosition_27 rfl ?_
    exact tj_iret dX4_errorPosition_31
  · refine tj_iconst (0 : Int32) dX4_errorPosition_30 rfl ?_
    exact tj_iret dX4_errorPosition_31
theorem tj_X4_errorPosition_B0 {E : tj_E} {X : tj_X} {n0 s0 : Nat} (d : Nat) (v0 : Option Nat) (σ : hp_S) : tj_T E X RX4 "errorPosition" cX4_errorPosition 1 (some .int) (d + 1) [] n0 s0 em_i σ 0 [some (va_rf v0)] [] (fn_X4_errorPosition_B0 d v0) := by
  unfold fn_X4_errorPosition_B0
  refine tj_aload_n dX4_errorPosition_0 rfl ?_
  refine tj_aload_n dX4_errorPosition_1 rfl ?_
  refine tj_getI fl_X4_7 dX4_errorPosition_2 (fun v101 => ?_)
  refine tj_if_ge 12 dX4_errorPosition_5 rfl (fun _ => ?_) (fun _ => ?_)
  · refine tj_iconst (0 : Int32) dX4_errorPosition_12 rfl ?_
    exact tj_X4_errorPosition_J13 d v0 v0 (0 : Int32) _
  · refine tj_iconst (1 : Int32) dX4_errorPosition_8 rfl ?_
    refine tj_goto 13 dX4_errorPosition_9 rfl ?_
    exact tj_X4_errorPosition_J13 d v0 v0 (1 : Int32) _
theorem ct_X4_errorPosition : ∀ (d : Nat) (v0 : Option Nat), ct_ yX4_errorPosition (ws_ yX4_errorPosition cX4_errorPosition 1 (some .int)) d em_i [va_rf v0] (fn_X4_errorPosition d v0)
  | 0, _ => ct_fail
  | d + 1, v0 => ct_of [(false, va_rf v0)] [some (va_rf v0)] (by decide) rfl ⟨rfl, (rf_cat _), trivial⟩ (fun E X n0 s0 σ => tj_X4_errorPosition_B0 d v0 σ)
theorem tj_X4_failedCommand_J13 {E : tj_E} {X : tj_X} {n0 s0 : Nat} (d : Nat) (l0 : Option Nat) (p0 : Option Nat) (p1 : Int32) (σ : hp_S) : tj_T E X RX4 "failedCommand" cX4_failedCommand 1 (some .int) (d + 1) [] n0 s0 em_i σ 13 [some (va_rf l0)] [.int p1, va_rf p0] (fn_X4_failedCommand_J13 d l0 p0 p1) := by
  unfold fn_X4_failedCommand_J13
  refine tj_put fl_X4_50 rfl rfl dX4_failedCommand_13 (fun σ => ?_)
  refine tj_aload_n dX4_failedCommand_16 rfl ?_
  refine tj_getI fl_X4_50 dX4_failedCommand_17 (fun v101 => ?_)
  refine tj_if_ne 30 dX4_failedCommand_20 rfl (fun _ => ?_) (fun _ => ?_)
  · refine tj_aload_n dX4_failedCommand_23 rfl ?_
    refine tj_getI fl_X4_13 dX4_failedCommand_24 (fun v102 => ?_)
    refine tj_goto 31 dX4_failedCommand_27 rfl ?_
    exact tj_iret dX4_failedCommand_31
  · refine tj_iconst (0 : Int32) dX4_failedCommand_30 rfl ?_
    exact tj_iret dX4_failedCommand_31
theorem tj_X4_failedCommand_B0 {E : tj_E} {X : tj_X} {n0 s0 : Nat} (d : Nat) (v0 : Option Nat) (σ : hp_S) : tj_T E X RX4 "failedCommand" cX4_failedCommand 1 (some .int) (d + 1) [] n0 s0 em_i σ 0 [some (va_rf v0)] [] (fn_X4_failedCommand_B0 d v0) := by
  unfold fn_X4_failedCommand_B0
  refine tj_aload_n dX4_failedCommand_0 rfl ?_
  refine tj_aload_n dX4_failedCommand_1 rfl ?_
  refine tj_getI fl_X4_13 dX4_failedCommand_2 (fun v101 => ?_)
  refine tj_if_ge 12 dX4_failedCommand_5 rfl (fun _ => ?_) (fun _ => ?_)
  · refine tj_iconst (0 : Int32) dX4_failedCommand_12 rfl ?_
    exact tj_X4_failedCommand_J13 d v0 v0 (0 : Int32) _
  · refine tj_iconst (1 : Int32) dX4_failedCommand_8 rfl ?_
    refine tj_goto 13 dX4_failedCommand_9 rfl ?_
    exact tj_X4_failedCommand_J13 d v0 v0 (1 : Int32) _
theorem ct_X4_failedCommand : ∀ (d : Nat) (v0 : Option Nat), ct_ yX4_failedCommand (ws_ yX4_failedCommand cX4_failedCommand 1 (some .int)) d em_i [va_rf v0] (fn_X4_failedCommand d v0)
  | 0, _ => ct_fail
  | d + 1, v0 => ct_of [(false, va_rf v0)] [some (va_rf v0)] (by decide) rfl ⟨rfl, (rf_cat _), trivial⟩ (fun E X n0 s0 σ => tj_X4_failedCommand_B0 d v0 σ)
theorem tj_X4_failureKind_J13 {E : tj_E} {X : tj_X} {n0 s0 : Nat} (d : Nat) (l0 : Option Nat) (p0 : Option Nat) (p1 : Int32) (σ : hp_S) : tj_T E X RX4 "failureKind" cX4_failureKind 1 (some .char) (d + 1) [] n0 s0 em_i σ 13 [some (va_rf l0)] [.int p1, va_rf p0] (fn_X4_failureKind_J13 d l0 p0 p1) := by
  unfold fn_X4_failureKind_J13
  refine tj_put fl_X4_50 rfl rfl dX4_failureKind_13 (fun σ => ?_)
  refine tj_aload_n dX4_failureKind_16 rfl ?_
  refine tj_getI fl_X4_50 dX4_failureKind_17 (fun v101 => ?_)
  refine tj_if_ne 31 dX4_failureKind_20 rfl (fun _ => ?_) (fun _ => ?_)
  · refine tj_aload_n dX4_failureKind_23 rfl ?_
    refine tj_getI fl_X4_221 dX4_failureKind_24 (fun v102 => ?_)
    refine tj_i2c dX4_failureKind_27 ?_
    refine tj_goto 33 dX4_failureKind_28 rfl ?_
    exact tj_zret dX4_failureKind_33
  · refine tj_bipush (97 : Int32) dX4_failureKind_31 (by decide) ?_
    exact tj_zpure rfl dX4_failureKind_33
theorem tj_X4_failureKind_B0 {E : tj_E} {X : tj_X} {n0 s0 : Nat} (d : Nat) (v0 : Option Nat) (σ : hp_S) : tj_T E X RX4 "failureKind" cX4_failureKind 1 (some .char) (d + 1) [] n0 s0 em_i σ 0 [some (va_rf v0)] [] (fn_X4_failureKind_B0 d v0) := by
  unfold fn_X4_failureKind_B0
  refine tj_aload_n dX4_failureKind_0 rfl ?_
  refine tj_aload_n dX4_failureKind_1 rfl ?_
  refine tj_getI fl_X4_13 dX4_failureKind_2 (fun v101 => ?_)
  refine tj_if_ge 12 dX4_failureKind_5 rfl (fun _ => ?_) (fun _ => ?_)
  · refine tj_iconst (0 : Int32) dX4_failureKind_12 rfl ?_
    exact tj_X4_failureKind_J13 d v0 v0 (0 : Int32) _
  · refine tj_iconst (1 : Int32) dX4_failureKind_8 rfl ?_
    refine tj_goto 13 dX4_failureKind_9 rfl ?_
    exact tj_X4_failureKind_J13 d v0 v0 (1 : Int32) _
theorem ct_X4_failureKind : ∀ (d : Nat) (v0 : Option Nat), ct_ yX4_failureKind (ws_ yX4_failureKind cX4_failureKind 1 (some .char)) d em_i [va_rf v0] (fn_X4_failureKind d v0)
  | 0, _ => ct_fail
  | d + 1, v0 => ct_of [(false, va_rf v0)] [some (va_rf v0)] (by decide) rfl ⟨rfl, (rf_cat _), trivial⟩ (fun E X n0 s0 σ => tj_X4_failureKind_B0 d v0 σ)
theorem tj_X4_count_L4_b {E : tj_E} {X : tj_X} {n0 s0 : Nat} (d : Nat) {b4 : Int32 → Int32 → mx_M Int32} (h4 : ∀ (l1 : Int32) (l2 : Int32) (σ : hp_S), tj_T E X RX4 "count" cX4_count 3 (some .int) (d + 1) [] n0 s0 em_i σ 4 [none, some (.int l1), some (.int l2)] [] (b4 l1 l2)) (l1 : Int32) (l2 : Int32) (σ : hp_S) : tj_T E X RX4 "count" cX4_count 3 (some .int) (d + 1) [] n0 s0 em_i σ 4 [none, some (.int l1), some (.int l2)] [] (fn_X4_count_L4_b d b4 l1 l2) := by
  unfold fn_X4_count_L4_b
  refine tj_iload_n dX4_count_4 rfl ?_
  refine tj_if_eq 20 dX4_count_5 rfl (fun _ => ?_) (fun _ => ?_)
  · refine tj_iload_n dX4_count_20 rfl ?_
    exact tj_iret dX4_count_21
  · refine tj_iinc (1 : Int32) dX4_count_8 rfl rfl (by decide) trivial [none, some (.int (l1 + (1 : Int32))), some (.int l2)] rfl ?_
    refine tj_iload_n dX4_count_11 rfl ?_
    refine tj_iload_n dX4_count_12 rfl ?_
    refine tj_iconst (1 : Int32) dX4_count_13 rfl ?_
    refine tj_isub dX4_count_14 ?_
    refine tj_iand dX4_count_15 ?_
    refine tj_topi (fun v101 => ?_)
    refine tj_istore_n dX4_count_16 (by decide) rfl [none, some (.int (l1 + (1 : Int32))), some (.int v101)] rfl ?_
    refine tj_goto 4 dX4_count_17 rfl ?_
    exact h4 _ v101 _
theorem tj_X4_count_L4 {E : tj_E} {X : tj_X} {n0 s0 : Nat} (d : Nat) : ∀ (k : Nat) (l1 : Int32) (l2 : Int32) (σ : hp_S), tj_T E X RX4 "count" cX4_count 3 (some .int) (d + 1) [] n0 s0 em_i σ 4 [none, some (.int l1), some (.int l2)] [] (fn_X4_count_L4 d k l1 l2) := by
  intro k
  induction k with
  | zero =>
    intro l1 l2 σ
    exact tj_fail
  | succ k ih =>
    intro l1 l2 σ
    exact tj_X4_count_L4_b d ih l1 l2 σ
theorem tj_X4_count_B0 {E : tj_E} {X : tj_X} {n0 s0 : Nat} (d : Nat) (v0 : Int32) (σ : hp_S) : tj_T E X RX4 "count" cX4_count 3 (some .int) (d + 1) [] n0 s0 em_i σ 0 [some (.int v0), none, none] [] (fn_X4_count_B0 d v0) := by
  unfold fn_X4_count_B0
  refine tj_iconst (0 : Int32) dX4_count_0 rfl ?_
  refine tj_istore_n dX4_count_1 (by decide) rfl [some (.int v0), some (.int (0 : Int32)), none] rfl ?_
  refine tj_iload_n dX4_count_2 rfl ?_
  refine tj_istore_n dX4_count_3 (by decide) rfl [some (.int v0), some (.int (0 : Int32)), some (.int v0)] rfl ?_
  refine tj_wk (L' := [none, some (.int (0 : Int32)), some (.int v0)]) ⟨rfl, rfl, trivial⟩ ?_
  exact tj_X4_count_L4 d mx_K (0 : Int32) v0 _
theorem ct_X4_count : ∀ (d : Nat) (v0 : Int32), ct_ yX4_count (ws_ yX4_count cX4_count 3 (some .int)) d em_i [.int v0] (fn_X4_count d v0)
  | 0, _ => ct_fail
  | d + 1, v0 => ct_of [(false, .int v0)] [some (.int v0), none, none] (by decide) rfl ⟨rfl, rfl, trivial⟩ (fun E X n0 s0 σ => tj_X4_count_B0 d v0 σ)
theorem tj_X4_covers_J79 {E : tj_E} {X : tj_X} {n0 s0 : Nat} (d : Nat) {b3 : Option Nat → Int32 → Int32 → Int32 → mx_M Int32} {b15 : Option Nat → Int32 → Int32 → Int32 → Int32 → Int32 → mx_M Int32} (h3 : ∀ (l0 : Option Nat) (l1 : Int32) (l3 : Int32) (l4 : Int32) (σ : hp_S), tj_T E X RX4 "covers" cX4_covers 7 (some .boolean) (d + 1) [] n0 s0 em_i σ 3 [some (va_rf l0), some (.int l1), none, some (.int l3), some (.int l4), none, none] [] (b3 l0 l1 l3 l4)) (h15 : ∀ (l0 : Option Nat) (l1 : Int32) (l3 : Int32) (l4 : Int32) (l5 : Int32) (l6 : Int32) (σ : hp_S), tj_T E X RX4 "covers" cX4_covers 7 (some .boolean) (d + 1) [] n0 s0 em_i σ 15 [some (va_rf l0), some (.int l1), none, some (.int l3), some (.int l4), some (.int l5), some (.int l6)] [] (b15 l0 l1 l3 l4 l5 l6)) (l0 : Option Nat) (l1 : Int32) (l3 : Int32) (l4 : Int32) (l6 : Int32) (p0 : Int32) (p1 : Int32) (σ : hp_S) : tj_T E X RX4 "covers" cX4_covers 7 (some .boolean) (d + 1) [] n0 s0 em_i σ 79 [some (va_rf l0), some (.int l1), none, some (.int l3), some (.int l4), none, some (.int l6)] [.int p1, .int p0] (fn_X4_covers_J79 d b3 b15 l0 l1 l3 l4 l6 p0 p1) := by
  unfold fn_X4_covers_J79
  refine tj_ior dX4_covers_79 ?_
  refine tj_topi (fun v101 => ?_)
  refine tj_istore dX4_covers_80 (by decide) rfl [some (va_rf l0), some (.int l1), none, some (.int l3), some (.int l4), some (.int v101), some (.int l6)] rfl ?_
  refine tj_iinc (1 : Int32) dX4_covers_82 rfl rfl (by decide) rfl [some (va_rf l0), some (.int l1), none, some (.int l3), some (.int l4), some (.int v101), some (.int (l6 + (1 : Int32)))] rfl ?_
  refine tj_goto 15 dX4_covers_85 rfl ?_
  exact h15 l0 l1 l3 l4 v101 _ _
theorem tj_X4_covers_J78 {E : tj_E} {X : tj_X} {n0 s0 : Nat} (d : Nat) {b3 : Option Nat → Int32 → Int32 → Int32 → mx_M Int32} {b15 : Option Nat → Int32 → Int32 → Int32 → Int32 → Int32 → mx_M Int32} (h3 : ∀ (l0 : Option Nat) (l1 : Int32) (l3 : Int32) (l4 : Int32) (σ : hp_S), tj_T E X RX4 "covers" cX4_covers 7 (some .boolean) (d + 1) [] n0 s0 em_i σ 3 [some (va_rf l0), some (.int l1), none, some (.int l3), some (.int l4), none, none] [] (b3 l0 l1 l3 l4)) (h15 : ∀ (l0 : Option Nat) (l1 : Int32) (l3 : Int32) (l4 : Int32) (l5 : Int32) (l6 : Int32) (σ : hp_S), tj_T E X RX4 "covers" cX4_covers 7 (some .boolean) (d + 1) [] n0 s0 em_i σ 15 [some (va_rf l0), some (.int l1), none, some (.int l3), some (.int l4), some (.int l5), some (.int l6)] [] (b15 l0 l1 l3 l4 l5 l6)) (l0 : Option Nat) (l1 : Int32) (l3 : Int32) (l4 : Int32) (l6 : Int32) (p0 : Int32) (σ : hp_S) : tj_T E X RX4 "covers" cX4_covers 7 (some .boolean) (d + 1) [] n0 s0 em_i σ 78 [some (va_rf l0), some (.int l1), none, some (.int l3), some (.int l4), none, some (.int l6)] [.int p0] (fn_X4_covers_J78 d b3 b15 l0 l1 l3 l4 l6 p0) := by
  unfold fn_X4_covers_J78
  refine tj_iconst (0 : Int32) dX4_covers_78 rfl ?_
  exact tj_X4_covers_J79 d h3 h15 l0 l1 l3 l4 l6 p0 (0 : Int32) _
theorem tj_X4_covers_L15_b {E : tj_E} {X : tj_X} {n0 s0 : Nat} (d : Nat) {b3 : Option Nat → Int32 → Int32 → Int32 → mx_M Int32} {b15 : Option Nat → Int32 → Int32 → Int32 → Int32 → Int32 → mx_M Int32} (h3 : ∀ (l0 : Option Nat) (l1 : Int32) (l3 : Int32) (l4 : Int32) (σ : hp_S), tj_T E X RX4 "covers" cX4_covers 7 (some .boolean) (d + 1) [] n0 s0 em_i σ 3 [some (va_rf l0), some (.int l1), none, some (.int l3), some (.int l4), none, none] [] (b3 l0 l1 l3 l4)) (h15 : ∀ (l0 : Option Nat) (l1 : Int32) (l3 : Int32) (l4 : Int32) (l5 : Int32) (l6 : Int32) (σ : hp_S), tj_T E X RX4 "covers" cX4_covers 7 (some .boolean) (d + 1) [] n0 s0 em_i σ 15 [some (va_rf l0), some (.int l1), none, some (.int l3), some (.int l4), some (.int l5), some (.int l6)] [] (b15 l0 l1 l3 l4 l5 l6)) (l0 : Option Nat) (l1 : Int32) (l3 : Int32) (l4 : Int32) (l5 : Int32) (l6 : Int32) (σ : hp_S) : tj_T E X RX4 "covers" cX4_covers 7 (some .boolean) (d + 1) [] n0 s0 em_i σ 15 [some (va_rf l0), some (.int l1), none, some (.int l3), some (.int l4), some (.int l5), some (.int l6)] [] (fn_X4_covers_L15_b d b3 b15 l0 l1 l3 l4 l5 l6) := by
  unfold fn_X4_covers_L15_b
  refine tj_iload dX4_covers_15 rfl ?_
  refine tj_aload_n dX4_covers_17 rfl ?_
  refine tj_getR fl_X4_16r dX4_covers_18 (fun v101 => ?_)
  refine tj_iconst (4 : Int32) dX4_covers_21 rfl ?_
  refine tj_iald dX4_covers_22 (fun v102 => ?_)
  refine tj_icmp_ge 88 dX4_covers_23 rfl (fun _ => ?_) (fun _ => ?_)
  · refine tj_iload dX4_covers_88 rfl ?_
    refine tj_if_ne 95 dX4_covers_90 rfl (fun _ => ?_) (fun _ => ?_)
    · refine tj_iconst (0 : Int32) dX4_covers_93 rfl ?_
      exact tj_zpure rfl dX4_covers_94
    · refine tj_iinc (1 : Int32) dX4_covers_95 rfl rfl (by decide) rfl [some (va_rf l0), some (.int l1), none, some (.int l3), some (.int (l4 + (1 : Int32))), some (.int l5), some (.int l6)] rfl ?_
      refine tj_goto 3 dX4_covers_98 rfl ?_
      refine tj_wk (L' := [some (va_rf l0), some (.int l1), none, some (.int l3), some (.int (l4 + (1 : Int32))), none, none]) ⟨rfl, rfl, rfl, rfl, trivial⟩ ?_
      exact h3 l0 l1 l3 _ _
  · refine tj_iload dX4_covers_26 rfl ?_
    refine tj_iload_n dX4_covers_28 rfl ?_
    refine tj_iload dX4_covers_29 rfl ?_
    refine tj_ishr dX4_covers_31 ?_
    refine tj_iconst (1 : Int32) dX4_covers_32 rfl ?_
    refine tj_iand dX4_covers_33 ?_
    refine tj_iconst (1 : Int32) dX4_covers_34 rfl ?_
    refine tj_icmp_ne 78 dX4_covers_35 rfl (fun _ => ?_) (fun _ => ?_)
    · refine tj_aload_n dX4_covers_38 rfl ?_
      refine tj_getR fl_X4_16r dX4_covers_39 (fun v103 => ?_)
      refine tj_bipush (60 : Int32) dX4_covers_42 (by decide) ?_
      refine tj_iconst (2 : Int32) dX4_covers_44 rfl ?_
      refine tj_iload dX4_covers_45 rfl ?_
      refine tj_imul dX4_covers_47 ?_
      refine tj_iadd dX4_covers_48 ?_
      refine tj_iald dX4_covers_49 (fun v104 => ?_)
      refine tj_iload dX4_covers_50 rfl ?_
      refine tj_icmp_gt 78 dX4_covers_52 rfl (fun _ => ?_) (fun _ => ?_)
      · refine tj_wk (L' := [some (va_rf l0), some (.int l1), none, some (.int l3), some (.int l4), none, some (.int l6)]) ⟨rfl, rfl, rfl, rfl, rfl, trivial⟩ ?_
        exact tj_X4_covers_J78 d h3 h15 l0 l1 l3 l4 l6 l5 _
      · refine tj_iload dX4_covers_55 rfl ?_
        refine tj_aload_n dX4_covers_57 rfl ?_
        refine tj_getR fl_X4_16r dX4_covers_58 (fun v105 => ?_)
        refine tj_bipush (60 : Int32) dX4_covers_61 (by decide) ?_
        refine tj_iconst (2 : Int32) dX4_covers_63 rfl ?_
        refine tj_iload dX4_covers_64 rfl ?_
        refine tj_imul dX4_covers_66 ?_
        refine tj_iadd dX4_covers_67 ?_
        refine tj_iconst (1 : Int32) dX4_covers_68 rfl ?_
        refine tj_iadd dX4_covers_69 ?_
        refine tj_iald dX4_covers_70 (fun v106 => ?_)
        refine tj_icmp_ge 78 dX4_covers_71 rfl (fun _ => ?_) (fun _ => ?_)
        · refine tj_wk (L' := [some (va_rf l0), some (.int l1), none, some (.int l3), some (.int l4), none, some (.int l6)]) ⟨rfl, rfl, rfl, rfl, rfl, trivial⟩ ?_
          exact tj_X4_covers_J78 d h3 h15 l0 l1 l3 l4 l6 l5 _
        · refine tj_iconst (1 : Int32) dX4_covers_74 rfl ?_
          refine tj_goto 79 dX4_covers_75 rfl ?_
          refine tj_wk (L' := [some (va_rf l0), some (.int l1), none, some (.int l3), some (.int l4), none, some (.int l6)]) ⟨rfl, rfl, rfl, rfl, rfl, trivial⟩ ?_
          exact tj_X4_covers_J79 d h3 h15 l0 l1 l3 l4 l6 l5 (1 : Int32) _
    · refine tj_wk (L' := [some (va_rf l0), some (.int l1), none, some (.int l3), some (.int l4), none, some (.int l6)]) ⟨rfl, rfl, rfl, rfl, rfl, trivial⟩ ?_
      exact tj_X4_covers_J78 d h3 h15 l0 l1 l3 l4 l6 l5 _
theorem tj_X4_covers_L15 {E : tj_E} {X : tj_X} {n0 s0 : Nat} (d : Nat) {b3 : Option Nat → Int32 → Int32 → Int32 → mx_M Int32} (h3 : ∀ (l0 : Option Nat) (l1 : Int32) (l3 : Int32) (l4 : Int32) (σ : hp_S), tj_T E X RX4 "covers" cX4_covers 7 (some .boolean) (d + 1) [] n0 s0 em_i σ 3 [some (va_rf l0), some (.int l1), none, some (.int l3), some (.int l4), none, none] [] (b3 l0 l1 l3 l4)) : ∀ (k : Nat) (l0 : Option Nat) (l1 : Int32) (l3 : Int32) (l4 : Int32) (l5 : Int32) (l6 : Int32) (σ : hp_S), tj_T E X RX4 "covers" cX4_covers 7 (some .boolean) (d + 1) [] n0 s0 em_i σ 15 [some (va_rf l0), some (.int l1), none, some (.int l3), some (.int l4), some (.int l5), some (.int l6)] [] (fn_X4_covers_L15 d b3 k l0 l1 l3 l4 l5 l6) := by
  intro k
  induction k with
  | zero =>
    intro l0 l1 l3 l4 l5 l6 σ
    exact tj_fail
  | succ k ih =>
    intro l0 l1 l3 l4 l5 l6 σ
    exact tj_X4_covers_L15_b d h3 ih l0 l1 l3 l4 l5 l6 σ
theorem tj_X4_covers_L3_b {E : tj_E} {X : tj_X} {n0 s0 : Nat} (d : Nat) {b3 : Option Nat → Int32 → Int32 → Int32 → mx_M Int32} (h3 : ∀ (l0 : Option Nat) (l1 : Int32) (l3 : Int32) (l4 : Int32) (σ : hp_S), tj_T E X RX4 "covers" cX4_covers 7 (some .boolean) (d + 1) [] n0 s0 em_i σ 3 [some (va_rf l0), some (.int l1), none, some (.int l3), some (.int l4), none, none] [] (b3 l0 l1 l3 l4)) (l0 : Option Nat) (l1 : Int32) (l3 : Int32) (l4 : Int32) (σ : hp_S) : tj_T E X RX4 "covers" cX4_covers 7 (some .boolean) (d + 1) [] n0 s0 em_i σ 3 [some (va_rf l0), some (.int l1), none, some (.int l3), some (.int l4), none, none] [] (fn_X4_covers_L3_b d b3 l0 l1 l3 l4) := by
  unfold fn_X4_covers_L3_b
  refine tj_iload dX4_covers_3 rfl ?_
  refine tj_iload_n dX4_covers_5 rfl ?_
  refine tj_icmp_ge 101 dX4_covers_6 rfl (fun _ => ?_) (fun _ => ?_)
  · refine tj_iconst (1 : Int32) dX4_covers_101 rfl ?_
    exact tj_zpure rfl dX4_covers_102
  · refine tj_iconst (0 : Int32) dX4_covers_9 rfl ?_
    refine tj_istore dX4_covers_10 (by decide) rfl [some (va_rf l0), some (.int l1), none, some (.int l3), some (.int l4), some (.int (0 : Int32)), none] rfl ?_
    refine tj_iconst (0 : Int32) dX4_covers_12 rfl ?_
    refine tj_istore dX4_covers_13 (by decide) rfl [some (va_rf l0), some (.int l1), none, some (.int l3), some (.int l4), some (.int (0 : Int32)), some (.int (0 : Int32))] rfl ?_
    exact tj_X4_covers_L15 d h3 mx_K l0 l1 l3 l4 (0 : Int32) (0 : Int32) _
theorem tj_X4_covers_L3 {E : tj_E} {X : tj_X} {n0 s0 : Nat} (d : Nat) : ∀ (k : Nat) (l0 : Option Nat) (l1 : Int32) (l3 : Int32) (l4 : Int32) (σ : hp_S), tj_T E X RX4 "covers" cX4_covers 7 (some .boolean) (d + 1) [] n0 s0 em_i σ 3 [some (va_rf l0), some (.int l1), none, some (.int l3), some (.int l4), none, none] [] (fn_X4_covers_L3 d k l0 l1 l3 l4) := by
  intro k
  induction k with
  | zero =>
    intro l0 l1 l3 l4 σ
    exact tj_fail
  | succ k ih =>
    intro l0 l1 l3 l4 σ
    exact tj_X4_covers_L3_b d ih l0 l1 l3 l4 σ
theorem tj_X4_covers_B0 {E : tj_E} {X : tj_X} {n0 s0 : Nat} (d : Nat) (v0 : Option Nat) (v1 : Int32) (v2 : Int32) (v3 : Int32) (σ : hp_S) : tj_T E X RX4 "covers" cX4_covers 7 (some .boolean) (d + 1) [] n0 s0 em_i σ 0 [some (va_rf v0), some (.int v1), some (.int v2), some (.int v3), none, none, none] [] (fn_X4_covers_B0 d v0 v1 v2 v3) := by
  unfold fn_X4_covers_B0
  refine tj_iload_n dX4_covers_0 rfl ?_
  refine tj_istore dX4_covers_1 (by decide) rfl [some (va_rf v0), some (.int v1), some (.int v2), some (.int v3), some (.int v2), none, none] rfl ?_
  refine tj_wk (L' := [some (va_rf v0), some (.int v1), none, some (.int v3), some (.int v2), none, none]) ⟨rfl, rfl, rfl, rfl, trivial⟩ ?_
  exact tj_X4_covers_L3 d mx_K v0 v1 v3 v2 _
theorem ct_X4_covers : ∀ (d : Nat) (v0 : Option Nat) (v1 : Int32) (v2 : Int32) (v3 : Int32), ct_ yX4_covers (ws_ yX4_covers cX4_covers 7 (some .boolean)) d em_i [va_rf v0, .int v1, .int v2, .int v3] (fn_X4_covers d v0 v1 v2 v3)
  | 0, _, _, _, _ => ct_fail
  | d + 1, v0, v1, v2, v3 => ct_of [(false, va_rf v0), (false, .int v1), (false, .int v2), (false, .int v3)] [some (va_rf v0), some (.int v1), some (.int v2), some (.int v3), none, none, none] (by decide) rfl ⟨rfl, (rf_cat _), ⟨rfl, rfl, ⟨rfl, rfl, ⟨rfl, rfl, trivial⟩⟩⟩⟩ (fun E X n0 s0 σ => tj_X4_covers_B0 d v0 v1 v2 v3 σ)
theorem tj_X4_isCovered_J28 {E : tj_E} {X : tj_X} {n0 s0 : Nat} (d : Nat) (l0 : Option Nat) (l1 : Int32) (l2 : Int32) (p0 : Option Nat) (p1 : Int32) (σ : hp_S) : tj_T E X RX4 "isCovered" cX4_isCovered 3 (some .boolean) (d + 1) [] n0 s0 em_i σ 28 [some (va_rf l0), some (.int l1), some (.int l2)] [.int p1, va_rf p0] (fn_X4_isCovered_J28 d l0 l1 l2 p0 p1) := by
  unfold fn_X4_isCovered_J28
  refine tj_put fl_X4_50 rfl rfl dX4_isCovered_28 (fun σ => ?_)
  refine tj_aload_n dX4_isCovered_31 rfl ?_
  refine tj_getI fl_X4_50 dX4_isCovered_32 (fun v101 => ?_)
  refine tj_if_ne 61 dX4_isCovered_35 rfl (fun _ => ?_) (fun _ => ?_)
  · refine tj_aload_n dX4_isCovered_38 rfl ?_
    refine tj_iconst (1 : Int32) dX4_isCovered_39 rfl ?_
    refine tj_aload_n dX4_isCovered_40 rfl ?_
    refine tj_getR fl_X4_16r dX4_isCovered_41 (fun v102 => ?_)
    refine tj_iconst (4 : Int32) dX4_isCovered_44 rfl ?_
    refine tj_iald dX4_isCovered_45 (fun v103 => ?_)
    refine tj_ishl dX4_isCovered_46 ?_
    refine tj_iconst (1 : Int32) dX4_isCovered_47 rfl ?_
    refine tj_isub dX4_isCovered_48 ?_
    refine tj_iload_n dX4_isCovered_49 rfl ?_
    refine tj_iload_n dX4_isCovered_50 rfl ?_
    refine tj_callV (as := [.int (((1 : Int32) <<< (v103 &&& 31)) - (1 : Int32)), .int l1, .int l2]) (rest := []) (st' := (fun r => [.int r])) (t := 1) (fun a e => by cases e; exact ct_X4_covers d _ _ _ _) (by decide) rfl q4185 q4187 qs83 q110 q4188 rfl md_X4_covers rfl (by decide) rfl (by decide) dX4_isCovered_51 (fun _ => rfl) (fun r104 σ => ?_) (by decide)
    refine tj_if_eq 61 dX4_isCovered_54 rfl (fun _ => ?_) (fun _ => ?_)
    · refine tj_iconst (0 : Int32) dX4_isCovered_61 rfl ?_
      exact tj_zpure rfl dX4_isCovered_62
    · refine tj_iconst (1 : Int32) dX4_isCovered_57 rfl ?_
      refine tj_goto 62 dX4_isCovered_58 rfl ?_
      exact tj_zpure rfl dX4_isCovered_62
  · refine tj_iconst (0 : Int32) dX4_isCovered_61 rfl ?_
    exact tj_zpure rfl dX4_isCovered_62
theorem tj_X4_isCovered_J27 {E : tj_E} {X : tj_X} {n0 s0 : Nat} (d : Nat) (l0 : Option Nat) (l1 : Int32) (l2 : Int32) (p0 : Option Nat) (σ : hp_S) : tj_T E X RX4 "isCovered" cX4_isCovered 3 (some .boolean) (d + 1) [] n0 s0 em_i σ 27 [some (va_rf l0), some (.int l1), some (.int l2)] [va_rf p0] (fn_X4_isCovered_J27 d l0 l1 l2 p0) := by
  unfold fn_X4_isCovered_J27
  refine tj_iconst (1 : Int32) dX4_isCovered_27 rfl ?_
  exact tj_X4_isCovered_J28 d l0 l1 l2 p0 (1 : Int32) _
theorem tj_X4_isCovered_B0 {E : tj_E} {X : tj_X} {n0 s0 : Nat} (d : Nat) (v0 : Option Nat) (v1 : Int32) (v2 : Int32) (σ : hp_S) : tj_T E X RX4 "isCovered" cX4_isCovered 3 (some .boolean) (d + 1) [] n0 s0 em_i σ 0 [some (va_rf v0), some (.int v1), some (.int v2)] [] (fn_X4_isCovered_B0 d v0 v1 v2) := by
  unfold fn_X4_isCovered_B0
  refine tj_aload_n dX4_isCovered_0 rfl ?_
  refine tj_iload_n dX4_isCovered_1 rfl ?_
  refine tj_iconst (0 : Int32) dX4_isCovered_2 rfl ?_
  refine tj_bipush (23 : Int32) dX4_isCovered_3 (by decide) ?_
  refine tj_callS (as := [.int v1, .int (0 : Int32), .int (23 : Int32)]) (rest := [va_rf v0]) (st' := (fun r => [.int r, va_rf v0])) (ct_X4_isIn d v1 (0 : Int32) (23 : Int32)) q3971 q3972 q110 q3973 md_X4_isIn rfl (by decide) rfl (by simp [rf_cat, cat_i, cat_l, cat_f, cat_d]) dX4_isCovered_5 (fun _ => rfl) (fun r101 σ => ?_) (by decide)
  refine tj_if_eq 27 dX4_isCovered_8 rfl (fun _ => ?_) (fun _ => ?_)
  · exact tj_X4_isCovered_J27 d v0 v1 v2 v0 _
  · refine tj_iload_n dX4_isCovered_11 rfl ?_
    refine tj_iload_n dX4_isCovered_12 rfl ?_
    refine tj_iconst (1 : Int32) dX4_isCovered_13 rfl ?_
    refine tj_iadd dX4_isCovered_14 ?_
    refine tj_bipush (24 : Int32) dX4_isCovered_15 (by decide) ?_
    refine tj_callS (as := [.int v2, .int (v1 + (1 : Int32)), .int (24 : Int32)]) (rest := [va_rf v0]) (st' := (fun r => [.int r, va_rf v0])) (ct_X4_isIn d v2 _ (24 : Int32)) q3971 q3972 q110 q3973 md_X4_isIn rfl (by decide) rfl (by simp [rf_cat, cat_i, cat_l, cat_f, cat_d]) dX4_isCovered_17 (fun _ => rfl) (fun r102 σ => ?_) (by decide)
    refine tj_if_eq 27 dX4_isCovered_20 rfl (fun _ => ?_) (fun _ => ?_)
    · exact tj_X4_isCovered_J27 d v0 v1 v2 v0 _
    · refine tj_iconst (0 : Int32) dX4_isCovered_23 rfl ?_
      refine tj_goto 28 dX4_isCovered_24 rfl ?_
      exact tj_X4_isCovered_J28 d v0 v1 v2 v0 (0 : Int32) _
theorem ct_X4_isCovered : ∀ (d : Nat) (v0 : Option Nat) (v1 : Int32) (v2 : Int32), ct_ yX4_isCovered (ws_ yX4_isCovered cX4_isCovered 3 (some .boolean)) d em_i [va_rf v0, .int v1, .int v2] (fn_X4_isCovered d v0 v1 v2)
  | 0, _, _, _ => ct_fail
  | d + 1, v0, v1, v2 => ct_of [(false, va_rf v0), (false, .int v1), (false, .int v2)] [some (va_rf v0), some (.int v1), some (.int v2)] (by decide) rfl ⟨rfl, (rf_cat _), ⟨rfl, rfl, ⟨rfl, rfl, trivial⟩⟩⟩ (fun E X n0 s0 σ => tj_X4_isCovered_B0 d v0 v1 v2 σ)
theorem tj_X4_fewestKeepers_J22 {E : tj_E} {X : tj_X} {n0 s0 : Nat} (d : Nat) (p0 : Option Nat) (p1 : Int32) (σ : hp_S) : tj_T E X RX4 "fewestKeepers" cX4_fewestKeepers 5 (some .int) (d + 1) [] n0 s0 em_i σ 22 [none, none, none, none, none] [.int p1, va_rf p0] (fn_X4_fewestKeepers_J22 d p0 p1) := by
  unfold fn_X4_fewestKeepers_J22
  refine tj_callV (as := [.int p1]) (rest := []) (st' := (fun r => [.int r])) (t := 1) (fun a e => by cases e; exact ct_X4_fail d _ _) (by decide) rfl q3974 q3976 qs62 q110 q3977 rfl md_X4_fail rfl (by decide) rfl (by decide) dX4_fewestKeepers_22 (fun _ => rfl) (fun r101 σ => ?_) (by decide)
  exact tj_iret dX4_fewestKeepers_25
theorem tj_X4_fewestKeepers_J71 {E : tj_E} {X : tj_X} {n0 s0 : Nat} (d : Nat) {b32 : Option Nat → Int32 → Int32 → Int32 → Int32 → mx_M Int32} (h32 : ∀ (l0 : Option Nat) (l1 : Int32) (l2 : Int32) (l3 : Int32) (l4 : Int32) (σ : hp_S), tj_T E X RX4 "fewestKeepers" cX4_fewestKeepers 5 (some .int) (d + 1) [] n0 s0 em_i σ 32 [some (va_rf l0), some (.int l1), some (.int l2), some (.int l3), some (.int l4)] [] (b32 l0 l1 l2 l3 l4)) (l0 : Option Nat) (l1 : Int32) (l2 : Int32) (l3 : Int32) (l4 : Int32) (σ : hp_S) : tj_T E X RX4 "fewestKeepers" cX4_fewestKeepers 5 (some .int) (d + 1) [] n0 s0 em_i σ 71 [some (va_rf l0), some (.int l1), some (.int l2), some (.int l3), some (.int l4)] [] (fn_X4_fewestKeepers_J71 d b32 l0 l1 l2 l3 l4) := by
  unfold fn_X4_fewestKeepers_J71
  refine tj_iinc (1 : Int32) dX4_fewestKeepers_71 rfl rfl (by decide) rfl [some (va_rf l0), some (.int l1), some (.int l2), some (.int l3), some (.int (l4 + (1 : Int32)))] rfl ?_
  refine tj_goto 32 dX4_fewestKeepers_74 rfl ?_
  exact h32 l0 l1 l2 l3 _ _
theorem tj_X4_fewestKeepers_L32_b {E : tj_E} {X : tj_X} {n0 s0 : Nat} (d : Nat) {b32 : Option Nat → Int32 → Int32 → Int32 → Int32 → mx_M Int32} (h32 : ∀ (l0 : Option Nat) (l1 : Int32) (l2 : Int32) (l3 : Int32) (l4 : Int32) (σ : hp_S), tj_T E X RX4 "fewestKeepers" cX4_fewestKeepers 5 (some .int) (d + 1) [] n0 s0 em_i σ 32 [some (va_rf l0), some (.int l1), some (.int l2), some (.int l3), some (.int l4)] [] (b32 l0 l1 l2 l3 l4)) (l0 : Option Nat) (l1 : Int32) (l2 : Int32) (l3 : Int32) (l4 : Int32) (σ : hp_S) : tj_T E X RX4 "fewestKeepers" cX4_fewestKeepers 5 (some .int) (d + 1) [] n0 s0 em_i σ 32 [some (va_rf l0), some (.int l1), some (.int l2), some (.int l3), some (.int l4)] [] (fn_X4_fewestKeepers_L32_b d b32 l0 l1 l2 l3 l4) := by
  unfold fn_X4_fewestKeepers_L32_b
  refine tj_iload dX4_fewestKeepers_32 rfl ?_
  refine tj_iconst (1 : Int32) dX4_fewestKeepers_34 rfl ?_
  refine tj_aload_n dX4_fewestKeepers_35 rfl ?_
  refine tj_getR fl_X4_16r dX4_fewestKeepers_36 (fun v101 => ?_)
  refine tj_iconst (4 : Int32) dX4_fewestKeepers_39 rfl ?_
  refine tj_iald dX4_fewestKeepers_40 (fun v102 => ?_)
  refine tj_ishl dX4_fewestKeepers_41 ?_
  refine tj_icmp_ge 77 dX4_fewestKeepers_42 rfl (fun _ => ?_) (fun _ => ?_)
  · refine tj_iload_n dX4_fewestKeepers_77 rfl ?_
    exact tj_iret dX4_fewestKeepers_78
  · refine tj_iload dX4_fewestKeepers_45 rfl ?_
    refine tj_callS (as := [.int l4]) (rest := []) (st' := (fun r => [.int r])) (ct_X4_count d l4) q4153 q4154 q110 q4155 md_X4_count rfl (by decide) rfl (by decide) dX4_fewestKeepers_47 (fun _ => rfl) (fun r103 σ => ?_) (by decide)
    refine tj_iload_n dX4_fewestKeepers_50 rfl ?_
    refine tj_icmp_ge 71 dX4_fewestKeepers_51 rfl (fun _ => ?_) (fun _ => ?_)
    · exact tj_X4_fewestKeepers_J71 d h32 l0 l1 l2 l3 l4 _
    · refine tj_aload_n dX4_fewestKeepers_54 rfl ?_
      refine tj_iload dX4_fewestKeepers_55 rfl ?_
      refine tj_iload_n dX4_fewestKeepers_57 rfl ?_
      refine tj_iload_n dX4_fewestKeepers_58 rfl ?_
      refine tj_callV (as := [.int l4, .int l1, .int l2]) (rest := []) (st' := (fun r => [.int r])) (t := 1) (fun a e => by cases e; exact ct_X4_covers d _ _ _ _) (by decide) rfl q4185 q4187 qs83 q110 q4188 rfl md_X4_covers rfl (by decide) rfl (by decide) dX4_fewestKeepers_59 (fun _ => rfl) (fun r104 σ => ?_) (by decide)
      refine tj_if_eq 71 dX4_fewestKeepers_62 rfl (fun _ => ?_) (fun _ => ?_)
      · exact tj_X4_fewestKeepers_J71 d h32 l0 l1 l2 l3 l4 _
      · refine tj_iload dX4_fewestKeepers_65 rfl ?_
        refine tj_callS (as := [.int l4]) (rest := []) (st' := (fun r => [.int r])) (ct_X4_count d l4) q4153 q4154 q110 q4155 md_X4_count rfl (by decide) rfl (by decide) dX4_fewestKeepers_67 (fun _ => rfl) (fun r105 σ => ?_) (by decide)
        refine tj_istore_n dX4_fewestKeepers_70 (by decide) rfl [some (va_rf l0), some (.int l1), some (.int l2), some (.int r105), some (.int l4)] rfl ?_
        exact tj_X4_fewestKeepers_J71 d h32 l0 l1 l2 r105 l4 _
theorem tj_X4_fewestKeepers_L32 {E : tj_E} {X : tj_X} {n0 s0 : Nat} (d : Nat) : ∀ (k : Nat) (l0 : Option Nat) (l1 : Int32) (l2 : Int32) (l3 : Int32) (l4 : Int32) (σ : hp_S), tj_T E X RX4 "fewestKeepers" cX4_fewestKeepers 5 (some .int) (d + 1) [] n0 s0 em_i σ 32 [some (va_rf l0), some (.int l1), some (.int l2), some (.int l3), some (.int l4)] [] (fn_X4_fewestKeepers_L32 d k l0 l1 l2 l3 l4) := by
  intro k
  induction k with
  | zero =>
    intro l0 l1 l2 l3 l4 σ
    exact tj_fail
  | succ k ih =>
    intro l0 l1 l2 l3 l4 σ
    exact tj_X4_fewestKeepers_L32_b d ih l0 l1 l2 l3 l4 σ
theorem tj_X4_fewestKeepers_B0 {E : tj_E} {X : tj_X} {n0 s0 : Nat} (d : Nat) (v0 : Option Nat) (v1 : Int32) (v2 : Int32) (σ : hp_S) : tj_T E X RX4 "fewestKeepers" cX4_fewestKeepers 5 (some .int) (d + 1) [] n0 s0 em_i σ 0 [some (va_rf v0), some (.int v1), some (.int v2), none, none] [] (fn_X4_fewestKeepers_B0 d v0 v1 v2) := by
  unfold fn_X4_fewestKeepers_B0
  refine tj_aload_n dX4_fewestKeepers_0 rfl ?_
  refine tj_iload_n dX4_fewestKeepers_1 rfl ?_
  refine tj_iload_n dX4_fewestKeepers_2 rfl ?_
  refine tj_callV (as := [.int v1, .int v2]) (rest := []) (st' := (fun r => [.int r])) (t := 1) (fun a e => by cases e; exact ct_X4_isCovered d _ _ _) (by decide) rfl q4193 q4182 q4183 q110 q4184 rfl md_X4_isCovered rfl (by decide) rfl (by decide) dX4_fewestKeepers_3 (fun _ => rfl) (fun r101 σ => ?_) (by decide)
  refine tj_if_ne 26 dX4_fewestKeepers_6 rfl (fun _ => ?_) (fun _ => ?_)
  · refine tj_aload_n dX4_fewestKeepers_9 rfl ?_
    refine tj_aload_n dX4_fewestKeepers_10 rfl ?_
    refine tj_getI fl_X4_50 dX4_fewestKeepers_11 (fun v102 => ?_)
    refine tj_if_ne 21 dX4_fewestKeepers_14 rfl (fun _ => ?_) (fun _ => ?_)
    · refine tj_iconst (2 : Int32) dX4_fewestKeepers_17 rfl ?_
      refine tj_goto 22 dX4_fewestKeepers_18 rfl ?_
      refine tj_wk (L' := [none, none, none, none, none]) trivial ?_
      exact tj_X4_fewestKeepers_J22 d v0 (2 : Int32) _
    · refine tj_iconst (1 : Int32) dX4_fewestKeepers_21 rfl ?_
      refine tj_wk (L' := [none, none, none, none, none]) trivial ?_
      exact tj_X4_fewestKeepers_J22 d v0 (1 : Int32) _
  · refine tj_bipush (6 : Int32) dX4_fewestKeepers_26 (by decide) ?_
    refine tj_istore_n dX4_fewestKeepers_28 (by decide) rfl [some (va_rf v0), some (.int v1), some (.int v2), some (.int (6 : Int32)), none] rfl ?_
    refine tj_iconst (1 : Int32) dX4_fewestKeepers_29 rfl ?_
    refine tj_istore dX4_fewestKeepers_30 (by decide) rfl [some (va_rf v0), some (.int v1), some (.int v2), some (.int (6 : Int32)), some (.int (1 : Int32))] rfl ?_
    exact tj_X4_fewestKeepers_L32 d mx_K v0 v1 v2 (6 : Int32) (1 : Int32) _
theorem ct_X4_fewestKeepers : ∀ (d : Nat) (v0 : Option Nat) (v1 : Int32) (v2 : Int32), ct_ yX4_fewestKeepers (ws_ yX4_fewestKeepers cX4_fewestKeepers 5 (some .int)) d em_i [va_rf v0, .int v1, .int v2] (fn_X4_fewestKeepers d v0 v1 v2)
  | 0, _, _, _ => ct_fail
  | d + 1, v0, v1, v2 => ct_of [(false, va_rf v0), (false, .int v1), (false, .int v2)] [some (va_rf v0), some (.int v1), some (.int v2), none, none] (by decide) rfl ⟨rfl, (rf_cat _), ⟨rfl, rfl, ⟨rfl, rfl, trivial⟩⟩⟩ (fun E X n0 s0 σ => tj_X4_fewestKeepers_B0 d v0 v1 v2 σ)
theorem tj_X4_fewestKeepersBySets_B0 {E : tj_E} {X : tj_X} {n0 s0 : Nat} (d : Nat) (v0 : Option Nat) (v1 : Int32) (v2 : Int32) (σ : hp_S) : tj_T E X RX4 "fewestKeepersBySets" cX4_fewestKeepersBySets 3 (some .int) (d + 1) [] n0 s0 em_i σ 0 [some (va_rf v0), some (.int v1), some (.int v2)] [] (fn_X4_fewestKeepersBySets_B0 d v0 v1 v2) := by
  unfold fn_X4_fewestKeepersBySets_B0
  refine tj_aload_n dX4_fewestKeepersBySets_0 rfl ?_
  refine tj_iload_n dX4_fewestKeepersBySets_1 rfl ?_
  refine tj_iload_n dX4_fewestKeepersBySets_2 rfl ?_
  refine tj_callV (as := [.int v1, .int v2]) (rest := []) (st' := (fun r => [.int r])) (t := 1) (fun a e => by cases e; exact ct_X4_fewestKeepers d _ _ _) (by decide) rfl q4198 q4190 q4191 q110 q4192 rfl md_X4_fewestKeepers rfl (by decide) rfl (by decide) dX4_fewestKeepersBySets_3 (fun _ => rfl) (fun r101 σ => ?_) (by decide)
  exact tj_iret dX4_fewestKeepersBySets_6
theorem ct_X4_fewestKeepersBySets : ∀ (d : Nat) (v0 : Option Nat) (v1 : Int32) (v2 : Int32), ct_ yX4_fewestKeepersBySets (ws_ yX4_fewestKeepersBySets cX4_fewestKeepersBySets 3 (some .int)) d em_i [va_rf v0, .int v1, .int v2] (fn_X4_fewestKeepersBySets d v0 v1 v2)
  | 0, _, _, _ => ct_fail
  | d + 1, v0, v1, v2 => ct_of [(false, va_rf v0), (false, .int v1), (false, .int v2)] [some (va_rf v0), some (.int v1), some (.int v2)] (by decide) rfl ⟨rfl, (rf_cat _), ⟨rfl, rfl, ⟨rfl, rfl, trivial⟩⟩⟩ (fun E X n0 s0 σ => tj_X4_fewestKeepersBySets_B0 d v0 v1 v2 σ)
theorem tj_X4_hires_J22 {E : tj_E} {X : tj_X} {n0 s0 : Nat} (d : Nat) (l0 : Option Nat) (σ : hp_S) : tj_T E X RX4 "hires" cX4_hires 4 (some .int) (d + 1) [] n0 s0 em_i σ 22 [some (va_rf l0), none, none, none] [] (fn_X4_hires_J22 d l0) := by
  unfold fn_X4_hires_J22
  refine tj_aload_n dX4_hires_22 rfl ?_
  refine tj_iconst (1 : Int32) dX4_hires_23 rfl ?_
  refine tj_callV (as := [.int (1 : Int32)]) (rest := []) (st' := (fun r => [.int r])) (t := 1) (fun a e => by cases e; exact ct_X4_fail d _ _) (by decide) rfl q3974 q3976 qs62 q110 q3977 rfl md_X4_fail rfl (by decide) rfl (by decide) dX4_hires_24 (fun _ => rfl) (fun r101 σ => ?_) (by decide)
  exact tj_iret dX4_hires_27
theorem tj_X4_hires_B0 {E : tj_E} {X : tj_X} {n0 s0 : Nat} (d : Nat) (v0 : Option Nat) (v1 : Int32) (v2 : Int32) (σ : hp_S) : tj_T E X RX4 "hires" cX4_hires 4 (some .int) (d + 1) [] n0 s0 em_i σ 0 [some (va_rf v0), some (.int v1), some (.int v2), none] [] (fn_X4_hires_B0 d v0 v1 v2) := by
  unfold fn_X4_hires_B0
  refine tj_iload_n dX4_hires_0 rfl ?_
  refine tj_iconst (0 : Int32) dX4_hires_1 rfl ?_
  refine tj_bipush (23 : Int32) dX4_hires_2 (by decide) ?_
  refine tj_callS (as := [.int v1, .int (0 : Int32), .int (23 : Int32)]) (rest := []) (st' := (fun r => [.int r])) (ct_X4_isIn d v1 (0 : Int32) (23 : Int32)) q3971 q3972 q110 q3973 md_X4_isIn rfl (by decide) rfl (by decide) dX4_hires_4 (fun _ => rfl) (fun r101 σ => ?_) (by decide)
  refine tj_if_eq 22 dX4_hires_7 rfl (fun _ => ?_) (fun _ => ?_)
  · refine tj_wk (L' := [some (va_rf v0), none, none, none]) ⟨rfl, trivial⟩ ?_
    exact tj_X4_hires_J22 d v0 _
  · refine tj_iload_n dX4_hires_10 rfl ?_
    refine tj_iload_n dX4_hires_11 rfl ?_
    refine tj_iconst (1 : Int32) dX4_hires_12 rfl ?_
    refine tj_iadd dX4_hires_13 ?_
    refine tj_bipush (24 : Int32) dX4_hires_14 (by decide) ?_
    refine tj_callS (as := [.int v2, .int (v1 + (1 : Int32)), .int (24 : Int32)]) (rest := []) (st' := (fun r => [.int r])) (ct_X4_isIn d v2 _ (24 : Int32)) q3971 q3972 q110 q3973 md_X4_isIn rfl (by decide) rfl (by decide) dX4_hires_16 (fun _ => rfl) (fun r102 σ => ?_) (by decide)
    refine tj_if_ne 28 dX4_hires_19 rfl (fun _ => ?_) (fun _ => ?_)
    · refine tj_wk (L' := [some (va_rf v0), none, none, none]) ⟨rfl, trivial⟩ ?_
      exact tj_X4_hires_J22 d v0 _
    · refine tj_aload_n dX4_hires_28 rfl ?_
      refine tj_getR fl_X4_16r dX4_hires_29 (fun v103 => ?_)
      refine tj_iconst (4 : Int32) dX4_hires_32 rfl ?_
      refine tj_iald dX4_hires_33 (fun v104 => ?_)
      refine tj_istore_n dX4_hires_34 (by decide) rfl [some (va_rf v0), some (.int v1), some (.int v2), some (.int v104)] rfl ?_
      refine tj_iload_n dX4_hires_35 rfl ?_
      refine tj_bipush (6 : Int32) dX4_hires_36 (by decide) ?_
      refine tj_icmp_ne 47 dX4_hires_38 rfl (fun _ => ?_) (fun _ => ?_)
      · refine tj_aload_n dX4_hires_41 rfl ?_
        refine tj_iconst (2 : Int32) dX4_hires_42 rfl ?_
        refine tj_callV (as := [.int (2 : Int32)]) (rest := []) (st' := (fun r => [.int r])) (t := 1) (fun a e => by cases e; exact ct_X4_fail d _ _) (by decide) rfl q3974 q3976 qs62 q110 q3977 rfl md_X4_fail rfl (by decide) rfl (by decide) dX4_hires_43 (fun _ => rfl) (fun r105 σ => ?_) (by decide)
        exact tj_iret dX4_hires_46
      · refine tj_aload_n dX4_hires_47 rfl ?_
        refine tj_getR fl_X4_16r dX4_hires_48 (fun v106 => ?_)
        refine tj_bipush (60 : Int32) dX4_hires_51 (by decide) ?_
        refine tj_iconst (2 : Int32) dX4_hires_53 rfl ?_
        refine tj_iload_n dX4_hires_54 rfl ?_
        refine tj_imul dX4_hires_55 ?_
        refine tj_iadd dX4_hires_56 ?_
        refine tj_iload_n dX4_hires_57 rfl ?_
        refine tj_iast dX4_hires_58 (fun σ => ?_)
        refine tj_aload_n dX4_hires_59 rfl ?_
        refine tj_getR fl_X4_16r dX4_hires_60 (fun v107 => ?_)
        refine tj_bipush (60 : Int32) dX4_hires_63 (by decide) ?_
        refine tj_iconst (2 : Int32) dX4_hires_65 rfl ?_
        refine tj_iload_n dX4_hires_66 rfl ?_
        refine tj_imul dX4_hires_67 ?_
        refine tj_iadd dX4_hires_68 ?_
        refine tj_iconst (1 : Int32) dX4_hires_69 rfl ?_
        refine tj_iadd dX4_hires_70 ?_
        refine tj_iload_n dX4_hires_71 rfl ?_
        refine tj_iast dX4_hires_72 (fun σ => ?_)
        refine tj_aload_n dX4_hires_73 rfl ?_
        refine tj_getR fl_X4_16r dX4_hires_74 (fun v108 => ?_)
        refine tj_iconst (4 : Int32) dX4_hires_77 rfl ?_
        refine tj_dup2_11 dX4_hires_78 rfl (rf_cat _) ?_
        refine tj_iald dX4_hires_79 (fun v109 => ?_)
        refine tj_iconst (1 : Int32) dX4_hires_80 rfl ?_
        refine tj_iadd dX4_hires_81 ?_
        refine tj_iast dX4_hires_82 (fun σ => ?_)
        refine tj_iload_n dX4_hires_83 rfl ?_
        exact tj_iret dX4_hires_84
theorem ct_X4_hires : ∀ (d : Nat) (v0 : Option Nat) (v1 : Int32) (v2 : Int32), ct_ yX4_hires (ws_ yX4_hires cX4_hires 4 (some .int)) d em_i [va_rf v0, .int v1, .int v2] (fn_X4_hires d v0 v1 v2)
  | 0, _, _, _ => ct_fail
  | d + 1, v0, v1, v2 => ct_of [(false, va_rf v0), (false, .int v1), (false, .int v2)] [some (va_rf v0), some (.int v1), some (.int v2), none] (by decide) rfl ⟨rfl, (rf_cat _), ⟨rfl, rfl, ⟨rfl, rfl, trivial⟩⟩⟩ (fun E X n0 s0 σ => tj_X4_hires_B0 d v0 v1 v2 σ)
theorem tj_X4_hireKeeper_B0 {E : tj_E} {X : tj_X} {n0 s0 : Nat} (d : Nat) (v0 : Option Nat) (v1 : Int32) (v2 : Int32) (σ : hp_S) : tj_T E X RX4 "hireKeeper" cX4_hireKeeper 3 (some .int) (d + 1) [] n0 s0 em_i σ 0 [some (va_rf v0), some (.int v1), some (.int v2)] [] (fn_X4_hireKeeper_B0 d v0 v1 v2) := by
  unfold fn_X4_hireKeeper_B0
  refine tj_aload_n dX4_hireKeeper_0 rfl ?_
  refine tj_callV (as := []) (rest := []) (st' := (fun _ => [])) (t := 1) (fun a e => by cases e; exact ct_X4_begins d _) (by decide) rfl q3960 q3962 qs60 q110 q3963 rfl md_X4_begins rfl (by decide) rfl (by decide) dX4_hireKeeper_1 (fun _ => rfl) (fun _ σ => ?_) (by decide)
  refine tj_aload_n dX4_hireKeeper_4 rfl ?_
  refine tj_aload_n dX4_hireKeeper_5 rfl ?_
  refine tj_iload_n dX4_hireKeeper_6 rfl ?_
  refine tj_iload_n dX4_hireKeeper_7 rfl ?_
  refine tj_callV (as := [.int v1, .int v2]) (rest := [va_rf v0]) (st' := (fun r => [.int r, va_rf v0])) (t := 1) (fun a e => by cases e; exact ct_X4_hires d _ _ _) (by decide) rfl q4056 q4058 qs75 q110 q4059 rfl md_X4_hires rfl (by decide) rfl (by simp [rf_cat, cat_i, cat_l, cat_f, cat_d]) dX4_hireKeeper_8 (fun _ => rfl) (fun r101 σ => ?_) (by decide)
  refine tj_callV (as := [.int r101]) (rest := []) (st' := (fun r => [.int r])) (t := 1) (fun a e => by cases e; exact ct_X4_ends d _ _) (by decide) rfl q4000 q4002 qs67 q110 q4003 rfl md_X4_ends rfl (by decide) rfl (by decide) dX4_hireKeeper_11 (fun _ => rfl) (fun r102 σ => ?_) (by decide)
  exact tj_iret dX4_hireKeeper_14
theorem ct_X4_hireKeeper : ∀ (d : Nat) (v0 : Option Nat) (v1 : Int32) (v2 : Int32), ct_ yX4_hireKeeper (ws_ yX4_hireKeeper cX4_hireKeeper 3 (some .int)) d em_i [va_rf v0, .int v1, .int v2] (fn_X4_hireKeeper d v0 v1 v2)
  | 0, _, _, _ => ct_fail
  | d + 1, v0, v1, v2 => ct_of [(false, va_rf v0), (false, .int v1), (false, .int v2)] [some (va_rf v0), some (.int v1), some (.int v2)] (by decide) rfl ⟨rfl, (rf_cat _), ⟨rfl, rfl, ⟨rfl, rfl, trivial⟩⟩⟩ (fun E X n0 s0 σ => tj_X4_hireKeeper_B0 d v0 v1 v2 σ)
theorem tj_X4_hour_B0 {E : tj_E} {X : tj_X} {n0 s0 : Nat} (d : Nat) (v0 : Option Nat) (σ : hp_S) : tj_T E X RX4 "hour" cX4_hour 1 (some .int) (d + 1) [] n0 s0 em_i σ 0 [some (va_rf v0)] [] (fn_X4_hour_B0 d v0) := by
  unfold fn_X4_hour_B0
  refine tj_aload_n dX4_hour_0 rfl ?_
  refine tj_iconst (0 : Int32) dX4_hour_1 rfl ?_
  refine tj_callV (as := [.int (0 : Int32)]) (rest := []) (st' := (fun r => [.int r])) (t := 1) (fun a e => by cases e; exact ct_X4_tells d _ _) (by decide) rfl q4080 q4082 qs78 q110 q4083 rfl md_X4_tells rfl (by decide) rfl (by decide) dX4_hour_2 (fun _ => rfl) (fun r101 σ => ?_) (by decide)
  exact tj_iret dX4_hour_5
theorem ct_X4_hour : ∀ (d : Nat) (v0 : Option Nat), ct_ yX4_hour (ws_ yX4_hour cX4_hour 1 (some .int)) d em_i [va_rf v0] (fn_X4_hour d v0)
  | 0, _ => ct_fail
  | d + 1, v0 => ct_of [(false, va_rf v0)] [some (va_rf v0)] (by decide) rfl ⟨rfl, (rf_cat _), trivial⟩ (fun E X n0 s0 σ => tj_X4_hour_B0 d v0 σ)
theorem tj_X4_hungerOf_B0 {E : tj_E} {X : tj_X} {n0 s0 : Nat} (d : Nat) (v0 : Option Nat) (v1 : Int32) (σ : hp_S) : tj_T E X RX4 "hungerOf" cX4_hungerOf 2 (some .int) (d + 1) [] n0 s0 em_i σ 0 [some (va_rf v0), some (.int v1)] [] (fn_X4_hungerOf_B0 d v0 v1) := by
  unfold fn_X4_hungerOf_B0
  refine tj_aload_n dX4_hungerOf_0 rfl ?_
  refine tj_iload_n dX4_hungerOf_1 rfl ?_
  refine tj_iconst (1 : Int32) dX4_hungerOf_2 rfl ?_
  refine tj_callV (as := [.int v1, .int (1 : Int32)]) (rest := []) (st' := (fun r => [.int r])) (t := 1) (fun a e => by cases e; exact ct_X4_about d _ _ _) (by decide) rfl q4092 q4094 qs79 q110 q4095 rfl md_X4_about rfl (by decide) rfl (by decide) dX4_hungerOf_3 (fun _ => rfl) (fun r101 σ => ?_) (by decide)
  exact tj_iret dX4_hungerOf_6
theorem ct_X4_hungerOf : ∀ (d : Nat) (v0 : Option Nat) (v1 : Int32), ct_ yX4_hungerOf (ws_ yX4_hungerOf cX4_hungerOf 2 (some .int)) d em_i [va_rf v0, .int v1] (fn_X4_hungerOf d v0 v1)
  | 0, _, _ => ct_fail
  | d + 1, v0, v1 => ct_of [(false, va_rf v0), (false, .int v1)] [some (va_rf v0), some (.int v1)] (by decide) rfl ⟨rfl, (rf_cat _), ⟨rfl, rfl, trivial⟩⟩ (fun E X n0 s0 σ => tj_X4_hungerOf_B0 d v0 v1 σ)
theorem tj_X4_lionAtRank_J53 {E : tj_E} {X : tj_X} {n0 s0 : Nat} (d : Nat) {b9 : Option Nat → Int32 → Int32 → Int32 → mx_M Int32} (h9 : ∀ (l0 : Option Nat) (l1 : Int32) (l2 : Int32) (l3 : Int32) (σ : hp_S), tj_T E X RX4 "lionAtRank" cX4_lionAtRank 4 (some .int) (d + 1) [] n0 s0 em_i σ 9 [some (va_rf l0), some (.int l1), some (.int l2), some (.int l3)] [] (b9 l0 l1 l2 l3)) (l0 : Option Nat) (l1 : Int32) (l2 : Int32) (l3 : Int32) (σ : hp_S) : tj_T E X RX4 "lionAtRank" cX4_lionAtRank 4 (some .int) (d + 1) [] n0 s0 em_i σ 53 [some (va_rf l0), some (.int l1), some (.int l2), some (.int l3)] [] (fn_X4_lionAtRank_J53 d b9 l0 l1 l2 l3) := by
  unfold fn_X4_lionAtRank_J53
  refine tj_iinc (1 : Int32) dX4_lionAtRank_53 rfl rfl (by decide) rfl [some (va_rf l0), some (.int l1), some (.int l2), some (.int (l3 + (1 : Int32)))] rfl ?_
  refine tj_goto 9 dX4_lionAtRank_56 rfl ?_
  exact h9 l0 l1 l2 _ _
theorem tj_X4_lionAtRank_L9_b {E : tj_E} {X : tj_X} {n0 s0 : Nat} (d : Nat) {b9 : Option Nat → Int32 → Int32 → Int32 → mx_M Int32} (h9 : ∀ (l0 : Option Nat) (l1 : Int32) (l2 : Int32) (l3 : Int32) (σ : hp_S), tj_T E X RX4 "lionAtRank" cX4_lionAtRank 4 (some .int) (d + 1) [] n0 s0 em_i σ 9 [some (va_rf l0), some (.int l1), some (.int l2), some (.int l3)] [] (b9 l0 l1 l2 l3)) (l0 : Option Nat) (l1 : Int32) (l2 : Int32) (l3 : Int32) (σ : hp_S) : tj_T E X RX4 "lionAtRank" cX4_lionAtRank 4 (some .int) (d + 1) [] n0 s0 em_i σ 9 [some (va_rf l0), some (.int l1), some (.int l2), some (.int l3)] [] (fn_X4_lionAtRank_L9_b d b9 l0 l1 l2 l3) := by
  unfold fn_X4_lionAtRank_L9_b
  refine tj_iload_n dX4_lionAtRank_9 rfl ?_
  refine tj_aload_n dX4_lionAtRank_10 rfl ?_
  refine tj_getR fl_X4_16r dX4_lionAtRank_11 (fun v101 => ?_)
  refine tj_iconst (5 : Int32) dX4_lionAtRank_14 rfl ?_
  refine tj_iald dX4_lionAtRank_15 (fun v102 => ?_)
  refine tj_icmp_ge 59 dX4_lionAtRank_16 rfl (fun _ => ?_) (fun _ => ?_)
  · refine tj_aload_n dX4_lionAtRank_59 rfl ?_
    refine tj_iconst (1 : Int32) dX4_lionAtRank_60 rfl ?_
    refine tj_callV (as := [.int (1 : Int32)]) (rest := []) (st' := (fun r => [.int r])) (t := 1) (fun a e => by cases e; exact ct_X4_fail d _ _) (by decide) rfl q3974 q3976 qs62 q110 q3977 rfl md_X4_fail rfl (by decide) rfl (by decide) dX4_lionAtRank_61 (fun _ => rfl) (fun r103 σ => ?_) (by decide)
    exact tj_iret dX4_lionAtRank_64
  · refine tj_aload_n dX4_lionAtRank_19 rfl ?_
    refine tj_iload_n dX4_lionAtRank_20 rfl ?_
    refine tj_callV (as := [.int l3]) (rest := []) (st' := (fun r => [.int r])) (t := 1) (fun a e => by cases e; exact ct_X4_owner d _ _) (by decide) rfl q3989 q3991 qs65 q110 q3992 rfl md_X4_owner rfl (by decide) rfl (by decide) dX4_lionAtRank_21 (fun _ => rfl) (fun r104 σ => ?_) (by decide)
    refine tj_if_ge 30 dX4_lionAtRank_24 rfl (fun _ => ?_) (fun _ => ?_)
    · refine tj_iload_n dX4_lionAtRank_30 rfl ?_
      refine tj_iload_n dX4_lionAtRank_31 rfl ?_
      refine tj_icmp_ne 50 dX4_lionAtRank_32 rfl (fun _ => ?_) (fun _ => ?_)
      · refine tj_aload_n dX4_lionAtRank_35 rfl ?_
        refine tj_getR fl_X4_16r dX4_lionAtRank_36 (fun v105 => ?_)
        refine tj_aload_n dX4_lionAtRank_39 rfl ?_
        refine tj_iload_n dX4_lionAtRank_40 rfl ?_
        refine tj_callV (as := [.int l3]) (rest := [va_rf v105]) (st' := (fun r => [.int r, va_rf v105])) (t := 1) (fun a e => by cases e; exact ct_X4_owner d _ _) (by decide) rfl q3989 q3991 qs65 q110 q3992 rfl md_X4_owner rfl (by decide) rfl (by simp [rf_cat, cat_i, cat_l, cat_f, cat_d]) dX4_lionAtRank_41 (fun _ => rfl) (fun r106 σ => ?_) (by decide)
        refine tj_iconst (0 : Int32) dX4_lionAtRank_44 rfl ?_
        refine tj_callS (as := [.int r106, .int (0 : Int32)]) (rest := [va_rf v105]) (st' := (fun r => [.int r, va_rf v105])) (ct_X4_of d r106 (0 : Int32)) q3978 q3979 q110 q3980 md_X4_of rfl (by decide) rfl (by simp [rf_cat, cat_i, cat_l, cat_f, cat_d]) dX4_lionAtRank_45 (fun _ => rfl) (fun r107 σ => ?_) (by decide)
        refine tj_iald dX4_lionAtRank_48 (fun v108 => ?_)
        exact tj_iret dX4_lionAtRank_49
      · refine tj_iinc (1 : Int32) dX4_lionAtRank_50 rfl rfl (by decide) rfl [some (va_rf l0), some (.int l1), some (.int (l2 + (1 : Int32))), some (.int l3)] rfl ?_
        exact tj_X4_lionAtRank_J53 d h9 l0 l1 _ l3 _
    · refine tj_goto 53 dX4_lionAtRank_27 rfl ?_
      exact tj_X4_lionAtRank_J53 d h9 l0 l1 l2 l3 _
theorem tj_X4_lionAtRank_L9 {E : tj_E} {X : tj_X} {n0 s0 : Nat} (d : Nat) : ∀ (k : Nat) (l0 : Option Nat) (l1 : Int32) (l2 : Int32) (l3 : Int32) (σ : hp_S), tj_T E X RX4 "lionAtRank" cX4_lionAtRank 4 (some .int) (d + 1) [] n0 s0 em_i σ 9 [some (va_rf l0), some (.int l1), some (.int l2), some (.int l3)] [] (fn_X4_lionAtRank_L9 d k l0 l1 l2 l3) := by
  intro k
  induction k with
  | zero =>
    intro l0 l1 l2 l3 σ
    exact tj_fail
  | succ k ih =>
    intro l0 l1 l2 l3 σ
    exact tj_X4_lionAtRank_L9_b d ih l0 l1 l2 l3 σ
theorem tj_X4_lionAtRank_B0 {E : tj_E} {X : tj_X} {n0 s0 : Nat} (d : Nat) (v0 : Option Nat) (v1 : Int32) (σ : hp_S) : tj_T E X RX4 "lionAtRank" cX4_lionAtRank 4 (some .int) (d + 1) [] n0 s0 em_i σ 0 [some (va_rf v0), some (.int v1), none, none] [] (fn_X4_lionAtRank_B0 d v0 v1) := by
  unfold fn_X4_lionAtRank_B0
  refine tj_aload_n dX4_lionAtRank_0 rfl ?_
  refine tj_iconst (0 : Int32) dX4_lionAtRank_1 rfl ?_
  refine tj_put fl_X4_50 rfl rfl dX4_lionAtRank_2 (fun σ => ?_)
  refine tj_iconst (0 : Int32) dX4_lionAtRank_5 rfl ?_
  refine tj_istore_n dX4_lionAtRank_6 (by decide) rfl [some (va_rf v0), some (.int v1), some (.int (0 : Int32)), none] rfl ?_
  refine tj_iconst (0 : Int32) dX4_lionAtRank_7 rfl ?_
  refine tj_istore_n dX4_lionAtRank_8 (by decide) rfl [some (va_rf v0), some (.int v1), some (.int (0 : Int32)), some (.int (0 : Int32))] rfl ?_
  exact tj_X4_lionAtRank_L9 d mx_K v0 v1 (0 : Int32) (0 : Int32) _
theorem ct_X4_lionAtRank : ∀ (d : Nat) (v0 : Option Nat) (v1 : Int32), ct_ yX4_lionAtRank (ws_ yX4_lionAtRank cX4_lionAtRank 4 (some .int)) d em_i [va_rf v0, .int v1] (fn_X4_lionAtRank d v0 v1)
  | 0, _, _ => ct_fail
  | d + 1, v0, v1 => ct_of [(false, va_rf v0), (false, .int v1)] [some (va_rf v0), some (.int v1), none, none] (by decide) rfl ⟨rfl, (rf_cat _), ⟨rfl, rfl, trivial⟩⟩ (fun E X n0 s0 σ => tj_X4_lionAtRank_B0 d v0 v1 σ)
theorem tj_X4_hungriest_B0 {E : tj_E} {X : tj_X} {n0 s0 : Nat} (d : Nat) (v0 : Option Nat) (σ : hp_S) : tj_T E X RX4 "hungriest" cX4_hungriest 1 (some .int) (d + 1) [] n0 s0 em_i σ 0 [some (va_rf v0)] [] (fn_X4_hungriest_B0 d v0) := by
  unfold fn_X4_hungriest_B0
  refine tj_aload_n dX4_hungriest_0 rfl ?_
  refine tj_iconst (0 : Int32) dX4_hungriest_1 rfl ?_
  refine tj_callV (as := [.int (0 : Int32)]) (rest := []) (st' := (fun r => [.int r])) (t := 1) (fun a e => by cases e; exact ct_X4_lionAtRank d _ _) (by decide) rfl q4116 q4109 q4110 q110 q4111 rfl md_X4_lionAtRank rfl (by decide) rfl (by decide) dX4_hungriest_2 (fun _ => rfl) (fun r101 σ => ?_) (by decide)
  exact tj_iret dX4_hungriest_5
theorem ct_X4_hungriest : ∀ (d : Nat) (v0 : Option Nat), ct_ yX4_hungriest (ws_ yX4_hungriest cX4_hungriest 1 (some .int)) d em_i [va_rf v0] (fn_X4_hungriest d v0)
  | 0, _ => ct_fail
  | d + 1, v0 => ct_of [(false, va_rf v0)] [some (va_rf v0)] (by decide) rfl ⟨rfl, (rf_cat _), trivial⟩ (fun E X n0 s0 σ => tj_X4_hungriest_B0 d v0 σ)
theorem tj_X4_hungriestByLooking_B0 {E : tj_E} {X : tj_X} {n0 s0 : Nat} (d : Nat) (v0 : Option Nat) (σ : hp_S) : tj_T E X RX4 "hungriestByLooking" cX4_hungriestByLooking 1 (some .int) (d + 1) [] n0 s0 em_i σ 0 [some (va_rf v0)] [] (fn_X4_hungriestByLooking_B0 d v0) := by
  unfold fn_X4_hungriestByLooking_B0
  refine tj_aload_n dX4_hungriestByLooking_0 rfl ?_
  refine tj_iconst (0 : Int32) dX4_hungriestByLooking_1 rfl ?_
  refine tj_callV (as := [.int (0 : Int32)]) (rest := []) (st' := (fun r => [.int r])) (t := 1) (fun a e => by cases e; exact ct_X4_lionAtRank d _ _) (by decide) rfl q4116 q4109 q4110 q110 q4111 rfl md_X4_lionAtRank rfl (by decide) rfl (by decide) dX4_hungriestByLooking_2 (fun _ => rfl) (fun r101 σ => ?_) (by decide)
  exact tj_iret dX4_hungriestByLooking_5
theorem ct_X4_hungriestByLooking : ∀ (d : Nat) (v0 : Option Nat), ct_ yX4_hungriestByLooking (ws_ yX4_hungriestByLooking cX4_hungriestByLooking 1 (some .int)) d em_i [va_rf v0] (fn_X4_hungriestByLooking d v0)
  | 0, _ => ct_fail
  | d + 1, v0 => ct_of [(false, va_rf v0)] [some (va_rf v0)] (by decide) rfl ⟨rfl, (rf_cat _), trivial⟩ (fun E X n0 s0 σ => tj_X4_hungriestByLooking_B0 d v0 σ)
theorem tj_X4_isConsistent_B0 {E : tj_E} {X : tj_X} {n0 s0 : Nat} (d : Nat) (v0 : Option Nat) (σ : hp_S) : tj_T E X RX4 "isConsistent" cX4_isConsistent 1 (some .boolean) (d + 1) [] n0 s0 em_i σ 0 [some (va_rf v0)] [] (fn_X4_isConsistent_B0 d v0) := by
  unfold fn_X4_isConsistent_B0
  refine tj_aload_n dX4_isConsistent_0 rfl ?_
  refine tj_iconst (0 : Int32) dX4_isConsistent_1 rfl ?_
  refine tj_put fl_X4_50 rfl rfl dX4_isConsistent_2 (fun σ => ?_)
  refine tj_aload_n dX4_isConsistent_5 rfl ?_
  refine tj_getR fl_X4_16r dX4_isConsistent_6 (fun v101 => ?_)
  refine tj_iconst (5 : Int32) dX4_isConsistent_9 rfl ?_
  refine tj_iald dX4_isConsistent_10 (fun v102 => ?_)
  refine tj_aload_n dX4_isConsistent_11 rfl ?_
  refine tj_getR fl_X4_16r dX4_isConsistent_12 (fun v103 => ?_)
  refine tj_iconst (2 : Int32) dX4_isConsistent_15 rfl ?_
  refine tj_iald dX4_isConsistent_16 (fun v104 => ?_)
  refine tj_aload_n dX4_isConsistent_17 rfl ?_
  refine tj_getR fl_X4_16r dX4_isConsistent_18 (fun v105 => ?_)
  refine tj_bipush (9 : Int32) dX4_isConsistent_21 (by decide) ?_
  refine tj_iald dX4_isConsistent_23 (fun v106 => ?_)
  refine tj_isub dX4_isConsistent_24 ?_
  refine tj_aload_n dX4_isConsistent_25 rfl ?_
  refine tj_getR fl_X4_16r dX4_isConsistent_26 (fun v107 => ?_)
  refine tj_bipush (6 : Int32) dX4_isConsistent_29 (by decide) ?_
  refine tj_iald dX4_isConsistent_31 (fun v108 => ?_)
  refine tj_isub dX4_isConsistent_32 ?_
  refine tj_icmp_ne 55 dX4_isConsistent_33 rfl (fun _ => ?_) (fun _ => ?_)
  · refine tj_aload_n dX4_isConsistent_36 rfl ?_
    refine tj_getR fl_X4_16r dX4_isConsistent_37 (fun v109 => ?_)
    refine tj_iconst (5 : Int32) dX4_isConsistent_40 rfl ?_
    refine tj_iald dX4_isConsistent_41 (fun v110 => ?_)
    refine tj_aload_n dX4_isConsistent_42 rfl ?_
    refine tj_getR fl_X4_16r dX4_isConsistent_43 (fun v111 => ?_)
    refine tj_iconst (3 : Int32) dX4_isConsistent_46 rfl ?_
    refine tj_iald dX4_isConsistent_47 (fun v112 => ?_)
    refine tj_icmp_lt 55 dX4_isConsistent_48 rfl (fun _ => ?_) (fun _ => ?_)
    · refine tj_iconst (0 : Int32) dX4_isConsistent_55 rfl ?_
      exact tj_zpure rfl dX4_isConsistent_56
    · refine tj_iconst (1 : Int32) dX4_isConsistent_51 rfl ?_
      refine tj_goto 56 dX4_isConsistent_52 rfl ?_
      exact tj_zpure rfl dX4_isConsistent_56
  · refine tj_iconst (0 : Int32) dX4_isConsistent_55 rfl ?_
    exact tj_zpure rfl dX4_isConsistent_56
theorem ct_X4_isConsistent : ∀ (d : Nat) (v0 : Option Nat), ct_ yX4_isConsistent (ws_ yX4_isConsistent cX4_isConsistent 1 (some .boolean)) d em_i [va_rf v0] (fn_X4_isConsistent d v0)
  | 0, _ => ct_fail
  | d + 1, v0 => ct_of [(false, va_rf v0)] [some (va_rf v0)] (by decide) rfl ⟨rfl, (rf_cat _), trivial⟩ (fun E X n0 s0 σ => tj_X4_isConsistent_B0 d v0 σ)
theorem tj_X4_isStaleAtRank_J22 {E : tj_E} {X : tj_X} {n0 s0 : Nat} (d : Nat) (l0 : Option Nat) (l1 : Int32) (p0 : Option Nat) (p1 : Int32) (σ : hp_S) : tj_T E X RX4 "isStaleAtRank" cX4_isStaleAtRank 2 (some .boolean) (d + 1) [] n0 s0 em_i σ 22 [some (va_rf l0), some (.int l1)] [.int p1, va_rf p0] (fn_X4_isStaleAtRank_J22 d l0 l1 p0 p1) := by
  unfold fn_X4_isStaleAtRank_J22
  refine tj_put fl_X4_50 rfl rfl dX4_isStaleAtRank_22 (fun σ => ?_)
  refine tj_aload_n dX4_isStaleAtRank_25 rfl ?_
  refine tj_getI fl_X4_50 dX4_isStaleAtRank_26 (fun v101 => ?_)
  refine tj_if_ne 44 dX4_isStaleAtRank_29 rfl (fun _ => ?_) (fun _ => ?_)
  · refine tj_aload_n dX4_isStaleAtRank_32 rfl ?_
    refine tj_iload_n dX4_isStaleAtRank_33 rfl ?_
    refine tj_callV (as := [.int l1]) (rest := []) (st' := (fun r => [.int r])) (t := 1) (fun a e => by cases e; exact ct_X4_owner d _ _) (by decide) rfl q3989 q3991 qs65 q110 q3992 rfl md_X4_owner rfl (by decide) rfl (by decide) dX4_isStaleAtRank_34 (fun _ => rfl) (fun r102 σ => ?_) (by decide)
    refine tj_if_ge 44 dX4_isStaleAtRank_37 rfl (fun _ => ?_) (fun _ => ?_)
    · refine tj_iconst (0 : Int32) dX4_isStaleAtRank_44 rfl ?_
      exact tj_zpure rfl dX4_isStaleAtRank_45
    · refine tj_iconst (1 : Int32) dX4_isStaleAtRank_40 rfl ?_
      refine tj_goto 45 dX4_isStaleAtRank_41 rfl ?_
      exact tj_zpure rfl dX4_isStaleAtRank_45
  · refine tj_iconst (0 : Int32) dX4_isStaleAtRank_44 rfl ?_
    exact tj_zpure rfl dX4_isStaleAtRank_45
theorem tj_X4_isStaleAtRank_B0 {E : tj_E} {X : tj_X} {n0 s0 : Nat} (d : Nat) (v0 : Option Nat) (v1 : Int32) (σ : hp_S) : tj_T E X RX4 "isStaleAtRank" cX4_isStaleAtRank 2 (some .boolean) (d + 1) [] n0 s0 em_i σ 0 [some (va_rf v0), some (.int v1)] [] (fn_X4_isStaleAtRank_B0 d v0 v1) := by
  unfold fn_X4_isStaleAtRank_B0
  refine tj_aload_n dX4_isStaleAtRank_0 rfl ?_
  refine tj_iload_n dX4_isStaleAtRank_1 rfl ?_
  refine tj_iconst (0 : Int32) dX4_isStaleAtRank_2 rfl ?_
  refine tj_aload_n dX4_isStaleAtRank_3 rfl ?_
  refine tj_getR fl_X4_16r dX4_isStaleAtRank_4 (fun v101 => ?_)
  refine tj_iconst (5 : Int32) dX4_isStaleAtRank_7 rfl ?_
  refine tj_iald dX4_isStaleAtRank_8 (fun v102 => ?_)
  refine tj_iconst (1 : Int32) dX4_isStaleAtRank_9 rfl ?_
  refine tj_isub dX4_isStaleAtRank_10 ?_
  refine tj_callS (as := [.int v1, .int (0 : Int32), .int (v102 - (1 : Int32))]) (rest := [va_rf v0]) (st' := (fun r => [.int r, va_rf v0])) (ct_X4_isIn d v1 (0 : Int32) _) q3971 q3972 q110 q3973 md_X4_isIn rfl (by decide) rfl (by simp [rf_cat, cat_i, cat_l, cat_f, cat_d]) dX4_isStaleAtRank_11 (fun _ => rfl) (fun r103 σ => ?_) (by decide)
  refine tj_if_eq 21 dX4_isStaleAtRank_14 rfl (fun _ => ?_) (fun _ => ?_)
  · refine tj_iconst (1 : Int32) dX4_isStaleAtRank_21 rfl ?_
    exact tj_X4_isStaleAtRank_J22 d v0 v1 v0 (1 : Int32) _
  · refine tj_iconst (0 : Int32) dX4_isStaleAtRank_17 rfl ?_
    refine tj_goto 22 dX4_isStaleAtRank_18 rfl ?_
    exact tj_X4_isStaleAtRank_J22 d v0 v1 v0 (0 : Int32) _
theorem ct_X4_isStaleAtRank : ∀ (d : Nat) (v0 : Option Nat) (v1 : Int32), ct_ yX4_isStaleAtRank (ws_ yX4_isStaleAtRank cX4_isStaleAtRank 2 (some .boolean)) d em_i [va_rf v0, .int v1] (fn_X4_isStaleAtRank d v0 v1)
  | 0, _, _ => ct_fail
  | d + 1, v0, v1 => ct_of [(false, va_rf v0), (false, .int v1)] [some (va_rf v0), some (.int v1)] (by decide) rfl ⟨rfl, (rf_cat _), ⟨rfl, rfl, trivial⟩⟩ (fun E X n0 s0 σ => tj_X4_isStaleAtRank_B0 d v0 v1 σ)
theorem tj_X4_keeperCount_B0 {E : tj_E} {X : tj_X} {n0 s0 : Nat} (d : Nat) (v0 : Option Nat) (σ : hp_S) : tj_T E X RX4 "keeperCount" cX4_keeperCount 1 (some .int) (d + 1) [] n0 s0 em_i σ 0 [some (va_rf v0)] [] (fn_X4_keeperCount_B0 d v0) := by
  unfold fn_X4_keeperCount_B0
  refine tj_aload_n dX4_keeperCount_0 rfl ?_
  refine tj_iconst (4 : Int32) dX4_keeperCount_1 rfl ?_
  refine tj_callV (as := [.int (4 : Int32)]) (rest := []) (st' := (fun r => [.int r])) (t := 1) (fun a e => by cases e; exact ct_X4_tells d _ _) (by decide) rfl q4080 q4082 qs78 q110 q4083 rfl md_X4_tells rfl (by decide) rfl (by decide) dX4_keeperCount_2 (fun _ => rfl) (fun r101 σ => ?_) (by decide)
  exact tj_iret dX4_keeperCount_5
theorem ct_X4_keeperCount : ∀ (d : Nat) (v0 : Option Nat), ct_ yX4_keeperCount (ws_ yX4_keeperCount cX4_keeperCount 1 (some .int)) d em_i [va_rf v0] (fn_X4_keeperCount d v0)
  | 0, _ => ct_fail
  | d + 1, v0 => ct_of [(false, va_rf v0)] [some (va_rf v0)] (by decide) rfl ⟨rfl, (rf_cat _), trivial⟩ (fun E X n0 s0 σ => tj_X4_keeperCount_B0 d v0 σ)
theorem tj_X4_lateShare_J16 {E : tj_E} {X : tj_X} {n0 s0 : Nat} (d : Nat) (l0 : Option Nat) (p0 : Option Nat) (p1 : Int32) (σ : hp_S) : tj_T E X RX4 "lateShare" cX4_lateShare 1 (some .float) (d + 1) [] n0 s0 em_f σ 16 [some (va_rf l0)] [.int p1, va_rf p0] (fn_X4_lateShare_J16 d l0 p0 p1) := by
  unfold fn_X4_lateShare_J16
  refine tj_put fl_X4_50 rfl rfl dX4_lateShare_16 (fun σ => ?_)
  refine tj_aload_n dX4_lateShare_19 rfl ?_
  refine tj_getI fl_X4_50 dX4_lateShare_20 (fun v101 => ?_)
  refine tj_if_ne 46 dX4_lateShare_23 rfl (fun _ => ?_) (fun _ => ?_)
  · refine tj_aload_n dX4_lateShare_26 rfl ?_
    refine tj_getR fl_X4_16r dX4_lateShare_27 (fun v102 => ?_)
    refine tj_bipush (7 : Int32) dX4_lateShare_30 (by decide) ?_
    refine tj_iald dX4_lateShare_32 (fun v103 => ?_)
    refine tj_i2f dX4_lateShare_33 ?_
    refine tj_aload_n dX4_lateShare_34 rfl ?_
    refine tj_getR fl_X4_16r dX4_lateShare_35 (fun v104 => ?_)
    refine tj_bipush (6 : Int32) dX4_lateShare_38 (by decide) ?_
    refine tj_iald dX4_lateShare_40 (fun v105 => ?_)
    refine tj_i2f dX4_lateShare_41 ?_
    refine tj_fdiv dX4_lateShare_42 (fun v106 => ?_)
    refine tj_goto 47 dX4_lateShare_43 rfl ?_
    exact tj_fret dX4_lateShare_47
  · refine tj_fconst0 dX4_lateShare_46 ?_
    exact tj_fret dX4_lateShare_47
theorem tj_X4_lateShare_B0 {E : tj_E} {X : tj_X} {n0 s0 : Nat} (d : Nat) (v0 : Option Nat) (σ : hp_S) : tj_T E X RX4 "lateShare" cX4_lateShare 1 (some .float) (d + 1) [] n0 s0 em_f σ 0 [some (va_rf v0)] [] (fn_X4_lateShare_B0 d v0) := by
  unfold fn_X4_lateShare_B0
  refine tj_aload_n dX4_lateShare_0 rfl ?_
  refine tj_aload_n dX4_lateShare_1 rfl ?_
  refine tj_getR fl_X4_16r dX4_lateShare_2 (fun v101 => ?_)
  refine tj_bipush (6 : Int32) dX4_lateShare_5 (by decide) ?_
  refine tj_iald dX4_lateShare_7 (fun v102 => ?_)
  refine tj_if_ne 15 dX4_lateShare_8 rfl (fun _ => ?_) (fun _ => ?_)
  · refine tj_iconst (1 : Int32) dX4_lateShare_11 rfl ?_
    refine tj_goto 16 dX4_lateShare_12 rfl ?_
    exact tj_X4_lateShare_J16 d v0 v0 (1 : Int32) _
  · refine tj_iconst (0 : Int32) dX4_lateShare_15 rfl ?_
    exact tj_X4_lateShare_J16 d v0 v0 (0 : Int32) _
theorem ct_X4_lateShare : ∀ (d : Nat) (v0 : Option Nat), ct_ yX4_lateShare (ws_ yX4_lateShare cX4_lateShare 1 (some .float)) d em_f [va_rf v0] (fn_X4_lateShare d v0)
  | 0, _ => ct_fail
  | d + 1, v0 => ct_of [(false, va_rf v0)] [some (va_rf v0)] (by decide) rfl ⟨rfl, (rf_cat _), trivial⟩ (fun E X n0 s0 σ => tj_X4_lateShare_B0 d v0 σ)
theorem tj_X4_lateTotal_B0 {E : tj_E} {X : tj_X} {n0 s0 : Nat} (d : Nat) (v0 : Option Nat) (σ : hp_S) : tj_T E X RX4 "lateTotal" cX4_lateTotal 1 (some .int) (d + 1) [] n0 s0 em_i σ 0 [some (va_rf v0)] [] (fn_X4_lateTotal_B0 d v0) := by
  unfold fn_X4_lateTotal_B0
  refine tj_aload_n dX4_lateTotal_0 rfl ?_
  refine tj_bipush (7 : Int32) dX4_lateTotal_1 (by decide) ?_
  refine tj_callV (as := [.int (7 : Int32)]) (rest := []) (st' := (fun r => [.int r])) (t := 1) (fun a e => by cases e; exact ct_X4_tells d _ _) (by decide) rfl q4080 q4082 qs78 q110 q4083 rfl md_X4_tells rfl (by decide) rfl (by decide) dX4_lateTotal_3 (fun _ => rfl) (fun r101 σ => ?_) (by decide)
  exact tj_iret dX4_lateTotal_6
theorem ct_X4_lateTotal : ∀ (d : Nat) (v0 : Option Nat), ct_ yX4_lateTotal (ws_ yX4_lateTotal cX4_lateTotal 1 (some .int)) d em_i [va_rf v0] (fn_X4_lateTotal d v0)
  | 0, _ => ct_fail
  | d + 1, v0 => ct_of [(false, va_rf v0)] [some (va_rf v0)] (by decide) rfl ⟨rfl, (rf_cat _), trivial⟩ (fun E X n0 s0 σ => tj_X4_lateTotal_B0 d v0 σ)
theorem tj_X4_goes_J37 {E : tj_E} {X : tj_X} {n0 s0 : Nat} (d : Nat) {b6 : Option Nat → Int32 → mx_M Unit} (h6 : ∀ (l0 : Option Nat) (l2 : Int32) (σ : hp_S), tj_T E X RX4 "goes" cX4_goes 3 none (d + 1) [] n0 s0 em_v σ 6 [some (va_rf l0), none, some (.int l2)] [] (b6 l0 l2)) (l0 : Option Nat) (l2 : Int32) (p0 : Option Nat) (p1 : Int32) (p2 : Int32) (σ : hp_S) : tj_T E X RX4 "goes" cX4_goes 3 none (d + 1) [] n0 s0 em_v σ 37 [some (va_rf l0), none, some (.int l2)] [.int p2, .int p1, va_rf p0] (fn_X4_goes_J37 d b6 l0 l2 p0 p1 p2) := by
  unfold fn_X4_goes_J37
  refine tj_iast dX4_goes_37 (fun σ => ?_)
  refine tj_iinc (1 : Int32) dX4_goes_38 rfl rfl (by decide) trivial [some (va_rf l0), none, some (.int (l2 + (1 : Int32)))] rfl ?_
  refine tj_goto 6 dX4_goes_41 rfl ?_
  exact h6 l0 _ _
theorem tj_X4_goes_L6_b {E : tj_E} {X : tj_X} {n0 s0 : Nat} (d : Nat) {b6 : Option Nat → Int32 → mx_M Unit} (h6 : ∀ (l0 : Option Nat) (l2 : Int32) (σ : hp_S), tj_T E X RX4 "goes" cX4_goes 3 none (d + 1) [] n0 s0 em_v σ 6 [some (va_rf l0), none, some (.int l2)] [] (b6 l0 l2)) (l0 : Option Nat) (l2 : Int32) (σ : hp_S) : tj_T E X RX4 "goes" cX4_goes 3 none (d + 1) [] n0 s0 em_v σ 6 [some (va_rf l0), none, some (.int l2)] [] (fn_X4_goes_L6_b d b6 l0 l2) := by
  unfold fn_X4_goes_L6_b
  refine tj_iload_n dX4_goes_6 rfl ?_
  refine tj_bipush (60 : Int32) dX4_goes_7 (by decide) ?_
  refine tj_icmp_ge 44 dX4_goes_9 rfl (fun _ => ?_) (fun _ => ?_)
  · refine tj_aload_n dX4_goes_44 rfl ?_
    refine tj_getR fl_X4_16r dX4_goes_45 (fun v101 => ?_)
    refine tj_iconst (3 : Int32) dX4_goes_48 rfl ?_
    refine tj_dup2_11 dX4_goes_49 rfl (rf_cat _) ?_
    refine tj_iald dX4_goes_50 (fun v102 => ?_)
    refine tj_iconst (1 : Int32) dX4_goes_51 rfl ?_
    refine tj_isub dX4_goes_52 ?_
    refine tj_iast dX4_goes_53 (fun σ => ?_)
    exact tj_vret dX4_goes_54
  · refine tj_aload_n dX4_goes_12 rfl ?_
    refine tj_getR fl_X4_16r dX4_goes_13 (fun v103 => ?_)
    refine tj_iload_n dX4_goes_16 rfl ?_
    refine tj_iload_n dX4_goes_17 rfl ?_
    refine tj_iconst (5 : Int32) dX4_goes_18 rfl ?_
    refine tj_iadd dX4_goes_19 ?_
    refine tj_bipush (60 : Int32) dX4_goes_20 (by decide) ?_
    refine tj_icmp_ge 36 dX4_goes_22 rfl (fun _ => ?_) (fun _ => ?_)
    · refine tj_iconst (0 : Int32) dX4_goes_36 rfl ?_
      exact tj_X4_goes_J37 d h6 l0 l2 v103 l2 (0 : Int32) _
    · refine tj_aload_n dX4_goes_25 rfl ?_
      refine tj_getR fl_X4_16r dX4_goes_26 (fun v104 => ?_)
      refine tj_iload_n dX4_goes_29 rfl ?_
      refine tj_iconst (5 : Int32) dX4_goes_30 rfl ?_
      refine tj_iadd dX4_goes_31 ?_
      refine tj_iald dX4_goes_32 (fun v105 => ?_)
      refine tj_goto 37 dX4_goes_33 rfl ?_
      exact tj_X4_goes_J37 d h6 l0 l2 v103 l2 v105 _
theorem tj_X4_goes_L6 {E : tj_E} {X : tj_X} {n0 s0 : Nat} (d : Nat) : ∀ (k : Nat) (l0 : Option Nat) (l2 : Int32) (σ : hp_S), tj_T E X RX4 "goes" cX4_goes 3 none (d + 1) [] n0 s0 em_v σ 6 [some (va_rf l0), none, some (.int l2)] [] (fn_X4_goes_L6 d k l0 l2) := by
  intro k
  induction k with
  | zero =>
    intro l0 l2 σ
    exact tj_fail
  | succ k ih =>
    intro l0 l2 σ
    exact tj_X4_goes_L6_b d ih l0 l2 σ
theorem tj_X4_goes_B0 {E : tj_E} {X : tj_X} {n0 s0 : Nat} (d : Nat) (v0 : Option Nat) (v1 : Int32) (σ : hp_S) : tj_T E X RX4 "goes" cX4_goes 3 none (d + 1) [] n0 s0 em_v σ 0 [some (va_rf v0), some (.int v1), none] [] (fn_X4_goes_B0 d v0 v1) := by
  unfold fn_X4_goes_B0
  refine tj_iload_n dX4_goes_0 rfl ?_
  refine tj_iconst (0 : Int32) dX4_goes_1 rfl ?_
  refine tj_callS (as := [.int v1, .int (0 : Int32)]) (rest := []) (st' := (fun r => [.int r])) (ct_X4_of d v1 (0 : Int32)) q3978 q3979 q110 q3980 md_X4_of rfl (by decide) rfl (by decide) dX4_goes_2 (fun _ => rfl) (fun r101 σ => ?_) (by decide)
  refine tj_istore_n dX4_goes_5 (by decide) rfl [some (va_rf v0), some (.int v1), some (.int r101)] rfl ?_
  refine tj_wk (L' := [some (va_rf v0), none, some (.int r101)]) ⟨rfl, rfl, trivial⟩ ?_
  exact tj_X4_goes_L6 d mx_K v0 r101 _
theorem ct_X4_goes : ∀ (d : Nat) (v0 : Option Nat) (v1 : Int32), ct_ yX4_goes (ws_ yX4_goes cX4_goes 3 none) d em_v [va_rf v0, .int v1] (fn_X4_goes d v0 v1)
  | 0, _, _ => ct_fail
  | d + 1, v0, v1 => ct_of [(false, va_rf v0), (false, .int v1)] [some (va_rf v0), some (.int v1), none] (by decide) rfl ⟨rfl, (rf_cat _), ⟨rfl, rfl, trivial⟩⟩ (fun E X n0 s0 σ => tj_X4_goes_B0 d v0 v1 σ)
theorem tj_X4_leaves_B0 {E : tj_E} {X : tj_X} {n0 s0 : Nat} (d : Nat) (v0 : Option Nat) (v1 : Int32) (σ : hp_S) : tj_T E X RX4 "leaves" cX4_leaves 3 (some .int) (d + 1) [] n0 s0 em_i σ 0 [some (va_rf v0), some (.int v1), none] [] (fn_X4_leaves_B0 d v0 v1) := by
  unfold fn_X4_leaves_B0
  refine tj_aload_n dX4_leaves_0 rfl ?_
  refine tj_iload_n dX4_leaves_1 rfl ?_
  refine tj_callV (as := [.int v1]) (rest := []) (st' := (fun r => [.int r])) (t := 1) (fun a e => by cases e; exact ct_X4_lion d _ _) (by decide) rfl q4012 q4014 qs69 q110 q4015 rfl md_X4_lion rfl (by decide) rfl (by decide) dX4_leaves_2 (fun _ => rfl) (fun r101 σ => ?_) (by decide)
  refine tj_istore_n dX4_leaves_5 (by decide) rfl [some (va_rf v0), some (.int v1), some (.int r101)] rfl ?_
  refine tj_iload_n dX4_leaves_6 rfl ?_
  refine tj_if_ge 16 dX4_leaves_7 rfl (fun _ => ?_) (fun _ => ?_)
  · refine tj_aload_n dX4_leaves_16 rfl ?_
    refine tj_iload_n dX4_leaves_17 rfl ?_
    refine tj_callV (as := [.int r101]) (rest := []) (st' := (fun _ => [])) (t := 1) (fun a e => by cases e; exact ct_X4_goes d _ _) (by decide) rfl q4032 q4034 qs72 q110 q4035 rfl md_X4_goes rfl (by decide) rfl (by decide) dX4_leaves_18 (fun _ => rfl) (fun _ σ => ?_) (by decide)
    refine tj_aload_n dX4_leaves_21 rfl ?_
    refine tj_getR fl_X4_16r dX4_leaves_22 (fun v102 => ?_)
    refine tj_iconst (3 : Int32) dX4_leaves_25 rfl ?_
    refine tj_iald dX4_leaves_26 (fun v103 => ?_)
    exact tj_iret dX4_leaves_27
  · refine tj_aload_n dX4_leaves_10 rfl ?_
    refine tj_iconst (1 : Int32) dX4_leaves_11 rfl ?_
    refine tj_callV (as := [.int (1 : Int32)]) (rest := []) (st' := (fun r => [.int r])) (t := 1) (fun a e => by cases e; exact ct_X4_fail d _ _) (by decide) rfl q3974 q3976 qs62 q110 q3977 rfl md_X4_fail rfl (by decide) rfl (by decide) dX4_leaves_12 (fun _ => rfl) (fun r104 σ => ?_) (by decide)
    exact tj_iret dX4_leaves_15
theorem ct_X4_leaves : ∀ (d : Nat) (v0 : Option Nat) (v1 : Int32), ct_ yX4_leaves (ws_ yX4_leaves cX4_leaves 3 (some .int)) d em_i [va_rf v0, .int v1] (fn_X4_leaves d v0 v1)
  | 0, _, _ => ct_fail
  | d + 1, v0, v1 => ct_of [(false, va_rf v0), (false, .int v1)] [some (va_rf v0), some (.int v1), none] (by decide) rfl ⟨rfl, (rf_cat _), ⟨rfl, rfl, trivial⟩⟩ (fun E X n0 s0 σ => tj_X4_leaves_B0 d v0 v1 σ)
theorem tj_X4_leave_B0 {E : tj_E} {X : tj_X} {n0 s0 : Nat} (d : Nat) (v0 : Option Nat) (v1 : Int32) (σ : hp_S) : tj_T E X RX4 "leave" cX4_leave 2 (some .int) (d + 1) [] n0 s0 em_i σ 0 [some (va_rf v0), some (.int v1)] [] (fn_X4_leave_B0 d v0 v1) := by
  unfold fn_X4_leave_B0
  refine tj_aload_n dX4_leave_0 rfl ?_
  refine tj_callV (as := []) (rest := []) (st' := (fun _ => [])) (t := 1) (fun a e => by cases e; exact ct_X4_begins d _) (by decide) rfl q3960 q3962 qs60 q110 q3963 rfl md_X4_begins rfl (by decide) rfl (by decide) dX4_leave_1 (fun _ => rfl) (fun _ σ => ?_) (by decide)
  refine tj_aload_n dX4_leave_4 rfl ?_
  refine tj_aload_n dX4_leave_5 rfl ?_
  refine tj_iload_n dX4_leave_6 rfl ?_
  refine tj_callV (as := [.int v1]) (rest := [va_rf v0]) (st' := (fun r => [.int r, va_rf v0])) (t := 1) (fun a e => by cases e; exact ct_X4_leaves d _ _) (by decide) rfl q4028 q4030 qs71 q110 q4031 rfl md_X4_leaves rfl (by decide) rfl (by simp [rf_cat, cat_i, cat_l, cat_f, cat_d]) dX4_leave_7 (fun _ => rfl) (fun r101 σ => ?_) (by decide)
  refine tj_callV (as := [.int r101]) (rest := []) (st' := (fun r => [.int r])) (t := 1) (fun a e => by cases e; exact ct_X4_ends d _ _) (by decide) rfl q4000 q4002 qs67 q110 q4003 rfl md_X4_ends rfl (by decide) rfl (by decide) dX4_leave_10 (fun _ => rfl) (fun r102 σ => ?_) (by decide)
  exact tj_iret dX4_leave_13
theorem ct_X4_leave : ∀ (d : Nat) (v0 : Option Nat) (v1 : Int32), ct_ yX4_leave (ws_ yX4_leave cX4_leave 2 (some .int)) d em_i [va_rf v0, .int v1] (fn_X4_leave d v0 v1)
  | 0, _, _ => ct_fail
  | d + 1, v0, v1 => ct_of [(false, va_rf v0), (false, .int v1)] [some (va_rf v0), some (.int v1)] (by decide) rfl ⟨rfl, (rf_cat _), ⟨rfl, rfl, trivial⟩⟩ (fun E X n0 s0 σ => tj_X4_leave_B0 d v0 v1 σ)
theorem tj_X4_lionAt_J22 {E : tj_E} {X : tj_X} {n0 s0 : Nat} (d : Nat) (l0 : Option Nat) (l1 : Int32) (p0 : Option Nat) (p1 : Int32) (σ : hp_S) : tj_T E X RX4 "lionAt" cX4_lionAt 2 (some .int) (d + 1) [] n0 s0 em_i σ 22 [some (va_rf l0), some (.int l1)] [.int p1, va_rf p0] (fn_X4_lionAt_J22 d l0 l1 p0 p1) := by
  unfold fn_X4_lionAt_J22
  refine tj_put fl_X4_50 rfl rfl dX4_lionAt_22 (fun σ => ?_)
  refine tj_aload_n dX4_lionAt_25 rfl ?_
  refine tj_getI fl_X4_50 dX4_lionAt_26 (fun v101 => ?_)
  refine tj_if_ne 45 dX4_lionAt_29 rfl (fun _ => ?_) (fun _ => ?_)
  · refine tj_aload_n dX4_lionAt_32 rfl ?_
    refine tj_getR fl_X4_16r dX4_lionAt_33 (fun v102 => ?_)
    refine tj_iload_n dX4_lionAt_36 rfl ?_
    refine tj_iconst (0 : Int32) dX4_lionAt_37 rfl ?_
    refine tj_callS (as := [.int l1, .int (0 : Int32)]) (rest := [va_rf v102]) (st' := (fun r => [.int r, va_rf v102])) (ct_X4_of d l1 (0 : Int32)) q3978 q3979 q110 q3980 md_X4_of rfl (by decide) rfl (by simp [rf_cat, cat_i, cat_l, cat_f, cat_d]) dX4_lionAt_38 (fun _ => rfl) (fun r103 σ => ?_) (by decide)
    refine tj_iald dX4_lionAt_41 (fun v104 => ?_)
    refine tj_goto 46 dX4_lionAt_42 rfl ?_
    exact tj_iret dX4_lionAt_46
  · refine tj_iconst (0 : Int32) dX4_lionAt_45 rfl ?_
    exact tj_iret dX4_lionAt_46
theorem tj_X4_lionAt_B0 {E : tj_E} {X : tj_X} {n0 s0 : Nat} (d : Nat) (v0 : Option Nat) (v1 : Int32) (σ : hp_S) : tj_T E X RX4 "lionAt" cX4_lionAt 2 (some .int) (d + 1) [] n0 s0 em_i σ 0 [some (va_rf v0), some (.int v1)] [] (fn_X4_lionAt_B0 d v0 v1) := by
  unfold fn_X4_lionAt_B0
  refine tj_aload_n dX4_lionAt_0 rfl ?_
  refine tj_iload_n dX4_lionAt_1 rfl ?_
  refine tj_iconst (0 : Int32) dX4_lionAt_2 rfl ?_
  refine tj_aload_n dX4_lionAt_3 rfl ?_
  refine tj_getR fl_X4_16r dX4_lionAt_4 (fun v101 => ?_)
  refine tj_iconst (3 : Int32) dX4_lionAt_7 rfl ?_
  refine tj_iald dX4_lionAt_8 (fun v102 => ?_)
  refine tj_iconst (1 : Int32) dX4_lionAt_9 rfl ?_
  refine tj_isub dX4_lionAt_10 ?_
  refine tj_callS (as := [.int v1, .int (0 : Int32), .int (v102 - (1 : Int32))]) (rest := [va_rf v0]) (st' := (fun r => [.int r, va_rf v0])) (ct_X4_isIn d v1 (0 : Int32) _) q3971 q3972 q110 q3973 md_X4_isIn rfl (by decide) rfl (by simp [rf_cat, cat_i, cat_l, cat_f, cat_d]) dX4_lionAt_11 (fun _ => rfl) (fun r103 σ => ?_) (by decide)
  refine tj_if_eq 21 dX4_lionAt_14 rfl (fun _ => ?_) (fun _ => ?_)
  · refine tj_iconst (1 : Int32) dX4_lionAt_21 rfl ?_
    exact tj_X4_lionAt_J22 d v0 v1 v0 (1 : Int32) _
  · refine tj_iconst (0 : Int32) dX4_lionAt_17 rfl ?_
    refine tj_goto 22 dX4_lionAt_18 rfl ?_
    exact tj_X4_lionAt_J22 d v0 v1 v0 (0 : Int32) _
theorem ct_X4_lionAt : ∀ (d : Nat) (v0 : Option Nat) (v1 : Int32), ct_ yX4_lionAt (ws_ yX4_lionAt cX4_lionAt 2 (some .int)) d em_i [va_rf v0, .int v1] (fn_X4_lionAt d v0 v1)
  | 0, _, _ => ct_fail
  | d + 1, v0, v1 => ct_of [(false, va_rf v0), (false, .int v1)] [some (va_rf v0), some (.int v1)] (by decide) rfl ⟨rfl, (rf_cat _), ⟨rfl, rfl, trivial⟩⟩ (fun E X n0 s0 σ => tj_X4_lionAt_B0 d v0 v1 σ)
theorem tj_X4_lionCount_B0 {E : tj_E} {X : tj_X} {n0 s0 : Nat} (d : Nat) (v0 : Option Nat) (σ : hp_S) : tj_T E X RX4 "lionCount" cX4_lionCount 1 (some .int) (d + 1) [] n0 s0 em_i σ 0 [some (va_rf v0)] [] (fn_X4_lionCount_B0 d v0) := by
  unfold fn_X4_lionCount_B0
  refine tj_aload_n dX4_lionCount_0 rfl ?_
  refine tj_iconst (3 : Int32) dX4_lionCount_1 rfl ?_
  refine tj_callV (as := [.int (3 : Int32)]) (rest := []) (st' := (fun r => [.int r])) (t := 1) (fun a e => by cases e; exact ct_X4_tells d _ _) (by decide) rfl q4080 q4082 qs78 q110 q4083 rfl md_X4_tells rfl (by decide) rfl (by decide) dX4_lionCount_2 (fun _ => rfl) (fun r101 σ => ?_) (by decide)
  exact tj_iret dX4_lionCount_5
theorem ct_X4_lionCount : ∀ (d : Nat) (v0 : Option Nat), ct_ yX4_lionCount (ws_ yX4_lionCount cX4_lionCount 1 (some .int)) d em_i [va_rf v0] (fn_X4_lionCount d v0)
  | 0, _ => ct_fail
  | d + 1, v0 => ct_of [(false, va_rf v0)] [some (va_rf v0)] (by decide) rfl ⟨rfl, (rf_cat _), trivial⟩ (fun E X n0 s0 σ => tj_X4_lionCount_B0 d v0 σ)
theorem tj_X4_meanHunger_L22_b {E : tj_E} {X : tj_X} {n0 s0 : Nat} (d : Nat) {b22 : Option Nat → Int32 → Int32 → mx_M UInt64} (h22 : ∀ (l0 : Option Nat) (l1 : Int32) (l2 : Int32) (σ : hp_S), tj_T E X RX4 "meanHunger" cX4_meanHunger 3 (some .double) (d + 1) [] n0 s0 em_d σ 22 [some (va_rf l0), some (.int l1), some (.int l2)] [] (b22 l0 l1 l2)) (l0 : Option Nat) (l1 : Int32) (l2 : Int32) (σ : hp_S) : tj_T E X RX4 "meanHunger" cX4_meanHunger 3 (some .double) (d + 1) [] n0 s0 em_d σ 22 [some (va_rf l0), some (.int l1), some (.int l2)] [] (fn_X4_meanHunger_L22_b d b22 l0 l1 l2) := by
  unfold fn_X4_meanHunger_L22_b
  refine tj_iload_n dX4_meanHunger_22 rfl ?_
  refine tj_aload_n dX4_meanHunger_23 rfl ?_
  refine tj_getR fl_X4_16r dX4_meanHunger_24 (fun v101 => ?_)
  refine tj_iconst (3 : Int32) dX4_meanHunger_27 rfl ?_
  refine tj_iald dX4_meanHunger_28 (fun v102 => ?_)
  refine tj_icmp_ge 51 dX4_meanHunger_29 rfl (fun _ => ?_) (fun _ => ?_)
  · refine tj_aload_n dX4_meanHunger_51 rfl ?_
    refine tj_getI fl_X4_50 dX4_meanHunger_52 (fun v103 => ?_)
    refine tj_if_ne 71 dX4_meanHunger_55 rfl (fun _ => ?_) (fun _ => ?_)
    · refine tj_iload_n dX4_meanHunger_58 rfl ?_
      refine tj_i2d dX4_meanHunger_59 ?_
      refine tj_aload_n dX4_meanHunger_60 rfl ?_
      refine tj_getR fl_X4_16r dX4_meanHunger_61 (fun v104 => ?_)
      refine tj_iconst (3 : Int32) dX4_meanHunger_64 rfl ?_
      refine tj_iald dX4_meanHunger_65 (fun v105 => ?_)
      refine tj_i2d dX4_meanHunger_66 ?_
      refine tj_ddiv dX4_meanHunger_67 (fun v106 => ?_)
      refine tj_goto 72 dX4_meanHunger_68 rfl ?_
      exact tj_dret dX4_meanHunger_72
    · refine tj_dconst0 dX4_meanHunger_71 ?_
      exact tj_dret dX4_meanHunger_72
  · refine tj_iload_n dX4_meanHunger_32 rfl ?_
    refine tj_aload_n dX4_meanHunger_33 rfl ?_
    refine tj_getR fl_X4_16r dX4_meanHunger_34 (fun v107 => ?_)
    refine tj_iload_n dX4_meanHunger_37 rfl ?_
    refine tj_iconst (1 : Int32) dX4_meanHunger_38 rfl ?_
    refine tj_callS (as := [.int l2, .int (1 : Int32)]) (rest := [va_rf v107, .int l1]) (st' := (fun r => [.int r, va_rf v107, .int l1])) (ct_X4_of d l2 (1 : Int32)) q3978 q3979 q110 q3980 md_X4_of rfl (by decide) rfl (by simp [rf_cat, cat_i, cat_l, cat_f, cat_d]) dX4_meanHunger_39 (fun _ => rfl) (fun r108 σ => ?_) (by decide)
    refine tj_iald dX4_meanHunger_42 (fun v109 => ?_)
    refine tj_iadd dX4_meanHunger_43 ?_
    refine tj_topi (fun v110 => ?_)
    refine tj_istore_n dX4_meanHunger_44 (by decide) (rf_cat _) [some (va_rf l0), some (.int v110), some (.int l2)] rfl ?_
    refine tj_iinc (1 : Int32) dX4_meanHunger_45 rfl rfl (by decide) rfl [some (va_rf l0), some (.int v110), some (.int (l2 + (1 : Int32)))] rfl ?_
    refine tj_goto 22 dX4_meanHunger_48 rfl ?_
    exact h22 l0 v110 _ _
theorem tj_X4_meanHunger_L22 {E : tj_E} {X : tj_X} {n0 s0 : Nat} (d : Nat) : ∀ (k : Nat) (l0 : Option Nat) (l1 : Int32) (l2 : Int32) (σ : hp_S), tj_T E X RX4 "meanHunger" cX4_meanHunger 3 (some .double) (d + 1) [] n0 s0 em_d σ 22 [some (va_rf l0), some (.int l1), some (.int l2)] [] (fn_X4_meanHunger_L22 d k l0 l1 l2) := by
  intro k
  induction k with
  | zero =>
    intro l0 l1 l2 σ
    exact tj_fail
  | succ k ih =>
    intro l0 l1 l2 σ
    exact tj_X4_meanHunger_L22_b d ih l0 l1 l2 σ
theorem tj_X4_meanHunger_J15 {E : tj_E} {X : tj_X} {n0 s0 : Nat} (d : Nat) (l0 : Option Nat) (p0 : Option Nat) (p1 : Int32) (σ : hp_S) : tj_T E X RX4 "meanHunger" cX4_meanHunger 3 (some .double) (d + 1) [] n0 s0 em_d σ 15 [some (va_rf l0), none, none] [.int p1, va_rf p0] (fn_X4_meanHunger_J15 d l0 p0 p1) := by
  unfold fn_X4_meanHunger_J15
  refine tj_put fl_X4_50 rfl rfl dX4_meanHunger_15 (fun σ => ?_)
  refine tj_iconst (0 : Int32) dX4_meanHunger_18 rfl ?_
  refine tj_istore_n dX4_meanHunger_19 (by decide) (rf_cat _) [some (va_rf l0), some (.int (0 : Int32)), none] rfl ?_
  refine tj_iconst (0 : Int32) dX4_meanHunger_20 rfl ?_
  refine tj_istore_n dX4_meanHunger_21 (by decide) rfl [some (va_rf l0), some (.int (0 : Int32)), some (.int (0 : Int32))] rfl ?_
  exact tj_X4_meanHunger_L22 d mx_K l0 (0 : Int32) (0 : Int32) _
theorem tj_X4_meanHunger_B0 {E : tj_E} {X : tj_X} {n0 s0 : Nat} (d : Nat) (v0 : Option Nat) (σ : hp_S) : tj_T E X RX4 "meanHunger" cX4_meanHunger 3 (some .double) (d + 1) [] n0 s0 em_d σ 0 [some (va_rf v0), none, none] [] (fn_X4_meanHunger_B0 d v0) := by
  unfold fn_X4_meanHunger_B0
  refine tj_aload_n dX4_meanHunger_0 rfl ?_
  refine tj_aload_n dX4_meanHunger_1 rfl ?_
  refine tj_getR fl_X4_16r dX4_meanHunger_2 (fun v101 => ?_)
  refine tj_iconst (3 : Int32) dX4_meanHunger_5 rfl ?_
  refine tj_iald dX4_meanHunger_6 (fun v102 => ?_)
  refine tj_if_ne 14 dX4_meanHunger_7 rfl (fun _ => ?_) (fun _ => ?_)
  · refine tj_iconst (1 : Int32) dX4_meanHunger_10 rfl ?_
    refine tj_goto 15 dX4_meanHunger_11 rfl ?_
    exact tj_X4_meanHunger_J15 d v0 v0 (1 : Int32) _
  · refine tj_iconst (0 : Int32) dX4_meanHunger_14 rfl ?_
    exact tj_X4_meanHunger_J15 d v0 v0 (0 : Int32) _
theorem ct_X4_meanHunger : ∀ (d : Nat) (v0 : Option Nat), ct_ yX4_meanHunger (ws_ yX4_meanHunger cX4_meanHunger 3 (some .double)) d em_d [va_rf v0] (fn_X4_meanHunger d v0)
  | 0, _ => ct_fail
  | d + 1, v0 => ct_of [(false, va_rf v0)] [some (va_rf v0), none, none] (by decide) rfl ⟨rfl, (rf_cat _), trivial⟩ (fun E X n0 s0 σ => tj_X4_meanHunger_B0 d v0 σ)
theorem tj_X4_mostInTime_J46 {E : tj_E} {X : tj_X} {n0 s0 : Nat} (d : Nat) {b13 : Option Nat → Int32 → Int32 → mx_M Int32} (h13 : ∀ (l0 : Option Nat) (l1 : Int32) (l2 : Int32) (σ : hp_S), tj_T E X RX4 "mostInTime" cX4_mostInTime 3 (some .int) (d + 1) [] n0 s0 em_i σ 13 [some (va_rf l0), some (.int l1), some (.int l2)] [] (b13 l0 l1 l2)) (l0 : Option Nat) (l1 : Int32) (l2 : Int32) (σ : hp_S) : tj_T E X RX4 "mostInTime" cX4_mostInTime 3 (some .int) (d + 1) [] n0 s0 em_i σ 46 [some (va_rf l0), some (.int l1), some (.int l2)] [] (fn_X4_mostInTime_J46 d b13 l0 l1 l2) := by
  unfold fn_X4_mostInTime_J46
  refine tj_iinc (1 : Int32) dX4_mostInTime_46 rfl rfl (by decide) rfl [some (va_rf l0), some (.int l1), some (.int (l2 + (1 : Int32)))] rfl ?_
  refine tj_goto 13 dX4_mostInTime_49 rfl ?_
  exact h13 l0 l1 _ _
theorem tj_X4_mostInTime_L13_b {E : tj_E} {X : tj_X} {n0 s0 : Nat} (d : Nat) {b13 : Option Nat → Int32 → Int32 → mx_M Int32} (h13 : ∀ (l0 : Option Nat) (l1 : Int32) (l2 : Int32) (σ : hp_S), tj_T E X RX4 "mostInTime" cX4_mostInTime 3 (some .int) (d + 1) [] n0 s0 em_i σ 13 [some (va_rf l0), some (.int l1), some (.int l2)] [] (b13 l0 l1 l2)) (l0 : Option Nat) (l1 : Int32) (l2 : Int32) (σ : hp_S) : tj_T E X RX4 "mostInTime" cX4_mostInTime 3 (some .int) (d + 1) [] n0 s0 em_i σ 13 [some (va_rf l0), some (.int l1), some (.int l2)] [] (fn_X4_mostInTime_L13_b d b13 l0 l1 l2) := by
  unfold fn_X4_mostInTime_L13_b
  refine tj_iload_n dX4_mostInTime_13 rfl ?_
  refine tj_iconst (1 : Int32) dX4_mostInTime_14 rfl ?_
  refine tj_aload_n dX4_mostInTime_15 rfl ?_
  refine tj_getR fl_X4_16r dX4_mostInTime_16 (fun v101 => ?_)
  refine tj_iconst (3 : Int32) dX4_mostInTime_19 rfl ?_
  refine tj_iald dX4_mostInTime_20 (fun v102 => ?_)
  refine tj_ishl dX4_mostInTime_21 ?_
  refine tj_icmp_ge 52 dX4_mostInTime_22 rfl (fun _ => ?_) (fun _ => ?_)
  · refine tj_iload_n dX4_mostInTime_52 rfl ?_
    exact tj_iret dX4_mostInTime_53
  · refine tj_iload_n dX4_mostInTime_25 rfl ?_
    refine tj_callS (as := [.int l2]) (rest := []) (st' := (fun r => [.int r])) (ct_X4_count d l2) q4153 q4154 q110 q4155 md_X4_count rfl (by decide) rfl (by decide) dX4_mostInTime_26 (fun _ => rfl) (fun r103 σ => ?_) (by decide)
    refine tj_iload_n dX4_mostInTime_29 rfl ?_
    refine tj_icmp_le 46 dX4_mostInTime_30 rfl (fun _ => ?_) (fun _ => ?_)
    · exact tj_X4_mostInTime_J46 d h13 l0 l1 l2 _
    · refine tj_aload_n dX4_mostInTime_33 rfl ?_
      refine tj_iload_n dX4_mostInTime_34 rfl ?_
      refine tj_callV (as := [.int l2]) (rest := []) (st' := (fun r => [.int r])) (t := 1) (fun a e => by cases e; exact ct_X4_isInTime d _ _) (by decide) rfl q4145 q4147 qs81 q110 q4148 rfl md_X4_isInTime rfl (by decide) rfl (by decide) dX4_mostInTime_35 (fun _ => rfl) (fun r104 σ => ?_) (by decide)
      refine tj_if_eq 46 dX4_mostInTime_38 rfl (fun _ => ?_) (fun _ => ?_)
      · exact tj_X4_mostInTime_J46 d h13 l0 l1 l2 _
      · refine tj_iload_n dX4_mostInTime_41 rfl ?_
        refine tj_callS (as := [.int l2]) (rest := []) (st' := (fun r => [.int r])) (ct_X4_count d l2) q4153 q4154 q110 q4155 md_X4_count rfl (by decide) rfl (by decide) dX4_mostInTime_42 (fun _ => rfl) (fun r105 σ => ?_) (by decide)
        refine tj_istore_n dX4_mostInTime_45 (by decide) (rf_cat _) [some (va_rf l0), some (.int r105), some (.int l2)] rfl ?_
        exact tj_X4_mostInTime_J46 d h13 l0 r105 l2 _
theorem tj_X4_mostInTime_L13 {E : tj_E} {X : tj_X} {n0 s0 : Nat} (d : Nat) : ∀ (k : Nat) (l0 : Option Nat) (l1 : Int32) (l2 : Int32) (σ : hp_S), tj_T E X RX4 "mostInTime" cX4_mostInTime 3 (some .int) (d + 1) [] n0 s0 em_i σ 13 [some (va_rf l0), some (.int l1), some (.int l2)] [] (fn_X4_mostInTime_L13 d k l0 l1 l2) := by
  intro k
  induction k with
  | zero =>
    intro l0 l1 l2 σ
    exact tj_fail
  | succ k ih =>
    intro l0 l1 l2 σ
    exact tj_X4_mostInTime_L13_b d ih l0 l1 l2 σ
theorem tj_X4_mostInTime_B0 {E : tj_E} {X : tj_X} {n0 s0 : Nat} (d : Nat) (v0 : Option Nat) (σ : hp_S) : tj_T E X RX4 "mostInTime" cX4_mostInTime 3 (some .int) (d + 1) [] n0 s0 em_i σ 0 [some (va_rf v0), none, none] [] (fn_X4_mostInTime_B0 d v0) := by
  unfold fn_X4_mostInTime_B0
  refine tj_aload_n dX4_mostInTime_0 rfl ?_
  refine tj_iconst (0 : Int32) dX4_mostInTime_1 rfl ?_
  refine tj_put fl_X4_50 rfl rfl dX4_mostInTime_2 (fun σ => ?_)
  refine tj_aload_n dX4_mostInTime_5 rfl ?_
  refine tj_callV (as := []) (rest := []) (st' := (fun _ => [])) (t := 1) (fun a e => by cases e; exact ct_X4_sorts d _) (by decide) rfl q4141 q4143 qs80 q110 q4144 rfl md_X4_sorts rfl (by decide) rfl (by decide) dX4_mostInTime_6 (fun _ => rfl) (fun _ σ => ?_) (by decide)
  refine tj_iconst (0 : Int32) dX4_mostInTime_9 rfl ?_
  refine tj_istore_n dX4_mostInTime_10 (by decide) (rf_cat _) [some (va_rf v0), some (.int (0 : Int32)), none] rfl ?_
  refine tj_iconst (1 : Int32) dX4_mostInTime_11 rfl ?_
  refine tj_istore_n dX4_mostInTime_12 (by decide) rfl [some (va_rf v0), some (.int (0 : Int32)), some (.int (1 : Int32))] rfl ?_
  exact tj_X4_mostInTime_L13 d mx_K v0 (0 : Int32) (1 : Int32) _
theorem ct_X4_mostInTime : ∀ (d : Nat) (v0 : Option Nat), ct_ yX4_mostInTime (ws_ yX4_mostInTime cX4_mostInTime 3 (some .int)) d em_i [va_rf v0] (fn_X4_mostInTime d v0)
  | 0, _ => ct_fail
  | d + 1, v0 => ct_of [(false, va_rf v0)] [some (va_rf v0), none, none] (by decide) rfl ⟨rfl, (rf_cat _), trivial⟩ (fun E X n0 s0 σ => tj_X4_mostInTime_B0 d v0 σ)
theorem tj_X4_mostInTimeBySets_B0 {E : tj_E} {X : tj_X} {n0 s0 : Nat} (d : Nat) (v0 : Option Nat) (σ : hp_S) : tj_T E X RX4 "mostInTimeBySets" cX4_mostInTimeBySets 1 (some .int) (d + 1) [] n0 s0 em_i σ 0 [some (va_rf v0)] [] (fn_X4_mostInTimeBySets_B0 d v0) := by
  unfold fn_X4_mostInTimeBySets_B0
  refine tj_aload_n dX4_mostInTimeBySets_0 rfl ?_
  refine tj_callV (as := []) (rest := []) (st' := (fun r => [.int r])) (t := 1) (fun a e => by cases e; exact ct_X4_mostInTime d _) (by decide) rfl q4160 q4150 q4151 q110 q4152 rfl md_X4_mostInTime rfl (by decide) rfl (by decide) dX4_mostInTimeBySets_1 (fun _ => rfl) (fun r101 σ => ?_) (by decide)
  exact tj_iret dX4_mostInTimeBySets_4
theorem ct_X4_mostInTimeBySets : ∀ (d : Nat) (v0 : Option Nat), ct_ yX4_mostInTimeBySets (ws_ yX4_mostInTimeBySets cX4_mostInTimeBySets 1 (some .int)) d em_i [va_rf v0] (fn_X4_mostInTimeBySets d v0)
  | 0, _ => ct_fail
  | d + 1, v0 => ct_of [(false, va_rf v0)] [some (va_rf v0)] (by decide) rfl ⟨rfl, (rf_cat _), trivial⟩ (fun E X n0 s0 σ => tj_X4_mostInTimeBySets_B0 d v0 σ)
theorem tj_X4_onDutyAt_J52 {E : tj_E} {X : tj_X} {n0 s0 : Nat} (d : Nat) {b4 : Option Nat → Int32 → Int32 → Int32 → mx_M Int32} (h4 : ∀ (l0 : Option Nat) (l1 : Int32) (l2 : Int32) (l3 : Int32) (σ : hp_S), tj_T E X RX4 "onDutyAt" cX4_onDutyAt 4 (some .int) (d + 1) [] n0 s0 em_i σ 4 [some (va_rf l0), some (.int l1), some (.int l2), some (.int l3)] [] (b4 l0 l1 l2 l3)) (l0 : Option Nat) (l1 : Int32) (l3 : Int32) (p0 : Int32) (p1 : Int32) (σ : hp_S) : tj_T E X RX4 "onDutyAt" cX4_onDutyAt 4 (some .int) (d + 1) [] n0 s0 em_i σ 52 [some (va_rf l0), some (.int l1), none, some (.int l3)] [.int p1, .int p0] (fn_X4_onDutyAt_J52 d b4 l0 l1 l3 p0 p1) := by
  unfold fn_X4_onDutyAt_J52
  refine tj_iadd dX4_onDutyAt_52 ?_
  refine tj_topi (fun v101 => ?_)
  refine tj_istore_n dX4_onDutyAt_53 (by decide) rfl [some (va_rf l0), some (.int l1), some (.int v101), some (.int l3)] rfl ?_
  refine tj_iinc (1 : Int32) dX4_onDutyAt_54 rfl rfl (by decide) rfl [some (va_rf l0), some (.int l1), some (.int v101), some (.int (l3 + (1 : Int32)))] rfl ?_
  refine tj_goto 4 dX4_onDutyAt_57 rfl ?_
  exact h4 l0 l1 v101 _ _
theorem tj_X4_onDutyAt_J51 {E : tj_E} {X : tj_X} {n0 s0 : Nat} (d : Nat) {b4 : Option Nat → Int32 → Int32 → Int32 → mx_M Int32} (h4 : ∀ (l0 : Option Nat) (l1 : Int32) (l2 : Int32) (l3 : Int32) (σ : hp_S), tj_T E X RX4 "onDutyAt" cX4_onDutyAt 4 (some .int) (d + 1) [] n0 s0 em_i σ 4 [some (va_rf l0), some (.int l1), some (.int l2), some (.int l3)] [] (b4 l0 l1 l2 l3)) (l0 : Option Nat) (l1 : Int32) (l3 : Int32) (p0 : Int32) (σ : hp_S) : tj_T E X RX4 "onDutyAt" cX4_onDutyAt 4 (some .int) (d + 1) [] n0 s0 em_i σ 51 [some (va_rf l0), some (.int l1), none, some (.int l3)] [.int p0] (fn_X4_onDutyAt_J51 d b4 l0 l1 l3 p0) := by
  unfold fn_X4_onDutyAt_J51
  refine tj_iconst (0 : Int32) dX4_onDutyAt_51 rfl ?_
  exact tj_X4_onDutyAt_J52 d h4 l0 l1 l3 p0 (0 : Int32) _
theorem tj_X4_onDutyAt_L4_b {E : tj_E} {X : tj_X} {n0 s0 : Nat} (d : Nat) {b4 : Option Nat → Int32 → Int32 → Int32 → mx_M Int32} (h4 : ∀ (l0 : Option Nat) (l1 : Int32) (l2 : Int32) (l3 : Int32) (σ : hp_S), tj_T E X RX4 "onDutyAt" cX4_onDutyAt 4 (some .int) (d + 1) [] n0 s0 em_i σ 4 [some (va_rf l0), some (.int l1), some (.int l2), some (.int l3)] [] (b4 l0 l1 l2 l3)) (l0 : Option Nat) (l1 : Int32) (l2 : Int32) (l3 : Int32) (σ : hp_S) : tj_T E X RX4 "onDutyAt" cX4_onDutyAt 4 (some .int) (d + 1) [] n0 s0 em_i σ 4 [some (va_rf l0), some (.int l1), some (.int l2), some (.int l3)] [] (fn_X4_onDutyAt_L4_b d b4 l0 l1 l2 l3) := by
  unfold fn_X4_onDutyAt_L4_b
  refine tj_iload_n dX4_onDutyAt_4 rfl ?_
  refine tj_aload_n dX4_onDutyAt_5 rfl ?_
  refine tj_getR fl_X4_16r dX4_onDutyAt_6 (fun v101 => ?_)
  refine tj_iconst (4 : Int32) dX4_onDutyAt_9 rfl ?_
  refine tj_iald dX4_onDutyAt_10 (fun v102 => ?_)
  refine tj_icmp_ge 60 dX4_onDutyAt_11 rfl (fun _ => ?_) (fun _ => ?_)
  · refine tj_iload_n dX4_onDutyAt_60 rfl ?_
    exact tj_iret dX4_onDutyAt_61
  · refine tj_iload_n dX4_onDutyAt_14 rfl ?_
    refine tj_aload_n dX4_onDutyAt_15 rfl ?_
    refine tj_getR fl_X4_16r dX4_onDutyAt_16 (fun v103 => ?_)
    refine tj_bipush (60 : Int32) dX4_onDutyAt_19 (by decide) ?_
    refine tj_iconst (2 : Int32) dX4_onDutyAt_21 rfl ?_
    refine tj_iload_n dX4_onDutyAt_22 rfl ?_
    refine tj_imul dX4_onDutyAt_23 ?_
    refine tj_iadd dX4_onDutyAt_24 ?_
    refine tj_iald dX4_onDutyAt_25 (fun v104 => ?_)
    refine tj_iload_n dX4_onDutyAt_26 rfl ?_
    refine tj_icmp_gt 51 dX4_onDutyAt_27 rfl (fun _ => ?_) (fun _ => ?_)
    · refine tj_wk (L' := [some (va_rf l0), some (.int l1), none, some (.int l3)]) ⟨rfl, rfl, rfl, trivial⟩ ?_
      exact tj_X4_onDutyAt_J51 d h4 l0 l1 l3 l2 _
    · refine tj_iload_n dX4_onDutyAt_30 rfl ?_
      refine tj_aload_n dX4_onDutyAt_31 rfl ?_
      refine tj_getR fl_X4_16r dX4_onDutyAt_32 (fun v105 => ?_)
      refine tj_bipush (60 : Int32) dX4_onDutyAt_35 (by decide) ?_
      refine tj_iconst (2 : Int32) dX4_onDutyAt_37 rfl ?_
      refine tj_iload_n dX4_onDutyAt_38 rfl ?_
      refine tj_imul dX4_onDutyAt_39 ?_
      refine tj_iadd dX4_onDutyAt_40 ?_
      refine tj_iconst (1 : Int32) dX4_onDutyAt_41 rfl ?_
      refine tj_iadd dX4_onDutyAt_42 ?_
      refine tj_iald dX4_onDutyAt_43 (fun v106 => ?_)
      refine tj_icmp_ge 51 dX4_onDutyAt_44 rfl (fun _ => ?_) (fun _ => ?_)
      · refine tj_wk (L' := [some (va_rf l0), some (.int l1), none, some (.int l3)]) ⟨rfl, rfl, rfl, trivial⟩ ?_
        exact tj_X4_onDutyAt_J51 d h4 l0 l1 l3 l2 _
      · refine tj_iconst (1 : Int32) dX4_onDutyAt_47 rfl ?_
        refine tj_goto 52 dX4_onDutyAt_48 rfl ?_
        refine tj_wk (L' := [some (va_rf l0), some (.int l1), none, some (.int l3)]) ⟨rfl, rfl, rfl, trivial⟩ ?_
        exact tj_X4_onDutyAt_J52 d h4 l0 l1 l3 l2 (1 : Int32) _
theorem tj_X4_onDutyAt_L4 {E : tj_E} {X : tj_X} {n0 s0 : Nat} (d : Nat) : ∀ (k : Nat) (l0 : Option Nat) (l1 : Int32) (l2 : Int32) (l3 : Int32) (σ : hp_S), tj_T E X RX4 "onDutyAt" cX4_onDutyAt 4 (some .int) (d + 1) [] n0 s0 em_i σ 4 [some (va_rf l0), some (.int l1), some (.int l2), some (.int l3)] [] (fn_X4_onDutyAt_L4 d k l0 l1 l2 l3) := by
  intro k
  induction k with
  | zero =>
    intro l0 l1 l2 l3 σ
    exact tj_fail
  | succ k ih =>
    intro l0 l1 l2 l3 σ
    exact tj_X4_onDutyAt_L4_b d ih l0 l1 l2 l3 σ
theorem tj_X4_onDutyAt_B0 {E : tj_E} {X : tj_X} {n0 s0 : Nat} (d : Nat) (v0 : Option Nat) (v1 : Int32) (σ : hp_S) : tj_T E X RX4 "onDutyAt" cX4_onDutyAt 4 (some .int) (d + 1) [] n0 s0 em_i σ 0 [some (va_rf v0), some (.int v1), none, none] [] (fn_X4_onDutyAt_B0 d v0 v1) := by
  unfold fn_X4_onDutyAt_B0
  refine tj_iconst (0 : Int32) dX4_onDutyAt_0 rfl ?_
  refine tj_istore_n dX4_onDutyAt_1 (by decide) rfl [some (va_rf v0), some (.int v1), some (.int (0 : Int32)), none] rfl ?_
  refine tj_iconst (0 : Int32) dX4_onDutyAt_2 rfl ?_
  refine tj_istore_n dX4_onDutyAt_3 (by decide) rfl [some (va_rf v0), some (.int v1), some (.int (0 : Int32)), some (.int (0 : Int32))] rfl ?_
  exact tj_X4_onDutyAt_L4 d mx_K v0 v1 (0 : Int32) (0 : Int32) _
theorem ct_X4_onDutyAt : ∀ (d : Nat) (v0 : Option Nat) (v1 : Int32), ct_ yX4_onDutyAt (ws_ yX4_onDutyAt cX4_onDutyAt 4 (some .int)) d em_i [va_rf v0, .int v1] (fn_X4_onDutyAt d v0 v1)
  | 0, _, _ => ct_fail
  | d + 1, v0, v1 => ct_of [(false, va_rf v0), (false, .int v1)] [some (va_rf v0), some (.int v1), none, none] (by decide) rfl ⟨rfl, (rf_cat _), ⟨rfl, rfl, trivial⟩⟩ (fun E X n0 s0 σ => tj_X4_onDutyAt_B0 d v0 v1 σ)
theorem tj_X4_onDuty_J16 {E : tj_E} {X : tj_X} {n0 s0 : Nat} (d : Nat) (l0 : Option Nat) (l1 : Int32) (p0 : Option Nat) (p1 : Int32) (σ : hp_S) : tj_T E X RX4 "onDuty" cX4_onDuty 2 (some .int) (d + 1) [] n0 s0 em_i σ 16 [some (va_rf l0), some (.int l1)] [.int p1, va_rf p0] (fn_X4_onDuty_J16 d l0 l1 p0 p1) := by
  unfold fn_X4_onDuty_J16
  refine tj_put fl_X4_50 rfl rfl dX4_onDuty_16 (fun σ => ?_)
  refine tj_aload_n dX4_onDuty_19 rfl ?_
  refine tj_getI fl_X4_50 dX4_onDuty_20 (fun v101 => ?_)
  refine tj_if_ne 34 dX4_onDuty_23 rfl (fun _ => ?_) (fun _ => ?_)
  · refine tj_aload_n dX4_onDuty_26 rfl ?_
    refine tj_iload_n dX4_onDuty_27 rfl ?_
    refine tj_callV (as := [.int l1]) (rest := []) (st' := (fun r => [.int r])) (t := 1) (fun a e => by cases e; exact ct_X4_onDutyAt d _ _) (by decide) rfl q4044 q4046 qs74 q110 q4047 rfl md_X4_onDutyAt rfl (by decide) rfl (by decide) dX4_onDuty_28 (fun _ => rfl) (fun r102 σ => ?_) (by decide)
    refine tj_goto 35 dX4_onDuty_31 rfl ?_
    exact tj_iret dX4_onDuty_35
  · refine tj_iconst (0 : Int32) dX4_onDuty_34 rfl ?_
    exact tj_iret dX4_onDuty_35
theorem tj_X4_onDuty_B0 {E : tj_E} {X : tj_X} {n0 s0 : Nat} (d : Nat) (v0 : Option Nat) (v1 : Int32) (σ : hp_S) : tj_T E X RX4 "onDuty" cX4_onDuty 2 (some .int) (d + 1) [] n0 s0 em_i σ 0 [some (va_rf v0), some (.int v1)] [] (fn_X4_onDuty_B0 d v0 v1) := by
  unfold fn_X4_onDuty_B0
  refine tj_aload_n dX4_onDuty_0 rfl ?_
  refine tj_iload_n dX4_onDuty_1 rfl ?_
  refine tj_iconst (0 : Int32) dX4_onDuty_2 rfl ?_
  refine tj_bipush (23 : Int32) dX4_onDuty_3 (by decide) ?_
  refine tj_callS (as := [.int v1, .int (0 : Int32), .int (23 : Int32)]) (rest := [va_rf v0]) (st' := (fun r => [.int r, va_rf v0])) (ct_X4_isIn d v1 (0 : Int32) (23 : Int32)) q3971 q3972 q110 q3973 md_X4_isIn rfl (by decide) rfl (by simp [rf_cat, cat_i, cat_l, cat_f, cat_d]) dX4_onDuty_5 (fun _ => rfl) (fun r101 σ => ?_) (by decide)
  refine tj_if_eq 15 dX4_onDuty_8 rfl (fun _ => ?_) (fun _ => ?_)
  · refine tj_iconst (1 : Int32) dX4_onDuty_15 rfl ?_
    exact tj_X4_onDuty_J16 d v0 v1 v0 (1 : Int32) _
  · refine tj_iconst (0 : Int32) dX4_onDuty_11 rfl ?_
    refine tj_goto 16 dX4_onDuty_12 rfl ?_
    exact tj_X4_onDuty_J16 d v0 v1 v0 (0 : Int32) _
theorem ct_X4_onDuty : ∀ (d : Nat) (v0 : Option Nat) (v1 : Int32), ct_ yX4_onDuty (ws_ yX4_onDuty cX4_onDuty 2 (some .int)) d em_i [va_rf v0, .int v1] (fn_X4_onDuty d v0 v1)
  | 0, _, _ => ct_fail
  | d + 1, v0, v1 => ct_of [(false, va_rf v0), (false, .int v1)] [some (va_rf v0), some (.int v1)] (by decide) rfl ⟨rfl, (rf_cat _), ⟨rfl, rfl, trivial⟩⟩ (fun E X n0 s0 σ => tj_X4_onDuty_B0 d v0 v1 σ)
theorem tj_X4_outputAt_J20 {E : tj_E} {X : tj_X} {n0 s0 : Nat} (d : Nat) (l0 : Option Nat) (l1 : Int32) (p0 : Option Nat) (p1 : Int32) (σ : hp_S) : tj_T E X RX4 "outputAt" cX4_outputAt 2 (some .char) (d + 1) [] n0 s0 em_i σ 20 [some (va_rf l0), some (.int l1)] [.int p1, va_rf p0] (fn_X4_outputAt_J20 d l0 l1 p0 p1) := by
  unfold fn_X4_outputAt_J20
  refine tj_put fl_X4_50 rfl rfl dX4_outputAt_20 (fun σ => ?_)
  refine tj_aload_n dX4_outputAt_23 rfl ?_
  refine tj_getI fl_X4_50 dX4_outputAt_24 (fun v101 => ?_)
  refine tj_if_ne 40 dX4_outputAt_27 rfl (fun _ => ?_) (fun _ => ?_)
  · refine tj_aload_n dX4_outputAt_30 rfl ?_
    refine tj_getR fl_X4_35r dX4_outputAt_31 (fun v102 => ?_)
    refine tj_iload_n dX4_outputAt_34 rfl ?_
    refine tj_iald dX4_outputAt_35 (fun v103 => ?_)
    refine tj_i2c dX4_outputAt_36 ?_
    refine tj_goto 42 dX4_outputAt_37 rfl ?_
    exact tj_zret dX4_outputAt_42
  · refine tj_bipush (97 : Int32) dX4_outputAt_40 (by decide) ?_
    exact tj_zpure rfl dX4_outputAt_42
theorem tj_X4_outputAt_B0 {E : tj_E} {X : tj_X} {n0 s0 : Nat} (d : Nat) (v0 : Option Nat) (v1 : Int32) (σ : hp_S) : tj_T E X RX4 "outputAt" cX4_outputAt 2 (some .char) (d + 1) [] n0 s0 em_i σ 0 [some (va_rf v0), some (.int v1)] [] (fn_X4_outputAt_B0 d v0 v1) := by
  unfold fn_X4_outputAt_B0
  refine tj_aload_n dX4_outputAt_0 rfl ?_
  refine tj_iload_n dX4_outputAt_1 rfl ?_
  refine tj_iconst (0 : Int32) dX4_outputAt_2 rfl ?_
  refine tj_aload_n dX4_outputAt_3 rfl ?_
  refine tj_getI fl_X4_164 dX4_outputAt_4 (fun v101 => ?_)
  refine tj_iconst (1 : Int32) dX4_outputAt_7 rfl ?_
  refine tj_isub dX4_outputAt_8 ?_
  refine tj_callS (as := [.int v1, .int (0 : Int32), .int (v101 - (1 : Int32))]) (rest := [va_rf v0]) (st' := (fun r => [.int r, va_rf v0])) (ct_X4_isIn d v1 (0 : Int32) _) q3971 q3972 q110 q3973 md_X4_isIn rfl (by decide) rfl (by simp [rf_cat, cat_i, cat_l, cat_f, cat_d]) dX4_outputAt_9 (fun _ => rfl) (fun r102 σ => ?_) (by decide)
  refine tj_if_eq 19 dX4_outputAt_12 rfl (fun _ => ?_) (fun _ => ?_)
  · refine tj_iconst (1 : Int32) dX4_outputAt_19 rfl ?_
    exact tj_X4_outputAt_J20 d v0 v1 v0 (1 : Int32) _
  · refine tj_iconst (0 : Int32) dX4_outputAt_15 rfl ?_
    refine tj_goto 20 dX4_outputAt_16 rfl ?_
    exact tj_X4_outputAt_J20 d v0 v1 v0 (0 : Int32) _
theorem ct_X4_outputAt : ∀ (d : Nat) (v0 : Option Nat) (v1 : Int32), ct_ yX4_outputAt (ws_ yX4_outputAt cX4_outputAt 2 (some .char)) d em_i [va_rf v0, .int v1] (fn_X4_outputAt d v0 v1)
  | 0, _, _ => ct_fail
  | d + 1, v0, v1 => ct_of [(false, va_rf v0), (false, .int v1)] [some (va_rf v0), some (.int v1)] (by decide) rfl ⟨rfl, (rf_cat _), ⟨rfl, rfl, trivial⟩⟩ (fun E X n0 s0 σ => tj_X4_outputAt_B0 d v0 v1 σ)
theorem tj_X4_starves_J39 {E : tj_E} {X : tj_X} {n0 s0 : Nat} (d : Nat) (l0 : Option Nat) (l1 : Int32) (l3 : Int32) (p0 : Int32) (σ : hp_S) : tj_T E X RX4 "starves" cX4_starves 5 (some .int) (d + 1) [] n0 s0 em_i σ 39 [some (va_rf l0), some (.int l1), none, some (.int l3), none] [.int p0] (fn_X4_starves_J39 d l0 l1 l3 p0) := by
  unfold fn_X4_starves_J39
  refine tj_istore dX4_starves_39 (by decide) rfl [some (va_rf l0), some (.int l1), none, some (.int l3), some (.int p0)] rfl ?_
  refine tj_aload_n dX4_starves_41 rfl ?_
  refine tj_getR fl_X4_16r dX4_starves_42 (fun v101 => ?_)
  refine tj_iload_n dX4_starves_45 rfl ?_
  refine tj_iconst (1 : Int32) dX4_starves_46 rfl ?_
  refine tj_callS (as := [.int l1, .int (1 : Int32)]) (rest := [va_rf v101]) (st' := (fun r => [.int r, va_rf v101])) (ct_X4_of d l1 (1 : Int32)) q3978 q3979 q110 q3980 md_X4_of rfl (by decide) rfl (by simp [rf_cat, cat_i, cat_l, cat_f, cat_d]) dX4_starves_47 (fun _ => rfl) (fun r102 σ => ?_) (by decide)
  refine tj_iload dX4_starves_50 rfl ?_
  refine tj_iast dX4_starves_52 (fun σ => ?_)
  refine tj_iload dX4_starves_53 rfl ?_
  refine tj_iload_n dX4_starves_55 rfl ?_
  refine tj_icmp_eq 64 dX4_starves_56 rfl (fun _ => ?_) (fun _ => ?_)
  · refine tj_iload dX4_starves_64 rfl ?_
    exact tj_iret dX4_starves_66
  · refine tj_aload_n dX4_starves_59 rfl ?_
    refine tj_iload_n dX4_starves_60 rfl ?_
    refine tj_callV (as := [.int l1]) (rest := []) (st' := (fun _ => [])) (t := 1) (fun a e => by cases e; exact ct_X4_draws d _ _) (by decide) rfl q3981 q3983 qs63 q110 q3984 rfl md_X4_draws rfl (by decide) rfl (by decide) dX4_starves_61 (fun _ => rfl) (fun _ σ => ?_) (by decide)
    refine tj_iload dX4_starves_64 rfl ?_
    exact tj_iret dX4_starves_66
theorem tj_X4_starves_B0 {E : tj_E} {X : tj_X} {n0 s0 : Nat} (d : Nat) (v0 : Option Nat) (v1 : Int32) (v2 : Int32) (σ : hp_S) : tj_T E X RX4 "starves" cX4_starves 5 (some .int) (d + 1) [] n0 s0 em_i σ 0 [some (va_rf v0), some (.int v1), some (.int v2), none, none] [] (fn_X4_starves_B0 d v0 v1 v2) := by
  unfold fn_X4_starves_B0
  refine tj_aload_n dX4_starves_0 rfl ?_
  refine tj_getR fl_X4_16r dX4_starves_1 (fun v101 => ?_)
  refine tj_iload_n dX4_starves_4 rfl ?_
  refine tj_iconst (1 : Int32) dX4_starves_5 rfl ?_
  refine tj_callS (as := [.int v1, .int (1 : Int32)]) (rest := [va_rf v101]) (st' := (fun r => [.int r, va_rf v101])) (ct_X4_of d v1 (1 : Int32)) q3978 q3979 q110 q3980 md_X4_of rfl (by decide) rfl (by simp [rf_cat, cat_i, cat_l, cat_f, cat_d]) dX4_starves_6 (fun _ => rfl) (fun r102 σ => ?_) (by decide)
  refine tj_iald dX4_starves_9 (fun v103 => ?_)
  refine tj_istore_n dX4_starves_10 (by decide) rfl [some (va_rf v0), some (.int v1), some (.int v2), some (.int v103), none] rfl ?_
  refine tj_iload_n dX4_starves_11 rfl ?_
  refine tj_iload_n dX4_starves_12 rfl ?_
  refine tj_iadd dX4_starves_13 ?_
  refine tj_topi (fun v104 => ?_)
  refine tj_istore dX4_starves_14 (by decide) rfl [some (va_rf v0), some (.int v1), some (.int v2), some (.int v103), some (.int v104)] rfl ?_
  refine tj_iload dX4_starves_16 rfl ?_
  refine tj_bipush (99 : Int32) dX4_starves_18 (by decide) ?_
  refine tj_icmp_le 28 dX4_starves_20 rfl (fun _ => ?_) (fun _ => ?_)
  · refine tj_iload dX4_starves_28 rfl ?_
    refine tj_if_ge 37 dX4_starves_30 rfl (fun _ => ?_) (fun _ => ?_)
    · refine tj_iload dX4_starves_37 rfl ?_
      refine tj_wk (L' := [some (va_rf v0), some (.int v1), none, some (.int v103), none]) ⟨rfl, rfl, rfl, trivial⟩ ?_
      exact tj_X4_starves_J39 d v0 v1 v103 v104 _
    · refine tj_iconst (0 : Int32) dX4_starves_33 rfl ?_
      refine tj_goto 39 dX4_starves_34 rfl ?_
      refine tj_wk (L' := [some (va_rf v0), some (.int v1), none, some (.int v103), none]) ⟨rfl, rfl, rfl, trivial⟩ ?_
      exact tj_X4_starves_J39 d v0 v1 v103 (0 : Int32) _
  · refine tj_bipush (99 : Int32) dX4_starves_23 (by decide) ?_
    refine tj_goto 39 dX4_starves_25 rfl ?_
    refine tj_wk (L' := [some (va_rf v0), some (.int v1), none, some (.int v103), none]) ⟨rfl, rfl, rfl, trivial⟩ ?_
    exact tj_X4_starves_J39 d v0 v1 v103 (99 : Int32) _
theorem ct_X4_starves : ∀ (d : Nat) (v0 : Option Nat) (v1 : Int32) (v2 : Int32), ct_ yX4_starves (ws_ yX4_starves cX4_starves 5 (some .int)) d em_i [va_rf v0, .int v1, .int v2] (fn_X4_starves d v0 v1 v2)
  | 0, _, _, _ => ct_fail
  | d + 1, v0, v1, v2 => ct_of [(false, va_rf v0), (false, .int v1), (false, .int v2)] [some (va_rf v0), some (.int v1), some (.int v2), none, none] (by decide) rfl ⟨rfl, (rf_cat _), ⟨rfl, rfl, ⟨rfl, rfl, trivial⟩⟩⟩ (fun E X n0 s0 σ => tj_X4_starves_B0 d v0 v1 v2 σ)
theorem tj_X4_passes_L35_b {E : tj_E} {X : tj_X} {n0 s0 : Nat} (d : Nat) {b18 : Option Nat → Int32 → Int32 → mx_M Int32} {b35 : Option Nat → Int32 → Int32 → Int32 → mx_M Int32} (h18 : ∀ (l0 : Option Nat) (l1 : Int32) (l2 : Int32) (σ : hp_S), tj_T E X RX4 "passes" cX4_passes 5 (some .int) (d + 1) [] n0 s0 em_i σ 18 [some (va_rf l0), some (.int l1), some (.int l2), none, none] [] (b18 l0 l1 l2)) (h35 : ∀ (l0 : Option Nat) (l1 : Int32) (l2 : Int32) (l3 : Int32) (σ : hp_S), tj_T E X RX4 "passes" cX4_passes 5 (some .int) (d + 1) [] n0 s0 em_i σ 35 [some (va_rf l0), some (.int l1), some (.int l2), some (.int l3), none] [] (b35 l0 l1 l2 l3)) (l0 : Option Nat) (l1 : Int32) (l2 : Int32) (l3 : Int32) (σ : hp_S) : tj_T E X RX4 "passes" cX4_passes 5 (some .int) (d + 1) [] n0 s0 em_i σ 35 [some (va_rf l0), some (.int l1), some (.int l2), some (.int l3), none] [] (fn_X4_passes_L35_b d b18 b35 l0 l1 l2 l3) := by
  unfold fn_X4_passes_L35_b
  refine tj_iload_n dX4_passes_35 rfl ?_
  refine tj_aload_n dX4_passes_36 rfl ?_
  refine tj_getR fl_X4_16r dX4_passes_37 (fun v101 => ?_)
  refine tj_iconst (3 : Int32) dX4_passes_40 rfl ?_
  refine tj_iald dX4_passes_41 (fun v102 => ?_)
  refine tj_icmp_ge 59 dX4_passes_42 rfl (fun _ => ?_) (fun _ => ?_)
  · refine tj_iinc (1 : Int32) dX4_passes_59 rfl rfl (by decide) rfl [some (va_rf l0), some (.int l1), some (.int (l2 + (1 : Int32))), some (.int l3), none] rfl ?_
    refine tj_goto 18 dX4_passes_62 rfl ?_
    refine tj_wk (L' := [some (va_rf l0), some (.int l1), some (.int (l2 + (1 : Int32))), none, none]) ⟨rfl, rfl, rfl, trivial⟩ ?_
    exact h18 l0 l1 _ _
  · refine tj_aload_n dX4_passes_45 rfl ?_
    refine tj_iload_n dX4_passes_46 rfl ?_
    refine tj_iconst (1 : Int32) dX4_passes_47 rfl ?_
    refine tj_callV (as := [.int l3, .int (1 : Int32)]) (rest := []) (st' := (fun r => [.int r])) (t := 1) (fun a e => by cases e; exact ct_X4_starves d _ _ _) (by decide) rfl q4016 q4018 qs70 q110 q4019 rfl md_X4_starves rfl (by decide) rfl (by decide) dX4_passes_48 (fun _ => rfl) (fun r103 σ => ?_) (by decide)
    refine tj_istore dX4_passes_51 (by decide) rfl [some (va_rf l0), some (.int l1), some (.int l2), some (.int l3), some (.int r103)] rfl ?_
    refine tj_iinc (1 : Int32) dX4_passes_53 rfl rfl (by decide) rfl [some (va_rf l0), some (.int l1), some (.int l2), some (.int (l3 + (1 : Int32))), some (.int r103)] rfl ?_
    refine tj_goto 35 dX4_passes_56 rfl ?_
    refine tj_wk (L' := [some (va_rf l0), some (.int l1), some (.int l2), some (.int (l3 + (1 : Int32))), none]) ⟨rfl, rfl, rfl, rfl, trivial⟩ ?_
    exact h35 l0 l1 l2 _ _
theorem tj_X4_passes_L35 {E : tj_E} {X : tj_X} {n0 s0 : Nat} (d : Nat) {b18 : Option Nat → Int32 → Int32 → mx_M Int32} (h18 : ∀ (l0 : Option Nat) (l1 : Int32) (l2 : Int32) (σ : hp_S), tj_T E X RX4 "passes" cX4_passes 5 (some .int) (d + 1) [] n0 s0 em_i σ 18 [some (va_rf l0), some (.int l1), some (.int l2), none, none] [] (b18 l0 l1 l2)) : ∀ (k : Nat) (l0 : Option Nat) (l1 : Int32) (l2 : Int32) (l3 : Int32) (σ : hp_S), tj_T E X RX4 "passes" cX4_passes 5 (some .int) (d + 1) [] n0 s0 em_i σ 35 [some (va_rf l0), some (.int l1), some (.int l2), some (.int l3), none] [] (fn_X4_passes_L35 d b18 k l0 l1 l2 l3) := by
  intro k
  induction k with
  | zero =>
    intro l0 l1 l2 l3 σ
    exact tj_fail
  | succ k ih =>
    intro l0 l1 l2 l3 σ
    exact tj_X4_passes_L35_b d h18 ih l0 l1 l2 l3 σ
theorem tj_X4_passes_L18_b {E : tj_E} {X : tj_X} {n0 s0 : Nat} (d : Nat) {b18 : Option Nat → Int32 → Int32 → mx_M Int32} (h18 : ∀ (l0 : Option Nat) (l1 : Int32) (l2 : Int32) (σ : hp_S), tj_T E X RX4 "passes" cX4_passes 5 (some .int) (d + 1) [] n0 s0 em_i σ 18 [some (va_rf l0), some (.int l1), some (.int l2), none, none] [] (b18 l0 l1 l2)) (l0 : Option Nat) (l1 : Int32) (l2 : Int32) (σ : hp_S) : tj_T E X RX4 "passes" cX4_passes 5 (some .int) (d + 1) [] n0 s0 em_i σ 18 [some (va_rf l0), some (.int l1), some (.int l2), none, none] [] (fn_X4_passes_L18_b d b18 l0 l1 l2) := by
  unfold fn_X4_passes_L18_b
  refine tj_iload_n dX4_passes_18 rfl ?_
  refine tj_iload_n dX4_passes_19 rfl ?_
  refine tj_icmp_ge 65 dX4_passes_20 rfl (fun _ => ?_) (fun _ => ?_)
  · refine tj_aload_n dX4_passes_65 rfl ?_
    refine tj_getR fl_X4_16r dX4_passes_66 (fun v101 => ?_)
    refine tj_iconst (0 : Int32) dX4_passes_69 rfl ?_
    refine tj_iald dX4_passes_70 (fun v102 => ?_)
    exact tj_iret dX4_passes_71
  · refine tj_aload_n dX4_passes_23 rfl ?_
    refine tj_getR fl_X4_16r dX4_passes_24 (fun v103 => ?_)
    refine tj_iconst (0 : Int32) dX4_passes_27 rfl ?_
    refine tj_dup2_11 dX4_passes_28 rfl (rf_cat _) ?_
    refine tj_iald dX4_passes_29 (fun v104 => ?_)
    refine tj_iconst (1 : Int32) dX4_passes_30 rfl ?_
    refine tj_iadd dX4_passes_31 ?_
    refine tj_iast dX4_passes_32 (fun σ => ?_)
    refine tj_iconst (0 : Int32) dX4_passes_33 rfl ?_
    refine tj_istore_n dX4_passes_34 (by decide) rfl [some (va_rf l0), some (.int l1), some (.int l2), some (.int (0 : Int32)), none] rfl ?_
    exact tj_X4_passes_L35 d h18 mx_K l0 l1 l2 (0 : Int32) _
theorem tj_X4_passes_L18 {E : tj_E} {X : tj_X} {n0 s0 : Nat} (d : Nat) : ∀ (k : Nat) (l0 : Option Nat) (l1 : Int32) (l2 : Int32) (σ : hp_S), tj_T E X RX4 "passes" cX4_passes 5 (some .int) (d + 1) [] n0 s0 em_i σ 18 [some (va_rf l0), some (.int l1), some (.int l2), none, none] [] (fn_X4_passes_L18 d k l0 l1 l2) := by
  intro k
  induction k with
  | zero =>
    intro l0 l1 l2 σ
    exact tj_fail
  | succ k ih =>
    intro l0 l1 l2 σ
    exact tj_X4_passes_L18_b d ih l0 l1 l2 σ
theorem tj_X4_passes_B0 {E : tj_E} {X : tj_X} {n0 s0 : Nat} (d : Nat) (v0 : Option Nat) (v1 : Int32) (σ : hp_S) : tj_T E X RX4 "passes" cX4_passes 5 (some .int) (d + 1) [] n0 s0 em_i σ 0 [some (va_rf v0), some (.int v1), none, none, none] [] (fn_X4_passes_B0 d v0 v1) := by
  unfold fn_X4_passes_B0
  refine tj_iload_n dX4_passes_0 rfl ?_
  refine tj_iconst (1 : Int32) dX4_passes_1 rfl ?_
  refine tj_bipush (24 : Int32) dX4_passes_2 (by decide) ?_
  refine tj_callS (as := [.int v1, .int (1 : Int32), .int (24 : Int32)]) (rest := []) (st' := (fun r => [.int r])) (ct_X4_isIn d v1 (1 : Int32) (24 : Int32)) q3971 q3972 q110 q3973 md_X4_isIn rfl (by decide) rfl (by decide) dX4_passes_4 (fun _ => rfl) (fun r101 σ => ?_) (by decide)
  refine tj_if_ne 16 dX4_passes_7 rfl (fun _ => ?_) (fun _ => ?_)
  · refine tj_aload_n dX4_passes_10 rfl ?_
    refine tj_iconst (1 : Int32) dX4_passes_11 rfl ?_
    refine tj_callV (as := [.int (1 : Int32)]) (rest := []) (st' := (fun r => [.int r])) (t := 1) (fun a e => by cases e; exact ct_X4_fail d _ _) (by decide) rfl q3974 q3976 qs62 q110 q3977 rfl md_X4_fail rfl (by decide) rfl (by decide) dX4_passes_12 (fun _ => rfl) (fun r102 σ => ?_) (by decide)
    exact tj_iret dX4_passes_15
  · refine tj_iconst (0 : Int32) dX4_passes_16 rfl ?_
    refine tj_istore_n dX4_passes_17 (by decide) rfl [some (va_rf v0), some (.int v1), some (.int (0 : Int32)), none, none] rfl ?_
    exact tj_X4_passes_L18 d mx_K v0 v1 (0 : Int32) _
theorem ct_X4_passes : ∀ (d : Nat) (v0 : Option Nat) (v1 : Int32), ct_ yX4_passes (ws_ yX4_passes cX4_passes 5 (some .int)) d em_i [va_rf v0, .int v1] (fn_X4_passes d v0 v1)
  | 0, _, _ => ct_fail
  | d + 1, v0, v1 => ct_of [(false, va_rf v0), (false, .int v1)] [some (va_rf v0), some (.int v1), none, none, none] (by decide) rfl ⟨rfl, (rf_cat _), ⟨rfl, rfl, trivial⟩⟩ (fun E X n0 s0 σ => tj_X4_passes_B0 d v0 v1 σ)
theorem tj_X4_passHours_B0 {E : tj_E} {X : tj_X} {n0 s0 : Nat} (d : Nat) (v0 : Option Nat) (v1 : Int32) (σ : hp_S) : tj_T E X RX4 "passHours" cX4_passHours 2 (some .int) (d + 1) [] n0 s0 em_i σ 0 [some (va_rf v0), some (.int v1)] [] (fn_X4_passHours_B0 d v0 v1) := by
  unfold fn_X4_passHours_B0
  refine tj_aload_n dX4_passHours_0 rfl ?_
  refine tj_callV (as := []) (rest := []) (st' := (fun _ => [])) (t := 1) (fun a e => by cases e; exact ct_X4_begins d _) (by decide) rfl q3960 q3962 qs60 q110 q3963 rfl md_X4_begins rfl (by decide) rfl (by decide) dX4_passHours_1 (fun _ => rfl) (fun _ σ => ?_) (by decide)
  refine tj_aload_n dX4_passHours_4 rfl ?_
  refine tj_aload_n dX4_passHours_5 rfl ?_
  refine tj_iload_n dX4_passHours_6 rfl ?_
  refine tj_callV (as := [.int v1]) (rest := [va_rf v0]) (st' := (fun r => [.int r, va_rf v0])) (t := 1) (fun a e => by cases e; exact ct_X4_passes d _ _) (by decide) rfl q4072 q4074 qs77 q110 q4075 rfl md_X4_passes rfl (by decide) rfl (by simp [rf_cat, cat_i, cat_l, cat_f, cat_d]) dX4_passHours_7 (fun _ => rfl) (fun r101 σ => ?_) (by decide)
  refine tj_callV (as := [.int r101]) (rest := []) (st' := (fun r => [.int r])) (t := 1) (fun a e => by cases e; exact ct_X4_ends d _ _) (by decide) rfl q4000 q4002 qs67 q110 q4003 rfl md_X4_ends rfl (by decide) rfl (by decide) dX4_passHours_10 (fun _ => rfl) (fun r102 σ => ?_) (by decide)
  exact tj_iret dX4_passHours_13
theorem ct_X4_passHours : ∀ (d : Nat) (v0 : Option Nat) (v1 : Int32), ct_ yX4_passHours (ws_ yX4_passHours cX4_passHours 2 (some .int)) d em_i [va_rf v0, .int v1] (fn_X4_passHours d v0 v1)
  | 0, _, _ => ct_fail
  | d + 1, v0, v1 => ct_of [(false, va_rf v0), (false, .int v1)] [some (va_rf v0), some (.int v1)] (by decide) rfl ⟨rfl, (rf_cat _), ⟨rfl, rfl, trivial⟩⟩ (fun E X n0 s0 σ => tj_X4_passHours_B0 d v0 v1 σ)
theorem tj_X4_portionOf_B0 {E : tj_E} {X : tj_X} {n0 s0 : Nat} (d : Nat) (v0 : Option Nat) (v1 : Int32) (σ : hp_S) : tj_T E X RX4 "portionOf" cX4_portionOf 2 (some .int) (d + 1) [] n0 s0 em_i σ 0 [some (va_rf v0), some (.int v1)] [] (fn_X4_portionOf_B0 d v0 v1) := by
  unfold fn_X4_portionOf_B0
  refine tj_aload_n dX4_portionOf_0 rfl ?_
  refine tj_iload_n dX4_portionOf_1 rfl ?_
  refine tj_iconst (2 : Int32) dX4_portionOf_2 rfl ?_
  refine tj_callV (as := [.int v1, .int (2 : Int32)]) (rest := []) (st' := (fun r => [.int r])) (t := 1) (fun a e => by cases e; exact ct_X4_about d _ _ _) (by decide) rfl q4092 q4094 qs79 q110 q4095 rfl md_X4_about rfl (by decide) rfl (by decide) dX4_portionOf_3 (fun _ => rfl) (fun r101 σ => ?_) (by decide)
  exact tj_iret dX4_portionOf_6
theorem ct_X4_portionOf : ∀ (d : Nat) (v0 : Option Nat) (v1 : Int32), ct_ yX4_portionOf (ws_ yX4_portionOf cX4_portionOf 2 (some .int)) d em_i [va_rf v0, .int v1] (fn_X4_portionOf d v0 v1)
  | 0, _, _ => ct_fail
  | d + 1, v0, v1 => ct_of [(false, va_rf v0), (false, .int v1)] [some (va_rf v0), some (.int v1)] (by decide) rfl ⟨rfl, (rf_cat _), ⟨rfl, rfl, trivial⟩⟩ (fun E X n0 s0 σ => tj_X4_portionOf_B0 d v0 v1 σ)
theorem tj_X4_portionTotal_B0 {E : tj_E} {X : tj_X} {n0 s0 : Nat} (d : Nat) (v0 : Option Nat) (σ : hp_S) : tj_T E X RX4 "portionTotal" cX4_portionTotal 1 (some .int) (d + 1) [] n0 s0 em_i σ 0 [some (va_rf v0)] [] (fn_X4_portionTotal_B0 d v0) := by
  unfold fn_X4_portionTotal_B0
  refine tj_aload_n dX4_portionTotal_0 rfl ?_
  refine tj_bipush (8 : Int32) dX4_portionTotal_1 (by decide) ?_
  refine tj_callV (as := [.int (8 : Int32)]) (rest := []) (st' := (fun r => [.int r])) (t := 1) (fun a e => by cases e; exact ct_X4_tells d _ _) (by decide) rfl q4080 q4082 qs78 q110 q4083 rfl md_X4_tells rfl (by decide) rfl (by decide) dX4_portionTotal_3 (fun _ => rfl) (fun r101 σ => ?_) (by decide)
  exact tj_iret dX4_portionTotal_6
theorem ct_X4_portionTotal : ∀ (d : Nat) (v0 : Option Nat), ct_ yX4_portionTotal (ws_ yX4_portionTotal cX4_portionTotal 1 (some .int)) d em_i [va_rf v0] (fn_X4_portionTotal d v0)
  | 0, _ => ct_fail
  | d + 1, v0 => ct_of [(false, va_rf v0)] [some (va_rf v0)] (by decide) rfl ⟨rfl, (rf_cat _), trivial⟩ (fun E X n0 s0 σ => tj_X4_portionTotal_B0 d v0 σ)
theorem tj_X4_purge_B0 {E : tj_E} {X : tj_X} {n0 s0 : Nat} (d : Nat) (v0 : Option Nat) (σ : hp_S) : tj_T E X RX4 "purge" cX4_purge 1 (some .int) (d + 1) [] n0 s0 em_i σ 0 [some (va_rf v0)] [] (fn_X4_purge_B0 d v0) := by
  unfold fn_X4_purge_B0
  refine tj_aload_n dX4_purge_0 rfl ?_
  refine tj_callV (as := []) (rest := []) (st' := (fun _ => [])) (t := 1) (fun a e => by cases e; exact ct_X4_begins d _) (by decide) rfl q3960 q3962 qs60 q110 q3963 rfl md_X4_begins rfl (by decide) rfl (by decide) dX4_purge_1 (fun _ => rfl) (fun _ σ => ?_) (by decide)
  refine tj_aload_n dX4_purge_4 rfl ?_
  refine tj_aload_n dX4_purge_5 rfl ?_
  refine tj_callV (as := []) (rest := [va_rf v0]) (st' := (fun r => [.int r, va_rf v0])) (t := 1) (fun a e => by cases e; exact ct_X4_clears d _) (by decide) rfl q3985 q3987 qs64 q110 q3988 rfl md_X4_clears rfl (by decide) rfl (by simp [rf_cat, cat_i, cat_l, cat_f, cat_d]) dX4_purge_6 (fun _ => rfl) (fun r101 σ => ?_) (by decide)
  refine tj_callV (as := [.int r101]) (rest := []) (st' := (fun r => [.int r])) (t := 1) (fun a e => by cases e; exact ct_X4_ends d _ _) (by decide) rfl q4000 q4002 qs67 q110 q4003 rfl md_X4_ends rfl (by decide) rfl (by decide) dX4_purge_9 (fun _ => rfl) (fun r102 σ => ?_) (by decide)
  exact tj_iret dX4_purge_12
theorem ct_X4_purge : ∀ (d : Nat) (v0 : Option Nat), ct_ yX4_purge (ws_ yX4_purge cX4_purge 1 (some .int)) d em_i [va_rf v0] (fn_X4_purge d v0)
  | 0, _ => ct_fail
  | d + 1, v0 => ct_of [(false, va_rf v0)] [some (va_rf v0)] (by decide) rfl ⟨rfl, (rf_cat _), trivial⟩ (fun E X n0 s0 σ => tj_X4_purge_B0 d v0 σ)
theorem tj_X4_writes_B0 {E : tj_E} {X : tj_X} {n0 s0 : Nat} (d : Nat) (v0 : Option Nat) (v1 : Int32) (σ : hp_S) : tj_T E X RX4 "writes" cX4_writes 2 none (d + 1) [] n0 s0 em_v σ 0 [some (va_rf v0), some (.int v1)] [] (fn_X4_writes_B0 d v0 v1) := by
  unfold fn_X4_writes_B0
  refine tj_aload_n dX4_writes_0 rfl ?_
  refine tj_getR fl_X4_35r dX4_writes_1 (fun v101 => ?_)
  refine tj_aload_n dX4_writes_4 rfl ?_
  refine tj_getI fl_X4_164 dX4_writes_5 (fun v102 => ?_)
  refine tj_iload_n dX4_writes_8 rfl ?_
  refine tj_iast dX4_writes_9 (fun σ => ?_)
  refine tj_aload_n dX4_writes_10 rfl ?_
  refine tj_dup dX4_writes_11 (rf_cat _) ?_
  refine tj_getI fl_X4_164 dX4_writes_12 (fun v103 => ?_)
  refine tj_iconst (1 : Int32) dX4_writes_15 rfl ?_
  refine tj_iadd dX4_writes_16 ?_
  refine tj_put fl_X4_164 rfl rfl dX4_writes_17 (fun σ => ?_)
  exact tj_vret dX4_writes_20
theorem ct_X4_writes : ∀ (d : Nat) (v0 : Option Nat) (v1 : Int32), ct_ yX4_writes (ws_ yX4_writes cX4_writes 2 none) d em_v [va_rf v0, .int v1] (fn_X4_writes d v0 v1)
  | 0, _, _ => ct_fail
  | d + 1, v0, v1 => ct_of [(false, va_rf v0), (false, .int v1)] [some (va_rf v0), some (.int v1)] (by decide) rfl ⟨rfl, (rf_cat _), ⟨rfl, rfl, trivial⟩⟩ (fun E X n0 s0 σ => tj_X4_writes_B0 d v0 v1 σ)
theorem tj_X4_writesNumber_L18_b {E : tj_E} {X : tj_X} {n0 s0 : Nat} (d : Nat) {b18 : Option Nat → Int32 → Int32 → mx_M Unit} (h18 : ∀ (l0 : Option Nat) (l1 : Int32) (l2 : Int32) (σ : hp_S), tj_T E X RX4 "writesNumber" cX4_writesNumber 3 none (d + 1) [] n0 s0 em_v σ 18 [some (va_rf l0), some (.int l1), some (.int l2)] [] (b18 l0 l1 l2)) (l0 : Option Nat) (l1 : Int32) (l2 : Int32) (σ : hp_S) : tj_T E X RX4 "writesNumber" cX4_writesNumber 3 none (d + 1) [] n0 s0 em_v σ 18 [some (va_rf l0), some (.int l1), some (.int l2)] [] (fn_X4_writesNumber_L18_b d b18 l0 l1 l2) := by
  unfold fn_X4_writesNumber_L18_b
  refine tj_iload_n dX4_writesNumber_18 rfl ?_
  refine tj_if_le 43 dX4_writesNumber_19 rfl (fun _ => ?_) (fun _ => ?_)
  · exact tj_vret dX4_writesNumber_43
  · refine tj_aload_n dX4_writesNumber_22 rfl ?_
    refine tj_bipush (48 : Int32) dX4_writesNumber_23 (by decide) ?_
    refine tj_iload_n dX4_writesNumber_25 rfl ?_
    refine tj_iload_n dX4_writesNumber_26 rfl ?_
    refine tj_idiv dX4_writesNumber_27 (fun v101 => ?_)
    refine tj_bipush (10 : Int32) dX4_writesNumber_28 (by decide) ?_
    refine tj_irem dX4_writesNumber_30 (fun v102 => ?_)
    refine tj_iadd dX4_writesNumber_31 ?_
    refine tj_callV (as := [.int ((48 : Int32) + v102)]) (rest := []) (st' := (fun _ => [])) (t := 1) (fun a e => by cases e; exact ct_X4_writes d _ _) (by decide) rfl q4247 q4249 qs85 q110 q4250 rfl md_X4_writes rfl (by decide) rfl (by decide) dX4_writesNumber_32 (fun _ => rfl) (fun _ σ => ?_) (by decide)
    refine tj_iload_n dX4_writesNumber_35 rfl ?_
    refine tj_bipush (10 : Int32) dX4_writesNumber_36 (by decide) ?_
    refine tj_idiv dX4_writesNumber_38 (fun v103 => ?_)
    refine tj_istore_n dX4_writesNumber_39 (by decide) rfl [some (va_rf l0), some (.int l1), some (.int v103)] rfl ?_
    refine tj_goto 18 dX4_writesNumber_40 rfl ?_
    exact h18 l0 l1 v103 _
theorem tj_X4_writesNumber_L18 {E : tj_E} {X : tj_X} {n0 s0 : Nat} (d : Nat) : ∀ (k : Nat) (l0 : Option Nat) (l1 : Int32) (l2 : Int32) (σ : hp_S), tj_T E X RX4 "writesNumber" cX4_writesNumber 3 none (d + 1) [] n0 s0 em_v σ 18 [some (va_rf l0), some (.int l1), some (.int l2)] [] (fn_X4_writesNumber_L18 d k l0 l1 l2) := by
  intro k
  induction k with
  | zero =>
    intro l0 l1 l2 σ
    exact tj_fail
  | succ k ih =>
    intro l0 l1 l2 σ
    exact tj_X4_writesNumber_L18_b d ih l0 l1 l2 σ
theorem tj_X4_writesNumber_L2_b {E : tj_E} {X : tj_X} {n0 s0 : Nat} (d : Nat) {b2 : Option Nat → Int32 → Int32 → mx_M Unit} (h2 : ∀ (l0 : Option Nat) (l1 : Int32) (l2 : Int32) (σ : hp_S), tj_T E X RX4 "writesNumber" cX4_writesNumber 3 none (d + 1) [] n0 s0 em_v σ 2 [some (va_rf l0), some (.int l1), some (.int l2)] [] (b2 l0 l1 l2)) (l0 : Option Nat) (l1 : Int32) (l2 : Int32) (σ : hp_S) : tj_T E X RX4 "writesNumber" cX4_writesNumber 3 none (d + 1) [] n0 s0 em_v σ 2 [some (va_rf l0), some (.int l1), some (.int l2)] [] (fn_X4_writesNumber_L2_b d b2 l0 l1 l2) := by
  unfold fn_X4_writesNumber_L2_b
  refine tj_iload_n dX4_writesNumber_2 rfl ?_
  refine tj_iload_n dX4_writesNumber_3 rfl ?_
  refine tj_idiv dX4_writesNumber_4 (fun v101 => ?_)
  refine tj_bipush (10 : Int32) dX4_writesNumber_5 (by decide) ?_
  refine tj_icmp_lt 18 dX4_writesNumber_7 rfl (fun _ => ?_) (fun _ => ?_)
  · exact tj_X4_writesNumber_L18 d mx_K l0 l1 l2 _
  · refine tj_iload_n dX4_writesNumber_10 rfl ?_
    refine tj_bipush (10 : Int32) dX4_writesNumber_11 (by decide) ?_
    refine tj_imul dX4_writesNumber_13 ?_
    refine tj_topi (fun v102 => ?_)
    refine tj_istore_n dX4_writesNumber_14 (by decide) rfl [some (va_rf l0), some (.int l1), some (.int v102)] rfl ?_
    refine tj_goto 2 dX4_writesNumber_15 rfl ?_
    exact h2 l0 l1 v102 _
theorem tj_X4_writesNumber_L2 {E : tj_E} {X : tj_X} {n0 s0 : Nat} (d : Nat) : ∀ (k : Nat) (l0 : Option Nat) (l1 : Int32) (l2 : Int32) (σ : hp_S), tj_T E X RX4 "writesNumber" cX4_writesNumber 3 none (d + 1) [] n0 s0 em_v σ 2 [some (va_rf l0), some (.int l1), some (.int l2)] [] (fn_X4_writesNumber_L2 d k l0 l1 l2) := by
  intro k
  induction k with
  | zero =>
    intro l0 l1 l2 σ
    exact tj_fail
  | succ k ih =>
    intro l0 l1 l2 σ
    exact tj_X4_writesNumber_L2_b d ih l0 l1 l2 σ
theorem tj_X4_writesNumber_B0 {E : tj_E} {X : tj_X} {n0 s0 : Nat} (d : Nat) (v0 : Option Nat) (v1 : Int32) (σ : hp_S) : tj_T E X RX4 "writesNumber" cX4_writesNumber 3 none (d + 1) [] n0 s0 em_v σ 0 [some (va_rf v0), some (.int v1), none] [] (fn_X4_writesNumber_B0 d v0 v1) := by
  unfold fn_X4_writesNumber_B0
  refine tj_iconst (1 : Int32) dX4_writesNumber_0 rfl ?_
  refine tj_istore_n dX4_writesNumber_1 (by decide) rfl [some (va_rf v0), some (.int v1), some (.int (1 : Int32))] rfl ?_
  exact tj_X4_writesNumber_L2 d mx_K v0 v1 (1 : Int32) _
theorem ct_X4_writesNumber : ∀ (d : Nat) (v0 : Option Nat) (v1 : Int32), ct_ yX4_writesNumber (ws_ yX4_writesNumber cX4_writesNumber 3 none) d em_v [va_rf v0, .int v1] (fn_X4_writesNumber d v0 v1)
  | 0, _, _ => ct_fail
  | d + 1, v0, v1 => ct_of [(false, va_rf v0), (false, .int v1)] [some (va_rf v0), some (.int v1), none] (by decide) rfl ⟨rfl, (rf_cat _), ⟨rfl, rfl, trivial⟩⟩ (fun E X n0 s0 σ => tj_X4_writesNumber_B0 d v0 v1 σ)
theorem tj_X4_writesBehind_B0 {E : tj_E} {X : tj_X} {n0 s0 : Nat} (d : Nat) (v0 : Option Nat) (v1 : Int32) (v2 : Int32) (σ : hp_S) : tj_T E X RX4 "writesBehind" cX4_writesBehind 3 none (d + 1) [] n0 s0 em_v σ 0 [some (va_rf v0), some (.int v1), some (.int v2)] [] (fn_X4_writesBehind_B0 d v0 v1 v2) := by
  unfold fn_X4_writesBehind_B0
  refine tj_aload_n dX4_writesBehind_0 rfl ?_
  refine tj_iload_n dX4_writesBehind_1 rfl ?_
  refine tj_callV (as := [.int v1]) (rest := []) (st' := (fun _ => [])) (t := 1) (fun a e => by cases e; exact ct_X4_writes d _ _) (by decide) rfl q4247 q4249 qs85 q110 q4250 rfl md_X4_writes rfl (by decide) rfl (by decide) dX4_writesBehind_2 (fun _ => rfl) (fun _ σ => ?_) (by decide)
  refine tj_aload_n dX4_writesBehind_5 rfl ?_
  refine tj_iload_n dX4_writesBehind_6 rfl ?_
  refine tj_callV (as := [.int v2]) (rest := []) (st' := (fun _ => [])) (t := 1) (fun a e => by cases e; exact ct_X4_writesNumber d _ _) (by decide) rfl q4243 q4245 qs84 q110 q4246 rfl md_X4_writesNumber rfl (by decide) rfl (by decide) dX4_writesBehind_7 (fun _ => rfl) (fun _ σ => ?_) (by decide)
  exact tj_vret dX4_writesBehind_10
theorem ct_X4_writesBehind : ∀ (d : Nat) (v0 : Option Nat) (v1 : Int32) (v2 : Int32), ct_ yX4_writesBehind (ws_ yX4_writesBehind cX4_writesBehind 3 none) d em_v [va_rf v0, .int v1, .int v2] (fn_X4_writesBehind d v0 v1 v2)
  | 0, _, _, _ => ct_fail
  | d + 1, v0, v1, v2 => ct_of [(false, va_rf v0), (false, .int v1), (false, .int v2)] [some (va_rf v0), some (.int v1), some (.int v2)] (by decide) rfl ⟨rfl, (rf_cat _), ⟨rfl, rfl, ⟨rfl, rfl, trivial⟩⟩⟩ (fun E X n0 s0 σ => tj_X4_writesBehind_B0 d v0 v1 v2 σ)
theorem tj_X4_renderLion_J16 {E : tj_E} {X : tj_X} {n0 s0 : Nat} (d : Nat) (l0 : Option Nat) (l1 : Int32) (l2 : Int32) (p0 : Option Nat) (p1 : Int32) (σ : hp_S) : tj_T E X RX4 "renderLion" cX4_renderLion 3 (some .int) (d + 1) [] n0 s0 em_i σ 16 [some (va_rf l0), some (.int l1), some (.int l2)] [.int p1, va_rf p0] (fn_X4_renderLion_J16 d l0 l1 l2 p0 p1) := by
  unfold fn_X4_renderLion_J16
  refine tj_put fl_X4_50 rfl rfl dX4_renderLion_16 (fun σ => ?_)
  refine tj_aload_n dX4_renderLion_19 rfl ?_
  refine tj_getI fl_X4_50 dX4_renderLion_20 (fun v101 => ?_)
  refine tj_if_eq 28 dX4_renderLion_23 rfl (fun _ => ?_) (fun _ => ?_)
  · refine tj_aload_n dX4_renderLion_28 rfl ?_
    refine tj_iconst (0 : Int32) dX4_renderLion_29 rfl ?_
    refine tj_put fl_X4_164 rfl rfl dX4_renderLion_30 (fun σ => ?_)
    refine tj_aload_n dX4_renderLion_33 rfl ?_
    refine tj_iload_n dX4_renderLion_34 rfl ?_
    refine tj_callV (as := [.int l1]) (rest := []) (st' := (fun _ => [])) (t := 1) (fun a e => by cases e; exact ct_X4_writesNumber d _ _) (by decide) rfl q4243 q4245 qs84 q110 q4246 rfl md_X4_writesNumber rfl (by decide) rfl (by decide) dX4_renderLion_35 (fun _ => rfl) (fun _ σ => ?_) (by decide)
    refine tj_aload_n dX4_renderLion_38 rfl ?_
    refine tj_bipush (104 : Int32) dX4_renderLion_39 (by decide) ?_
    refine tj_aload_n dX4_renderLion_41 rfl ?_
    refine tj_getR fl_X4_16r dX4_renderLion_42 (fun v102 => ?_)
    refine tj_iload_n dX4_renderLion_45 rfl ?_
    refine tj_iconst (1 : Int32) dX4_renderLion_46 rfl ?_
    refine tj_callS (as := [.int l2, .int (1 : Int32)]) (rest := [va_rf v102, .int (104 : Int32), va_rf l0]) (st' := (fun r => [.int r, va_rf v102, .int (104 : Int32), va_rf l0])) (ct_X4_of d l2 (1 : Int32)) q3978 q3979 q110 q3980 md_X4_of rfl (by decide) rfl (by simp [rf_cat, cat_i, cat_l, cat_f, cat_d]) dX4_renderLion_47 (fun _ => rfl) (fun r103 σ => ?_) (by decide)
    refine tj_iald dX4_renderLion_50 (fun v104 => ?_)
    refine tj_callV (as := [.int (104 : Int32), .int v104]) (rest := []) (st' := (fun _ => [])) (t := 1) (fun a e => by cases e; exact ct_X4_writesBehind d _ _ _) (by decide) rfl q4251 q4253 qs86 q110 q4254 rfl md_X4_writesBehind rfl (by decide) rfl (by decide) dX4_renderLion_51 (fun _ => rfl) (fun _ σ => ?_) (by decide)
    refine tj_aload_n dX4_renderLion_54 rfl ?_
    refine tj_bipush (112 : Int32) dX4_renderLion_55 (by decide) ?_
    refine tj_aload_n dX4_renderLion_57 rfl ?_
    refine tj_getR fl_X4_16r dX4_renderLion_58 (fun v105 => ?_)
    refine tj_iload_n dX4_renderLion_61 rfl ?_
    refine tj_iconst (2 : Int32) dX4_renderLion_62 rfl ?_
    refine tj_callS (as := [.int l2, .int (2 : Int32)]) (rest := [va_rf v105, .int (112 : Int32), va_rf l0]) (st' := (fun r => [.int r, va_rf v105, .int (112 : Int32), va_rf l0])) (ct_X4_of d l2 (2 : Int32)) q3978 q3979 q110 q3980 md_X4_of rfl (by decide) rfl (by simp [rf_cat, cat_i, cat_l, cat_f, cat_d]) dX4_renderLion_63 (fun _ => rfl) (fun r106 σ => ?_) (by decide)
    refine tj_iald dX4_renderLion_66 (fun v107 => ?_)
    refine tj_callV (as := [.int (112 : Int32), .int v107]) (rest := []) (st' := (fun _ => [])) (t := 1) (fun a e => by cases e; exact ct_X4_writesBehind d _ _ _) (by decide) rfl q4251 q4253 qs86 q110 q4254 rfl md_X4_writesBehind rfl (by decide) rfl (by decide) dX4_renderLion_67 (fun _ => rfl) (fun _ σ => ?_) (by decide)
    refine tj_aload_n dX4_renderLion_70 rfl ?_
    refine tj_bipush (100 : Int32) dX4_renderLion_71 (by decide) ?_
    refine tj_aload_n dX4_renderLion_73 rfl ?_
    refine tj_getR fl_X4_16r dX4_renderLion_74 (fun v108 => ?_)
    refine tj_iload_n dX4_renderLion_77 rfl ?_
    refine tj_iconst (3 : Int32) dX4_renderLion_78 rfl ?_
    refine tj_callS (as := [.int l2, .int (3 : Int32)]) (rest := [va_rf v108, .int (100 : Int32), va_rf l0]) (st' := (fun r => [.int r, va_rf v108, .int (100 : Int32), va_rf l0])) (ct_X4_of d l2 (3 : Int32)) q3978 q3979 q110 q3980 md_X4_of rfl (by decide) rfl (by simp [rf_cat, cat_i, cat_l, cat_f, cat_d]) dX4_renderLion_79 (fun _ => rfl) (fun r109 σ => ?_) (by decide)
    refine tj_iald dX4_renderLion_82 (fun v110 => ?_)
    refine tj_callV (as := [.int (100 : Int32), .int v110]) (rest := []) (st' := (fun _ => [])) (t := 1) (fun a e => by cases e; exact ct_X4_writesBehind d _ _ _) (by decide) rfl q4251 q4253 qs86 q110 q4254 rfl md_X4_writesBehind rfl (by decide) rfl (by decide) dX4_renderLion_83 (fun _ => rfl) (fun _ σ => ?_) (by decide)
    refine tj_aload_n dX4_renderLion_86 rfl ?_
    refine tj_bipush (116 : Int32) dX4_renderLion_87 (by decide) ?_
    refine tj_aload_n dX4_renderLion_89 rfl ?_
    refine tj_getR fl_X4_16r dX4_renderLion_90 (fun v111 => ?_)
    refine tj_iload_n dX4_renderLion_93 rfl ?_
    refine tj_iconst (4 : Int32) dX4_renderLion_94 rfl ?_
    refine tj_callS (as := [.int l2, .int (4 : Int32)]) (rest := [va_rf v111, .int (116 : Int32), va_rf l0]) (st' := (fun r => [.int r, va_rf v111, .int (116 : Int32), va_rf l0])) (ct_X4_of d l2 (4 : Int32)) q3978 q3979 q110 q3980 md_X4_of rfl (by decide) rfl (by simp [rf_cat, cat_i, cat_l, cat_f, cat_d]) dX4_renderLion_95 (fun _ => rfl) (fun r112 σ => ?_) (by decide)
    refine tj_iald dX4_renderLion_98 (fun v113 => ?_)
    refine tj_callV (as := [.int (116 : Int32), .int v113]) (rest := []) (st' := (fun _ => [])) (t := 1) (fun a e => by cases e; exact ct_X4_writesBehind d _ _ _) (by decide) rfl q4251 q4253 qs86 q110 q4254 rfl md_X4_writesBehind rfl (by decide) rfl (by decide) dX4_renderLion_99 (fun _ => rfl) (fun _ σ => ?_) (by decide)
    refine tj_aload_n dX4_renderLion_102 rfl ?_
    refine tj_getI fl_X4_164 dX4_renderLion_103 (fun v114 => ?_)
    exact tj_iret dX4_renderLion_106
  · refine tj_iconst (0 : Int32) dX4_renderLion_26 rfl ?_
    exact tj_iret dX4_renderLion_27
theorem tj_X4_renderLion_B0 {E : tj_E} {X : tj_X} {n0 s0 : Nat} (d : Nat) (v0 : Option Nat) (v1 : Int32) (σ : hp_S) : tj_T E X RX4 "renderLion" cX4_renderLion 3 (some .int) (d + 1) [] n0 s0 em_i σ 0 [some (va_rf v0), some (.int v1), none] [] (fn_X4_renderLion_B0 d v0 v1) := by
  unfold fn_X4_renderLion_B0
  refine tj_aload_n dX4_renderLion_0 rfl ?_
  refine tj_iload_n dX4_renderLion_1 rfl ?_
  refine tj_callV (as := [.int v1]) (rest := []) (st' := (fun r => [.int r])) (t := 1) (fun a e => by cases e; exact ct_X4_lion d _ _) (by decide) rfl q4012 q4014 qs69 q110 q4015 rfl md_X4_lion rfl (by decide) rfl (by decide) dX4_renderLion_2 (fun _ => rfl) (fun r101 σ => ?_) (by decide)
  refine tj_istore_n dX4_renderLion_5 (by decide) rfl [some (va_rf v0), some (.int v1), some (.int r101)] rfl ?_
  refine tj_aload_n dX4_renderLion_6 rfl ?_
  refine tj_iload_n dX4_renderLion_7 rfl ?_
  refine tj_if_ge 15 dX4_renderLion_8 rfl (fun _ => ?_) (fun _ => ?_)
  · refine tj_iconst (0 : Int32) dX4_renderLion_15 rfl ?_
    exact tj_X4_renderLion_J16 d v0 v1 r101 v0 (0 : Int32) _
  · refine tj_iconst (1 : Int32) dX4_renderLion_11 rfl ?_
    refine tj_goto 16 dX4_renderLion_12 rfl ?_
    exact tj_X4_renderLion_J16 d v0 v1 r101 v0 (1 : Int32) _
theorem ct_X4_renderLion : ∀ (d : Nat) (v0 : Option Nat) (v1 : Int32), ct_ yX4_renderLion (ws_ yX4_renderLion cX4_renderLion 3 (some .int)) d em_i [va_rf v0, .int v1] (fn_X4_renderLion d v0 v1)
  | 0, _, _ => ct_fail
  | d + 1, v0, v1 => ct_of [(false, va_rf v0), (false, .int v1)] [some (va_rf v0), some (.int v1), none] (by decide) rfl ⟨rfl, (rf_cat _), ⟨rfl, rfl, trivial⟩⟩ (fun E X n0 s0 σ => tj_X4_renderLion_B0 d v0 v1 σ)
theorem tj_X4_renderTickets_J65 {E : tj_E} {X : tj_X} {n0 s0 : Nat} (d : Nat) {b12 : Option Nat → Int32 → mx_M Int32} (h12 : ∀ (l0 : Option Nat) (l1 : Int32) (σ : hp_S), tj_T E X RX4 "renderTickets" cX4_renderTickets 2 (some .int) (d + 1) [] n0 s0 em_i σ 12 [some (va_rf l0), some (.int l1)] [] (b12 l0 l1)) (l0 : Option Nat) (l1 : Int32) (σ : hp_S) : tj_T E X RX4 "renderTickets" cX4_renderTickets 2 (some .int) (d + 1) [] n0 s0 em_i σ 65 [some (va_rf l0), some (.int l1)] [] (fn_X4_renderTickets_J65 d b12 l0 l1) := by
  unfold fn_X4_renderTickets_J65
  refine tj_iinc (1 : Int32) dX4_renderTickets_65 rfl rfl (by decide) (rf_cat _) [some (va_rf l0), some (.int (l1 + (1 : Int32)))] rfl ?_
  refine tj_goto 12 dX4_renderTickets_68 rfl ?_
  exact h12 l0 _ _
theorem tj_X4_renderTickets_J38 {E : tj_E} {X : tj_X} {n0 s0 : Nat} (d : Nat) {b12 : Option Nat → Int32 → mx_M Int32} (h12 : ∀ (l0 : Option Nat) (l1 : Int32) (σ : hp_S), tj_T E X RX4 "renderTickets" cX4_renderTickets 2 (some .int) (d + 1) [] n0 s0 em_i σ 12 [some (va_rf l0), some (.int l1)] [] (b12 l0 l1)) (l0 : Option Nat) (l1 : Int32) (σ : hp_S) : tj_T E X RX4 "renderTickets" cX4_renderTickets 2 (some .int) (d + 1) [] n0 s0 em_i σ 38 [some (va_rf l0), some (.int l1)] [] (fn_X4_renderTickets_J38 d b12 l0 l1) := by
  unfold fn_X4_renderTickets_J38
  refine tj_aload_n dX4_renderTickets_38 rfl ?_
  refine tj_aload_n dX4_renderTickets_39 rfl ?_
  refine tj_getR fl_X4_16r dX4_renderTickets_40 (fun v101 => ?_)
  refine tj_iload_n dX4_renderTickets_43 rfl ?_
  refine tj_callS (as := [.int l1]) (rest := [va_rf v101, va_rf l0]) (st' := (fun r => [.int r, va_rf v101, va_rf l0])) (ct_X4_pile d l1) q3993 q3994 q110 q3995 md_X4_pile rfl (by decide) rfl (by simp [rf_cat, cat_i, cat_l, cat_f, cat_d]) dX4_renderTickets_44 (fun _ => rfl) (fun r102 σ => ?_) (by decide)
  refine tj_iald dX4_renderTickets_47 (fun v103 => ?_)
  refine tj_callV (as := [.int v103]) (rest := []) (st' := (fun _ => [])) (t := 1) (fun a e => by cases e; exact ct_X4_writesNumber d _ _) (by decide) rfl q4243 q4245 qs84 q110 q4246 rfl md_X4_writesNumber rfl (by decide) rfl (by decide) dX4_renderTickets_48 (fun _ => rfl) (fun _ σ => ?_) (by decide)
  refine tj_aload_n dX4_renderTickets_51 rfl ?_
  refine tj_iload_n dX4_renderTickets_52 rfl ?_
  refine tj_callV (as := [.int l1]) (rest := []) (st' := (fun r => [.int r])) (t := 1) (fun a e => by cases e; exact ct_X4_owner d _ _) (by decide) rfl q3989 q3991 qs65 q110 q3992 rfl md_X4_owner rfl (by decide) rfl (by decide) dX4_renderTickets_53 (fun _ => rfl) (fun r104 σ => ?_) (by decide)
  refine tj_if_ge 65 dX4_renderTickets_56 rfl (fun _ => ?_) (fun _ => ?_)
  · exact tj_X4_renderTickets_J65 d h12 l0 l1 _
  · refine tj_aload_n dX4_renderTickets_59 rfl ?_
    refine tj_bipush (42 : Int32) dX4_renderTickets_60 (by decide) ?_
    refine tj_callV (as := [.int (42 : Int32)]) (rest := []) (st' := (fun _ => [])) (t := 1) (fun a e => by cases e; exact ct_X4_writes d _ _) (by decide) rfl q4247 q4249 qs85 q110 q4250 rfl md_X4_writes rfl (by decide) rfl (by decide) dX4_renderTickets_62 (fun _ => rfl) (fun _ σ => ?_) (by decide)
    exact tj_X4_renderTickets_J65 d h12 l0 l1 _
theorem tj_X4_renderTickets_L12_b {E : tj_E} {X : tj_X} {n0 s0 : Nat} (d : Nat) {b12 : Option Nat → Int32 → mx_M Int32} (h12 : ∀ (l0 : Option Nat) (l1 : Int32) (σ : hp_S), tj_T E X RX4 "renderTickets" cX4_renderTickets 2 (some .int) (d + 1) [] n0 s0 em_i σ 12 [some (va_rf l0), some (.int l1)] [] (b12 l0 l1)) (l0 : Option Nat) (l1 : Int32) (σ : hp_S) : tj_T E X RX4 "renderTickets" cX4_renderTickets 2 (some .int) (d + 1) [] n0 s0 em_i σ 12 [some (va_rf l0), some (.int l1)] [] (fn_X4_renderTickets_L12_b d b12 l0 l1) := by
  unfold fn_X4_renderTickets_L12_b
  refine tj_iload_n dX4_renderTickets_12 rfl ?_
  refine tj_aload_n dX4_renderTickets_13 rfl ?_
  refine tj_getR fl_X4_16r dX4_renderTickets_14 (fun v101 => ?_)
  refine tj_iconst (5 : Int32) dX4_renderTickets_17 rfl ?_
  refine tj_iald dX4_renderTickets_18 (fun v102 => ?_)
  refine tj_icmp_ge 71 dX4_renderTickets_19 rfl (fun _ => ?_) (fun _ => ?_)
  · refine tj_aload_n dX4_renderTickets_71 rfl ?_
    refine tj_getI fl_X4_164 dX4_renderTickets_72 (fun v103 => ?_)
    exact tj_iret dX4_renderTickets_75
  · refine tj_iload_n dX4_renderTickets_22 rfl ?_
    refine tj_bipush (6 : Int32) dX4_renderTickets_23 (by decide) ?_
    refine tj_icmp_ge 71 dX4_renderTickets_25 rfl (fun _ => ?_) (fun _ => ?_)
    · refine tj_aload_n dX4_renderTickets_71 rfl ?_
      refine tj_getI fl_X4_164 dX4_renderTickets_72 (fun v104 => ?_)
      exact tj_iret dX4_renderTickets_75
    · refine tj_iload_n dX4_renderTickets_28 rfl ?_
      refine tj_if_le 38 dX4_renderTickets_29 rfl (fun _ => ?_) (fun _ => ?_)
      · exact tj_X4_renderTickets_J38 d h12 l0 l1 _
      · refine tj_aload_n dX4_renderTickets_32 rfl ?_
        refine tj_bipush (32 : Int32) dX4_renderTickets_33 (by decide) ?_
        refine tj_callV (as := [.int (32 : Int32)]) (rest := []) (st' := (fun _ => [])) (t := 1) (fun a e => by cases e; exact ct_X4_writes d _ _) (by decide) rfl q4247 q4249 qs85 q110 q4250 rfl md_X4_writes rfl (by decide) rfl (by decide) dX4_renderTickets_35 (fun _ => rfl) (fun _ σ => ?_) (by decide)
        exact tj_X4_renderTickets_J38 d h12 l0 l1 _
theorem tj_X4_renderTickets_L12 {E : tj_E} {X : tj_X} {n0 s0 : Nat} (d : Nat) : ∀ (k : Nat) (l0 : Option Nat) (l1 : Int32) (σ : hp_S), tj_T E X RX4 "renderTickets" cX4_renderTickets 2 (some .int) (d + 1) [] n0 s0 em_i σ 12 [some (va_rf l0), some (.int l1)] [] (fn_X4_renderTickets_L12 d k l0 l1) := by
  intro k
  induction k with
  | zero =>
    intro l0 l1 σ
    exact tj_fail
  | succ k ih =>
    intro l0 l1 σ
    exact tj_X4_renderTickets_L12_b d ih l0 l1 σ
theorem tj_X4_renderTickets_B0 {E : tj_E} {X : tj_X} {n0 s0 : Nat} (d : Nat) (v0 : Option Nat) (σ : hp_S) : tj_T E X RX4 "renderTickets" cX4_renderTickets 2 (some .int) (d + 1) [] n0 s0 em_i σ 0 [some (va_rf v0), none] [] (fn_X4_renderTickets_B0 d v0) := by
  unfold fn_X4_renderTickets_B0
  refine tj_aload_n dX4_renderTickets_0 rfl ?_
  refine tj_iconst (0 : Int32) dX4_renderTickets_1 rfl ?_
  refine tj_put fl_X4_50 rfl rfl dX4_renderTickets_2 (fun σ => ?_)
  refine tj_aload_n dX4_renderTickets_5 rfl ?_
  refine tj_iconst (0 : Int32) dX4_renderTickets_6 rfl ?_
  refine tj_put fl_X4_164 rfl rfl dX4_renderTickets_7 (fun σ => ?_)
  refine tj_iconst (0 : Int32) dX4_renderTickets_10 rfl ?_
  refine tj_istore_n dX4_renderTickets_11 (by decide) (rf_cat _) [some (va_rf v0), some (.int (0 : Int32))] rfl ?_
  exact tj_X4_renderTickets_L12 d mx_K v0 (0 : Int32) _
theorem ct_X4_renderTickets : ∀ (d : Nat) (v0 : Option Nat), ct_ yX4_renderTickets (ws_ yX4_renderTickets cX4_renderTickets 2 (some .int)) d em_i [va_rf v0] (fn_X4_renderTickets d v0)
  | 0, _ => ct_fail
  | d + 1, v0 => ct_of [(false, va_rf v0)] [some (va_rf v0), none] (by decide) rfl ⟨rfl, (rf_cat _), trivial⟩ (fun E X n0 s0 σ => tj_X4_renderTickets_B0 d v0 σ)
theorem tj_X4_restore_J13 {E : tj_E} {X : tj_X} {n0 s0 : Nat} (d : Nat) (l0 : Option Nat) (p0 : Option Nat) (p1 : Int32) (σ : hp_S) : tj_T E X RX4 "restore" cX4_restore 1 (some .int) (d + 1) [] n0 s0 em_i σ 13 [some (va_rf l0)] [.int p1, va_rf p0] (fn_X4_restore_J13 d l0 p0 p1) := by
  unfold fn_X4_restore_J13
  refine tj_put fl_X4_50 rfl rfl dX4_restore_13 (fun σ => ?_)
  refine tj_aload_n dX4_restore_16 rfl ?_
  refine tj_getI fl_X4_50 dX4_restore_17 (fun v101 => ?_)
  refine tj_if_eq 25 dX4_restore_20 rfl (fun _ => ?_) (fun _ => ?_)
  · refine tj_aload_n dX4_restore_25 rfl ?_
    refine tj_getR fl_X4_16r dX4_restore_26 (fun v102 => ?_)
    refine tj_aload_n dX4_restore_29 rfl ?_
    refine tj_getR fl_X4_23r dX4_restore_30 (fun v103 => ?_)
    refine tj_callS (as := [va_rf v102, va_rf v103]) (rest := []) (st' := (fun _ => [])) (ct_X4_lays d v102 v103) q3964 q3965 q110 q3966 md_X4_lays rfl (by decide) rfl (by decide) dX4_restore_33 (fun _ => rfl) (fun _ σ => ?_) (by decide)
    refine tj_aload_n dX4_restore_36 rfl ?_
    refine tj_iconst (0 : Int32) dX4_restore_37 rfl ?_
    refine tj_put fl_X4_57 rfl rfl dX4_restore_38 (fun σ => ?_)
    refine tj_aload_n dX4_restore_41 rfl ?_
    refine tj_getR fl_X4_16r dX4_restore_42 (fun v104 => ?_)
    refine tj_iconst (3 : Int32) dX4_restore_45 rfl ?_
    refine tj_iald dX4_restore_46 (fun v105 => ?_)
    exact tj_iret dX4_restore_47
  · refine tj_iconst (0 : Int32) dX4_restore_23 rfl ?_
    exact tj_iret dX4_restore_24
theorem tj_X4_restore_B0 {E : tj_E} {X : tj_X} {n0 s0 : Nat} (d : Nat) (v0 : Option Nat) (σ : hp_S) : tj_T E X RX4 "restore" cX4_restore 1 (some .int) (d + 1) [] n0 s0 em_i σ 0 [some (va_rf v0)] [] (fn_X4_restore_B0 d v0) := by
  unfold fn_X4_restore_B0
  refine tj_aload_n dX4_restore_0 rfl ?_
  refine tj_aload_n dX4_restore_1 rfl ?_
  refine tj_getI fl_X4_224 dX4_restore_2 (fun v101 => ?_)
  refine tj_if_eq 12 dX4_restore_5 rfl (fun _ => ?_) (fun _ => ?_)
  · refine tj_iconst (1 : Int32) dX4_restore_12 rfl ?_
    exact tj_X4_restore_J13 d v0 v0 (1 : Int32) _
  · refine tj_iconst (0 : Int32) dX4_restore_8 rfl ?_
    refine tj_goto 13 dX4_restore_9 rfl ?_
    exact tj_X4_restore_J13 d v0 v0 (0 : Int32) _
theorem ct_X4_restore : ∀ (d : Nat) (v0 : Option Nat), ct_ yX4_restore (ws_ yX4_restore cX4_restore 1 (some .int)) d em_i [va_rf v0] (fn_X4_restore d v0)
  | 0, _ => ct_fail
  | d + 1, v0 => ct_of [(false, va_rf v0)] [some (va_rf v0)] (by decide) rfl ⟨rfl, (rf_cat _), trivial⟩ (fun E X n0 s0 σ => tj_X4_restore_B0 d v0 σ)
