set_option maxRecDepth 100000
theorem tj_X0_dismissKeeper_B0 {E : tj_E} {X : tj_X} {n0 s0 : Nat} (d : Nat) (v0 : Option Nat) (v1 : Int32) (v2 : Option Nat) (σ : hp_S) : tj_T E X RX0 "dismissKeeper" cX0_dismissKeeper 4 (some .int) (d + 1) [(0, 9, 12, 42)] n0 s0 em_i σ 0 [some (va_rf v0), some (.int v1), some (va_rf v2), none] [] (fn_X0_dismissKeeper_B0 d v0 v1 v2) := by
  unfold fn_X0_dismissKeeper_B0
  refine tj_aload_n dX0_dismissKeeper_0 rfl ?_
  refine tj_iconst (0 : Int32) dX0_dismissKeeper_1 rfl ?_
  refine tj_aload_n dX0_dismissKeeper_2 rfl ?_
  refine tj_iload_n dX0_dismissKeeper_3 rfl ?_
  refine tj_tryV (as := [.int v1]) (rest := [.int (0 : Int32), va_rf v2]) (st' := (fun r => [.int r, .int (0 : Int32), va_rf v2])) (t := 0) (fun a e => by cases e; exact ct_X1_dismissKeeper d _ _) (by decide) rfl q3113 q3114 q3115 q96 q3116 rfl md_X1_dismissKeeper rfl (by decide) rfl (by simp [rf_cat, cat_i, cat_l, cat_f, cat_d]) dX0_dismissKeeper_4 (fun _ => rfl) (fun r101 σ => ?_) (fun q102 σ => ?_)
  · refine tj_i2l dX0_dismissKeeper_7 ?_
    refine tj_last dX0_dismissKeeper_8 (fun σ => ?_)
    refine tj_goto 15 dX0_dismissKeeper_9 rfl ?_
    refine tj_iconst (0 : Int32) dX0_dismissKeeper_15 rfl ?_
    exact tj_iret dX0_dismissKeeper_16
  · refine tj_xin [] ⟨0, 9, 12, 42⟩ [] "java/lang/IndexOutOfBoundsException" cx_java_lang_IndexOutOfBoundsException_37 rfl (by decide) (by decide) q3097 (fun _ h => absurd h List.not_mem_nil) ?_ ?_
    · refine tj_astore_n dX0_dismissKeeper_12 (by decide) (rf_cat _) [some (va_rf v0), some (.int v1), some (va_rf v2), some (va_rf (some q102))] rfl ?_
      refine tj_iconst (1 : Int32) dX0_dismissKeeper_13 rfl ?_
      exact tj_iret dX0_dismissKeeper_14
    exact tj_xfail
theorem ct_X0_dismissKeeper : ∀ (d : Nat) (v0 : Option Nat) (v1 : Int32) (v2 : Option Nat), ct_ yX0_dismissKeeper (wsW_ yX0_dismissKeeper cX0_dismissKeeper 4 (some .int) [(0, 9, 12, 42)]) d em_i [va_rf v0, .int v1, va_rf v2] (fn_X0_dismissKeeper d v0 v1 v2)
  | 0, _, _, _ => ct_fail
  | d + 1, v0, v1, v2 => ct_ofH [(false, va_rf v0), (false, .int v1), (false, va_rf v2)] [some (va_rf v0), some (.int v1), some (va_rf v2), none] (by decide) rfl ⟨rfl, (rf_cat _), ⟨rfl, rfl, ⟨rfl, (rf_cat _), trivial⟩⟩⟩ (fun E X n0 s0 σ => tj_X0_dismissKeeper_B0 d v0 v1 v2 σ)
theorem tj_X1_checkIndex_B0 {E : tj_E} {X : tj_X} {n0 s0 : Nat} (d : Nat) (v0 : Int32) (σ : hp_S) : tj_T E X RX1 "checkIndex" cX1_checkIndex 1 none (d + 1) [] n0 s0 em_v σ 0 [some (.int v0)] [] (fn_X1_checkIndex_B0 d v0) := by
  unfold fn_X1_checkIndex_B0
  refine tj_iload_n dX1_checkIndex_0 rfl ?_
  refine tj_if_ne 12 dX1_checkIndex_1 rfl (fun _ => ?_) (fun _ => ?_)
  · refine tj_mk0 ex_X1_149_3270 (by decide) dX1_checkIndex_4 dX1_checkIndex_7 dX1_checkIndex_8 (fun a101 σ => ?_)
    refine tj_athrow dX1_checkIndex_11 (fun q102 => ?_)
    exact tj_xout (by decide) (by decide)
  · exact tj_vret dX1_checkIndex_12
theorem ct_X1_checkIndex : ∀ (d : Nat) (v0 : Int32), ct_ yX1_checkIndex (ws_ yX1_checkIndex cX1_checkIndex 1 none) d em_v [.int v0] (fn_X1_checkIndex d v0)
  | 0, _ => ct_fail
  | d + 1, v0 => ct_of [(false, .int v0)] [some (.int v0)] (by decide) rfl ⟨rfl, rfl, trivial⟩ (fun E X n0 s0 σ => tj_X1_checkIndex_B0 d v0 σ)
theorem tj_X3_get_B0 {E : tj_E} {X : tj_X} {n0 s0 : Nat} (d : Nat) (v0 : Option Nat) (v1 : Int32) (σ : hp_S) : tj_T E X RX3 "get" cX3_get 2 (some (.object "LionGate$Keeper")) (d + 1) [] n0 s0 em_r σ 0 [some (va_rf v0), some (.int v1)] [] (fn_X3_get_B0 d v0 v1) := by
  unfold fn_X3_get_B0
  refine tj_aload_n dX3_get_0 rfl ?_
  refine tj_getR fl_X3_12r dX3_get_1 (fun v101 => ?_)
  refine tj_iload_n dX3_get_4 rfl ?_
  refine tj_callF (as := [.int v1]) (rest := []) (st' := (fun r => [va_rf r])) (t := 16) (fun a e => by cases e; exact ct_J4_get d _ _) (by decide) rfl q3011 q1324 q1120 q103 q1121 (ev_i 3 rfl) q1326 q1325 q1323 md_i3 rfl (by decide) rfl (by decide) dX3_get_5 (fun _ => rfl) (fun r102 σ => ?_) (by decide)
  refine tj_cast (nm := "LionGate$Keeper") q1772 ca_LionGate_Keeper dX3_get_10 ?_
  exact tj_aret (Or.inl ⟨_, rfl⟩) dX3_get_13
theorem ct_X3_get : ∀ (d : Nat) (v0 : Option Nat) (v1 : Int32), ct_ yX3_get (ws_ yX3_get cX3_get 2 (some (.object "LionGate$Keeper"))) d em_r [va_rf v0, .int v1] (fn_X3_get d v0 v1)
  | 0, _, _ => ct_fail
  | d + 1, v0, v1 => ct_of [(false, va_rf v0), (false, .int v1)] [some (va_rf v0), some (.int v1)] (by decide) rfl ⟨rfl, (rf_cat _), ⟨rfl, rfl, trivial⟩⟩ (fun E X n0 s0 σ => tj_X3_get_B0 d v0 v1 σ)
theorem tj_X1_keeperWith_B0 {E : tj_E} {X : tj_X} {n0 s0 : Nat} (d : Nat) (v0 : Option Nat) (v1 : Int32) (σ : hp_S) : tj_T E X RX1 "keeperWith" cX1_keeperWith 2 (some (.object "LionGate$Keeper")) (d + 1) [] n0 s0 em_r σ 0 [some (va_rf v0), some (.int v1)] [] (fn_X1_keeperWith_B0 d v0 v1) := by
  unfold fn_X1_keeperWith_B0
  refine tj_aload_n dX1_keeperWith_0 rfl ?_
  refine tj_getR fl_X1_66 dX1_keeperWith_1 (fun v101 => ?_)
  refine tj_getR fl_X1_272 dX1_keeperWith_4 (fun v102 => ?_)
  refine tj_iload_n dX1_keeperWith_7 rfl ?_
  refine tj_callV (as := [.int v1]) (rest := []) (st' := (fun r => [.int r])) (t := 3) (fun a e => by cases e; exact ct_X3_has d _ _) (by decide) rfl q3265 q2511 q2512 q100 q2513 rfl md_X3_has rfl (by decide) rfl (by decide) dX1_keeperWith_8 (fun _ => rfl) (fun r103 σ => ?_) (by decide)
  refine tj_callS (as := [.int r103]) (rest := []) (st' := (fun _ => [])) (ct_X1_checkIndex d r103) q3266 q3267 q96 q3268 md_X1_checkIndex rfl (by decide) rfl (by decide) dX1_keeperWith_11 (fun _ => rfl) (fun _ σ => ?_) (by decide)
  refine tj_aload_n dX1_keeperWith_14 rfl ?_
  refine tj_getR fl_X1_66 dX1_keeperWith_15 (fun v104 => ?_)
  refine tj_getR fl_X1_272 dX1_keeperWith_18 (fun v105 => ?_)
  refine tj_iload_n dX1_keeperWith_21 rfl ?_
  refine tj_callV (as := [.int v1]) (rest := []) (st' := (fun r => [va_rf r])) (t := 3) (fun a e => by cases e; exact ct_X3_get d _ _) (by decide) rfl q3271 q3272 q3273 q100 q3274 rfl md_X3_get rfl (by decide) rfl (by decide) dX1_keeperWith_22 (fun _ => rfl) (fun r106 σ => ?_) (by decide)
  exact tj_aret (Or.inl ⟨_, rfl⟩) dX1_keeperWith_25
theorem ct_X1_keeperWith : ∀ (d : Nat) (v0 : Option Nat) (v1 : Int32), ct_ yX1_keeperWith (ws_ yX1_keeperWith cX1_keeperWith 2 (some (.object "LionGate$Keeper"))) d em_r [va_rf v0, .int v1] (fn_X1_keeperWith d v0 v1)
  | 0, _, _ => ct_fail
  | d + 1, v0, v1 => ct_of [(false, va_rf v0), (false, .int v1)] [some (va_rf v0), some (.int v1)] (by decide) rfl ⟨rfl, (rf_cat _), ⟨rfl, rfl, trivial⟩⟩ (fun E X n0 s0 σ => tj_X1_keeperWith_B0 d v0 v1 σ)
theorem tj_X1_endOf_B0 {E : tj_E} {X : tj_X} {n0 s0 : Nat} (d : Nat) (v0 : Option Nat) (v1 : Int32) (σ : hp_S) : tj_T E X RX1 "endOf" cX1_endOf 2 (some .int) (d + 1) [] n0 s0 em_i σ 0 [some (va_rf v0), some (.int v1)] [] (fn_X1_endOf_B0 d v0 v1) := by
  unfold fn_X1_endOf_B0
  refine tj_aload_n dX1_endOf_0 rfl ?_
  refine tj_iload_n dX1_endOf_1 rfl ?_
  refine tj_callV (as := [.int v1]) (rest := []) (st' := (fun r => [va_rf r])) (t := 0) (fun a e => by cases e; exact ct_X1_keeperWith d _ _) (by decide) rfl q3261 q3263 qs46 q96 q3264 rfl md_X1_keeperWith rfl (by decide) rfl (by decide) dX1_endOf_2 (fun _ => rfl) (fun r101 σ => ?_) (by decide)
  refine tj_getI fl_X1_298r dX1_endOf_5 (fun v102 => ?_)
  exact tj_iret dX1_endOf_8
theorem ct_X1_endOf : ∀ (d : Nat) (v0 : Option Nat) (v1 : Int32), ct_ yX1_endOf (ws_ yX1_endOf cX1_endOf 2 (some .int)) d em_i [va_rf v0, .int v1] (fn_X1_endOf d v0 v1)
  | 0, _, _ => ct_fail
  | d + 1, v0, v1 => ct_of [(false, va_rf v0), (false, .int v1)] [some (va_rf v0), some (.int v1)] (by decide) rfl ⟨rfl, (rf_cat _), ⟨rfl, rfl, trivial⟩⟩ (fun E X n0 s0 σ => tj_X1_endOf_B0 d v0 v1 σ)
theorem tj_X0_endOf_B0 {E : tj_E} {X : tj_X} {n0 s0 : Nat} (d : Nat) (v0 : Option Nat) (v1 : Int32) (v2 : Option Nat) (σ : hp_S) : tj_T E X RX0 "endOf" cX0_endOf 4 (some .int) (d + 1) [(0, 9, 12, 42)] n0 s0 em_i σ 0 [some (va_rf v0), some (.int v1), some (va_rf v2), none] [] (fn_X0_endOf_B0 d v0 v1 v2) := by
  unfold fn_X0_endOf_B0
  refine tj_aload_n dX0_endOf_0 rfl ?_
  refine tj_iconst (0 : Int32) dX0_endOf_1 rfl ?_
  refine tj_aload_n dX0_endOf_2 rfl ?_
  refine tj_iload_n dX0_endOf_3 rfl ?_
  refine tj_tryV (as := [.int v1]) (rest := [.int (0 : Int32), va_rf v2]) (st' := (fun r => [.int r, .int (0 : Int32), va_rf v2])) (t := 0) (fun a e => by cases e; exact ct_X1_endOf d _ _) (by decide) rfl q3278 q3279 q3280 q96 q3281 rfl md_X1_endOf rfl (by decide) rfl (by simp [rf_cat, cat_i, cat_l, cat_f, cat_d]) dX0_endOf_4 (fun _ => rfl) (fun r101 σ => ?_) (fun q102 σ => ?_)
  · refine tj_i2l dX0_endOf_7 ?_
    refine tj_last dX0_endOf_8 (fun σ => ?_)
    refine tj_goto 15 dX0_endOf_9 rfl ?_
    refine tj_iconst (0 : Int32) dX0_endOf_15 rfl ?_
    exact tj_iret dX0_endOf_16
  · refine tj_xin [] ⟨0, 9, 12, 42⟩ [] "java/lang/IndexOutOfBoundsException" cx_java_lang_IndexOutOfBoundsException_37 rfl (by decide) (by decide) q3097 (fun _ h => absurd h List.not_mem_nil) ?_ ?_
    · refine tj_astore_n dX0_endOf_12 (by decide) (rf_cat _) [some (va_rf v0), some (.int v1), some (va_rf v2), some (va_rf (some q102))] rfl ?_
      refine tj_iconst (1 : Int32) dX0_endOf_13 rfl ?_
      exact tj_iret dX0_endOf_14
    exact tj_xfail
theorem ct_X0_endOf : ∀ (d : Nat) (v0 : Option Nat) (v1 : Int32) (v2 : Option Nat), ct_ yX0_endOf (wsW_ yX0_endOf cX0_endOf 4 (some .int) [(0, 9, 12, 42)]) d em_i [va_rf v0, .int v1, va_rf v2] (fn_X0_endOf d v0 v1 v2)
  | 0, _, _, _ => ct_fail
  | d + 1, v0, v1, v2 => ct_ofH [(false, va_rf v0), (false, .int v1), (false, va_rf v2)] [some (va_rf v0), some (.int v1), some (va_rf v2), none] (by decide) rfl ⟨rfl, (rf_cat _), ⟨rfl, rfl, ⟨rfl, (rf_cat _), trivial⟩⟩⟩ (fun E X n0 s0 σ => tj_X0_endOf_B0 d v0 v1 v2 σ)
theorem tj_X1_found_J10 {E : tj_E} {X : tj_X} {n0 s0 : Nat} (d : Nat) (l0 : Int32) (p0 : Int32) (σ : hp_S) : tj_T E X RX1 "found" cX1_found 1 (some .int) (d + 1) [] n0 s0 em_i σ 10 [some (.int l0)] [.int p0] (fn_X1_found_J10 d l0 p0) := by
  unfold fn_X1_found_J10
  refine tj_callS (as := [.int p0]) (rest := []) (st' := (fun _ => [])) (ct_X1_checkElement d p0) q3134 q3135 q96 q3136 md_X1_checkElement rfl (by decide) rfl (by decide) dX1_found_10 (fun _ => rfl) (fun _ σ => ?_) (by decide)
  refine tj_iload_n dX1_found_13 rfl ?_
  exact tj_iret dX1_found_14
theorem tj_X1_found_B0 {E : tj_E} {X : tj_X} {n0 s0 : Nat} (d : Nat) (v0 : Int32) (σ : hp_S) : tj_T E X RX1 "found" cX1_found 1 (some .int) (d + 1) [] n0 s0 em_i σ 0 [some (.int v0)] [] (fn_X1_found_B0 d v0) := by
  unfold fn_X1_found_B0
  refine tj_iload_n dX1_found_0 rfl ?_
  refine tj_iconst (-1 : Int32) dX1_found_1 rfl ?_
  refine tj_icmp_eq 9 dX1_found_2 rfl (fun _ => ?_) (fun _ => ?_)
  · refine tj_iconst (0 : Int32) dX1_found_9 rfl ?_
    exact tj_X1_found_J10 d v0 (0 : Int32) _
  · refine tj_iconst (1 : Int32) dX1_found_5 rfl ?_
    refine tj_goto 10 dX1_found_6 rfl ?_
    exact tj_X1_found_J10 d v0 (1 : Int32) _
theorem ct_X1_found : ∀ (d : Nat) (v0 : Int32), ct_ yX1_found (ws_ yX1_found cX1_found 1 (some .int)) d em_i [.int v0] (fn_X1_found d v0)
  | 0, _ => ct_fail
  | d + 1, v0 => ct_of [(false, .int v0)] [some (.int v0)] (by decide) rfl ⟨rfl, rfl, trivial⟩ (fun E X n0 s0 σ => tj_X1_found_B0 d v0 σ)
theorem tj_X1_errorPosition_B0 {E : tj_E} {X : tj_X} {n0 s0 : Nat} (d : Nat) (v0 : Option Nat) (σ : hp_S) : tj_T E X RX1 "errorPosition" cX1_errorPosition 1 (some .int) (d + 1) [] n0 s0 em_i σ 0 [some (va_rf v0)] [] (fn_X1_errorPosition_B0 d v0) := by
  unfold fn_X1_errorPosition_B0
  refine tj_aload_n dX1_errorPosition_0 rfl ?_
  refine tj_getI fl_X1_86 dX1_errorPosition_1 (fun v101 => ?_)
  refine tj_callS (as := [.int v101]) (rest := []) (st' := (fun r => [.int r])) (ct_X1_found d v101) q3212 q3213 q96 q3214 md_X1_found rfl (by decide) rfl (by decide) dX1_errorPosition_4 (fun _ => rfl) (fun r102 σ => ?_) (by decide)
  exact tj_iret dX1_errorPosition_7
theorem ct_X1_errorPosition : ∀ (d : Nat) (v0 : Option Nat), ct_ yX1_errorPosition (ws_ yX1_errorPosition cX1_errorPosition 1 (some .int)) d em_i [va_rf v0] (fn_X1_errorPosition d v0)
  | 0, _ => ct_fail
  | d + 1, v0 => ct_of [(false, va_rf v0)] [some (va_rf v0)] (by decide) rfl ⟨rfl, (rf_cat _), trivial⟩ (fun E X n0 s0 σ => tj_X1_errorPosition_B0 d v0 σ)
theorem tj_X0_errorPosition_B0 {E : tj_E} {X : tj_X} {n0 s0 : Nat} (d : Nat) (v0 : Option Nat) (v1 : Option Nat) (σ : hp_S) : tj_T E X RX0 "errorPosition" cX0_errorPosition 3 (some .int) (d + 1) [(0, 8, 11, 21)] n0 s0 em_i σ 0 [some (va_rf v0), some (va_rf v1), none] [] (fn_X0_errorPosition_B0 d v0 v1) := by
  unfold fn_X0_errorPosition_B0
  refine tj_aload_n dX0_errorPosition_0 rfl ?_
  refine tj_iconst (0 : Int32) dX0_errorPosition_1 rfl ?_
  refine tj_aload_n dX0_errorPosition_2 rfl ?_
  refine tj_tryV (as := []) (rest := [.int (0 : Int32), va_rf v1]) (st' := (fun r => [.int r, .int (0 : Int32), va_rf v1])) (t := 0) (fun a e => by cases e; exact ct_X1_errorPosition d _) (by decide) rfl q3823 q3824 q3825 q96 q3826 rfl md_X1_errorPosition rfl (by decide) rfl (by simp [rf_cat, cat_i, cat_l, cat_f, cat_d]) dX0_errorPosition_3 (fun _ => rfl) (fun r101 σ => ?_) (fun q102 σ => ?_)
  · refine tj_i2l dX0_errorPosition_6 ?_
    refine tj_last dX0_errorPosition_7 (fun σ => ?_)
    refine tj_goto 14 dX0_errorPosition_8 rfl ?_
    refine tj_iconst (0 : Int32) dX0_errorPosition_14 rfl ?_
    exact tj_iret dX0_errorPosition_15
  · refine tj_xin [] ⟨0, 8, 11, 21⟩ [] "java/util/NoSuchElementException" cx_java_util_NoSuchElementException_34 rfl (by decide) (by decide) q3055 (fun _ h => absurd h List.not_mem_nil) ?_ ?_
    · refine tj_astore_n dX0_errorPosition_11 (by decide) (rf_cat _) [some (va_rf v0), some (va_rf v1), some (va_rf (some q102))] rfl ?_
      refine tj_iconst (1 : Int32) dX0_errorPosition_12 rfl ?_
      exact tj_iret dX0_errorPosition_13
    exact tj_xfail
theorem ct_X0_errorPosition : ∀ (d : Nat) (v0 : Option Nat) (v1 : Option Nat), ct_ yX0_errorPosition (wsW_ yX0_errorPosition cX0_errorPosition 3 (some .int) [(0, 8, 11, 21)]) d em_i [va_rf v0, va_rf v1] (fn_X0_errorPosition d v0 v1)
  | 0, _, _ => ct_fail
  | d + 1, v0, v1 => ct_ofH [(false, va_rf v0), (false, va_rf v1)] [some (va_rf v0), some (va_rf v1), none] (by decide) rfl ⟨rfl, (rf_cat _), ⟨rfl, (rf_cat _), trivial⟩⟩ (fun E X n0 s0 σ => tj_X0_errorPosition_B0 d v0 v1 σ)
theorem tj_X1_failedCommand_B0 {E : tj_E} {X : tj_X} {n0 s0 : Nat} (d : Nat) (v0 : Option Nat) (σ : hp_S) : tj_T E X RX1 "failedCommand" cX1_failedCommand 1 (some .int) (d + 1) [] n0 s0 em_i σ 0 [some (va_rf v0)] [] (fn_X1_failedCommand_B0 d v0) := by
  unfold fn_X1_failedCommand_B0
  refine tj_aload_n dX1_failedCommand_0 rfl ?_
  refine tj_getI fl_X1_90 dX1_failedCommand_1 (fun v101 => ?_)
  refine tj_callS (as := [.int v101]) (rest := []) (st' := (fun r => [.int r])) (ct_X1_found d v101) q3212 q3213 q96 q3214 md_X1_found rfl (by decide) rfl (by decide) dX1_failedCommand_4 (fun _ => rfl) (fun r102 σ => ?_) (by decide)
  exact tj_iret dX1_failedCommand_7
theorem ct_X1_failedCommand : ∀ (d : Nat) (v0 : Option Nat), ct_ yX1_failedCommand (ws_ yX1_failedCommand cX1_failedCommand 1 (some .int)) d em_i [va_rf v0] (fn_X1_failedCommand d v0)
  | 0, _ => ct_fail
  | d + 1, v0 => ct_of [(false, va_rf v0)] [some (va_rf v0)] (by decide) rfl ⟨rfl, (rf_cat _), trivial⟩ (fun E X n0 s0 σ => tj_X1_failedCommand_B0 d v0 σ)
theorem tj_X0_failedCommand_B0 {E : tj_E} {X : tj_X} {n0 s0 : Nat} (d : Nat) (v0 : Option Nat) (v1 : Option Nat) (σ : hp_S) : tj_T E X RX0 "failedCommand" cX0_failedCommand 3 (some .int) (d + 1) [(0, 8, 11, 21)] n0 s0 em_i σ 0 [some (va_rf v0), some (va_rf v1), none] [] (fn_X0_failedCommand_B0 d v0 v1) := by
  unfold fn_X0_failedCommand_B0
  refine tj_aload_n dX0_failedCommand_0 rfl ?_
  refine tj_iconst (0 : Int32) dX0_failedCommand_1 rfl ?_
  refine tj_aload_n dX0_failedCommand_2 rfl ?_
  refine tj_tryV (as := []) (rest := [.int (0 : Int32), va_rf v1]) (st' := (fun r => [.int r, .int (0 : Int32), va_rf v1])) (t := 0) (fun a e => by cases e; exact ct_X1_failedCommand d _) (by decide) rfl q3830 q3831 q3832 q96 q3833 rfl md_X1_failedCommand rfl (by decide) rfl (by simp [rf_cat, cat_i, cat_l, cat_f, cat_d]) dX0_failedCommand_3 (fun _ => rfl) (fun r101 σ => ?_) (fun q102 σ => ?_)
  · refine tj_i2l dX0_failedCommand_6 ?_
    refine tj_last dX0_failedCommand_7 (fun σ => ?_)
    refine tj_goto 14 dX0_failedCommand_8 rfl ?_
    refine tj_iconst (0 : Int32) dX0_failedCommand_14 rfl ?_
    exact tj_iret dX0_failedCommand_15
  · refine tj_xin [] ⟨0, 8, 11, 21⟩ [] "java/util/NoSuchElementException" cx_java_util_NoSuchElementException_34 rfl (by decide) (by decide) q3055 (fun _ h => absurd h List.not_mem_nil) ?_ ?_
    · refine tj_astore_n dX0_failedCommand_11 (by decide) (rf_cat _) [some (va_rf v0), some (va_rf v1), some (va_rf (some q102))] rfl ?_
      refine tj_iconst (1 : Int32) dX0_failedCommand_12 rfl ?_
      exact tj_iret dX0_failedCommand_13
    exact tj_xfail
theorem ct_X0_failedCommand : ∀ (d : Nat) (v0 : Option Nat) (v1 : Option Nat), ct_ yX0_failedCommand (wsW_ yX0_failedCommand cX0_failedCommand 3 (some .int) [(0, 8, 11, 21)]) d em_i [va_rf v0, va_rf v1] (fn_X0_failedCommand d v0 v1)
  | 0, _, _ => ct_fail
  | d + 1, v0, v1 => ct_ofH [(false, va_rf v0), (false, va_rf v1)] [some (va_rf v0), some (va_rf v1), none] (by decide) rfl ⟨rfl, (rf_cat _), ⟨rfl, (rf_cat _), trivial⟩⟩ (fun E X n0 s0 σ => tj_X0_failedCommand_B0 d v0 v1 σ)
theorem tj_X1_failureKind_B0 {E : tj_E} {X : tj_X} {n0 s0 : Nat} (d : Nat) (v0 : Option Nat) (σ : hp_S) : tj_T E X RX1 "failureKind" cX1_failureKind 1 (some .char) (d + 1) [] n0 s0 em_i σ 0 [some (va_rf v0)] [] (fn_X1_failureKind_B0 d v0) := by
  unfold fn_X1_failureKind_B0
  refine tj_aload_n dX1_failureKind_0 rfl ?_
  refine tj_getI fl_X1_90 dX1_failureKind_1 (fun v101 => ?_)
  refine tj_callS (as := [.int v101]) (rest := []) (st' := (fun r => [.int r])) (ct_X1_found d v101) q3212 q3213 q96 q3214 md_X1_found rfl (by decide) rfl (by decide) dX1_failureKind_4 (fun _ => rfl) (fun r102 σ => ?_) (by decide)
  refine tj_pop dX1_failureKind_7 rfl ?_
  refine tj_aload_n dX1_failureKind_8 rfl ?_
  refine tj_getI fl_X1_403 dX1_failureKind_9 (fun v103 => ?_)
  exact tj_zret dX1_failureKind_12
theorem ct_X1_failureKind : ∀ (d : Nat) (v0 : Option Nat), ct_ yX1_failureKind (ws_ yX1_failureKind cX1_failureKind 1 (some .char)) d em_i [va_rf v0] (fn_X1_failureKind d v0)
  | 0, _ => ct_fail
  | d + 1, v0 => ct_of [(false, va_rf v0)] [some (va_rf v0)] (by decide) rfl ⟨rfl, (rf_cat _), trivial⟩ (fun E X n0 s0 σ => tj_X1_failureKind_B0 d v0 σ)
theorem tj_X0_failureKind_B0 {E : tj_E} {X : tj_X} {n0 s0 : Nat} (d : Nat) (v0 : Option Nat) (v1 : Option Nat) (σ : hp_S) : tj_T E X RX0 "failureKind" cX0_failureKind 3 (some .int) (d + 1) [(0, 8, 11, 21)] n0 s0 em_i σ 0 [some (va_rf v0), some (va_rf v1), none] [] (fn_X0_failureKind_B0 d v0 v1) := by
  unfold fn_X0_failureKind_B0
  refine tj_aload_n dX0_failureKind_0 rfl ?_
  refine tj_iconst (0 : Int32) dX0_failureKind_1 rfl ?_
  refine tj_aload_n dX0_failureKind_2 rfl ?_
  refine tj_tryV (as := []) (rest := [.int (0 : Int32), va_rf v1]) (st' := (fun r => [.int r, .int (0 : Int32), va_rf v1])) (t := 0) (fun a e => by cases e; exact ct_X1_failureKind d _) (by decide) rfl q3837 q3838 q3839 q96 q3840 rfl md_X1_failureKind rfl (by decide) rfl (by simp [rf_cat, cat_i, cat_l, cat_f, cat_d]) dX0_failureKind_3 (fun _ => rfl) (fun r101 σ => ?_) (fun q102 σ => ?_)
  · refine tj_i2l dX0_failureKind_6 ?_
    refine tj_last dX0_failureKind_7 (fun σ => ?_)
    refine tj_goto 14 dX0_failureKind_8 rfl ?_
    refine tj_iconst (0 : Int32) dX0_failureKind_14 rfl ?_
    exact tj_iret dX0_failureKind_15
  · refine tj_xin [] ⟨0, 8, 11, 21⟩ [] "java/util/NoSuchElementException" cx_java_util_NoSuchElementException_34 rfl (by decide) (by decide) q3055 (fun _ h => absurd h List.not_mem_nil) ?_ ?_
    · refine tj_astore_n dX0_failureKind_11 (by decide) (rf_cat _) [some (va_rf v0), some (va_rf v1), some (va_rf (some q102))] rfl ?_
      refine tj_iconst (1 : Int32) dX0_failureKind_12 rfl ?_
      exact tj_iret dX0_failureKind_13
    exact tj_xfail
theorem ct_X0_failureKind : ∀ (d : Nat) (v0 : Option Nat) (v1 : Option Nat), ct_ yX0_failureKind (wsW_ yX0_failureKind cX0_failureKind 3 (some .int) [(0, 8, 11, 21)]) d em_i [va_rf v0, va_rf v1] (fn_X0_failureKind d v0 v1)
  | 0, _, _ => ct_fail
  | d + 1, v0, v1 => ct_ofH [(false, va_rf v0), (false, va_rf v1)] [some (va_rf v0), some (va_rf v1), none] (by decide) rfl ⟨rfl, (rf_cat _), ⟨rfl, (rf_cat _), trivial⟩⟩ (fun E X n0 s0 σ => tj_X0_failureKind_B0 d v0 v1 σ)
theorem tj_X1_checkSupport_B0 {E : tj_E} {X : tj_X} {n0 s0 : Nat} (d : Nat) (v0 : Int32) (σ : hp_S) : tj_T E X RX1 "checkSupport" cX1_checkSupport 1 none (d + 1) [] n0 s0 em_v σ 0 [some (.int v0)] [] (fn_X1_checkSupport_B0 d v0) := by
  unfold fn_X1_checkSupport_B0
  refine tj_iload_n dX1_checkSupport_0 rfl ?_
  refine tj_if_ne 12 dX1_checkSupport_1 rfl (fun _ => ?_) (fun _ => ?_)
  · refine tj_mk0 ex_X1_161_3319 (by decide) dX1_checkSupport_4 dX1_checkSupport_7 dX1_checkSupport_8 (fun a101 σ => ?_)
    refine tj_athrow dX1_checkSupport_11 (fun q102 => ?_)
    exact tj_xout (by decide) (by decide)
  · exact tj_vret dX1_checkSupport_12
theorem ct_X1_checkSupport : ∀ (d : Nat) (v0 : Int32), ct_ yX1_checkSupport (ws_ yX1_checkSupport cX1_checkSupport 1 none) d em_v [.int v0] (fn_X1_checkSupport d v0)
  | 0, _ => ct_fail
  | d + 1, v0 => ct_of [(false, .int v0)] [some (.int v0)] (by decide) rfl ⟨rfl, rfl, trivial⟩ (fun E X n0 s0 σ => tj_X1_checkSupport_B0 d v0 σ)
theorem tj_X1_checkArgument_B0 {E : tj_E} {X : tj_X} {n0 s0 : Nat} (d : Nat) (v0 : Int32) (σ : hp_S) : tj_T E X RX1 "checkArgument" cX1_checkArgument 1 none (d + 1) [] n0 s0 em_v σ 0 [some (.int v0)] [] (fn_X1_checkArgument_B0 d v0) := by
  unfold fn_X1_checkArgument_B0
  refine tj_iload_n dX1_checkArgument_0 rfl ?_
  refine tj_if_ne 12 dX1_checkArgument_1 rfl (fun _ => ?_) (fun _ => ?_)
  · refine tj_mk0 ex_X1_152_3293 (by decide) dX1_checkArgument_4 dX1_checkArgument_7 dX1_checkArgument_8 (fun a101 σ => ?_)
    refine tj_athrow dX1_checkArgument_11 (fun q102 => ?_)
    exact tj_xout (by decide) (by decide)
  · exact tj_vret dX1_checkArgument_12
theorem ct_X1_checkArgument : ∀ (d : Nat) (v0 : Int32), ct_ yX1_checkArgument (ws_ yX1_checkArgument cX1_checkArgument 1 none) d em_v [.int v0] (fn_X1_checkArgument d v0)
  | 0, _ => ct_fail
  | d + 1, v0 => ct_of [(false, .int v0)] [some (.int v0)] (by decide) rfl ⟨rfl, rfl, trivial⟩ (fun E X n0 s0 σ => tj_X1_checkArgument_B0 d v0 σ)
theorem tj_X3_isCovered_J36 {E : tj_E} {X : tj_X} {n0 s0 : Nat} (d : Nat) {b11 : Int32 → Option Nat → Int32 → Int32 → mx_M Int32} (h11 : ∀ (l2 : Int32) (l3 : Option Nat) (l4 : Int32) (l5 : Int32) (σ : hp_S), tj_T E X RX3 "isCovered" cX3_isCovered 6 (some .boolean) (d + 1) [] n0 s0 em_i σ 11 [none, none, some (.int l2), some (va_rf l3), some (.int l4), some (.int l5)] [] (b11 l2 l3 l4 l5)) (l2 : Int32) (l3 : Option Nat) (l5 : Int32) (p0 : Int32) (σ : hp_S) : tj_T E X RX3 "isCovered" cX3_isCovered 6 (some .boolean) (d + 1) [] n0 s0 em_i σ 36 [none, none, some (.int l2), some (va_rf l3), none, some (.int l5)] [.int p0] (fn_X3_isCovered_J36 d b11 l2 l3 l5 p0) := by
  unfold fn_X3_isCovered_J36
  refine tj_istore dX3_isCovered_36 (by decide) (rf_cat _) [none, none, some (.int l2), some (va_rf l3), some (.int p0), some (.int l5)] rfl ?_
  refine tj_iinc (1 : Int32) dX3_isCovered_38 rfl rfl (by decide) rfl [none, none, some (.int l2), some (va_rf l3), some (.int p0), some (.int (l5 + (1 : Int32)))] rfl ?_
  refine tj_goto 11 dX3_isCovered_41 rfl ?_
  exact h11 l2 l3 p0 _ _
theorem tj_X3_isCovered_J35 {E : tj_E} {X : tj_X} {n0 s0 : Nat} (d : Nat) {b11 : Int32 → Option Nat → Int32 → Int32 → mx_M Int32} (h11 : ∀ (l2 : Int32) (l3 : Option Nat) (l4 : Int32) (l5 : Int32) (σ : hp_S), tj_T E X RX3 "isCovered" cX3_isCovered 6 (some .boolean) (d + 1) [] n0 s0 em_i σ 11 [none, none, some (.int l2), some (va_rf l3), some (.int l4), some (.int l5)] [] (b11 l2 l3 l4 l5)) (l2 : Int32) (l3 : Option Nat) (l5 : Int32) (σ : hp_S) : tj_T E X RX3 "isCovered" cX3_isCovered 6 (some .boolean) (d + 1) [] n0 s0 em_i σ 35 [none, none, some (.int l2), some (va_rf l3), none, some (.int l5)] [] (fn_X3_isCovered_J35 d b11 l2 l3 l5) := by
  unfold fn_X3_isCovered_J35
  refine tj_iconst (0 : Int32) dX3_isCovered_35 rfl ?_
  exact tj_X3_isCovered_J36 d h11 l2 l3 l5 (0 : Int32) _
theorem tj_X3_isCovered_L11_b {E : tj_E} {X : tj_X} {n0 s0 : Nat} (d : Nat) {b11 : Int32 → Option Nat → Int32 → Int32 → mx_M Int32} (h11 : ∀ (l2 : Int32) (l3 : Option Nat) (l4 : Int32) (l5 : Int32) (σ : hp_S), tj_T E X RX3 "isCovered" cX3_isCovered 6 (some .boolean) (d + 1) [] n0 s0 em_i σ 11 [none, none, some (.int l2), some (va_rf l3), some (.int l4), some (.int l5)] [] (b11 l2 l3 l4 l5)) (l2 : Int32) (l3 : Option Nat) (l4 : Int32) (l5 : Int32) (σ : hp_S) : tj_T E X RX3 "isCovered" cX3_isCovered 6 (some .boolean) (d + 1) [] n0 s0 em_i σ 11 [none, none, some (.int l2), some (va_rf l3), some (.int l4), some (.int l5)] [] (fn_X3_isCovered_L11_b d b11 l2 l3 l4 l5) := by
  unfold fn_X3_isCovered_L11_b
  refine tj_iload dX3_isCovered_11 rfl ?_
  refine tj_iload_n dX3_isCovered_13 rfl ?_
  refine tj_icmp_ge 44 dX3_isCovered_14 rfl (fun _ => ?_) (fun _ => ?_)
  · refine tj_iload dX3_isCovered_44 rfl ?_
    exact tj_zret dX3_isCovered_46
  · refine tj_iload dX3_isCovered_17 rfl ?_
    refine tj_if_eq 35 dX3_isCovered_19 rfl (fun _ => ?_) (fun _ => ?_)
    · refine tj_wk (L' := [none, none, some (.int l2), some (va_rf l3), none, some (.int l5)]) ⟨rfl, rfl, rfl, trivial⟩ ?_
      exact tj_X3_isCovered_J35 d h11 l2 l3 l5 _
    · refine tj_aload_n dX3_isCovered_22 rfl ?_
      refine tj_iload dX3_isCovered_23 rfl ?_
      refine tj_callV (as := [.int l5]) (rest := []) (st' := (fun r => [.int r])) (t := 28) (fun a e => by cases e; exact ct_J52_get d _ _) (by decide) rfl q2987 q2988 q2989 q166 q2990 rfl md_J52_get rfl (by decide) rfl (by decide) dX3_isCovered_25 (fun _ => rfl) (fun r101 σ => ?_) (by decide)
      refine tj_if_eq 35 dX3_isCovered_28 rfl (fun _ => ?_) (fun _ => ?_)
      · refine tj_wk (L' := [none, none, some (.int l2), some (va_rf l3), none, some (.int l5)]) ⟨rfl, rfl, rfl, trivial⟩ ?_
        exact tj_X3_isCovered_J35 d h11 l2 l3 l5 _
      · refine tj_iconst (1 : Int32) dX3_isCovered_31 rfl ?_
        refine tj_goto 36 dX3_isCovered_32 rfl ?_
        refine tj_wk (L' := [none, none, some (.int l2), some (va_rf l3), none, some (.int l5)]) ⟨rfl, rfl, rfl, trivial⟩ ?_
        exact tj_X3_isCovered_J36 d h11 l2 l3 l5 (1 : Int32) _
theorem tj_X3_isCovered_L11 {E : tj_E} {X : tj_X} {n0 s0 : Nat} (d : Nat) : ∀ (k : Nat) (l2 : Int32) (l3 : Option Nat) (l4 : Int32) (l5 : Int32) (σ : hp_S), tj_T E X RX3 "isCovered" cX3_isCovered 6 (some .boolean) (d + 1) [] n0 s0 em_i σ 11 [none, none, some (.int l2), some (va_rf l3), some (.int l4), some (.int l5)] [] (fn_X3_isCovered_L11 d k l2 l3 l4 l5) := by
  intro k
  induction k with
  | zero =>
    intro l2 l3 l4 l5 σ
    exact tj_fail
  | succ k ih =>
    intro l2 l3 l4 l5 σ
    exact tj_X3_isCovered_L11_b d ih l2 l3 l4 l5 σ
theorem tj_X3_isCovered_B0 {E : tj_E} {X : tj_X} {n0 s0 : Nat} (d : Nat) (v0 : Option Nat) (v1 : Int32) (v2 : Int32) (σ : hp_S) : tj_T E X RX3 "isCovered" cX3_isCovered 6 (some .boolean) (d + 1) [] n0 s0 em_i σ 0 [some (va_rf v0), some (.int v1), some (.int v2), none, none, none] [] (fn_X3_isCovered_B0 d v0 v1 v2) := by
  unfold fn_X3_isCovered_B0
  refine tj_aload_n dX3_isCovered_0 rfl ?_
  refine tj_callV (as := []) (rest := []) (st' := (fun r => [va_rf r])) (t := 3) (fun a e => by cases e; exact ct_X3_hours d _) (by decide) rfl q2924 q2926 qs36 q100 q2927 rfl md_X3_hours rfl (by decide) rfl (by decide) dX3_isCovered_1 (fun _ => rfl) (fun r101 σ => ?_) (by decide)
  refine tj_astore_n dX3_isCovered_4 (by decide) rfl [some (va_rf v0), some (.int v1), some (.int v2), some (va_rf r101), none, none] rfl ?_
  refine tj_iconst (1 : Int32) dX3_isCovered_5 rfl ?_
  refine tj_istore dX3_isCovered_6 (by decide) (rf_cat _) [some (va_rf v0), some (.int v1), some (.int v2), some (va_rf r101), some (.int (1 : Int32)), none] rfl ?_
  refine tj_iload_n dX3_isCovered_8 rfl ?_
  refine tj_istore dX3_isCovered_9 (by decide) rfl [some (va_rf v0), some (.int v1), some (.int v2), some (va_rf r101), some (.int (1 : Int32)), some (.int v1)] rfl ?_
  refine tj_wk (L' := [none, none, some (.int v2), some (va_rf r101), some (.int (1 : Int32)), some (.int v1)]) ⟨rfl, rfl, rfl, rfl, trivial⟩ ?_
  exact tj_X3_isCovered_L11 d mx_K v2 r101 (1 : Int32) v1 _
theorem ct_X3_isCovered : ∀ (d : Nat) (v0 : Option Nat) (v1 : Int32) (v2 : Int32), ct_ yX3_isCovered (ws_ yX3_isCovered cX3_isCovered 6 (some .boolean)) d em_i [va_rf v0, .int v1, .int v2] (fn_X3_isCovered d v0 v1 v2)
  | 0, _, _, _ => ct_fail
  | d + 1, v0, v1, v2 => ct_of [(false, va_rf v0), (false, .int v1), (false, .int v2)] [some (va_rf v0), some (.int v1), some (.int v2), none, none, none] (by decide) rfl ⟨rfl, (rf_cat _), ⟨rfl, rfl, ⟨rfl, rfl, trivial⟩⟩⟩ (fun E X n0 s0 σ => tj_X3_isCovered_B0 d v0 v1 v2 σ)
theorem tj_X1_isCovered_B0 {E : tj_E} {X : tj_X} {n0 s0 : Nat} (d : Nat) (v0 : Option Nat) (v1 : Int32) (v2 : Int32) (σ : hp_S) : tj_T E X RX1 "isCovered" cX1_isCovered 3 (some .boolean) (d + 1) [] n0 s0 em_i σ 0 [some (va_rf v0), some (.int v1), some (.int v2)] [] (fn_X1_isCovered_B0 d v0 v1 v2) := by
  unfold fn_X1_isCovered_B0
  refine tj_iload_n dX1_isCovered_0 rfl ?_
  refine tj_iload_n dX1_isCovered_1 rfl ?_
  refine tj_callSN (as := [.int v1, .int v2]) (rest := []) (st' := (fun r => [.int r])) (ct_X2_areHours d v1 v2) q3302 q2479 q97 q2480 md_X2_areHours rfl (by decide) rfl (by decide) dX1_isCovered_2 (fun _ => rfl) (fun r101 σ => ?_) (by decide)
  refine tj_callS (as := [.int r101]) (rest := []) (st' := (fun _ => [])) (ct_X1_checkArgument d r101) q3289 q3290 q96 q3291 md_X1_checkArgument rfl (by decide) rfl (by decide) dX1_isCovered_5 (fun _ => rfl) (fun _ σ => ?_) (by decide)
  refine tj_aload_n dX1_isCovered_8 rfl ?_
  refine tj_getR fl_X1_66 dX1_isCovered_9 (fun v102 => ?_)
  refine tj_getR fl_X1_272 dX1_isCovered_12 (fun v103 => ?_)
  refine tj_iload_n dX1_isCovered_15 rfl ?_
  refine tj_iload_n dX1_isCovered_16 rfl ?_
  refine tj_callV (as := [.int v1, .int v2]) (rest := []) (st' := (fun r => [.int r])) (t := 3) (fun a e => by cases e; exact ct_X3_isCovered d _ _ _) (by decide) rfl q3303 q3304 q3305 q100 q3306 rfl md_X3_isCovered rfl (by decide) rfl (by decide) dX1_isCovered_17 (fun _ => rfl) (fun r104 σ => ?_) (by decide)
  exact tj_zret dX1_isCovered_20
theorem ct_X1_isCovered : ∀ (d : Nat) (v0 : Option Nat) (v1 : Int32) (v2 : Int32), ct_ yX1_isCovered (ws_ yX1_isCovered cX1_isCovered 3 (some .boolean)) d em_i [va_rf v0, .int v1, .int v2] (fn_X1_isCovered d v0 v1 v2)
  | 0, _, _, _ => ct_fail
  | d + 1, v0, v1, v2 => ct_of [(false, va_rf v0), (false, .int v1), (false, .int v2)] [some (va_rf v0), some (.int v1), some (.int v2)] (by decide) rfl ⟨rfl, (rf_cat _), ⟨rfl, rfl, ⟨rfl, rfl, trivial⟩⟩⟩ (fun E X n0 s0 σ => tj_X1_isCovered_B0 d v0 v1 v2 σ)
theorem tj_X1_fewestKeepers_B0 {E : tj_E} {X : tj_X} {n0 s0 : Nat} (d : Nat) (v0 : Option Nat) (v1 : Int32) (v2 : Int32) (σ : hp_S) : tj_T E X RX1 "fewestKeepers" cX1_fewestKeepers 3 (some .int) (d + 1) [] n0 s0 em_i σ 0 [some (va_rf v0), some (.int v1), some (.int v2)] [] (fn_X1_fewestKeepers_B0 d v0 v1 v2) := by
  unfold fn_X1_fewestKeepers_B0
  refine tj_aload_n dX1_fewestKeepers_0 rfl ?_
  refine tj_iload_n dX1_fewestKeepers_1 rfl ?_
  refine tj_iload_n dX1_fewestKeepers_2 rfl ?_
  refine tj_callV (as := [.int v1, .int v2]) (rest := []) (st' := (fun r => [.int r])) (t := 0) (fun a e => by cases e; exact ct_X1_isCovered d _ _ _) (by decide) rfl q3314 q3299 q3300 q96 q3301 rfl md_X1_isCovered rfl (by decide) rfl (by decide) dX1_fewestKeepers_3 (fun _ => rfl) (fun r101 σ => ?_) (by decide)
  refine tj_callS (as := [.int r101]) (rest := []) (st' := (fun _ => [])) (ct_X1_checkSupport d r101) q3315 q3316 q96 q3317 md_X1_checkSupport rfl (by decide) rfl (by decide) dX1_fewestKeepers_6 (fun _ => rfl) (fun _ σ => ?_) (by decide)
  refine tj_aload_n dX1_fewestKeepers_9 rfl ?_
  refine tj_getR fl_X1_66 dX1_fewestKeepers_10 (fun v102 => ?_)
  refine tj_getR fl_X1_272 dX1_fewestKeepers_13 (fun v103 => ?_)
  refine tj_iload_n dX1_fewestKeepers_16 rfl ?_
  refine tj_iload_n dX1_fewestKeepers_17 rfl ?_
  refine tj_callV (as := [.int v1, .int v2]) (rest := []) (st' := (fun r => [.int r])) (t := 3) (fun a e => by cases e; exact ct_X3_fewest d _ _ _) (by decide) rfl q3320 q2992 q2993 q100 q2994 rfl md_X3_fewest rfl (by decide) rfl (by decide) dX1_fewestKeepers_18 (fun _ => rfl) (fun r104 σ => ?_) (by decide)
  exact tj_iret dX1_fewestKeepers_21
theorem ct_X1_fewestKeepers : ∀ (d : Nat) (v0 : Option Nat) (v1 : Int32) (v2 : Int32), ct_ yX1_fewestKeepers (ws_ yX1_fewestKeepers cX1_fewestKeepers 3 (some .int)) d em_i [va_rf v0, .int v1, .int v2] (fn_X1_fewestKeepers d v0 v1 v2)
  | 0, _, _, _ => ct_fail
  | d + 1, v0, v1, v2 => ct_of [(false, va_rf v0), (false, .int v1), (false, .int v2)] [some (va_rf v0), some (.int v1), some (.int v2)] (by decide) rfl ⟨rfl, (rf_cat _), ⟨rfl, rfl, ⟨rfl, rfl, trivial⟩⟩⟩ (fun E X n0 s0 σ => tj_X1_fewestKeepers_B0 d v0 v1 v2 σ)
theorem tj_X0_fewestKeepers_B0 {E : tj_E} {X : tj_X} {n0 s0 : Nat} (d : Nat) (v0 : Option Nat) (v1 : Int32) (v2 : Int32) (v3 : Option Nat) (σ : hp_S) : tj_T E X RX0 "fewestKeepers" cX0_fewestKeepers 5 (some .int) (d + 1) [(0, 10, 13, 13), (0, 10, 17, 34)] n0 s0 em_i σ 0 [some (va_rf v0), some (.int v1), some (.int v2), some (va_rf v3), none] [] (fn_X0_fewestKeepers_B0 d v0 v1 v2 v3) := by
  unfold fn_X0_fewestKeepers_B0
  refine tj_aload_n dX0_fewestKeepers_0 rfl ?_
  refine tj_iconst (0 : Int32) dX0_fewestKeepers_1 rfl ?_
  refine tj_aload_n dX0_fewestKeepers_2 rfl ?_
  refine tj_iload_n dX0_fewestKeepers_3 rfl ?_
  refine tj_iload_n dX0_fewestKeepers_4 rfl ?_
  refine tj_tryV (as := [.int v1, .int v2]) (rest := [.int (0 : Int32), va_rf v3]) (st' := (fun r => [.int r, .int (0 : Int32), va_rf v3])) (t := 0) (fun a e => by cases e; exact ct_X1_fewestKeepers d _ _ _) (by decide) rfl q3310 q3311 q3312 q96 q3313 rfl md_X1_fewestKeepers rfl (by decide) rfl (by simp [rf_cat, cat_i, cat_l, cat_f, cat_d]) dX0_fewestKeepers_5 (fun _ => rfl) (fun r101 σ => ?_) (fun q102 σ => ?_)
  · refine tj_i2l dX0_fewestKeepers_8 ?_
    refine tj_last dX0_fewestKeepers_9 (fun σ => ?_)
    refine tj_goto 21 dX0_fewestKeepers_10 rfl ?_
    refine tj_iconst (0 : Int32) dX0_fewestKeepers_21 rfl ?_
    exact tj_iret dX0_fewestKeepers_22
  · refine tj_xin [] ⟨0, 10, 13, 13⟩ [⟨0, 10, 17, 34⟩] "java/lang/IllegalArgumentException" cx_java_lang_IllegalArgumentException_35 rfl (by decide) (by decide) q3045 (fun _ h => absurd h List.not_mem_nil) ?_ ?_
    · refine tj_astore dX0_fewestKeepers_13 (by decide) (rf_cat _) [some (va_rf v0), some (.int v1), some (.int v2), some (va_rf v3), some (va_rf (some q102))] rfl ?_
      refine tj_iconst (1 : Int32) dX0_fewestKeepers_15 rfl ?_
      exact tj_iret dX0_fewestKeepers_16
    refine tj_xin [⟨0, 10, 13, 13⟩] ⟨0, 10, 17, 34⟩ [] "java/lang/UnsupportedOperationException" cx_java_lang_UnsupportedOperationException_38 rfl (by decide) (by decide) q3080 (List.forall_mem_cons.mpr ⟨Or.inr ⟨by decide, "java/lang/IllegalArgumentException", q3045, nc_java_lang_IllegalArgumentException_38⟩, fun _ h => absurd h List.not_mem_nil⟩) ?_ ?_
    · refine tj_astore dX0_fewestKeepers_17 (by decide) (rf_cat _) [some (va_rf v0), some (.int v1), some (.int v2), some (va_rf v3), some (va_rf (some q102))] rfl ?_
      refine tj_iconst (2 : Int32) dX0_fewestKeepers_19 rfl ?_
      exact tj_iret dX0_fewestKeepers_20
    exact tj_xfail
theorem ct_X0_fewestKeepers : ∀ (d : Nat) (v0 : Option Nat) (v1 : Int32) (v2 : Int32) (v3 : Option Nat), ct_ yX0_fewestKeepers (wsW_ yX0_fewestKeepers cX0_fewestKeepers 5 (some .int) [(0, 10, 13, 13), (0, 10, 17, 34)]) d em_i [va_rf v0, .int v1, .int v2, va_rf v3] (fn_X0_fewestKeepers d v0 v1 v2 v3)
  | 0, _, _, _, _ => ct_fail
  | d + 1, v0, v1, v2, v3 => ct_ofH [(false, va_rf v0), (false, .int v1), (false, .int v2), (false, va_rf v3)] [some (va_rf v0), some (.int v1), some (.int v2), some (va_rf v3), none] (by decide) rfl ⟨rfl, (rf_cat _), ⟨rfl, rfl, ⟨rfl, rfl, ⟨rfl, (rf_cat _), trivial⟩⟩⟩⟩ (fun E X n0 s0 σ => tj_X0_fewestKeepers_B0 d v0 v1 v2 v3 σ)
theorem tj_X1_fewestKeepersBySets_B0 {E : tj_E} {X : tj_X} {n0 s0 : Nat} (d : Nat) (v0 : Option Nat) (v1 : Int32) (v2 : Int32) (σ : hp_S) : tj_T E X RX1 "fewestKeepersBySets" cX1_fewestKeepersBySets 3 (some .int) (d + 1) [] n0 s0 em_i σ 0 [some (va_rf v0), some (.int v1), some (.int v2)] [] (fn_X1_fewestKeepersBySets_B0 d v0 v1 v2) := by
  unfold fn_X1_fewestKeepersBySets_B0
  refine tj_aload_n dX1_fewestKeepersBySets_0 rfl ?_
  refine tj_iload_n dX1_fewestKeepersBySets_1 rfl ?_
  refine tj_iload_n dX1_fewestKeepersBySets_2 rfl ?_
  refine tj_callV (as := [.int v1, .int v2]) (rest := []) (st' := (fun r => [.int r])) (t := 0) (fun a e => by cases e; exact ct_X1_isCovered d _ _ _) (by decide) rfl q3314 q3299 q3300 q96 q3301 rfl md_X1_isCovered rfl (by decide) rfl (by decide) dX1_fewestKeepersBySets_3 (fun _ => rfl) (fun r101 σ => ?_) (by decide)
  refine tj_callS (as := [.int r101]) (rest := []) (st' := (fun _ => [])) (ct_X1_checkSupport d r101) q3315 q3316 q96 q3317 md_X1_checkSupport rfl (by decide) rfl (by decide) dX1_fewestKeepersBySets_6 (fun _ => rfl) (fun _ σ => ?_) (by decide)
  refine tj_aload_n dX1_fewestKeepersBySets_9 rfl ?_
  refine tj_getR fl_X1_66 dX1_fewestKeepersBySets_10 (fun v102 => ?_)
  refine tj_getR fl_X1_272 dX1_fewestKeepersBySets_13 (fun v103 => ?_)
  refine tj_iload_n dX1_fewestKeepersBySets_16 rfl ?_
  refine tj_iload_n dX1_fewestKeepersBySets_17 rfl ?_
  refine tj_callV (as := [.int v1, .int v2]) (rest := []) (st' := (fun r => [.int r])) (t := 3) (fun a e => by cases e; exact ct_X3_fewestBySets d _ _ _) (by decide) rfl q3328 q3001 q3002 q100 q3003 rfl md_X3_fewestBySets rfl (by decide) rfl (by decide) dX1_fewestKeepersBySets_18 (fun _ => rfl) (fun r104 σ => ?_) (by decide)
  exact tj_iret dX1_fewestKeepersBySets_21
theorem ct_X1_fewestKeepersBySets : ∀ (d : Nat) (v0 : Option Nat) (v1 : Int32) (v2 : Int32), ct_ yX1_fewestKeepersBySets (ws_ yX1_fewestKeepersBySets cX1_fewestKeepersBySets 3 (some .int)) d em_i [va_rf v0, .int v1, .int v2] (fn_X1_fewestKeepersBySets d v0 v1 v2)
  | 0, _, _, _ => ct_fail
  | d + 1, v0, v1, v2 => ct_of [(false, va_rf v0), (false, .int v1), (false, .int v2)] [some (va_rf v0), some (.int v1), some (.int v2)] (by decide) rfl ⟨rfl, (rf_cat _), ⟨rfl, rfl, ⟨rfl, rfl, trivial⟩⟩⟩ (fun E X n0 s0 σ => tj_X1_fewestKeepersBySets_B0 d v0 v1 v2 σ)
theorem tj_X0_fewestKeepersBySets_B0 {E : tj_E} {X : tj_X} {n0 s0 : Nat} (d : Nat) (v0 : Option Nat) (v1 : Int32) (v2 : Int32) (v3 : Option Nat) (σ : hp_S) : tj_T E X RX0 "fewestKeepersBySets" cX0_fewestKeepersBySets 5 (some .int) (d + 1) [(0, 10, 13, 13), (0, 10, 17, 34)] n0 s0 em_i σ 0 [some (va_rf v0), some (.int v1), some (.int v2), some (va_rf v3), none] [] (fn_X0_fewestKeepersBySets_B0 d v0 v1 v2 v3) := by
  unfold fn_X0_fewestKeepersBySets_B0
  refine tj_aload_n dX0_fewestKeepersBySets_0 rfl ?_
  refine tj_iconst (0 : Int32) dX0_fewestKeepersBySets_1 rfl ?_
  refine tj_aload_n dX0_fewestKeepersBySets_2 rfl ?_
  refine tj_iload_n dX0_fewestKeepersBySets_3 rfl ?_
  refine tj_iload_n dX0_fewestKeepersBySets_4 rfl ?_
  refine tj_tryV (as := [.int v1, .int v2]) (rest := [.int (0 : Int32), va_rf v3]) (st' := (fun r => [.int r, .int (0 : Int32), va_rf v3])) (t := 0) (fun a e => by cases e; exact ct_X1_fewestKeepersBySets d _ _ _) (by decide) rfl q3324 q3325 q3326 q96 q3327 rfl md_X1_fewestKeepersBySets rfl (by decide) rfl (by simp [rf_cat, cat_i, cat_l, cat_f, cat_d]) dX0_fewestKeepersBySets_5 (fun _ => rfl) (fun r101 σ => ?_) (fun q102 σ => ?_)
  · refine tj_i2l dX0_fewestKeepersBySets_8 ?_
    refine tj_last dX0_fewestKeepersBySets_9 (fun σ => ?_)
    refine tj_goto 21 dX0_fewestKeepersBySets_10 rfl ?_
    refine tj_iconst (0 : Int32) dX0_fewestKeepersBySets_21 rfl ?_
    exact tj_iret dX0_fewestKeepersBySets_22
  · refine tj_xin [] ⟨0, 10, 13, 13⟩ [⟨0, 10, 17, 34⟩] "java/lang/IllegalArgumentException" cx_java_lang_IllegalArgumentException_35 rfl (by decide) (by decide) q3045 (fun _ h => absurd h List.not_mem_nil) ?_ ?_
    · refine tj_astore dX0_fewestKeepersBySets_13 (by decide) (rf_cat _) [some (va_rf v0), some (.int v1), some (.int v2), some (va_rf v3), some (va_rf (some q102))] rfl ?_
      refine tj_iconst (1 : Int32) dX0_fewestKeepersBySets_15 rfl ?_
      exact tj_iret dX0_fewestKeepersBySets_16
    refine tj_xin [⟨0, 10, 13, 13⟩] ⟨0, 10, 17, 34⟩ [] "java/lang/UnsupportedOperationException" cx_java_lang_UnsupportedOperationException_38 rfl (by decide) (by decide) q3080 (List.forall_mem_cons.mpr ⟨Or.inr ⟨by decide, "java/lang/IllegalArgumentException", q3045, nc_java_lang_IllegalArgumentException_38⟩, fun _ h => absurd h List.not_mem_nil⟩) ?_ ?_
    · refine tj_astore dX0_fewestKeepersBySets_17 (by decide) (rf_cat _) [some (va_rf v0), some (.int v1), some (.int v2), some (va_rf v3), some (va_rf (some q102))] rfl ?_
      refine tj_iconst (2 : Int32) dX0_fewestKeepersBySets_19 rfl ?_
      exact tj_iret dX0_fewestKeepersBySets_20
    exact tj_xfail
theorem ct_X0_fewestKeepersBySets : ∀ (d : Nat) (v0 : Option Nat) (v1 : Int32) (v2 : Int32) (v3 : Option Nat), ct_ yX0_fewestKeepersBySets (wsW_ yX0_fewestKeepersBySets cX0_fewestKeepersBySets 5 (some .int) [(0, 10, 13, 13), (0, 10, 17, 34)]) d em_i [va_rf v0, .int v1, .int v2, va_rf v3] (fn_X0_fewestKeepersBySets d v0 v1 v2 v3)
  | 0, _, _, _, _ => ct_fail
  | d + 1, v0, v1, v2, v3 => ct_ofH [(false, va_rf v0), (false, .int v1), (false, .int v2), (false, va_rf v3)] [some (va_rf v0), some (.int v1), some (.int v2), some (va_rf v3), none] (by decide) rfl ⟨rfl, (rf_cat _), ⟨rfl, rfl, ⟨rfl, rfl, ⟨rfl, (rf_cat _), trivial⟩⟩⟩⟩ (fun E X n0 s0 σ => tj_X0_fewestKeepersBySets_B0 d v0 v1 v2 v3 σ)
theorem tj_X1_hireKeeper_B0 {E : tj_E} {X : tj_X} {n0 s0 : Nat} (d : Nat) (v0 : Option Nat) (v1 : Int32) (v2 : Int32) (σ : hp_S) : tj_T E X RX1 "hireKeeper" cX1_hireKeeper 3 (some .int) (d + 1) [] n0 s0 em_i σ 0 [some (va_rf v0), some (.int v1), some (.int v2)] [] (fn_X1_hireKeeper_B0 d v0 v1 v2) := by
  unfold fn_X1_hireKeeper_B0
  refine tj_aload_n dX1_hireKeeper_0 rfl ?_
  refine tj_ldcS (ev_t 29 rfl) dX1_hireKeeper_1 (fun v101 => ?_)
  refine tj_iconst (2 : Int32) dX1_hireKeeper_3 rfl ?_
  refine tj_newI q426 dX1_hireKeeper_4 (fun a102 σ => ?_)
  refine tj_dup dX1_hireKeeper_6 (rf_cat _) ?_
  refine tj_iconst (0 : Int32) dX1_hireKeeper_7 rfl ?_
  refine tj_iload_n dX1_hireKeeper_8 rfl ?_
  refine tj_iast dX1_hireKeeper_9 (fun σ => ?_)
  refine tj_dup dX1_hireKeeper_10 (rf_cat _) ?_
  refine tj_iconst (1 : Int32) dX1_hireKeeper_11 rfl ?_
  refine tj_iload_n dX1_hireKeeper_12 rfl ?_
  refine tj_iast dX1_hireKeeper_13 (fun σ => ?_)
  refine tj_callVX (as := [va_rf v101, va_rf (some a102)]) (rest := []) (st' := (fun r => [.int r])) (t := 0) (fun a e => by cases e; exact ct_X1_change d _ _ _) (by decide) rfl q401 q403 qs0 q96 q404 rfl md_X1_change rfl (by decide) rfl (by decide) dX1_hireKeeper_14 (fun _ => rfl) (fun r103 σ => ?_) (by decide)
  exact tj_iret dX1_hireKeeper_17
theorem ct_X1_hireKeeper : ∀ (d : Nat) (v0 : Option Nat) (v1 : Int32) (v2 : Int32), ct_ yX1_hireKeeper (ws_ yX1_hireKeeper cX1_hireKeeper 3 (some .int)) d em_i [va_rf v0, .int v1, .int v2] (fn_X1_hireKeeper d v0 v1 v2)
  | 0, _, _, _ => ct_fail
  | d + 1, v0, v1, v2 => ct_of [(false, va_rf v0), (false, .int v1), (false, .int v2)] [some (va_rf v0), some (.int v1), some (.int v2)] (by decide) rfl ⟨rfl, (rf_cat _), ⟨rfl, rfl, ⟨rfl, rfl, trivial⟩⟩⟩ (fun E X n0 s0 σ => tj_X1_hireKeeper_B0 d v0 v1 v2 σ)
theorem tj_X0_hireKeeper_B0 {E : tj_E} {X : tj_X} {n0 s0 : Nat} (d : Nat) (v0 : Option Nat) (v1 : Int32) (v2 : Int32) (v3 : Option Nat) (σ : hp_S) : tj_T E X RX0 "hireKeeper" cX0_hireKeeper 5 (some .int) (d + 1) [(0, 10, 13, 13), (0, 10, 17, 15)] n0 s0 em_i σ 0 [some (va_rf v0), some (.int v1), some (.int v2), some (va_rf v3), none] [] (fn_X0_hireKeeper_B0 d v0 v1 v2 v3) := by
  unfold fn_X0_hireKeeper_B0
  refine tj_aload_n dX0_hireKeeper_0 rfl ?_
  refine tj_iconst (0 : Int32) dX0_hireKeeper_1 rfl ?_
  refine tj_aload_n dX0_hireKeeper_2 rfl ?_
  refine tj_iload_n dX0_hireKeeper_3 rfl ?_
  refine tj_iload_n dX0_hireKeeper_4 rfl ?_
  refine tj_tryV (as := [.int v1, .int v2]) (rest := [.int (0 : Int32), va_rf v3]) (st' := (fun r => [.int r, .int (0 : Int32), va_rf v3])) (t := 0) (fun a e => by cases e; exact ct_X1_hireKeeper d _ _ _) (by decide) rfl q3089 q3090 q3091 q96 q3092 rfl md_X1_hireKeeper rfl (by decide) rfl (by simp [rf_cat, cat_i, cat_l, cat_f, cat_d]) dX0_hireKeeper_5 (fun _ => rfl) (fun r101 σ => ?_) (fun q102 σ => ?_)
  · refine tj_i2l dX0_hireKeeper_8 ?_
    refine tj_last dX0_hireKeeper_9 (fun σ => ?_)
    refine tj_goto 21 dX0_hireKeeper_10 rfl ?_
    refine tj_iconst (0 : Int32) dX0_hireKeeper_21 rfl ?_
    exact tj_iret dX0_hireKeeper_22
  · refine tj_xin [] ⟨0, 10, 13, 13⟩ [⟨0, 10, 17, 15⟩] "java/lang/IllegalArgumentException" cx_java_lang_IllegalArgumentException_35 rfl (by decide) (by decide) q3045 (fun _ h => absurd h List.not_mem_nil) ?_ ?_
    · refine tj_astore dX0_hireKeeper_13 (by decide) (rf_cat _) [some (va_rf v0), some (.int v1), some (.int v2), some (va_rf v3), some (va_rf (some q102))] rfl ?_
      refine tj_iconst (1 : Int32) dX0_hireKeeper_15 rfl ?_
      exact tj_iret dX0_hireKeeper_16
    refine tj_xin [⟨0, 10, 13, 13⟩] ⟨0, 10, 17, 15⟩ [] "java/lang/IllegalStateException" cx_java_lang_IllegalStateException_36 rfl (by decide) (by decide) q3046 (List.forall_mem_cons.mpr ⟨Or.inr ⟨by decide, "java/lang/IllegalArgumentException", q3045, nc_java_lang_IllegalArgumentException_36⟩, fun _ h => absurd h List.not_mem_nil⟩) ?_ ?_
    · refine tj_astore dX0_hireKeeper_17 (by decide) (rf_cat _) [some (va_rf v0), some (.int v1), some (.int v2), some (va_rf v3), some (va_rf (some q102))] rfl ?_
      refine tj_iconst (2 : Int32) dX0_hireKeeper_19 rfl ?_
      exact tj_iret dX0_hireKeeper_20
    exact tj_xfail
theorem ct_X0_hireKeeper : ∀ (d : Nat) (v0 : Option Nat) (v1 : Int32) (v2 : Int32) (v3 : Option Nat), ct_ yX0_hireKeeper (wsW_ yX0_hireKeeper cX0_hireKeeper 5 (some .int) [(0, 10, 13, 13), (0, 10, 17, 15)]) d em_i [va_rf v0, .int v1, .int v2, va_rf v3] (fn_X0_hireKeeper d v0 v1 v2 v3)
  | 0, _, _, _, _ => ct_fail
  | d + 1, v0, v1, v2, v3 => ct_ofH [(false, va_rf v0), (false, .int v1), (false, .int v2), (false, va_rf v3)] [some (va_rf v0), some (.int v1), some (.int v2), some (va_rf v3), none] (by decide) rfl ⟨rfl, (rf_cat _), ⟨rfl, rfl, ⟨rfl, rfl, ⟨rfl, (rf_cat _), trivial⟩⟩⟩⟩ (fun E X n0 s0 σ => tj_X0_hireKeeper_B0 d v0 v1 v2 v3 σ)
theorem tj_X1_hungerOf_B0 {E : tj_E} {X : tj_X} {n0 s0 : Nat} (d : Nat) (v0 : Option Nat) (v1 : Int32) (σ : hp_S) : tj_T E X RX1 "hungerOf" cX1_hungerOf 2 (some .int) (d + 1) [] n0 s0 em_i σ 0 [some (va_rf v0), some (.int v1)] [] (fn_X1_hungerOf_B0 d v0 v1) := by
  unfold fn_X1_hungerOf_B0
  refine tj_aload_n dX1_hungerOf_0 rfl ?_
  refine tj_iload_n dX1_hungerOf_1 rfl ?_
  refine tj_callV (as := [.int v1]) (rest := []) (st' := (fun r => [va_rf r])) (t := 0) (fun a e => by cases e; exact ct_X1_lionWith d _ _) (by decide) rfl q3174 q3176 qs44 q96 q3177 rfl md_X1_lionWith rfl (by decide) rfl (by decide) dX1_hungerOf_2 (fun _ => rfl) (fun r101 σ => ?_) (by decide)
  refine tj_callV (as := []) (rest := []) (st' := (fun r => [.int r])) (t := 5) (fun a e => by cases e; exact ct_X8_hunger d _) (by decide) rfl q3182 q2420 q2421 q151 q2422 rfl md_X8_hunger rfl (by decide) rfl (by decide) dX1_hungerOf_5 (fun _ => rfl) (fun r102 σ => ?_) (by decide)
  exact tj_iret dX1_hungerOf_8
theorem ct_X1_hungerOf : ∀ (d : Nat) (v0 : Option Nat) (v1 : Int32), ct_ yX1_hungerOf (ws_ yX1_hungerOf cX1_hungerOf 2 (some .int)) d em_i [va_rf v0, .int v1] (fn_X1_hungerOf d v0 v1)
  | 0, _, _ => ct_fail
  | d + 1, v0, v1 => ct_of [(false, va_rf v0), (false, .int v1)] [some (va_rf v0), some (.int v1)] (by decide) rfl ⟨rfl, (rf_cat _), ⟨rfl, rfl, trivial⟩⟩ (fun E X n0 s0 σ => tj_X1_hungerOf_B0 d v0 v1 σ)
theorem tj_X0_hungerOf_B0 {E : tj_E} {X : tj_X} {n0 s0 : Nat} (d : Nat) (v0 : Option Nat) (v1 : Int32) (v2 : Option Nat) (σ : hp_S) : tj_T E X RX0 "hungerOf" cX0_hungerOf 4 (some .int) (d + 1) [(0, 9, 12, 21)] n0 s0 em_i σ 0 [some (va_rf v0), some (.int v1), some (va_rf v2), none] [] (fn_X0_hungerOf_B0 d v0 v1 v2) := by
  unfold fn_X0_hungerOf_B0
  refine tj_aload_n dX0_hungerOf_0 rfl ?_
  refine tj_iconst (0 : Int32) dX0_hungerOf_1 rfl ?_
  refine tj_aload_n dX0_hungerOf_2 rfl ?_
  refine tj_iload_n dX0_hungerOf_3 rfl ?_
  refine tj_tryV (as := [.int v1]) (rest := [.int (0 : Int32), va_rf v2]) (st' := (fun r => [.int r, .int (0 : Int32), va_rf v2])) (t := 0) (fun a e => by cases e; exact ct_X1_hungerOf d _ _) (by decide) rfl q3170 q3171 q3172 q96 q3173 rfl md_X1_hungerOf rfl (by decide) rfl (by simp [rf_cat, cat_i, cat_l, cat_f, cat_d]) dX0_hungerOf_4 (fun _ => rfl) (fun r101 σ => ?_) (fun q102 σ => ?_)
  · refine tj_i2l dX0_hungerOf_7 ?_
    refine tj_last dX0_hungerOf_8 (fun σ => ?_)
    refine tj_goto 15 dX0_hungerOf_9 rfl ?_
    refine tj_iconst (0 : Int32) dX0_hungerOf_15 rfl ?_
    exact tj_iret dX0_hungerOf_16
  · refine tj_xin [] ⟨0, 9, 12, 21⟩ [] "java/util/NoSuchElementException" cx_java_util_NoSuchElementException_34 rfl (by decide) (by decide) q3055 (fun _ h => absurd h List.not_mem_nil) ?_ ?_
    · refine tj_astore_n dX0_hungerOf_12 (by decide) (rf_cat _) [some (va_rf v0), some (.int v1), some (va_rf v2), some (va_rf (some q102))] rfl ?_
      refine tj_iconst (1 : Int32) dX0_hungerOf_13 rfl ?_
      exact tj_iret dX0_hungerOf_14
    exact tj_xfail
theorem ct_X0_hungerOf : ∀ (d : Nat) (v0 : Option Nat) (v1 : Int32) (v2 : Option Nat), ct_ yX0_hungerOf (wsW_ yX0_hungerOf cX0_hungerOf 4 (some .int) [(0, 9, 12, 21)]) d em_i [va_rf v0, .int v1, va_rf v2] (fn_X0_hungerOf d v0 v1 v2)
  | 0, _, _, _ => ct_fail
  | d + 1, v0, v1, v2 => ct_ofH [(false, va_rf v0), (false, .int v1), (false, va_rf v2)] [some (va_rf v0), some (.int v1), some (va_rf v2), none] (by decide) rfl ⟨rfl, (rf_cat _), ⟨rfl, rfl, ⟨rfl, (rf_cat _), trivial⟩⟩⟩ (fun E X n0 s0 σ => tj_X0_hungerOf_B0 d v0 v1 v2 σ)
theorem tj_X1_hungriest_B0 {E : tj_E} {X : tj_X} {n0 s0 : Nat} (d : Nat) (v0 : Option Nat) (σ : hp_S) : tj_T E X RX1 "hungriest" cX1_hungriest 1 (some .int) (d + 1) [] n0 s0 em_i σ 0 [some (va_rf v0)] [] (fn_X1_hungriest_B0 d v0) := by
  unfold fn_X1_hungriest_B0
  refine tj_aload_n dX1_hungriest_0 rfl ?_
  refine tj_getR fl_X1_66 dX1_hungriest_1 (fun v101 => ?_)
  refine tj_callV (as := []) (rest := []) (st' := (fun r => [.int r])) (t := 2) (fun a e => by cases e; exact ct_X2_hungriest d _) (by decide) rfl q3211 q2909 q2910 q97 q2911 rfl md_X2_hungriest rfl (by decide) rfl (by decide) dX1_hungriest_4 (fun _ => rfl) (fun r102 σ => ?_) (by decide)
  refine tj_callS (as := [.int r102]) (rest := []) (st' := (fun r => [.int r])) (ct_X1_found d r102) q3212 q3213 q96 q3214 md_X1_found rfl (by decide) rfl (by decide) dX1_hungriest_7 (fun _ => rfl) (fun r103 σ => ?_) (by decide)
  exact tj_iret dX1_hungriest_10
theorem ct_X1_hungriest : ∀ (d : Nat) (v0 : Option Nat), ct_ yX1_hungriest (ws_ yX1_hungriest cX1_hungriest 1 (some .int)) d em_i [va_rf v0] (fn_X1_hungriest d v0)
  | 0, _ => ct_fail
  | d + 1, v0 => ct_of [(false, va_rf v0)] [some (va_rf v0)] (by decide) rfl ⟨rfl, (rf_cat _), trivial⟩ (fun E X n0 s0 σ => tj_X1_hungriest_B0 d v0 σ)
theorem tj_X0_hungriest_B0 {E : tj_E} {X : tj_X} {n0 s0 : Nat} (d : Nat) (v0 : Option Nat) (v1 : Option Nat) (σ : hp_S) : tj_T E X RX0 "hungriest" cX0_hungriest 3 (some .int) (d + 1) [(0, 8, 11, 21)] n0 s0 em_i σ 0 [some (va_rf v0), some (va_rf v1), none] [] (fn_X0_hungriest_B0 d v0 v1) := by
  unfold fn_X0_hungriest_B0
  refine tj_aload_n dX0_hungriest_0 rfl ?_
  refine tj_iconst (0 : Int32) dX0_hungriest_1 rfl ?_
  refine tj_aload_n dX0_hungriest_2 rfl ?_
  refine tj_tryV (as := []) (rest := [.int (0 : Int32), va_rf v1]) (st' := (fun r => [.int r, .int (0 : Int32), va_rf v1])) (t := 0) (fun a e => by cases e; exact ct_X1_hungriest d _) (by decide) rfl q3207 q3208 q3209 q96 q3210 rfl md_X1_hungriest rfl (by decide) rfl (by simp [rf_cat, cat_i, cat_l, cat_f, cat_d]) dX0_hungriest_3 (fun _ => rfl) (fun r101 σ => ?_) (fun q102 σ => ?_)
  · refine tj_i2l dX0_hungriest_6 ?_
    refine tj_last dX0_hungriest_7 (fun σ => ?_)
    refine tj_goto 14 dX0_hungriest_8 rfl ?_
    refine tj_iconst (0 : Int32) dX0_hungriest_14 rfl ?_
    exact tj_iret dX0_hungriest_15
  · refine tj_xin [] ⟨0, 8, 11, 21⟩ [] "java/util/NoSuchElementException" cx_java_util_NoSuchElementException_34 rfl (by decide) (by decide) q3055 (fun _ h => absurd h List.not_mem_nil) ?_ ?_
    · refine tj_astore_n dX0_hungriest_11 (by decide) (rf_cat _) [some (va_rf v0), some (va_rf v1), some (va_rf (some q102))] rfl ?_
      refine tj_iconst (1 : Int32) dX0_hungriest_12 rfl ?_
      exact tj_iret dX0_hungriest_13
    exact tj_xfail
theorem ct_X0_hungriest : ∀ (d : Nat) (v0 : Option Nat) (v1 : Option Nat), ct_ yX0_hungriest (wsW_ yX0_hungriest cX0_hungriest 3 (some .int) [(0, 8, 11, 21)]) d em_i [va_rf v0, va_rf v1] (fn_X0_hungriest d v0 v1)
  | 0, _, _ => ct_fail
  | d + 1, v0, v1 => ct_ofH [(false, va_rf v0), (false, va_rf v1)] [some (va_rf v0), some (va_rf v1), none] (by decide) rfl ⟨rfl, (rf_cat _), ⟨rfl, (rf_cat _), trivial⟩⟩ (fun E X n0 s0 σ => tj_X0_hungriest_B0 d v0 v1 σ)
theorem tj_X1_hungriestByLooking_B0 {E : tj_E} {X : tj_X} {n0 s0 : Nat} (d : Nat) (v0 : Option Nat) (σ : hp_S) : tj_T E X RX1 "hungriestByLooking" cX1_hungriestByLooking 1 (some .int) (d + 1) [] n0 s0 em_i σ 0 [some (va_rf v0)] [] (fn_X1_hungriestByLooking_B0 d v0) := by
  unfold fn_X1_hungriestByLooking_B0
  refine tj_aload_n dX1_hungriestByLooking_0 rfl ?_
  refine tj_getR fl_X1_66 dX1_hungriestByLooking_1 (fun v101 => ?_)
  refine tj_callV (as := []) (rest := []) (st' := (fun r => [.int r])) (t := 2) (fun a e => by cases e; exact ct_X2_hungriestByLooking d _) (by decide) rfl q3222 q2913 q2914 q97 q2915 rfl md_X2_hungriestByLooking rfl (by decide) rfl (by decide) dX1_hungriestByLooking_4 (fun _ => rfl) (fun r102 σ => ?_) (by decide)
  refine tj_callS (as := [.int r102]) (rest := []) (st' := (fun r => [.int r])) (ct_X1_found d r102) q3212 q3213 q96 q3214 md_X1_found rfl (by decide) rfl (by decide) dX1_hungriestByLooking_7 (fun _ => rfl) (fun r103 σ => ?_) (by decide)
  exact tj_iret dX1_hungriestByLooking_10
theorem ct_X1_hungriestByLooking : ∀ (d : Nat) (v0 : Option Nat), ct_ yX1_hungriestByLooking (ws_ yX1_hungriestByLooking cX1_hungriestByLooking 1 (some .int)) d em_i [va_rf v0] (fn_X1_hungriestByLooking d v0)
  | 0, _ => ct_fail
  | d + 1, v0 => ct_of [(false, va_rf v0)] [some (va_rf v0)] (by decide) rfl ⟨rfl, (rf_cat _), trivial⟩ (fun E X n0 s0 σ => tj_X1_hungriestByLooking_B0 d v0 σ)
theorem tj_X0_hungriestByLooking_B0 {E : tj_E} {X : tj_X} {n0 s0 : Nat} (d : Nat) (v0 : Option Nat) (v1 : Option Nat) (σ : hp_S) : tj_T E X RX0 "hungriestByLooking" cX0_hungriestByLooking 3 (some .int) (d + 1) [(0, 8, 11, 21)] n0 s0 em_i σ 0 [some (va_rf v0), some (va_rf v1), none] [] (fn_X0_hungriestByLooking_B0 d v0 v1) := by
  unfold fn_X0_hungriestByLooking_B0
  refine tj_aload_n dX0_hungriestByLooking_0 rfl ?_
  refine tj_iconst (0 : Int32) dX0_hungriestByLooking_1 rfl ?_
  refine tj_aload_n dX0_hungriestByLooking_2 rfl ?_
  refine tj_tryV (as := []) (rest := [.int (0 : Int32), va_rf v1]) (st' := (fun r => [.int r, .int (0 : Int32), va_rf v1])) (t := 0) (fun a e => by cases e; exact ct_X1_hungriestByLooking d _) (by decide) rfl q3218 q3219 q3220 q96 q3221 rfl md_X1_hungriestByLooking rfl (by decide) rfl (by simp [rf_cat, cat_i, cat_l, cat_f, cat_d]) dX0_hungriestByLooking_3 (fun _ => rfl) (fun r101 σ => ?_) (fun q102 σ => ?_)
  · refine tj_i2l dX0_hungriestByLooking_6 ?_
    refine tj_last dX0_hungriestByLooking_7 (fun σ => ?_)
    refine tj_goto 14 dX0_hungriestByLooking_8 rfl ?_
    refine tj_iconst (0 : Int32) dX0_hungriestByLooking_14 rfl ?_
    exact tj_iret dX0_hungriestByLooking_15
  · refine tj_xin [] ⟨0, 8, 11, 21⟩ [] "java/util/NoSuchElementException" cx_java_util_NoSuchElementException_34 rfl (by decide) (by decide) q3055 (fun _ h => absurd h List.not_mem_nil) ?_ ?_
    · refine tj_astore_n dX0_hungriestByLooking_11 (by decide) (rf_cat _) [some (va_rf v0), some (va_rf v1), some (va_rf (some q102))] rfl ?_
      refine tj_iconst (1 : Int32) dX0_hungriestByLooking_12 rfl ?_
      exact tj_iret dX0_hungriestByLooking_13
    exact tj_xfail
theorem ct_X0_hungriestByLooking : ∀ (d : Nat) (v0 : Option Nat) (v1 : Option Nat), ct_ yX0_hungriestByLooking (wsW_ yX0_hungriestByLooking cX0_hungriestByLooking 3 (some .int) [(0, 8, 11, 21)]) d em_i [va_rf v0, va_rf v1] (fn_X0_hungriestByLooking d v0 v1)
  | 0, _, _ => ct_fail
  | d + 1, v0, v1 => ct_ofH [(false, va_rf v0), (false, va_rf v1)] [some (va_rf v0), some (va_rf v1), none] (by decide) rfl ⟨rfl, (rf_cat _), ⟨rfl, (rf_cat _), trivial⟩⟩ (fun E X n0 s0 σ => tj_X0_hungriestByLooking_B0 d v0 v1 σ)
theorem tj_X0_isCovered_B0 {E : tj_E} {X : tj_X} {n0 s0 : Nat} (d : Nat) (v0 : Option Nat) (v1 : Int32) (v2 : Int32) (v3 : Option Nat) (σ : hp_S) : tj_T E X RX0 "isCovered" cX0_isCovered 5 (some .int) (d + 1) [(0, 17, 20, 13)] n0 s0 em_i σ 0 [some (va_rf v0), some (.int v1), some (.int v2), some (va_rf v3), none] [] (fn_X0_isCovered_B0 d v0 v1 v2 v3) := by
  unfold fn_X0_isCovered_B0
  refine tj_aload_n dX0_isCovered_0 rfl ?_
  refine tj_iconst (0 : Int32) dX0_isCovered_1 rfl ?_
  refine tj_aload_n dX0_isCovered_2 rfl ?_
  refine tj_iload_n dX0_isCovered_3 rfl ?_
  refine tj_iload_n dX0_isCovered_4 rfl ?_
  refine tj_tryV (as := [.int v1, .int v2]) (rest := [.int (0 : Int32), va_rf v3]) (st' := (fun r => [.int r, .int (0 : Int32), va_rf v3])) (t := 0) (fun a e => by cases e; exact ct_X1_isCovered d _ _ _) (by decide) rfl q3298 q3299 q3300 q96 q3301 rfl md_X1_isCovered rfl (by decide) rfl (by simp [rf_cat, cat_i, cat_l, cat_f, cat_d]) dX0_isCovered_5 (fun _ => rfl) (fun r101 σ => ?_) (fun q102 σ => ?_)
  · refine tj_if_eq 15 dX0_isCovered_8 rfl (fun _ => ?_) (fun _ => ?_)
    · refine tj_lconst (0 : Int64) dX0_isCovered_15 rfl ?_
      refine tj_last dX0_isCovered_16 (fun σ => ?_)
      refine tj_goto 24 dX0_isCovered_17 rfl ?_
      refine tj_iconst (0 : Int32) dX0_isCovered_24 rfl ?_
      exact tj_iret dX0_isCovered_25
    · refine tj_lconst (1 : Int64) dX0_isCovered_11 rfl ?_
      refine tj_goto 16 dX0_isCovered_12 rfl ?_
      refine tj_last dX0_isCovered_16 (fun σ => ?_)
      refine tj_goto 24 dX0_isCovered_17 rfl ?_
      refine tj_iconst (0 : Int32) dX0_isCovered_24 rfl ?_
      exact tj_iret dX0_isCovered_25
  · refine tj_xin [] ⟨0, 17, 20, 13⟩ [] "java/lang/IllegalArgumentException" cx_java_lang_IllegalArgumentException_35 rfl (by decide) (by decide) q3045 (fun _ h => absurd h List.not_mem_nil) ?_ ?_
    · refine tj_astore dX0_isCovered_20 (by decide) (rf_cat _) [some (va_rf v0), some (.int v1), some (.int v2), some (va_rf v3), some (va_rf (some q102))] rfl ?_
      refine tj_iconst (1 : Int32) dX0_isCovered_22 rfl ?_
      exact tj_iret dX0_isCovered_23
    exact tj_xfail
theorem ct_X0_isCovered : ∀ (d : Nat) (v0 : Option Nat) (v1 : Int32) (v2 : Int32) (v3 : Option Nat), ct_ yX0_isCovered (wsW_ yX0_isCovered cX0_isCovered 5 (some .int) [(0, 17, 20, 13)]) d em_i [va_rf v0, .int v1, .int v2, va_rf v3] (fn_X0_isCovered d v0 v1 v2 v3)
  | 0, _, _, _, _ => ct_fail
  | d + 1, v0, v1, v2, v3 => ct_ofH [(false, va_rf v0), (false, .int v1), (false, .int v2), (false, va_rf v3)] [some (va_rf v0), some (.int v1), some (.int v2), some (va_rf v3), none] (by decide) rfl ⟨rfl, (rf_cat _), ⟨rfl, rfl, ⟨rfl, rfl, ⟨rfl, (rf_cat _), trivial⟩⟩⟩⟩ (fun E X n0 s0 σ => tj_X0_isCovered_B0 d v0 v1 v2 v3 σ)
theorem tj_X1_ticketWith_B0 {E : tj_E} {X : tj_X} {n0 s0 : Nat} (d : Nat) (v0 : Option Nat) (v1 : Int32) (σ : hp_S) : tj_T E X RX1 "ticketWith" cX1_ticketWith 2 (some (.object "LionGate$Ticket")) (d + 1) [] n0 s0 em_r σ 0 [some (va_rf v0), some (.int v1)] [] (fn_X1_ticketWith_B0 d v0 v1) := by
  unfold fn_X1_ticketWith_B0
  refine tj_iload_n dX1_ticketWith_0 rfl ?_
  refine tj_iconst (0 : Int32) dX1_ticketWith_1 rfl ?_
  refine tj_aload_n dX1_ticketWith_2 rfl ?_
  refine tj_getR fl_X1_66 dX1_ticketWith_3 (fun v101 => ?_)
  refine tj_getI fl_X1_238 dX1_ticketWith_6 (fun v102 => ?_)
  refine tj_iconst (1 : Int32) dX1_ticketWith_9 rfl ?_
  refine tj_isub dX1_ticketWith_10 ?_
  refine tj_callS (as := [.int v1, .int (0 : Int32), .int (v102 - (1 : Int32))]) (rest := []) (st' := (fun r => [.int r])) (ct_X1_isBetween d v1 (0 : Int32) _) q3133 q1964 q96 q1965 md_X1_isBetween rfl (by decide) rfl (by decide) dX1_ticketWith_11 (fun _ => rfl) (fun r103 σ => ?_) (by decide)
  refine tj_callS (as := [.int r103]) (rest := []) (st' := (fun _ => [])) (ct_X1_checkElement d r103) q3134 q3135 q96 q3136 md_X1_checkElement rfl (by decide) rfl (by decide) dX1_ticketWith_14 (fun _ => rfl) (fun _ σ => ?_) (by decide)
  refine tj_aload_n dX1_ticketWith_17 rfl ?_
  refine tj_getR fl_X1_66 dX1_ticketWith_18 (fun v104 => ?_)
  refine tj_getR fl_X1_243 dX1_ticketWith_21 (fun v105 => ?_)
  refine tj_callS (as := [va_rf v105]) (rest := []) (st' := (fun r => [va_rf r])) (ct_X1_inOrder d v105) q3245 q2065 q96 q2066 md_X1_inOrder rfl (by decide) rfl (by decide) dX1_ticketWith_24 (fun _ => rfl) (fun r106 σ => ?_) (by decide)
  refine tj_iload_n dX1_ticketWith_27 rfl ?_
  refine tj_callF (as := [.int v1]) (rest := []) (st' := (fun r => [va_rf r])) (t := 16) (fun a e => by cases e; exact ct_J4_get d _ _) (by decide) rfl q2156 q1324 q1120 q103 q1121 (ev_i 3 rfl) q1326 q1325 q1323 md_i3 rfl (by decide) rfl (by decide) dX1_ticketWith_28 (fun _ => rfl) (fun r107 σ => ?_) (by decide)
  refine tj_cast (nm := "LionGate$Ticket") q2157 ca_LionGate_Ticket dX1_ticketWith_33 ?_
  exact tj_aret (Or.inl ⟨_, rfl⟩) dX1_ticketWith_36
theorem ct_X1_ticketWith : ∀ (d : Nat) (v0 : Option Nat) (v1 : Int32), ct_ yX1_ticketWith (ws_ yX1_ticketWith cX1_ticketWith 2 (some (.object "LionGate$Ticket"))) d em_r [va_rf v0, .int v1] (fn_X1_ticketWith d v0 v1)
  | 0, _, _ => ct_fail
  | d + 1, v0, v1 => ct_of [(false, va_rf v0), (false, .int v1)] [some (va_rf v0), some (.int v1)] (by decide) rfl ⟨rfl, (rf_cat _), ⟨rfl, rfl, trivial⟩⟩ (fun E X n0 s0 σ => tj_X1_ticketWith_B0 d v0 v1 σ)
theorem tj_X1_isStaleAtRank_B0 {E : tj_E} {X : tj_X} {n0 s0 : Nat} (d : Nat) (v0 : Option Nat) (v1 : Int32) (σ : hp_S) : tj_T E X RX1 "isStaleAtRank" cX1_isStaleAtRank 2 (some .boolean) (d + 1) [] n0 s0 em_i σ 0 [some (va_rf v0), some (.int v1)] [] (fn_X1_isStaleAtRank_B0 d v0 v1) := by
  unfold fn_X1_isStaleAtRank_B0
  refine tj_aload_n dX1_isStaleAtRank_0 rfl ?_
  refine tj_getR fl_X1_66 dX1_isStaleAtRank_1 (fun v101 => ?_)
  refine tj_aload_n dX1_isStaleAtRank_4 rfl ?_
  refine tj_iload_n dX1_isStaleAtRank_5 rfl ?_
  refine tj_callV (as := [.int v1]) (rest := [va_rf v101]) (st' := (fun r => [va_rf r, va_rf v101])) (t := 0) (fun a e => by cases e; exact ct_X1_ticketWith d _ _) (by decide) rfl q3241 q3243 qs45 q96 q3244 rfl md_X1_ticketWith rfl (by decide) rfl (by simp [rf_cat, cat_i, cat_l, cat_f, cat_d]) dX1_isStaleAtRank_6 (fun _ => rfl) (fun r102 σ => ?_) (by decide)
  refine tj_callV (as := [va_rf r102]) (rest := []) (st' := (fun r => [.int r])) (t := 2) (fun a e => by cases e; exact ct_X2_isValid d _ _) (by decide) rfl q3253 q2192 q2193 q97 q2194 rfl md_X2_isValid rfl (by decide) rfl (by decide) dX1_isStaleAtRank_9 (fun _ => rfl) (fun r103 σ => ?_) (by decide)
  refine tj_if_ne 19 dX1_isStaleAtRank_12 rfl (fun _ => ?_) (fun _ => ?_)
  · refine tj_iconst (1 : Int32) dX1_isStaleAtRank_15 rfl ?_
    refine tj_goto 20 dX1_isStaleAtRank_16 rfl ?_
    exact tj_zpure rfl dX1_isStaleAtRank_20
  · refine tj_iconst (0 : Int32) dX1_isStaleAtRank_19 rfl ?_
    exact tj_zpure rfl dX1_isStaleAtRank_20
theorem ct_X1_isStaleAtRank : ∀ (d : Nat) (v0 : Option Nat) (v1 : Int32), ct_ yX1_isStaleAtRank (ws_ yX1_isStaleAtRank cX1_isStaleAtRank 2 (some .boolean)) d em_i [va_rf v0, .int v1] (fn_X1_isStaleAtRank d v0 v1)
  | 0, _, _ => ct_fail
  | d + 1, v0, v1 => ct_of [(false, va_rf v0), (false, .int v1)] [some (va_rf v0), some (.int v1)] (by decide) rfl ⟨rfl, (rf_cat _), ⟨rfl, rfl, trivial⟩⟩ (fun E X n0 s0 σ => tj_X1_isStaleAtRank_B0 d v0 v1 σ)
theorem tj_X0_isStaleAtRank_B0 {E : tj_E} {X : tj_X} {n0 s0 : Nat} (d : Nat) (v0 : Option Nat) (v1 : Int32) (v2 : Option Nat) (σ : hp_S) : tj_T E X RX0 "isStaleAtRank" cX0_isStaleAtRank 4 (some .int) (d + 1) [(0, 16, 19, 21)] n0 s0 em_i σ 0 [some (va_rf v0), some (.int v1), some (va_rf v2), none] [] (fn_X0_isStaleAtRank_B0 d v0 v1 v2) := by
  unfold fn_X0_isStaleAtRank_B0
  refine tj_aload_n dX0_isStaleAtRank_0 rfl ?_
  refine tj_iconst (0 : Int32) dX0_isStaleAtRank_1 rfl ?_
  refine tj_aload_n dX0_isStaleAtRank_2 rfl ?_
  refine tj_iload_n dX0_isStaleAtRank_3 rfl ?_
  refine tj_tryV (as := [.int v1]) (rest := [.int (0 : Int32), va_rf v2]) (st' := (fun r => [.int r, .int (0 : Int32), va_rf v2])) (t := 0) (fun a e => by cases e; exact ct_X1_isStaleAtRank d _ _) (by decide) rfl q3249 q3250 q3251 q96 q3252 rfl md_X1_isStaleAtRank rfl (by decide) rfl (by simp [rf_cat, cat_i, cat_l, cat_f, cat_d]) dX0_isStaleAtRank_4 (fun _ => rfl) (fun r101 σ => ?_) (fun q102 σ => ?_)
  · refine tj_if_eq 14 dX0_isStaleAtRank_7 rfl (fun _ => ?_) (fun _ => ?_)
    · refine tj_lconst (0 : Int64) dX0_isStaleAtRank_14 rfl ?_
      refine tj_last dX0_isStaleAtRank_15 (fun σ => ?_)
      refine tj_goto 22 dX0_isStaleAtRank_16 rfl ?_
      refine tj_iconst (0 : Int32) dX0_isStaleAtRank_22 rfl ?_
      exact tj_iret dX0_isStaleAtRank_23
    · refine tj_lconst (1 : Int64) dX0_isStaleAtRank_10 rfl ?_
      refine tj_goto 15 dX0_isStaleAtRank_11 rfl ?_
      refine tj_last dX0_isStaleAtRank_15 (fun σ => ?_)
      refine tj_goto 22 dX0_isStaleAtRank_16 rfl ?_
      refine tj_iconst (0 : Int32) dX0_isStaleAtRank_22 rfl ?_
      exact tj_iret dX0_isStaleAtRank_23
  · refine tj_xin [] ⟨0, 16, 19, 21⟩ [] "java/util/NoSuchElementException" cx_java_util_NoSuchElementException_34 rfl (by decide) (by decide) q3055 (fun _ h => absurd h List.not_mem_nil) ?_ ?_
    · refine tj_astore_n dX0_isStaleAtRank_19 (by decide) (rf_cat _) [some (va_rf v0), some (.int v1), some (va_rf v2), some (va_rf (some q102))] rfl ?_
      refine tj_iconst (1 : Int32) dX0_isStaleAtRank_20 rfl ?_
      exact tj_iret dX0_isStaleAtRank_21
    exact tj_xfail
theorem ct_X0_isStaleAtRank : ∀ (d : Nat) (v0 : Option Nat) (v1 : Int32) (v2 : Option Nat), ct_ yX0_isStaleAtRank (wsW_ yX0_isStaleAtRank cX0_isStaleAtRank 4 (some .int) [(0, 16, 19, 21)]) d em_i [va_rf v0, .int v1, va_rf v2] (fn_X0_isStaleAtRank d v0 v1 v2)
  | 0, _, _, _ => ct_fail
  | d + 1, v0, v1, v2 => ct_ofH [(false, va_rf v0), (false, .int v1), (false, va_rf v2)] [some (va_rf v0), some (.int v1), some (va_rf v2), none] (by decide) rfl ⟨rfl, (rf_cat _), ⟨rfl, rfl, ⟨rfl, (rf_cat _), trivial⟩⟩⟩ (fun E X n0 s0 σ => tj_X0_isStaleAtRank_B0 d v0 v1 v2 σ)
theorem tj_X1_divisor_B0 {E : tj_E} {X : tj_X} {n0 s0 : Nat} (d : Nat) (v0 : Int32) (σ : hp_S) : tj_T E X RX1 "divisor" cX1_divisor 1 (some .int) (d + 1) [] n0 s0 em_i σ 0 [some (.int v0)] [] (fn_X1_divisor_B0 d v0) := by
  unfold fn_X1_divisor_B0
  refine tj_iload_n dX1_divisor_0 rfl ?_
  refine tj_if_ne 12 dX1_divisor_1 rfl (fun _ => ?_) (fun _ => ?_)
  · refine tj_mk0 ex_X1_346_3354 (by decide) dX1_divisor_4 dX1_divisor_7 dX1_divisor_8 (fun a101 σ => ?_)
    refine tj_athrow dX1_divisor_11 (fun q102 => ?_)
    exact tj_xout (by decide) (by decide)
  · refine tj_iload_n dX1_divisor_12 rfl ?_
    exact tj_iret dX1_divisor_13
theorem ct_X1_divisor : ∀ (d : Nat) (v0 : Int32), ct_ yX1_divisor (ws_ yX1_divisor cX1_divisor 1 (some .int)) d em_i [.int v0] (fn_X1_divisor d v0)
  | 0, _ => ct_fail
  | d + 1, v0 => ct_of [(false, .int v0)] [some (.int v0)] (by decide) rfl ⟨rfl, rfl, trivial⟩ (fun E X n0 s0 σ => tj_X1_divisor_B0 d v0 σ)
theorem tj_X1_lateShare_B0 {E : tj_E} {X : tj_X} {n0 s0 : Nat} (d : Nat) (v0 : Option Nat) (σ : hp_S) : tj_T E X RX1 "lateShare" cX1_lateShare 2 (some .float) (d + 1) [] n0 s0 em_f σ 0 [some (va_rf v0), none] [] (fn_X1_lateShare_B0 d v0) := by
  unfold fn_X1_lateShare_B0
  refine tj_aload_n dX1_lateShare_0 rfl ?_
  refine tj_getR fl_X1_66 dX1_lateShare_1 (fun v101 => ?_)
  refine tj_getI fl_X1_328 dX1_lateShare_4 (fun v102 => ?_)
  refine tj_callS (as := [.int v102]) (rest := []) (st' := (fun r => [.int r])) (ct_X1_divisor d v102) q3350 q3351 q96 q3352 md_X1_divisor rfl (by decide) rfl (by decide) dX1_lateShare_7 (fun _ => rfl) (fun r103 σ => ?_) (by decide)
  refine tj_istore_n dX1_lateShare_10 (by decide) (rf_cat _) [some (va_rf v0), some (.int r103)] rfl ?_
  refine tj_aload_n dX1_lateShare_11 rfl ?_
  refine tj_getR fl_X1_66 dX1_lateShare_12 (fun v104 => ?_)
  refine tj_getI fl_X1_331 dX1_lateShare_15 (fun v105 => ?_)
  refine tj_i2f dX1_lateShare_18 ?_
  refine tj_iload_n dX1_lateShare_19 rfl ?_
  refine tj_i2f dX1_lateShare_20 ?_
  refine tj_fdiv dX1_lateShare_21 (fun v106 => ?_)
  exact tj_fret dX1_lateShare_22
theorem ct_X1_lateShare : ∀ (d : Nat) (v0 : Option Nat), ct_ yX1_lateShare (ws_ yX1_lateShare cX1_lateShare 2 (some .float)) d em_f [va_rf v0] (fn_X1_lateShare d v0)
  | 0, _ => ct_fail
  | d + 1, v0 => ct_of [(false, va_rf v0)] [some (va_rf v0), none] (by decide) rfl ⟨rfl, (rf_cat _), trivial⟩ (fun E X n0 s0 σ => tj_X1_lateShare_B0 d v0 σ)
theorem tj_X0_lateShare_B0 {E : tj_E} {X : tj_X} {n0 s0 : Nat} (d : Nat) (v0 : Option Nat) (v1 : Option Nat) (σ : hp_S) : tj_T E X RX0 "lateShare" cX0_lateShare 3 (some .int) (d + 1) [(0, 8, 11, 101)] n0 s0 em_i σ 0 [some (va_rf v0), some (va_rf v1), none] [] (fn_X0_lateShare_B0 d v0 v1) := by
  unfold fn_X0_lateShare_B0
  refine tj_aload_n dX0_lateShare_0 rfl ?_
  refine tj_iconst (0 : Int32) dX0_lateShare_1 rfl ?_
  refine tj_aload_n dX0_lateShare_2 rfl ?_
  refine tj_tryV (as := []) (rest := [.int (0 : Int32), va_rf v1]) (st' := (fun r => [.float r, .int (0 : Int32), va_rf v1])) (t := 0) (fun a e => by cases e; exact ct_X1_lateShare d _) (by decide) rfl q3365 q3366 q3367 q96 q3368 rfl md_X1_lateShare rfl (by decide) rfl (by simp [rf_cat, cat_i, cat_l, cat_f, cat_d]) dX0_lateShare_3 (fun _ => rfl) (fun r101 σ => ?_) (fun q102 σ => ?_)
  · refine tj_f2d dX0_lateShare_6 (fun v103 => ?_)
    refine tj_dast dX0_lateShare_7 (fun σ => ?_)
    refine tj_goto 14 dX0_lateShare_8 rfl ?_
    refine tj_iconst (0 : Int32) dX0_lateShare_14 rfl ?_
    exact tj_iret dX0_lateShare_15
  · refine tj_xin [] ⟨0, 8, 11, 101⟩ [] "java/lang/ArithmeticException" cx_java_lang_ArithmeticException_39 rfl (by decide) (by decide) q3332 (fun _ h => absurd h List.not_mem_nil) ?_ ?_
    · refine tj_astore_n dX0_lateShare_11 (by decide) (rf_cat _) [some (va_rf v0), some (va_rf v1), some (va_rf (some q102))] rfl ?_
      refine tj_iconst (1 : Int32) dX0_lateShare_12 rfl ?_
      exact tj_iret dX0_lateShare_13
    exact tj_xfail
theorem ct_X0_lateShare : ∀ (d : Nat) (v0 : Option Nat) (v1 : Option Nat), ct_ yX0_lateShare (wsW_ yX0_lateShare cX0_lateShare 3 (some .int) [(0, 8, 11, 101)]) d em_i [va_rf v0, va_rf v1] (fn_X0_lateShare d v0 v1)
  | 0, _, _ => ct_fail
  | d + 1, v0, v1 => ct_ofH [(false, va_rf v0), (false, va_rf v1)] [some (va_rf v0), some (va_rf v1), none] (by decide) rfl ⟨rfl, (rf_cat _), ⟨rfl, (rf_cat _), trivial⟩⟩ (fun E X n0 s0 σ => tj_X0_lateShare_B0 d v0 v1 σ)
theorem tj_X1_leave_B0 {E : tj_E} {X : tj_X} {n0 s0 : Nat} (d : Nat) (v0 : Option Nat) (v1 : Int32) (σ : hp_S) : tj_T E X RX1 "leave" cX1_leave 2 (some .int) (d + 1) [] n0 s0 em_i σ 0 [some (va_rf v0), some (.int v1)] [] (fn_X1_leave_B0 d v0 v1) := by
  unfold fn_X1_leave_B0
  refine tj_aload_n dX1_leave_0 rfl ?_
  refine tj_ldcS (ev_t 27 rfl) dX1_leave_1 (fun v101 => ?_)
  refine tj_iconst (1 : Int32) dX1_leave_3 rfl ?_
  refine tj_newI q426 dX1_leave_4 (fun a102 σ => ?_)
  refine tj_dup dX1_leave_6 (rf_cat _) ?_
  refine tj_iconst (0 : Int32) dX1_leave_7 rfl ?_
  refine tj_iload_n dX1_leave_8 rfl ?_
  refine tj_iast dX1_leave_9 (fun σ => ?_)
  refine tj_callVX (as := [va_rf v101, va_rf (some a102)]) (rest := []) (st' := (fun r => [.int r])) (t := 0) (fun a e => by cases e; exact ct_X1_change d _ _ _) (by decide) rfl q401 q403 qs0 q96 q404 rfl md_X1_change rfl (by decide) rfl (by decide) dX1_leave_10 (fun _ => rfl) (fun r103 σ => ?_) (by decide)
  exact tj_iret dX1_leave_13
theorem ct_X1_leave : ∀ (d : Nat) (v0 : Option Nat) (v1 : Int32), ct_ yX1_leave (ws_ yX1_leave cX1_leave 2 (some .int)) d em_i [va_rf v0, .int v1] (fn_X1_leave d v0 v1)
  | 0, _, _ => ct_fail
  | d + 1, v0, v1 => ct_of [(false, va_rf v0), (false, .int v1)] [some (va_rf v0), some (.int v1)] (by decide) rfl ⟨rfl, (rf_cat _), ⟨rfl, rfl, trivial⟩⟩ (fun E X n0 s0 σ => tj_X1_leave_B0 d v0 v1 σ)
theorem tj_X0_leave_B0 {E : tj_E} {X : tj_X} {n0 s0 : Nat} (d : Nat) (v0 : Option Nat) (v1 : Int32) (v2 : Option Nat) (σ : hp_S) : tj_T E X RX0 "leave" cX0_leave 4 (some .int) (d + 1) [(0, 9, 12, 21)] n0 s0 em_i σ 0 [some (va_rf v0), some (.int v1), some (va_rf v2), none] [] (fn_X0_leave_B0 d v0 v1 v2) := by
  unfold fn_X0_leave_B0
  refine tj_aload_n dX0_leave_0 rfl ?_
  refine tj_iconst (0 : Int32) dX0_leave_1 rfl ?_
  refine tj_aload_n dX0_leave_2 rfl ?_
  refine tj_iload_n dX0_leave_3 rfl ?_
  refine tj_tryV (as := [.int v1]) (rest := [.int (0 : Int32), va_rf v2]) (st' := (fun r => [.int r, .int (0 : Int32), va_rf v2])) (t := 0) (fun a e => by cases e; exact ct_X1_leave d _ _) (by decide) rfl q3072 q3073 q3074 q96 q3075 rfl md_X1_leave rfl (by decide) rfl (by simp [rf_cat, cat_i, cat_l, cat_f, cat_d]) dX0_leave_4 (fun _ => rfl) (fun r101 σ => ?_) (fun q102 σ => ?_)
  · refine tj_i2l dX0_leave_7 ?_
    refine tj_last dX0_leave_8 (fun σ => ?_)
    refine tj_goto 15 dX0_leave_9 rfl ?_
    refine tj_iconst (0 : Int32) dX0_leave_15 rfl ?_
    exact tj_iret dX0_leave_16
  · refine tj_xin [] ⟨0, 9, 12, 21⟩ [] "java/util/NoSuchElementException" cx_java_util_NoSuchElementException_34 rfl (by decide) (by decide) q3055 (fun _ h => absurd h List.not_mem_nil) ?_ ?_
    · refine tj_astore_n dX0_leave_12 (by decide) (rf_cat _) [some (va_rf v0), some (.int v1), some (va_rf v2), some (va_rf (some q102))] rfl ?_
      refine tj_iconst (1 : Int32) dX0_leave_13 rfl ?_
      exact tj_iret dX0_leave_14
    exact tj_xfail
theorem ct_X0_leave : ∀ (d : Nat) (v0 : Option Nat) (v1 : Int32) (v2 : Option Nat), ct_ yX0_leave (wsW_ yX0_leave cX0_leave 4 (some .int) [(0, 9, 12, 21)]) d em_i [va_rf v0, .int v1, va_rf v2] (fn_X0_leave d v0 v1 v2)
  | 0, _, _, _ => ct_fail
  | d + 1, v0, v1, v2 => ct_ofH [(false, va_rf v0), (false, .int v1), (false, va_rf v2)] [some (va_rf v0), some (.int v1), some (va_rf v2), none] (by decide) rfl ⟨rfl, (rf_cat _), ⟨rfl, rfl, ⟨rfl, (rf_cat _), trivial⟩⟩⟩ (fun E X n0 s0 σ => tj_X0_leave_B0 d v0 v1 v2 σ)
theorem tj_J27_intValue_B0 {E : tj_E} {X : tj_X} {n0 s0 : Nat} (d : Nat) (v0 : Option Nat) (σ : hp_S) : tj_T E X RJ27 "intValue" cJ27_intValue 1 (some .int) (d + 1) [] n0 s0 em_i σ 0 [some (va_rf v0)] [] (fn_J27_intValue_B0 d v0) := by
  unfold fn_J27_intValue_B0
  refine tj_aload_n dJ27_intValue_0 rfl ?_
  refine tj_getI fl_J27_205r dJ27_intValue_1 (fun v101 => ?_)
  exact tj_iret dJ27_intValue_4
theorem ct_J27_intValue : ∀ (d : Nat) (v0 : Option Nat), ct_ yJ27_intValue (ws_ yJ27_intValue cJ27_intValue 1 (some .int)) d em_i [va_rf v0] (fn_J27_intValue d v0)
  | 0, _ => ct_fail
  | d + 1, v0 => ct_of [(false, va_rf v0)] [some (va_rf v0)] (by decide) rfl ⟨rfl, (rf_cat _), trivial⟩ (fun E X n0 s0 σ => tj_J27_intValue_B0 d v0 σ)
theorem tj_J48_init_B0 {E : tj_E} {X : tj_X} {n0 s0 : Nat} (d : Nat) (v0 : Option Nat) (σ : hp_S) : tj_T E X RJ48 "<init>" cJ48_init 1 none (d + 1) [] n0 s0 em_v σ 0 [some (va_rf v0)] [] (fn_J48_init_B0 d v0) := by
  unfold fn_J48_init_B0
  refine tj_aload_n dJ48_init_0 rfl ?_
  refine tj_callI (as := []) (rest := []) (st' := (fun _ => [])) (fun a e => by cases e; exact ct_J2_init d _) q3155 q243 q101 q244 rfl md_J2_init rfl (by decide) rfl (by decide) dJ48_init_1 (fun _ => rfl) (fun _ σ => ?_) (by decide)
  exact tj_vret dJ48_init_4
theorem ct_J48_init : ∀ (d : Nat) (v0 : Option Nat), ct_ yJ48_init (ws_ yJ48_init cJ48_init 1 none) d em_v [va_rf v0] (fn_J48_init d v0)
  | 0, _ => ct_fail
  | d + 1, v0 => ct_of [(false, va_rf v0)] [some (va_rf v0)] (by decide) rfl ⟨rfl, (rf_cat _), trivial⟩ (fun E X n0 s0 σ => tj_J48_init_B0 d v0 σ)
theorem tj_J51_init_B0 {E : tj_E} {X : tj_X} {n0 s0 : Nat} (d : Nat) (v0 : Option Nat) (v1 : Option Nat) (σ : hp_S) : tj_T E X RJ51 "<init>" cJ51_init 2 none (d + 1) [] n0 s0 em_v σ 0 [some (va_rf v0), some (va_rf v1)] [] (fn_J51_init_B0 d v0 v1) := by
  unfold fn_J51_init_B0
  refine tj_aload_n dJ51_init_0 rfl ?_
  refine tj_callI (as := []) (rest := []) (st' := (fun _ => [])) (fun a e => by cases e; exact ct_J48_init d _) q3152 q3153 q158 q3154 rfl md_J48_init rfl (by decide) rfl (by decide) dJ51_init_1 (fun _ => rfl) (fun _ σ => ?_) (by decide)
  refine tj_aload_n dJ51_init_4 rfl ?_
  refine tj_aload_n dJ51_init_5 rfl ?_
  refine tj_putF fl_J51_7 (nar_rf _) (fit_rf _) dJ51_init_6 (fun σ => ?_)
  exact tj_vret dJ51_init_9
theorem ct_J51_init : ∀ (d : Nat) (v0 : Option Nat) (v1 : Option Nat), ct_ yJ51_init (ws_ yJ51_init cJ51_init 2 none) d em_v [va_rf v0, va_rf v1] (fn_J51_init d v0 v1)
  | 0, _, _ => ct_fail
  | d + 1, v0, v1 => ct_of [(false, va_rf v0), (false, va_rf v1)] [some (va_rf v0), some (va_rf v1)] (by decide) rfl ⟨rfl, (rf_cat _), ⟨rfl, (rf_cat _), trivial⟩⟩ (fun E X n0 s0 σ => tj_J51_init_B0 d v0 v1 σ)
theorem tj_J1_navigableKeySet_B0 {E : tj_E} {X : tj_X} {n0 s0 : Nat} (d : Nat) (v0 : Option Nat) (σ : hp_S) : tj_T E X RJ1 "navigableKeySet" cJ1_navigableKeySet 2 (some (.object "java/util/NavigableSet")) (d + 1) [] n0 s0 em_r σ 0 [some (va_rf v0), none] [] (fn_J1_navigableKeySet_B0 d v0) := by
  unfold fn_J1_navigableKeySet_B0
  refine tj_aload_n dJ1_navigableKeySet_0 rfl ?_
  refine tj_getR fl_J1_191 dJ1_navigableKeySet_1 (fun v101 => ?_)
  refine tj_astore_n dJ1_navigableKeySet_4 (by decide) (rf_cat _) [some (va_rf v0), some (va_rf v101)] rfl ?_
  refine tj_aload_n dJ1_navigableKeySet_5 rfl ?_
  refine tj_ifnull 13 dJ1_navigableKeySet_6 rfl (fun _ => ?_) (fun _ _ => ?_)
  · refine tj_aload_n dJ1_navigableKeySet_13 rfl ?_
    refine tj_new nw_J1_222 dJ1_navigableKeySet_14 (fun a102 σ => ?_)
    refine tj_dup dJ1_navigableKeySet_17 (rf_cat _) ?_
    refine tj_aload_n dJ1_navigableKeySet_18 rfl ?_
    refine tj_callI (as := [va_rf v0]) (rest := [va_rf (some a102), va_rf v0]) (st' := (fun _ => [va_rf (some a102), va_rf v0])) (fun a e => by cases e; exact ct_J51_init d _ _) q3149 q3150 q162 q3151 rfl md_J51_init rfl (by decide) rfl (by simp [rf_cat, cat_i, cat_l, cat_f, cat_d]) dJ1_navigableKeySet_19 (fun _ => rfl) (fun _ σ => ?_) (by decide)
    refine tj_dup_x1 dJ1_navigableKeySet_22 (rf_cat _) (rf_cat _) ?_
    refine tj_put fl_J1_191 (nar_rf _) (fit_rf _) dJ1_navigableKeySet_23 (fun σ => ?_)
    exact tj_aret (Or.inl ⟨_, rfl⟩) dJ1_navigableKeySet_26
  · refine tj_aload_n dJ1_navigableKeySet_9 rfl ?_
    refine tj_goto 26 dJ1_navigableKeySet_10 rfl ?_
    exact tj_aret (Or.inl ⟨_, rfl⟩) dJ1_navigableKeySet_26
theorem ct_J1_navigableKeySet : ∀ (d : Nat) (v0 : Option Nat), ct_ yJ1_navigableKeySet (ws_ yJ1_navigableKeySet cJ1_navigableKeySet 2 (some (.object "java/util/NavigableSet"))) d em_r [va_rf v0] (fn_J1_navigableKeySet d v0)
  | 0, _ => ct_fail
  | d + 1, v0 => ct_of [(false, va_rf v0)] [some (va_rf v0), none] (by decide) rfl ⟨rfl, (rf_cat _), trivial⟩ (fun E X n0 s0 σ => tj_J1_navigableKeySet_B0 d v0 σ)
theorem tj_J1_keySet_B0 {E : tj_E} {X : tj_X} {n0 s0 : Nat} (d : Nat) (v0 : Option Nat) (σ : hp_S) : tj_T E X RJ1 "keySet" cJ1_keySet 1 (some (.object "java/util/Set")) (d + 1) [] n0 s0 em_r σ 0 [some (va_rf v0)] [] (fn_J1_keySet_B0 d v0) := by
  unfold fn_J1_keySet_B0
  refine tj_aload_n dJ1_keySet_0 rfl ?_
  refine tj_callV (as := []) (rest := []) (st' := (fun r => [va_rf r])) (t := 18) (fun a e => by cases e; exact ct_J1_navigableKeySet d _) (by decide) rfl q3143 q3144 q3145 q99 q3146 rfl md_J1_navigableKeySet rfl (by decide) rfl (by decide) dJ1_keySet_1 (fun _ => rfl) (fun r101 σ => ?_) (by decide)
  exact tj_aret (Or.inl ⟨_, rfl⟩) dJ1_keySet_4
theorem ct_J1_keySet : ∀ (d : Nat) (v0 : Option Nat), ct_ yJ1_keySet (ws_ yJ1_keySet cJ1_keySet 1 (some (.object "java/util/Set"))) d em_r [va_rf v0] (fn_J1_keySet d v0)
  | 0, _ => ct_fail
  | d + 1, v0 => ct_of [(false, va_rf v0)] [some (va_rf v0)] (by decide) rfl ⟨rfl, (rf_cat _), trivial⟩ (fun E X n0 s0 σ => tj_J1_keySet_B0 d v0 σ)
theorem tj_X1_lionAt_B0 {E : tj_E} {X : tj_X} {n0 s0 : Nat} (d : Nat) (v0 : Option Nat) (v1 : Int32) (σ : hp_S) : tj_T E X RX1 "lionAt" cX1_lionAt 2 (some .int) (d + 1) [] n0 s0 em_i σ 0 [some (va_rf v0), some (.int v1)] [] (fn_X1_lionAt_B0 d v0 v1) := by
  unfold fn_X1_lionAt_B0
  refine tj_iload_n dX1_lionAt_0 rfl ?_
  refine tj_iconst (0 : Int32) dX1_lionAt_1 rfl ?_
  refine tj_aload_n dX1_lionAt_2 rfl ?_
  refine tj_callV (as := []) (rest := [.int (0 : Int32), .int v1]) (st' := (fun r => [.int r, .int (0 : Int32), .int v1])) (t := 0) (fun a e => by cases e; exact ct_X1_lionCount d _) (by decide) rfl q3041 q2695 q2696 q96 q2697 rfl md_X1_lionCount rfl (by decide) rfl (by simp [rf_cat, cat_i, cat_l, cat_f, cat_d]) dX1_lionAt_3 (fun _ => rfl) (fun r101 σ => ?_) (by decide)
  refine tj_iconst (1 : Int32) dX1_lionAt_6 rfl ?_
  refine tj_isub dX1_lionAt_7 ?_
  refine tj_callS (as := [.int v1, .int (0 : Int32), .int (r101 - (1 : Int32))]) (rest := []) (st' := (fun r => [.int r])) (ct_X1_isBetween d v1 (0 : Int32) _) q3133 q1964 q96 q1965 md_X1_isBetween rfl (by decide) rfl (by decide) dX1_lionAt_8 (fun _ => rfl) (fun r102 σ => ?_) (by decide)
  refine tj_callS (as := [.int r102]) (rest := []) (st' := (fun _ => [])) (ct_X1_checkElement d r102) q3134 q3135 q96 q3136 md_X1_checkElement rfl (by decide) rfl (by decide) dX1_lionAt_11 (fun _ => rfl) (fun _ σ => ?_) (by decide)
  refine tj_new nw_X1_7 dX1_lionAt_14 (fun a103 σ => ?_)
  refine tj_dup dX1_lionAt_17 (rf_cat _) ?_
  refine tj_aload_n dX1_lionAt_18 rfl ?_
  refine tj_getR fl_X1_66 dX1_lionAt_19 (fun v104 => ?_)
  refine tj_getR fl_X1_172r dX1_lionAt_22 (fun v105 => ?_)
  refine tj_callV (as := []) (rest := [va_rf (some a103), va_rf (some a103)]) (st' := (fun r => [va_rf r, va_rf (some a103), va_rf (some a103)])) (t := 18) (fun a e => by cases e; exact ct_J1_keySet d _) (by decide) rfl q3139 q3140 q3141 q99 q3142 rfl md_J1_keySet rfl (by decide) rfl (by simp [rf_cat, cat_i, cat_l, cat_f, cat_d]) dX1_lionAt_25 (fun _ => rfl) (fun r106 σ => ?_) (by decide)
  refine tj_callI (as := [va_rf r106]) (rest := [va_rf (some a103)]) (st' := (fun _ => [va_rf (some a103)])) (fun a e => by cases e; exact ct_J4_init_2 d _ _) q3160 q2538 q103 q2539 rfl md_J4_init_2 rfl (by decide) rfl (by simp [rf_cat, cat_i, cat_l, cat_f, cat_d]) dX1_lionAt_28 (fun _ => rfl) (fun _ σ => ?_) (by decide)
  refine tj_iload_n dX1_lionAt_31 rfl ?_
  refine tj_callV (as := [.int v1]) (rest := []) (st' := (fun r => [va_rf r])) (t := 16) (fun a e => by cases e; exact ct_J4_get d _ _) (by decide) rfl q3161 q1120 q4353 q103 q1121 rfl md_J4_get rfl (by decide) rfl (by decide) dX1_lionAt_32 (fun _ => rfl) (fun r107 σ => ?_) (by decide)
  refine tj_cast (nm := "java/lang/Integer") q3162 ca_java_lang_Integer dX1_lionAt_35 ?_
  refine tj_callV (as := []) (rest := []) (st' := (fun r => [.int r])) (t := 31) (fun a e => by cases e; exact ct_J27_intValue d _) (by decide) rfl q3163 q3164 q3165 q128 q3166 rfl md_J27_intValue rfl (by decide) rfl (by decide) dX1_lionAt_38 (fun _ => rfl) (fun r108 σ => ?_) (by decide)
  exact tj_iret dX1_lionAt_41
theorem ct_X1_lionAt : ∀ (d : Nat) (v0 : Option Nat) (v1 : Int32), ct_ yX1_lionAt (ws_ yX1_lionAt cX1_lionAt 2 (some .int)) d em_i [va_rf v0, .int v1] (fn_X1_lionAt d v0 v1)
  | 0, _, _ => ct_fail
  | d + 1, v0, v1 => ct_of [(false, va_rf v0), (false, .int v1)] [some (va_rf v0), some (.int v1)] (by decide) rfl ⟨rfl, (rf_cat _), ⟨rfl, rfl, trivial⟩⟩ (fun E X n0 s0 σ => tj_X1_lionAt_B0 d v0 v1 σ)
theorem tj_X0_lionAt_B0 {E : tj_E} {X : tj_X} {n0 s0 : Nat} (d : Nat) (v0 : Option Nat) (v1 : Int32) (v2 : Option Nat) (σ : hp_S) : tj_T E X RX0 "lionAt" cX0_lionAt 4 (some .int) (d + 1) [(0, 9, 12, 21)] n0 s0 em_i σ 0 [some (va_rf v0), some (.int v1), some (va_rf v2), none] [] (fn_X0_lionAt_B0 d v0 v1 v2) := by
  unfold fn_X0_lionAt_B0
  refine tj_aload_n dX0_lionAt_0 rfl ?_
  refine tj_iconst (0 : Int32) dX0_lionAt_1 rfl ?_
  refine tj_aload_n dX0_lionAt_2 rfl ?_
  refine tj_iload_n dX0_lionAt_3 rfl ?_
  refine tj_tryV (as := [.int v1]) (rest := [.int (0 : Int32), va_rf v2]) (st' := (fun r => [.int r, .int (0 : Int32), va_rf v2])) (t := 0) (fun a e => by cases e; exact ct_X1_lionAt d _ _) (by decide) rfl q3129 q3130 q3131 q96 q3132 rfl md_X1_lionAt rfl (by decide) rfl (by simp [rf_cat, cat_i, cat_l, cat_f, cat_d]) dX0_lionAt_4 (fun _ => rfl) (fun r101 σ => ?_) (fun q102 σ => ?_)
  · refine tj_i2l dX0_lionAt_7 ?_
    refine tj_last dX0_lionAt_8 (fun σ => ?_)
    refine tj_goto 15 dX0_lionAt_9 rfl ?_
    refine tj_iconst (0 : Int32) dX0_lionAt_15 rfl ?_
    exact tj_iret dX0_lionAt_16
  · refine tj_xin [] ⟨0, 9, 12, 21⟩ [] "java/util/NoSuchElementException" cx_java_util_NoSuchElementException_34 rfl (by decide) (by decide) q3055 (fun _ h => absurd h List.not_mem_nil) ?_ ?_
    · refine tj_astore_n dX0_lionAt_12 (by decide) (rf_cat _) [some (va_rf v0), some (.int v1), some (va_rf v2), some (va_rf (some q102))] rfl ?_
      refine tj_iconst (1 : Int32) dX0_lionAt_13 rfl ?_
      exact tj_iret dX0_lionAt_14
    exact tj_xfail
theorem ct_X0_lionAt : ∀ (d : Nat) (v0 : Option Nat) (v1 : Int32) (v2 : Option Nat), ct_ yX0_lionAt (wsW_ yX0_lionAt cX0_lionAt 4 (some .int) [(0, 9, 12, 21)]) d em_i [va_rf v0, .int v1, va_rf v2] (fn_X0_lionAt d v0 v1 v2)
  | 0, _, _, _ => ct_fail
  | d + 1, v0, v1, v2 => ct_ofH [(false, va_rf v0), (false, .int v1), (false, va_rf v2)] [some (va_rf v0), some (.int v1), some (va_rf v2), none] (by decide) rfl ⟨rfl, (rf_cat _), ⟨rfl, rfl, ⟨rfl, (rf_cat _), trivial⟩⟩⟩ (fun E X n0 s0 σ => tj_X0_lionAt_B0 d v0 v1 v2 σ)
theorem tj_X2_lionAt_J93 {E : tj_E} {X : tj_X} {n0 s0 : Nat} (d : Nat) {b13 : Option Nat → Int32 → Option Nat → mx_M Int32} {b49 : Option Nat → Int32 → Option Nat → Option Nat → Int32 → Option Nat → mx_M Int32} (h13 : ∀ (l0 : Option Nat) (l1 : Int32) (l2 : Option Nat) (σ : hp_S), tj_T E X RX2 "lionAt" cX2_lionAt 7 (some .int) (d + 1) [] n0 s0 em_i σ 13 [some (va_rf l0), some (.int l1), some (va_rf l2), none, none, none, none] [] (b13 l0 l1 l2)) (h49 : ∀ (l0 : Option Nat) (l1 : Int32) (l2 : Option Nat) (l3 : Option Nat) (l4 : Int32) (l5 : Option Nat) (σ : hp_S), tj_T E X RX2 "lionAt" cX2_lionAt 7 (some .int) (d + 1) [] n0 s0 em_i σ 49 [some (va_rf l0), some (.int l1), some (va_rf l2), some (va_rf l3), some (.int l4), some (va_rf l5), none] [] (b49 l0 l1 l2 l3 l4 l5)) (l0 : Option Nat) (l1 : Int32) (l2 : Option Nat) (l3 : Option Nat) (l5 : Option Nat) (p0 : Int32) (p1 : Int32) (σ : hp_S) : tj_T E X RX2 "lionAt" cX2_lionAt 7 (some .int) (d + 1) [] n0 s0 em_i σ 93 [some (va_rf l0), some (.int l1), some (va_rf l2), some (va_rf l3), none, some (va_rf l5), none] [.int p1, .int p0] (fn_X2_lionAt_J93 d b13 b49 l0 l1 l2 l3 l5 p0 p1) := by
  unfold fn_X2_lionAt_J93
  refine tj_iadd dX2_lionAt_93 ?_
  refine tj_topi (fun v101 => ?_)
  refine tj_istore dX2_lionAt_94 (by decide) (rf_cat _) [some (va_rf l0), some (.int l1), some (va_rf l2), some (va_rf l3), some (.int v101), some (va_rf l5), none] rfl ?_
  refine tj_goto 49 dX2_lionAt_96 rfl ?_
  exact h49 l0 l1 l2 l3 v101 l5 _
theorem tj_X2_lionAt_L49_b {E : tj_E} {X : tj_X} {n0 s0 : Nat} (d : Nat) {b13 : Option Nat → Int32 → Option Nat → mx_M Int32} {b49 : Option Nat → Int32 → Option Nat → Option Nat → Int32 → Option Nat → mx_M Int32} (h13 : ∀ (l0 : Option Nat) (l1 : Int32) (l2 : Option Nat) (σ : hp_S), tj_T E X RX2 "lionAt" cX2_lionAt 7 (some .int) (d + 1) [] n0 s0 em_i σ 13 [some (va_rf l0), some (.int l1), some (va_rf l2), none, none, none, none] [] (b13 l0 l1 l2)) (h49 : ∀ (l0 : Option Nat) (l1 : Int32) (l2 : Option Nat) (l3 : Option Nat) (l4 : Int32) (l5 : Option Nat) (σ : hp_S), tj_T E X RX2 "lionAt" cX2_lionAt 7 (some .int) (d + 1) [] n0 s0 em_i σ 49 [some (va_rf l0), some (.int l1), some (va_rf l2), some (va_rf l3), some (.int l4), some (va_rf l5), none] [] (b49 l0 l1 l2 l3 l4 l5)) (l0 : Option Nat) (l1 : Int32) (l2 : Option Nat) (l3 : Option Nat) (l4 : Int32) (l5 : Option Nat) (σ : hp_S) : tj_T E X RX2 "lionAt" cX2_lionAt 7 (some .int) (d + 1) [] n0 s0 em_i σ 49 [some (va_rf l0), some (.int l1), some (va_rf l2), some (va_rf l3), some (.int l4), some (va_rf l5), none] [] (fn_X2_lionAt_L49_b d b13 b49 l0 l1 l2 l3 l4 l5) := by
  unfold fn_X2_lionAt_L49_b
  refine tj_aload dX2_lionAt_49 rfl ?_
  refine tj_callF (as := []) (rest := []) (st' := (fun r => [.int r])) (t := 22) (fun a e => by cases e; exact ct_J33_hasNext d _) (by decide) rfl q1036 q1100 q1093 q135 q1095 (ev_i 1 rfl) q1094 q1101 q1099 md_i1 rfl (by decide) rfl (by decide) dX2_lionAt_51 (fun _ => rfl) (fun r101 σ => ?_) (by decide)
  refine tj_if_eq 99 dX2_lionAt_56 rfl (fun _ => ?_) (fun _ => ?_)
  · refine tj_iload dX2_lionAt_99 rfl ?_
    refine tj_iload_n dX2_lionAt_101 rfl ?_
    refine tj_icmp_ne 110 dX2_lionAt_102 rfl (fun _ => ?_) (fun _ => ?_)
    · refine tj_aload_n dX2_lionAt_105 rfl ?_
      refine tj_getI fl_X2_48r dX2_lionAt_106 (fun v102 => ?_)
      exact tj_iret dX2_lionAt_109
    · refine tj_goto 13 dX2_lionAt_110 rfl ?_
      refine tj_wk (L' := [some (va_rf l0), some (.int l1), some (va_rf l2), none, none, none, none]) ⟨rfl, rfl, rfl, trivial⟩ ?_
      exact h13 l0 l1 l2 _
  · refine tj_aload dX2_lionAt_59 rfl ?_
    refine tj_callF (as := []) (rest := []) (st' := (fun r => [va_rf r])) (t := 22) (fun a e => by cases e; exact ct_J36_next d _) (by decide) rfl q1103 q1419 q1421 q138 q1423 (ev_i 2 rfl) q1422 q1420 q1099 md_i2 rfl (by decide) rfl (by decide) dX2_lionAt_61 (fun _ => rfl) (fun r103 σ => ?_) (by decide)
    refine tj_cast (nm := "LionGate$Lion") q1427 ca_LionGate_Lion dX2_lionAt_66 ?_
    refine tj_astore dX2_lionAt_69 (by decide) (rf_cat _) [some (va_rf l0), some (.int l1), some (va_rf l2), some (va_rf l3), some (.int l4), some (va_rf l5), some (va_rf r103)] rfl ?_
    refine tj_iload dX2_lionAt_71 rfl ?_
    refine tj_aload dX2_lionAt_73 rfl ?_
    refine tj_getR fl_X2_111r dX2_lionAt_75 (fun v104 => ?_)
    refine tj_aload_n dX2_lionAt_78 rfl ?_
    refine tj_getR fl_X2_111r dX2_lionAt_79 (fun v105 => ?_)
    refine tj_callV (as := [va_rf v105]) (rest := [.int l4]) (st' := (fun r => [.int r, .int l4])) (t := 6) (fun a e => by cases e; exact ct_X9_isBefore d _ _) (by decide) rfl q2916 q2159 q2160 q152 q2161 rfl md_X9_isBefore rfl (by decide) rfl (by simp [rf_cat, cat_i, cat_l, cat_f, cat_d]) dX2_lionAt_82 (fun _ => rfl) (fun r106 σ => ?_) (by decide)
    refine tj_if_eq 92 dX2_lionAt_85 rfl (fun _ => ?_) (fun _ => ?_)
    · refine tj_iconst (0 : Int32) dX2_lionAt_92 rfl ?_
      refine tj_wk (L' := [some (va_rf l0), some (.int l1), some (va_rf l2), some (va_rf l3), none, some (va_rf l5), none]) ⟨rfl, rfl, rfl, rfl, rfl, trivial⟩ ?_
      exact tj_X2_lionAt_J93 d h13 h49 l0 l1 l2 l3 l5 l4 (0 : Int32) _
    · refine tj_iconst (1 : Int32) dX2_lionAt_88 rfl ?_
      refine tj_goto 93 dX2_lionAt_89 rfl ?_
      refine tj_wk (L' := [some (va_rf l0), some (.int l1), some (va_rf l2), some (va_rf l3), none, some (va_rf l5), none]) ⟨rfl, rfl, rfl, rfl, rfl, trivial⟩ ?_
      exact tj_X2_lionAt_J93 d h13 h49 l0 l1 l2 l3 l5 l4 (1 : Int32) _
theorem tj_X2_lionAt_L49 {E : tj_E} {X : tj_X} {n0 s0 : Nat} (d : Nat) {b13 : Option Nat → Int32 → Option Nat → mx_M Int32} (h13 : ∀ (l0 : Option Nat) (l1 : Int32) (l2 : Option Nat) (σ : hp_S), tj_T E X RX2 "lionAt" cX2_lionAt 7 (some .int) (d + 1) [] n0 s0 em_i σ 13 [some (va_rf l0), some (.int l1), some (va_rf l2), none, none, none, none] [] (b13 l0 l1 l2)) : ∀ (k : Nat) (l0 : Option Nat) (l1 : Int32) (l2 : Option Nat) (l3 : Option Nat) (l4 : Int32) (l5 : Option Nat) (σ : hp_S), tj_T E X RX2 "lionAt" cX2_lionAt 7 (some .int) (d + 1) [] n0 s0 em_i σ 49 [some (va_rf l0), some (.int l1), some (va_rf l2), some (va_rf l3), some (.int l4), some (va_rf l5), none] [] (fn_X2_lionAt_L49 d b13 k l0 l1 l2 l3 l4 l5) := by
  intro k
  induction k with
  | zero =>
    intro l0 l1 l2 l3 l4 l5 σ
    exact tj_fail
  | succ k ih =>
    intro l0 l1 l2 l3 l4 l5 σ
    exact tj_X2_lionAt_L49_b d h13 ih l0 l1 l2 l3 l4 l5 σ
theorem tj_X2_lionAt_L13_b {E : tj_E} {X : tj_X} {n0 s0 : Nat} (d : Nat) {b13 : Option Nat → Int32 → Option Nat → mx_M Int32} (h13 : ∀ (l0 : Option Nat) (l1 : Int32) (l2 : Option Nat) (σ : hp_S), tj_T E X RX2 "lionAt" cX2_lionAt 7 (some .int) (d + 1) [] n0 s0 em_i σ 13 [some (va_rf l0), some (.int l1), some (va_rf l2), none, none, none, none] [] (b13 l0 l1 l2)) (l0 : Option Nat) (l1 : Int32) (l2 : Option Nat) (σ : hp_S) : tj_T E X RX2 "lionAt" cX2_lionAt 7 (some .int) (d + 1) [] n0 s0 em_i σ 13 [some (va_rf l0), some (.int l1), some (va_rf l2), none, none, none, none] [] (fn_X2_lionAt_L13_b d b13 l0 l1 l2) := by
  unfold fn_X2_lionAt_L13_b
  refine tj_aload_n dX2_lionAt_13 rfl ?_
  refine tj_callF (as := []) (rest := []) (st' := (fun r => [.int r])) (t := 22) (fun a e => by cases e; exact ct_J33_hasNext d _) (by decide) rfl q1036 q1100 q1093 q135 q1095 (ev_i 1 rfl) q1094 q1101 q1099 md_i1 rfl (by decide) rfl (by decide) dX2_lionAt_14 (fun _ => rfl) (fun r101 σ => ?_) (by decide)
  refine tj_if_eq 113 dX2_lionAt_19 rfl (fun _ => ?_) (fun _ => ?_)
  · refine tj_iconst (-1 : Int32) dX2_lionAt_113 rfl ?_
    exact tj_iret dX2_lionAt_114
  · refine tj_aload_n dX2_lionAt_22 rfl ?_
    refine tj_callF (as := []) (rest := []) (st' := (fun r => [va_rf r])) (t := 22) (fun a e => by cases e; exact ct_J36_next d _) (by decide) rfl q1103 q1419 q1421 q138 q1423 (ev_i 2 rfl) q1422 q1420 q1099 md_i2 rfl (by decide) rfl (by decide) dX2_lionAt_23 (fun _ => rfl) (fun r102 σ => ?_) (by decide)
    refine tj_cast (nm := "LionGate$Lion") q1427 ca_LionGate_Lion dX2_lionAt_28 ?_
    refine tj_astore_n dX2_lionAt_31 (by decide) (rf_cat _) [some (va_rf l0), some (.int l1), some (va_rf l2), some (va_rf r102), none, none, none] rfl ?_
    refine tj_iconst (0 : Int32) dX2_lionAt_32 rfl ?_
    refine tj_istore dX2_lionAt_33 (by decide) (rf_cat _) [some (va_rf l0), some (.int l1), some (va_rf l2), some (va_rf r102), some (.int (0 : Int32)), none, none] rfl ?_
    refine tj_aload_n dX2_lionAt_35 rfl ?_
    refine tj_getR fl_X2_12r dX2_lionAt_36 (fun v103 => ?_)
    refine tj_callV (as := []) (rest := []) (st' := (fun r => [va_rf r])) (t := 18) (fun a e => by cases e; exact ct_J1_values d _) (by decide) rfl q412 q413 q414 q99 q415 rfl md_J1_values rfl (by decide) rfl (by decide) dX2_lionAt_39 (fun _ => rfl) (fun r104 σ => ?_) (by decide)
    refine tj_callF (as := []) (rest := []) (st' := (fun r => [va_rf r])) (t := 20) (fun a e => by cases e; exact ct_J11_iterator d _) (by decide) rfl q428 q1018 q1020 q111 q1022 (ev_i 0 rfl) q1021 q1019 q1017 md_i0 rfl (by decide) rfl (by decide) dX2_lionAt_42 (fun _ => rfl) (fun r105 σ => ?_) (by decide)
    refine tj_astore dX2_lionAt_47 (by decide) rfl [some (va_rf l0), some (.int l1), some (va_rf l2), some (va_rf r102), some (.int (0 : Int32)), some (va_rf r105), none] rfl ?_
    exact tj_X2_lionAt_L49 d h13 mx_K l0 l1 l2 r102 (0 : Int32) r105 _
theorem tj_X2_lionAt_L13 {E : tj_E} {X : tj_X} {n0 s0 : Nat} (d : Nat) : ∀ (k : Nat) (l0 : Option Nat) (l1 : Int32) (l2 : Option Nat) (σ : hp_S), tj_T E X RX2 "lionAt" cX2_lionAt 7 (some .int) (d + 1) [] n0 s0 em_i σ 13 [some (va_rf l0), some (.int l1), some (va_rf l2), none, none, none, none] [] (fn_X2_lionAt_L13 d k l0 l1 l2) := by
  intro k
  induction k with
  | zero =>
    intro l0 l1 l2 σ
    exact tj_fail
  | succ k ih =>
    intro l0 l1 l2 σ
    exact tj_X2_lionAt_L13_b d ih l0 l1 l2 σ
theorem tj_X2_lionAt_B0 {E : tj_E} {X : tj_X} {n0 s0 : Nat} (d : Nat) (v0 : Option Nat) (v1 : Int32) (σ : hp_S) : tj_T E X RX2 "lionAt" cX2_lionAt 7 (some .int) (d + 1) [] n0 s0 em_i σ 0 [some (va_rf v0), some (.int v1), none, none, none, none, none] [] (fn_X2_lionAt_B0 d v0 v1) := by
  unfold fn_X2_lionAt_B0
  refine tj_aload_n dX2_lionAt_0 rfl ?_
  refine tj_getR fl_X2_12r dX2_lionAt_1 (fun v101 => ?_)
  refine tj_callV (as := []) (rest := []) (st' := (fun r => [va_rf r])) (t := 18) (fun a e => by cases e; exact ct_J1_values d _) (by decide) rfl q412 q413 q414 q99 q415 rfl md_J1_values rfl (by decide) rfl (by decide) dX2_lionAt_4 (fun _ => rfl) (fun r102 σ => ?_) (by decide)
  refine tj_callF (as := []) (rest := []) (st' := (fun r => [va_rf r])) (t := 20) (fun a e => by cases e; exact ct_J11_iterator d _) (by decide) rfl q428 q1018 q1020 q111 q1022 (ev_i 0 rfl) q1021 q1019 q1017 md_i0 rfl (by decide) rfl (by decide) dX2_lionAt_7 (fun _ => rfl) (fun r103 σ => ?_) (by decide)
  refine tj_astore_n dX2_lionAt_12 (by decide) rfl [some (va_rf v0), some (.int v1), some (va_rf r103), none, none, none, none] rfl ?_
  exact tj_X2_lionAt_L13 d mx_K v0 v1 r103 _
theorem ct_X2_lionAt : ∀ (d : Nat) (v0 : Option Nat) (v1 : Int32), ct_ yX2_lionAt (ws_ yX2_lionAt cX2_lionAt 7 (some .int)) d em_i [va_rf v0, .int v1] (fn_X2_lionAt d v0 v1)
  | 0, _, _ => ct_fail
  | d + 1, v0, v1 => ct_of [(false, va_rf v0), (false, .int v1)] [some (va_rf v0), some (.int v1), none, none, none, none, none] (by decide) rfl ⟨rfl, (rf_cat _), ⟨rfl, rfl, trivial⟩⟩ (fun E X n0 s0 σ => tj_X2_lionAt_B0 d v0 v1 σ)
theorem tj_X1_lionAtRank_B0 {E : tj_E} {X : tj_X} {n0 s0 : Nat} (d : Nat) (v0 : Option Nat) (v1 : Int32) (σ : hp_S) : tj_T E X RX1 "lionAtRank" cX1_lionAtRank 2 (some .int) (d + 1) [] n0 s0 em_i σ 0 [some (va_rf v0), some (.int v1)] [] (fn_X1_lionAtRank_B0 d v0 v1) := by
  unfold fn_X1_lionAtRank_B0
  refine tj_aload_n dX1_lionAtRank_0 rfl ?_
  refine tj_getR fl_X1_66 dX1_lionAtRank_1 (fun v101 => ?_)
  refine tj_iload_n dX1_lionAtRank_4 rfl ?_
  refine tj_callV (as := [.int v1]) (rest := []) (st' := (fun r => [.int r])) (t := 2) (fun a e => by cases e; exact ct_X2_lionAt d _ _) (by decide) rfl q3230 q3231 q3232 q97 q3233 rfl md_X2_lionAt rfl (by decide) rfl (by decide) dX1_lionAtRank_5 (fun _ => rfl) (fun r102 σ => ?_) (by decide)
  refine tj_callS (as := [.int r102]) (rest := []) (st' := (fun r => [.int r])) (ct_X1_found d r102) q3212 q3213 q96 q3214 md_X1_found rfl (by decide) rfl (by decide) dX1_lionAtRank_8 (fun _ => rfl) (fun r103 σ => ?_) (by decide)
  exact tj_iret dX1_lionAtRank_11
theorem ct_X1_lionAtRank : ∀ (d : Nat) (v0 : Option Nat) (v1 : Int32), ct_ yX1_lionAtRank (ws_ yX1_lionAtRank cX1_lionAtRank 2 (some .int)) d em_i [va_rf v0, .int v1] (fn_X1_lionAtRank d v0 v1)
  | 0, _, _ => ct_fail
  | d + 1, v0, v1 => ct_of [(false, va_rf v0), (false, .int v1)] [some (va_rf v0), some (.int v1)] (by decide) rfl ⟨rfl, (rf_cat _), ⟨rfl, rfl, trivial⟩⟩ (fun E X n0 s0 σ => tj_X1_lionAtRank_B0 d v0 v1 σ)
theorem tj_X0_lionAtRank_B0 {E : tj_E} {X : tj_X} {n0 s0 : Nat} (d : Nat) (v0 : Option Nat) (v1 : Int32) (v2 : Option Nat) (σ : hp_S) : tj_T E X RX0 "lionAtRank" cX0_lionAtRank 4 (some .int) (d + 1) [(0, 9, 12, 21)] n0 s0 em_i σ 0 [some (va_rf v0), some (.int v1), some (va_rf v2), none] [] (fn_X0_lionAtRank_B0 d v0 v1 v2) := by
  unfold fn_X0_lionAtRank_B0
  refine tj_aload_n dX0_lionAtRank_0 rfl ?_
  refine tj_iconst (0 : Int32) dX0_lionAtRank_1 rfl ?_
  refine tj_aload_n dX0_lionAtRank_2 rfl ?_
  refine tj_iload_n dX0_lionAtRank_3 rfl ?_
  refine tj_tryV (as := [.int v1]) (rest := [.int (0 : Int32), va_rf v2]) (st' := (fun r => [.int r, .int (0 : Int32), va_rf v2])) (t := 0) (fun a e => by cases e; exact ct_X1_lionAtRank d _ _) (by decide) rfl q3226 q3227 q3228 q96 q3229 rfl md_X1_lionAtRank rfl (by decide) rfl (by simp [rf_cat, cat_i, cat_l, cat_f, cat_d]) dX0_lionAtRank_4 (fun _ => rfl) (fun r101 σ => ?_) (fun q102 σ => ?_)
  · refine tj_i2l dX0_lionAtRank_7 ?_
    refine tj_last dX0_lionAtRank_8 (fun σ => ?_)
    refine tj_goto 15 dX0_lionAtRank_9 rfl ?_
    refine tj_iconst (0 : Int32) dX0_lionAtRank_15 rfl ?_
    exact tj_iret dX0_lionAtRank_16
  · refine tj_xin [] ⟨0, 9, 12, 21⟩ [] "java/util/NoSuchElementException" cx_java_util_NoSuchElementException_34 rfl (by decide) (by decide) q3055 (fun _ h => absurd h List.not_mem_nil) ?_ ?_
    · refine tj_astore_n dX0_lionAtRank_12 (by decide) (rf_cat _) [some (va_rf v0), some (.int v1), some (va_rf v2), some (va_rf (some q102))] rfl ?_
      refine tj_iconst (1 : Int32) dX0_lionAtRank_13 rfl ?_
      exact tj_iret dX0_lionAtRank_14
    exact tj_xfail
theorem ct_X0_lionAtRank : ∀ (d : Nat) (v0 : Option Nat) (v1 : Int32) (v2 : Option Nat), ct_ yX0_lionAtRank (wsW_ yX0_lionAtRank cX0_lionAtRank 4 (some .int) [(0, 9, 12, 21)]) d em_i [va_rf v0, .int v1, va_rf v2] (fn_X0_lionAtRank d v0 v1 v2)
  | 0, _, _, _ => ct_fail
  | d + 1, v0, v1, v2 => ct_ofH [(false, va_rf v0), (false, .int v1), (false, va_rf v2)] [some (va_rf v0), some (.int v1), some (va_rf v2), none] (by decide) rfl ⟨rfl, (rf_cat _), ⟨rfl, rfl, ⟨rfl, (rf_cat _), trivial⟩⟩⟩ (fun E X n0 s0 σ => tj_X0_lionAtRank_B0 d v0 v1 v2 σ)
theorem tj_X2_hungerTotal_L15_b {E : tj_E} {X : tj_X} {n0 s0 : Nat} (d : Nat) {b15 : Int32 → Option Nat → mx_M Int32} (h15 : ∀ (l1 : Int32) (l2 : Option Nat) (σ : hp_S), tj_T E X RX2 "hungerTotal" cX2_hungerTotal 4 (some .int) (d + 1) [] n0 s0 em_i σ 15 [none, some (.int l1), some (va_rf l2), none] [] (b15 l1 l2)) (l1 : Int32) (l2 : Option Nat) (σ : hp_S) : tj_T E X RX2 "hungerTotal" cX2_hungerTotal 4 (some .int) (d + 1) [] n0 s0 em_i σ 15 [none, some (.int l1), some (va_rf l2), none] [] (fn_X2_hungerTotal_L15_b d b15 l1 l2) := by
  unfold fn_X2_hungerTotal_L15_b
  refine tj_aload_n dX2_hungerTotal_15 rfl ?_
  refine tj_callF (as := []) (rest := []) (st' := (fun r => [.int r])) (t := 22) (fun a e => by cases e; exact ct_J33_hasNext d _) (by decide) rfl q1036 q1100 q1093 q135 q1095 (ev_i 1 rfl) q1094 q1101 q1099 md_i1 rfl (by decide) rfl (by decide) dX2_hungerTotal_16 (fun _ => rfl) (fun r101 σ => ?_) (by decide)
  refine tj_if_eq 44 dX2_hungerTotal_21 rfl (fun _ => ?_) (fun _ => ?_)
  · refine tj_iload_n dX2_hungerTotal_44 rfl ?_
    exact tj_iret dX2_hungerTotal_45
  · refine tj_aload_n dX2_hungerTotal_24 rfl ?_
    refine tj_callF (as := []) (rest := []) (st' := (fun r => [va_rf r])) (t := 22) (fun a e => by cases e; exact ct_J36_next d _) (by decide) rfl q1103 q1419 q1421 q138 q1423 (ev_i 2 rfl) q1422 q1420 q1099 md_i2 rfl (by decide) rfl (by decide) dX2_hungerTotal_25 (fun _ => rfl) (fun r102 σ => ?_) (by decide)
    refine tj_cast (nm := "LionGate$Lion") q1427 ca_LionGate_Lion dX2_hungerTotal_30 ?_
    refine tj_astore_n dX2_hungerTotal_33 (by decide) (rf_cat _) [none, some (.int l1), some (va_rf l2), some (va_rf r102)] rfl ?_
    refine tj_iload_n dX2_hungerTotal_34 rfl ?_
    refine tj_aload_n dX2_hungerTotal_35 rfl ?_
    refine tj_callV (as := []) (rest := [.int l1]) (st' := (fun r => [.int r, .int l1])) (t := 5) (fun a e => by cases e; exact ct_X8_hunger d _) (by decide) rfl q2419 q2420 q2421 q151 q2422 rfl md_X8_hunger rfl (by decide) rfl (by simp [rf_cat, cat_i, cat_l, cat_f, cat_d]) dX2_hungerTotal_36 (fun _ => rfl) (fun r103 σ => ?_) (by decide)
    refine tj_iadd dX2_hungerTotal_39 ?_
    refine tj_topi (fun v104 => ?_)
    refine tj_istore_n dX2_hungerTotal_40 (by decide) trivial [none, some (.int v104), some (va_rf l2), some (va_rf r102)] rfl ?_
    refine tj_goto 15 dX2_hungerTotal_41 rfl ?_
    refine tj_wk (L' := [none, some (.int v104), some (va_rf l2), none]) ⟨rfl, rfl, trivial⟩ ?_
    exact h15 v104 l2 _
theorem tj_X2_hungerTotal_L15 {E : tj_E} {X : tj_X} {n0 s0 : Nat} (d : Nat) : ∀ (k : Nat) (l1 : Int32) (l2 : Option Nat) (σ : hp_S), tj_T E X RX2 "hungerTotal" cX2_hungerTotal 4 (some .int) (d + 1) [] n0 s0 em_i σ 15 [none, some (.int l1), some (va_rf l2), none] [] (fn_X2_hungerTotal_L15 d k l1 l2) := by
  intro k
  induction k with
  | zero =>
    intro l1 l2 σ
    exact tj_fail
  | succ k ih =>
    intro l1 l2 σ
    exact tj_X2_hungerTotal_L15_b d ih l1 l2 σ
theorem tj_X2_hungerTotal_B0 {E : tj_E} {X : tj_X} {n0 s0 : Nat} (d : Nat) (v0 : Option Nat) (σ : hp_S) : tj_T E X RX2 "hungerTotal" cX2_hungerTotal 4 (some .int) (d + 1) [] n0 s0 em_i σ 0 [some (va_rf v0), none, none, none] [] (fn_X2_hungerTotal_B0 d v0) := by
  unfold fn_X2_hungerTotal_B0
  refine tj_iconst (0 : Int32) dX2_hungerTotal_0 rfl ?_
  refine tj_istore_n dX2_hungerTotal_1 (by decide) (rf_cat _) [some (va_rf v0), some (.int (0 : Int32)), none, none] rfl ?_
  refine tj_aload_n dX2_hungerTotal_2 rfl ?_
  refine tj_getR fl_X2_12r dX2_hungerTotal_3 (fun v101 => ?_)
  refine tj_callV (as := []) (rest := []) (st' := (fun r => [va_rf r])) (t := 18) (fun a e => by cases e; exact ct_J1_values d _) (by decide) rfl q412 q413 q414 q99 q415 rfl md_J1_values rfl (by decide) rfl (by decide) dX2_hungerTotal_6 (fun _ => rfl) (fun r102 σ => ?_) (by decide)
  refine tj_callF (as := []) (rest := []) (st' := (fun r => [va_rf r])) (t := 20) (fun a e => by cases e; exact ct_J11_iterator d _) (by decide) rfl q428 q1018 q1020 q111 q1022 (ev_i 0 rfl) q1021 q1019 q1017 md_i0 rfl (by decide) rfl (by decide) dX2_hungerTotal_9 (fun _ => rfl) (fun r103 σ => ?_) (by decide)
  refine tj_astore_n dX2_hungerTotal_14 (by decide) rfl [some (va_rf v0), some (.int (0 : Int32)), some (va_rf r103), none] rfl ?_
  refine tj_wk (L' := [none, some (.int (0 : Int32)), some (va_rf r103), none]) ⟨rfl, rfl, trivial⟩ ?_
  exact tj_X2_hungerTotal_L15 d mx_K (0 : Int32) r103 _
theorem ct_X2_hungerTotal : ∀ (d : Nat) (v0 : Option Nat), ct_ yX2_hungerTotal (ws_ yX2_hungerTotal cX2_hungerTotal 4 (some .int)) d em_i [va_rf v0] (fn_X2_hungerTotal d v0)
  | 0, _ => ct_fail
  | d + 1, v0 => ct_of [(false, va_rf v0)] [some (va_rf v0), none, none, none] (by decide) rfl ⟨rfl, (rf_cat _), trivial⟩ (fun E X n0 s0 σ => tj_X2_hungerTotal_B0 d v0 σ)
theorem tj_X1_meanHunger_B0 {E : tj_E} {X : tj_X} {n0 s0 : Nat} (d : Nat) (v0 : Option Nat) (σ : hp_S) : tj_T E X RX1 "meanHunger" cX1_meanHunger 2 (some .double) (d + 1) [] n0 s0 em_d σ 0 [some (va_rf v0), none] [] (fn_X1_meanHunger_B0 d v0) := by
  unfold fn_X1_meanHunger_B0
  refine tj_aload_n dX1_meanHunger_0 rfl ?_
  refine tj_callV (as := []) (rest := []) (st' := (fun r => [.int r])) (t := 0) (fun a e => by cases e; exact ct_X1_lionCount d _) (by decide) rfl q3041 q2695 q2696 q96 q2697 rfl md_X1_lionCount rfl (by decide) rfl (by decide) dX1_meanHunger_1 (fun _ => rfl) (fun r101 σ => ?_) (by decide)
  refine tj_callS (as := [.int r101]) (rest := []) (st' := (fun r => [.int r])) (ct_X1_divisor d r101) q3350 q3351 q96 q3352 md_X1_divisor rfl (by decide) rfl (by decide) dX1_meanHunger_4 (fun _ => rfl) (fun r102 σ => ?_) (by decide)
  refine tj_istore_n dX1_meanHunger_7 (by decide) (rf_cat _) [some (va_rf v0), some (.int r102)] rfl ?_
  refine tj_aload_n dX1_meanHunger_8 rfl ?_
  refine tj_getR fl_X1_66 dX1_meanHunger_9 (fun v103 => ?_)
  refine tj_callV (as := []) (rest := []) (st' := (fun r => [.int r])) (t := 2) (fun a e => by cases e; exact ct_X2_hungerTotal d _) (by decide) rfl q3358 q3359 q3360 q97 q3361 rfl md_X2_hungerTotal rfl (by decide) rfl (by decide) dX1_meanHunger_12 (fun _ => rfl) (fun r104 σ => ?_) (by decide)
  refine tj_i2d dX1_meanHunger_15 ?_
  refine tj_iload_n dX1_meanHunger_16 rfl ?_
  refine tj_i2d dX1_meanHunger_17 ?_
  refine tj_ddiv dX1_meanHunger_18 (fun v105 => ?_)
  exact tj_dret dX1_meanHunger_19
theorem ct_X1_meanHunger : ∀ (d : Nat) (v0 : Option Nat), ct_ yX1_meanHunger (ws_ yX1_meanHunger cX1_meanHunger 2 (some .double)) d em_d [va_rf v0] (fn_X1_meanHunger d v0)
  | 0, _ => ct_fail
  | d + 1, v0 => ct_of [(false, va_rf v0)] [some (va_rf v0), none] (by decide) rfl ⟨rfl, (rf_cat _), trivial⟩ (fun E X n0 s0 σ => tj_X1_meanHunger_B0 d v0 σ)
theorem tj_X0_meanHunger_B0 {E : tj_E} {X : tj_X} {n0 s0 : Nat} (d : Nat) (v0 : Option Nat) (v1 : Option Nat) (σ : hp_S) : tj_T E X RX0 "meanHunger" cX0_meanHunger 3 (some .int) (d + 1) [(0, 7, 10, 101)] n0 s0 em_i σ 0 [some (va_rf v0), some (va_rf v1), none] [] (fn_X0_meanHunger_B0 d v0 v1) := by
  unfold fn_X0_meanHunger_B0
  refine tj_aload_n dX0_meanHunger_0 rfl ?_
  refine tj_iconst (0 : Int32) dX0_meanHunger_1 rfl ?_
  refine tj_aload_n dX0_meanHunger_2 rfl ?_
  refine tj_tryV (as := []) (rest := [.int (0 : Int32), va_rf v1]) (st' := (fun r => [.double r, .int (0 : Int32), va_rf v1])) (t := 0) (fun a e => by cases e; exact ct_X1_meanHunger d _) (by decide) rfl q3346 q3347 q3348 q96 q3349 rfl md_X1_meanHunger rfl (by decide) rfl (by simp [rf_cat, cat_i, cat_l, cat_f, cat_d]) dX0_meanHunger_3 (fun _ => rfl) (fun r101 σ => ?_) (fun q102 σ => ?_)
  · refine tj_dast dX0_meanHunger_6 (fun σ => ?_)
    refine tj_goto 13 dX0_meanHunger_7 rfl ?_
    refine tj_iconst (0 : Int32) dX0_meanHunger_13 rfl ?_
    exact tj_iret dX0_meanHunger_14
  · refine tj_xin [] ⟨0, 7, 10, 101⟩ [] "java/lang/ArithmeticException" cx_java_lang_ArithmeticException_39 rfl (by decide) (by decide) q3332 (fun _ h => absurd h List.not_mem_nil) ?_ ?_
    · refine tj_astore_n dX0_meanHunger_10 (by decide) (rf_cat _) [some (va_rf v0), some (va_rf v1), some (va_rf (some q102))] rfl ?_
      refine tj_iconst (1 : Int32) dX0_meanHunger_11 rfl ?_
      exact tj_iret dX0_meanHunger_12
    exact tj_xfail
theorem ct_X0_meanHunger : ∀ (d : Nat) (v0 : Option Nat) (v1 : Option Nat), ct_ yX0_meanHunger (wsW_ yX0_meanHunger cX0_meanHunger 3 (some .int) [(0, 7, 10, 101)]) d em_i [va_rf v0, va_rf v1] (fn_X0_meanHunger d v0 v1)
  | 0, _, _ => ct_fail
  | d + 1, v0, v1 => ct_ofH [(false, va_rf v0), (false, va_rf v1)] [some (va_rf v0), some (va_rf v1), none] (by decide) rfl ⟨rfl, (rf_cat _), ⟨rfl, (rf_cat _), trivial⟩⟩ (fun E X n0 s0 σ => tj_X0_meanHunger_B0 d v0 v1 σ)
theorem tj_X1_onDuty_B0 {E : tj_E} {X : tj_X} {n0 s0 : Nat} (d : Nat) (v0 : Option Nat) (v1 : Int32) (σ : hp_S) : tj_T E X RX1 "onDuty" cX1_onDuty 2 (some .int) (d + 1) [] n0 s0 em_i σ 0 [some (va_rf v0), some (.int v1)] [] (fn_X1_onDuty_B0 d v0 v1) := by
  unfold fn_X1_onDuty_B0
  refine tj_iload_n dX1_onDuty_0 rfl ?_
  refine tj_iconst (0 : Int32) dX1_onDuty_1 rfl ?_
  refine tj_bipush (23 : Int32) dX1_onDuty_2 (by decide) ?_
  refine tj_callS (as := [.int v1, .int (0 : Int32), .int (23 : Int32)]) (rest := []) (st' := (fun r => [.int r])) (ct_X1_isBetween d v1 (0 : Int32) (23 : Int32)) q3133 q1964 q96 q1965 md_X1_isBetween rfl (by decide) rfl (by decide) dX1_onDuty_4 (fun _ => rfl) (fun r101 σ => ?_) (by decide)
  refine tj_callS (as := [.int r101]) (rest := []) (st' := (fun _ => [])) (ct_X1_checkArgument d r101) q3289 q3290 q96 q3291 md_X1_checkArgument rfl (by decide) rfl (by decide) dX1_onDuty_7 (fun _ => rfl) (fun _ σ => ?_) (by decide)
  refine tj_aload_n dX1_onDuty_10 rfl ?_
  refine tj_getR fl_X1_66 dX1_onDuty_11 (fun v102 => ?_)
  refine tj_getR fl_X1_272 dX1_onDuty_14 (fun v103 => ?_)
  refine tj_iload_n dX1_onDuty_17 rfl ?_
  refine tj_callV (as := [.int v1]) (rest := []) (st' := (fun r => [.int r])) (t := 3) (fun a e => by cases e; exact ct_X3_onDuty d _ _) (by decide) rfl q3294 q2454 q2455 q100 q2456 rfl md_X3_onDuty rfl (by decide) rfl (by decide) dX1_onDuty_18 (fun _ => rfl) (fun r104 σ => ?_) (by decide)
  exact tj_iret dX1_onDuty_21
theorem ct_X1_onDuty : ∀ (d : Nat) (v0 : Option Nat) (v1 : Int32), ct_ yX1_onDuty (ws_ yX1_onDuty cX1_onDuty 2 (some .int)) d em_i [va_rf v0, .int v1] (fn_X1_onDuty d v0 v1)
  | 0, _, _ => ct_fail
  | d + 1, v0, v1 => ct_of [(false, va_rf v0), (false, .int v1)] [some (va_rf v0), some (.int v1)] (by decide) rfl ⟨rfl, (rf_cat _), ⟨rfl, rfl, trivial⟩⟩ (fun E X n0 s0 σ => tj_X1_onDuty_B0 d v0 v1 σ)
theorem tj_X0_onDuty_B0 {E : tj_E} {X : tj_X} {n0 s0 : Nat} (d : Nat) (v0 : Option Nat) (v1 : Int32) (v2 : Option Nat) (σ : hp_S) : tj_T E X RX0 "onDuty" cX0_onDuty 4 (some .int) (d + 1) [(0, 9, 12, 13)] n0 s0 em_i σ 0 [some (va_rf v0), some (.int v1), some (va_rf v2), none] [] (fn_X0_onDuty_B0 d v0 v1 v2) := by
  unfold fn_X0_onDuty_B0
  refine tj_aload_n dX0_onDuty_0 rfl ?_
  refine tj_iconst (0 : Int32) dX0_onDuty_1 rfl ?_
  refine tj_aload_n dX0_onDuty_2 rfl ?_
  refine tj_iload_n dX0_onDuty_3 rfl ?_
  refine tj_tryV (as := [.int v1]) (rest := [.int (0 : Int32), va_rf v2]) (st' := (fun r => [.int r, .int (0 : Int32), va_rf v2])) (t := 0) (fun a e => by cases e; exact ct_X1_onDuty d _ _) (by decide) rfl q3285 q3286 q3287 q96 q3288 rfl md_X1_onDuty rfl (by decide) rfl (by simp [rf_cat, cat_i, cat_l, cat_f, cat_d]) dX0_onDuty_4 (fun _ => rfl) (fun r101 σ => ?_) (fun q102 σ => ?_)
  · refine tj_i2l dX0_onDuty_7 ?_
    refine tj_last dX0_onDuty_8 (fun σ => ?_)
    refine tj_goto 15 dX0_onDuty_9 rfl ?_
    refine tj_iconst (0 : Int32) dX0_onDuty_15 rfl ?_
    exact tj_iret dX0_onDuty_16
  · refine tj_xin [] ⟨0, 9, 12, 13⟩ [] "java/lang/IllegalArgumentException" cx_java_lang_IllegalArgumentException_35 rfl (by decide) (by decide) q3045 (fun _ h => absurd h List.not_mem_nil) ?_ ?_
    · refine tj_astore_n dX0_onDuty_12 (by decide) (rf_cat _) [some (va_rf v0), some (.int v1), some (va_rf v2), some (va_rf (some q102))] rfl ?_
      refine tj_iconst (1 : Int32) dX0_onDuty_13 rfl ?_
      exact tj_iret dX0_onDuty_14
    exact tj_xfail
theorem ct_X0_onDuty : ∀ (d : Nat) (v0 : Option Nat) (v1 : Int32) (v2 : Option Nat), ct_ yX0_onDuty (wsW_ yX0_onDuty cX0_onDuty 4 (some .int) [(0, 9, 12, 13)]) d em_i [va_rf v0, .int v1, va_rf v2] (fn_X0_onDuty d v0 v1 v2)
  | 0, _, _, _ => ct_fail
  | d + 1, v0, v1, v2 => ct_ofH [(false, va_rf v0), (false, .int v1), (false, va_rf v2)] [some (va_rf v0), some (.int v1), some (va_rf v2), none] (by decide) rfl ⟨rfl, (rf_cat _), ⟨rfl, rfl, ⟨rfl, (rf_cat _), trivial⟩⟩⟩ (fun E X n0 s0 σ => tj_X0_onDuty_B0 d v0 v1 v2 σ)
theorem tj_J9_checkIndex_B0 {E : tj_E} {X : tj_X} {n0 s0 : Nat} (d : Nat) (v0 : Int32) (v1 : Int32) (σ : hp_S) : tj_T E X RJ9 "checkIndex" cJ9_checkIndex 2 none (d + 1) [] n0 s0 em_v σ 0 [some (.int v0), some (.int v1)] [] (fn_J9_checkIndex_B0 d v0 v1) := by
  unfold fn_J9_checkIndex_B0
  refine tj_iload_n dJ9_checkIndex_0 rfl ?_
  refine tj_iload_n dJ9_checkIndex_1 rfl ?_
  refine tj_gets (ev_s 4 rfl) q671 dJ9_checkIndex_2 (fun v101 => ?_)
  refine tj_callS (as := [.int v0, .int v1, va_rf v101]) (rest := []) (st' := (fun r => [.int r])) (ct_J24_checkIndex d v0 v1 v101) q3407 q1126 q125 q1127 md_J24_checkIndex rfl (by decide) rfl (by decide) dJ9_checkIndex_5 (fun _ => rfl) (fun r102 σ => ?_) (by decide)
  refine tj_pop dJ9_checkIndex_8 rfl ?_
  exact tj_vret dJ9_checkIndex_9
theorem ct_J9_checkIndex : ∀ (d : Nat) (v0 : Int32) (v1 : Int32), ct_ yJ9_checkIndex (ws_ yJ9_checkIndex cJ9_checkIndex 2 none) d em_v [.int v0, .int v1] (fn_J9_checkIndex d v0 v1)
  | 0, _, _ => ct_fail
  | d + 1, v0, v1 => ct_of [(false, .int v0), (false, .int v1)] [some (.int v0), some (.int v1)] (by decide) rfl ⟨rfl, rfl, ⟨rfl, rfl, trivial⟩⟩ (fun E X n0 s0 σ => tj_J9_checkIndex_B0 d v0 v1 σ)
theorem tj_J25_charAt_B0 {E : tj_E} {X : tj_X} {n0 s0 : Nat} (d : Nat) (v0 : Option Nat) (v1 : Int32) (σ : hp_S) : tj_T E X RJ25 "charAt" cJ25_charAt 2 (some .char) (d + 1) [] n0 s0 em_i σ 0 [some (va_rf v0), some (.int v1)] [] (fn_J25_charAt_B0 d v0 v1) := by
  unfold fn_J25_charAt_B0
  refine tj_iload_n dJ25_charAt_0 rfl ?_
  refine tj_aload_n dJ25_charAt_1 rfl ?_
  refine tj_alen dJ25_charAt_2 (fun v101 => ?_)
  refine tj_callS (as := [.int v1, .int v101]) (rest := []) (st' := (fun _ => [])) (ct_J9_checkIndex d v1 v101) q3404 q3405 q108 q3406 md_J9_checkIndex rfl (by decide) rfl (by decide) dJ25_charAt_3 (fun _ => rfl) (fun _ σ => ?_) (by decide)
  refine tj_aload_n dJ25_charAt_6 rfl ?_
  refine tj_iload_n dJ25_charAt_7 rfl ?_
  refine tj_bald dJ25_charAt_8 (fun v102 => ?_)
  refine tj_sipush (255 : Int32) dJ25_charAt_9 (by decide) ?_
  refine tj_iand dJ25_charAt_12 ?_
  refine tj_i2c dJ25_charAt_13 ?_
  exact tj_zret dJ25_charAt_14
theorem ct_J25_charAt : ∀ (d : Nat) (v0 : Option Nat) (v1 : Int32), ct_ yJ25_charAt (ws_ yJ25_charAt cJ25_charAt 2 (some .char)) d em_i [va_rf v0, .int v1] (fn_J25_charAt d v0 v1)
  | 0, _, _ => ct_fail
  | d + 1, v0, v1 => ct_of [(false, va_rf v0), (false, .int v1)] [some (va_rf v0), some (.int v1)] (by decide) rfl ⟨rfl, (rf_cat _), ⟨rfl, rfl, trivial⟩⟩ (fun E X n0 s0 σ => tj_J25_charAt_B0 d v0 v1 σ)
theorem tj_J9_charAt_B0 {E : tj_E} {X : tj_X} {n0 s0 : Nat} (d : Nat) (v0 : Option Nat) (v1 : Int32) (σ : hp_S) : tj_T E X RJ9 "charAt" cJ9_charAt 2 (some .char) (d + 1) [] n0 s0 em_i σ 0 [some (va_rf v0), some (.int v1)] [] (fn_J9_charAt_B0 d v0 v1) := by
  unfold fn_J9_charAt_B0
  refine tj_aload_n dJ9_charAt_0 rfl ?_
  refine tj_callV (as := []) (rest := []) (st' := (fun r => [.int r])) (t := 30) (fun a e => by cases e; exact ct_J9_isLatin1 d _) (by decide) rfl q1883 q1884 q1885 q108 q1886 rfl md_J9_isLatin1 rfl (by decide) rfl (by decide) dJ9_charAt_1 (fun _ => rfl) (fun r101 σ => ?_) (by decide)
  refine tj_if_eq 16 dJ9_charAt_4 rfl (fun _ => ?_) (fun _ => ?_)
  · refine tj_aload_n dJ9_charAt_16 rfl ?_
    refine tj_getR fl_J9_9r dJ9_charAt_17 (fun v102 => ?_)
    refine tj_iload_n dJ9_charAt_20 rfl ?_
    exact tj_fail
  · refine tj_aload_n dJ9_charAt_7 rfl ?_
    refine tj_getR fl_J9_9r dJ9_charAt_8 (fun v103 => ?_)
    refine tj_iload_n dJ9_charAt_11 rfl ?_
    refine tj_callS (as := [va_rf v103, .int v1]) (rest := []) (st' := (fun r => [.int r])) (ct_J25_charAt d v103 v1) q3401 q3402 q126 q3403 md_J25_charAt rfl (by decide) rfl (by decide) dJ9_charAt_12 (fun _ => rfl) (fun r104 σ => ?_) (by decide)
    exact tj_zret dJ9_charAt_15
theorem ct_J9_charAt : ∀ (d : Nat) (v0 : Option Nat) (v1 : Int32), ct_ yJ9_charAt (ws_ yJ9_charAt cJ9_charAt 2 (some .char)) d em_i [va_rf v0, .int v1] (fn_J9_charAt d v0 v1)
  | 0, _, _ => ct_fail
  | d + 1, v0, v1 => ct_of [(false, va_rf v0), (false, .int v1)] [some (va_rf v0), some (.int v1)] (by decide) rfl ⟨rfl, (rf_cat _), ⟨rfl, rfl, trivial⟩⟩ (fun E X n0 s0 σ => tj_J9_charAt_B0 d v0 v1 σ)
theorem tj_X1_outputAt_B0 {E : tj_E} {X : tj_X} {n0 s0 : Nat} (d : Nat) (v0 : Option Nat) (v1 : Int32) (σ : hp_S) : tj_T E X RX1 "outputAt" cX1_outputAt 2 (some .char) (d + 1) [] n0 s0 em_i σ 0 [some (va_rf v0), some (.int v1)] [] (fn_X1_outputAt_B0 d v0 v1) := by
  unfold fn_X1_outputAt_B0
  refine tj_iload_n dX1_outputAt_0 rfl ?_
  refine tj_iconst (0 : Int32) dX1_outputAt_1 rfl ?_
  refine tj_aload_n dX1_outputAt_2 rfl ?_
  refine tj_getR fl_X1_95 dX1_outputAt_3 (fun v101 => ?_)
  refine tj_callV (as := []) (rest := [.int (0 : Int32), .int v1]) (st' := (fun r => [.int r, .int (0 : Int32), .int v1])) (t := 30) (fun a e => by cases e; exact ct_J9_length d _) (by decide) rfl q3036 q686 q687 q108 q688 rfl md_J9_length rfl (by decide) rfl (by simp [rf_cat, cat_i, cat_l, cat_f, cat_d]) dX1_outputAt_6 (fun _ => rfl) (fun r102 σ => ?_) (by decide)
  refine tj_iconst (1 : Int32) dX1_outputAt_9 rfl ?_
  refine tj_isub dX1_outputAt_10 ?_
  refine tj_callS (as := [.int v1, .int (0 : Int32), .int (r102 - (1 : Int32))]) (rest := []) (st' := (fun r => [.int r])) (ct_X1_isBetween d v1 (0 : Int32) _) q3133 q1964 q96 q1965 md_X1_isBetween rfl (by decide) rfl (by decide) dX1_outputAt_11 (fun _ => rfl) (fun r103 σ => ?_) (by decide)
  refine tj_callS (as := [.int r103]) (rest := []) (st' := (fun _ => [])) (ct_X1_checkIndex d r103) q3266 q3267 q96 q3268 md_X1_checkIndex rfl (by decide) rfl (by decide) dX1_outputAt_14 (fun _ => rfl) (fun _ σ => ?_) (by decide)
  refine tj_aload_n dX1_outputAt_17 rfl ?_
  refine tj_getR fl_X1_95 dX1_outputAt_18 (fun v104 => ?_)
  refine tj_iload_n dX1_outputAt_21 rfl ?_
  refine tj_callV (as := [.int v1]) (rest := []) (st' := (fun r => [.int r])) (t := 30) (fun a e => by cases e; exact ct_J9_charAt d _ _) (by decide) rfl q3397 q3398 q3399 q108 q3400 rfl md_J9_charAt rfl (by decide) rfl (by decide) dX1_outputAt_22 (fun _ => rfl) (fun r105 σ => ?_) (by decide)
  exact tj_zret dX1_outputAt_25
theorem ct_X1_outputAt : ∀ (d : Nat) (v0 : Option Nat) (v1 : Int32), ct_ yX1_outputAt (ws_ yX1_outputAt cX1_outputAt 2 (some .char)) d em_i [va_rf v0, .int v1] (fn_X1_outputAt d v0 v1)
  | 0, _, _ => ct_fail
  | d + 1, v0, v1 => ct_of [(false, va_rf v0), (false, .int v1)] [some (va_rf v0), some (.int v1)] (by decide) rfl ⟨rfl, (rf_cat _), ⟨rfl, rfl, trivial⟩⟩ (fun E X n0 s0 σ => tj_X1_outputAt_B0 d v0 v1 σ)
theorem tj_X0_outputAt_B0 {E : tj_E} {X : tj_X} {n0 s0 : Nat} (d : Nat) (v0 : Option Nat) (v1 : Int32) (v2 : Option Nat) (σ : hp_S) : tj_T E X RX0 "outputAt" cX0_outputAt 4 (some .int) (d + 1) [(0, 9, 12, 42)] n0 s0 em_i σ 0 [some (va_rf v0), some (.int v1), some (va_rf v2), none] [] (fn_X0_outputAt_B0 d v0 v1 v2) := by
  unfold fn_X0_outputAt_B0
  refine tj_aload_n dX0_outputAt_0 rfl ?_
  refine tj_iconst (0 : Int32) dX0_outputAt_1 rfl ?_
  refine tj_aload_n dX0_outputAt_2 rfl ?_
  refine tj_iload_n dX0_outputAt_3 rfl ?_
  refine tj_tryV (as := [.int v1]) (rest := [.int (0 : Int32), va_rf v2]) (st' := (fun r => [.int r, .int (0 : Int32), va_rf v2])) (t := 0) (fun a e => by cases e; exact ct_X1_outputAt d _ _) (by decide) rfl q3393 q3394 q3395 q96 q3396 rfl md_X1_outputAt rfl (by decide) rfl (by simp [rf_cat, cat_i, cat_l, cat_f, cat_d]) dX0_outputAt_4 (fun _ => rfl) (fun r101 σ => ?_) (fun q102 σ => ?_)
  · refine tj_i2l dX0_outputAt_7 ?_
    refine tj_last dX0_outputAt_8 (fun σ => ?_)
    refine tj_goto 15 dX0_outputAt_9 rfl ?_
    refine tj_iconst (0 : Int32) dX0_outputAt_15 rfl ?_
    exact tj_iret dX0_outputAt_16
  · refine tj_xin [] ⟨0, 9, 12, 42⟩ [] "java/lang/IndexOutOfBoundsException" cx_java_lang_IndexOutOfBoundsException_37 rfl (by decide) (by decide) q3097 (fun _ h => absurd h List.not_mem_nil) ?_ ?_
    · refine tj_astore_n dX0_outputAt_12 (by decide) (rf_cat _) [some (va_rf v0), some (.int v1), some (va_rf v2), some (va_rf (some q102))] rfl ?_
      refine tj_iconst (1 : Int32) dX0_outputAt_13 rfl ?_
      exact tj_iret dX0_outputAt_14
    exact tj_xfail
theorem ct_X0_outputAt : ∀ (d : Nat) (v0 : Option Nat) (v1 : Int32) (v2 : Option Nat), ct_ yX0_outputAt (wsW_ yX0_outputAt cX0_outputAt 4 (some .int) [(0, 9, 12, 42)]) d em_i [va_rf v0, .int v1, va_rf v2] (fn_X0_outputAt d v0 v1 v2)
  | 0, _, _, _ => ct_fail
  | d + 1, v0, v1, v2 => ct_ofH [(false, va_rf v0), (false, .int v1), (false, va_rf v2)] [some (va_rf v0), some (.int v1), some (va_rf v2), none] (by decide) rfl ⟨rfl, (rf_cat _), ⟨rfl, rfl, ⟨rfl, (rf_cat _), trivial⟩⟩⟩ (fun E X n0 s0 σ => tj_X0_outputAt_B0 d v0 v1 v2 σ)
theorem tj_X1_passHours_B0 {E : tj_E} {X : tj_X} {n0 s0 : Nat} (d : Nat) (v0 : Option Nat) (v1 : Int32) (σ : hp_S) : tj_T E X RX1 "passHours" cX1_passHours 2 (some .int) (d + 1) [] n0 s0 em_i σ 0 [some (va_rf v0), some (.int v1)] [] (fn_X1_passHours_B0 d v0 v1) := by
  unfold fn_X1_passHours_B0
  refine tj_aload_n dX1_passHours_0 rfl ?_
  refine tj_ldcS (ev_t 31 rfl) dX1_passHours_1 (fun v101 => ?_)
  refine tj_iconst (1 : Int32) dX1_passHours_3 rfl ?_
  refine tj_newI q426 dX1_passHours_4 (fun a102 σ => ?_)
  refine tj_dup dX1_passHours_6 (rf_cat _) ?_
  refine tj_iconst (0 : Int32) dX1_passHours_7 rfl ?_
  refine tj_iload_n dX1_passHours_8 rfl ?_
  refine tj_iast dX1_passHours_9 (fun σ => ?_)
  refine tj_callVX (as := [va_rf v101, va_rf (some a102)]) (rest := []) (st' := (fun r => [.int r])) (t := 0) (fun a e => by cases e; exact ct_X1_change d _ _ _) (by decide) rfl q401 q403 qs0 q96 q404 rfl md_X1_change rfl (by decide) rfl (by decide) dX1_passHours_10 (fun _ => rfl) (fun r103 σ => ?_) (by decide)
  exact tj_iret dX1_passHours_13
theorem ct_X1_passHours : ∀ (d : Nat) (v0 : Option Nat) (v1 : Int32), ct_ yX1_passHours (ws_ yX1_passHours cX1_passHours 2 (some .int)) d em_i [va_rf v0, .int v1] (fn_X1_passHours d v0 v1)
  | 0, _, _ => ct_fail
  | d + 1, v0, v1 => ct_of [(false, va_rf v0), (false, .int v1)] [some (va_rf v0), some (.int v1)] (by decide) rfl ⟨rfl, (rf_cat _), ⟨rfl, rfl, trivial⟩⟩ (fun E X n0 s0 σ => tj_X1_passHours_B0 d v0 v1 σ)
theorem tj_X0_passHours_B0 {E : tj_E} {X : tj_X} {n0 s0 : Nat} (d : Nat) (v0 : Option Nat) (v1 : Int32) (v2 : Option Nat) (σ : hp_S) : tj_T E X RX0 "passHours" cX0_passHours 4 (some .int) (d + 1) [(0, 9, 12, 13)] n0 s0 em_i σ 0 [some (va_rf v0), some (.int v1), some (va_rf v2), none] [] (fn_X0_passHours_B0 d v0 v1 v2) := by
  unfold fn_X0_passHours_B0
  refine tj_aload_n dX0_passHours_0 rfl ?_
  refine tj_iconst (0 : Int32) dX0_passHours_1 rfl ?_
  refine tj_aload_n dX0_passHours_2 rfl ?_
  refine tj_iload_n dX0_passHours_3 rfl ?_
  refine tj_tryV (as := [.int v1]) (rest := [.int (0 : Int32), va_rf v2]) (st' := (fun r => [.int r, .int (0 : Int32), va_rf v2])) (t := 0) (fun a e => by cases e; exact ct_X1_passHours d _ _) (by decide) rfl q3121 q3122 q3123 q96 q3124 rfl md_X1_passHours rfl (by decide) rfl (by simp [rf_cat, cat_i, cat_l, cat_f, cat_d]) dX0_passHours_4 (fun _ => rfl) (fun r101 σ => ?_) (fun q102 σ => ?_)
  · refine tj_i2l dX0_passHours_7 ?_
    refine tj_last dX0_passHours_8 (fun σ => ?_)
    refine tj_goto 15 dX0_passHours_9 rfl ?_
    refine tj_iconst (0 : Int32) dX0_passHours_15 rfl ?_
    exact tj_iret dX0_passHours_16
  · refine tj_xin [] ⟨0, 9, 12, 13⟩ [] "java/lang/IllegalArgumentException" cx_java_lang_IllegalArgumentException_35 rfl (by decide) (by decide) q3045 (fun _ h => absurd h List.not_mem_nil) ?_ ?_
    · refine tj_astore_n dX0_passHours_12 (by decide) (rf_cat _) [some (va_rf v0), some (.int v1), some (va_rf v2), some (va_rf (some q102))] rfl ?_
      refine tj_iconst (1 : Int32) dX0_passHours_13 rfl ?_
      exact tj_iret dX0_passHours_14
    exact tj_xfail
theorem ct_X0_passHours : ∀ (d : Nat) (v0 : Option Nat) (v1 : Int32) (v2 : Option Nat), ct_ yX0_passHours (wsW_ yX0_passHours cX0_passHours 4 (some .int) [(0, 9, 12, 13)]) d em_i [va_rf v0, .int v1, va_rf v2] (fn_X0_passHours d v0 v1 v2)
  | 0, _, _, _ => ct_fail
  | d + 1, v0, v1, v2 => ct_ofH [(false, va_rf v0), (false, .int v1), (false, va_rf v2)] [some (va_rf v0), some (.int v1), some (va_rf v2), none] (by decide) rfl ⟨rfl, (rf_cat _), ⟨rfl, rfl, ⟨rfl, (rf_cat _), trivial⟩⟩⟩ (fun E X n0 s0 σ => tj_X0_passHours_B0 d v0 v1 v2 σ)
theorem tj_X1_portionOf_B0 {E : tj_E} {X : tj_X} {n0 s0 : Nat} (d : Nat) (v0 : Option Nat) (v1 : Int32) (σ : hp_S) : tj_T E X RX1 "portionOf" cX1_portionOf 2 (some .int) (d + 1) [] n0 s0 em_i σ 0 [some (va_rf v0), some (.int v1)] [] (fn_X1_portionOf_B0 d v0 v1) := by
  unfold fn_X1_portionOf_B0
  refine tj_aload_n dX1_portionOf_0 rfl ?_
  refine tj_iload_n dX1_portionOf_1 rfl ?_
  refine tj_callV (as := [.int v1]) (rest := []) (st' := (fun r => [va_rf r])) (t := 0) (fun a e => by cases e; exact ct_X1_lionWith d _ _) (by decide) rfl q3174 q3176 qs44 q96 q3177 rfl md_X1_lionWith rfl (by decide) rfl (by decide) dX1_portionOf_2 (fun _ => rfl) (fun r101 σ => ?_) (by decide)
  refine tj_getI fl_X1_215r dX1_portionOf_5 (fun v102 => ?_)
  exact tj_iret dX1_portionOf_8
theorem ct_X1_portionOf : ∀ (d : Nat) (v0 : Option Nat) (v1 : Int32), ct_ yX1_portionOf (ws_ yX1_portionOf cX1_portionOf 2 (some .int)) d em_i [va_rf v0, .int v1] (fn_X1_portionOf d v0 v1)
  | 0, _, _ => ct_fail
  | d + 1, v0, v1 => ct_of [(false, va_rf v0), (false, .int v1)] [some (va_rf v0), some (.int v1)] (by decide) rfl ⟨rfl, (rf_cat _), ⟨rfl, rfl, trivial⟩⟩ (fun E X n0 s0 σ => tj_X1_portionOf_B0 d v0 v1 σ)
theorem tj_X0_portionOf_B0 {E : tj_E} {X : tj_X} {n0 s0 : Nat} (d : Nat) (v0 : Option Nat) (v1 : Int32) (v2 : Option Nat) (σ : hp_S) : tj_T E X RX0 "portionOf" cX0_portionOf 4 (some .int) (d + 1) [(0, 9, 12, 21)] n0 s0 em_i σ 0 [some (va_rf v0), some (.int v1), some (va_rf v2), none] [] (fn_X0_portionOf_B0 d v0 v1 v2) := by
  unfold fn_X0_portionOf_B0
  refine tj_aload_n dX0_portionOf_0 rfl ?_
  refine tj_iconst (0 : Int32) dX0_portionOf_1 rfl ?_
  refine tj_aload_n dX0_portionOf_2 rfl ?_
  refine tj_iload_n dX0_portionOf_3 rfl ?_
  refine tj_tryV (as := [.int v1]) (rest := [.int (0 : Int32), va_rf v2]) (st' := (fun r => [.int r, .int (0 : Int32), va_rf v2])) (t := 0) (fun a e => by cases e; exact ct_X1_portionOf d _ _) (by decide) rfl q3186 q3187 q3188 q96 q3189 rfl md_X1_portionOf rfl (by decide) rfl (by simp [rf_cat, cat_i, cat_l, cat_f, cat_d]) dX0_portionOf_4 (fun _ => rfl) (fun r101 σ => ?_) (fun q102 σ => ?_)
  · refine tj_i2l dX0_portionOf_7 ?_
    refine tj_last dX0_portionOf_8 (fun σ => ?_)
    refine tj_goto 15 dX0_portionOf_9 rfl ?_
    refine tj_iconst (0 : Int32) dX0_portionOf_15 rfl ?_
    exact tj_iret dX0_portionOf_16
  · refine tj_xin [] ⟨0, 9, 12, 21⟩ [] "java/util/NoSuchElementException" cx_java_util_NoSuchElementException_34 rfl (by decide) (by decide) q3055 (fun _ h => absurd h List.not_mem_nil) ?_ ?_
    · refine tj_astore_n dX0_portionOf_12 (by decide) (rf_cat _) [some (va_rf v0), some (.int v1), some (va_rf v2), some (va_rf (some q102))] rfl ?_
      refine tj_iconst (1 : Int32) dX0_portionOf_13 rfl ?_
      exact tj_iret dX0_portionOf_14
    exact tj_xfail
theorem ct_X0_portionOf : ∀ (d : Nat) (v0 : Option Nat) (v1 : Int32) (v2 : Option Nat), ct_ yX0_portionOf (wsW_ yX0_portionOf cX0_portionOf 4 (some .int) [(0, 9, 12, 21)]) d em_i [va_rf v0, .int v1, va_rf v2] (fn_X0_portionOf d v0 v1 v2)
  | 0, _, _, _ => ct_fail
  | d + 1, v0, v1, v2 => ct_ofH [(false, va_rf v0), (false, .int v1), (false, va_rf v2)] [some (va_rf v0), some (.int v1), some (va_rf v2), none] (by decide) rfl ⟨rfl, (rf_cat _), ⟨rfl, rfl, ⟨rfl, (rf_cat _), trivial⟩⟩⟩ (fun E X n0 s0 σ => tj_X0_portionOf_B0 d v0 v1 v2 σ)
theorem tj_X8_toString_B0 {E : tj_E} {X : tj_X} {n0 s0 : Nat} (d : Nat) (v0 : Option Nat) (σ : hp_S) : tj_T E X RX8 "toString" cX8_toString 1 (some (.object "java/lang/String")) (d + 1) [] n0 s0 em_r σ 0 [some (va_rf v0)] [] (fn_X8_toString_B0 d v0) := by
  unfold fn_X8_toString_B0
  refine tj_new nw_X8_31 dX8_toString_0 (fun a101 σ => ?_)
  refine tj_dup dX8_toString_3 (rf_cat _) ?_
  refine tj_callI (as := []) (rest := [va_rf (some a101)]) (st' := (fun _ => [va_rf (some a101)])) (fun a e => by cases e; exact ct_J8_init d _) q3381 q340 q107 q341 rfl md_J8_init rfl (by decide) rfl (by simp [rf_cat, cat_i, cat_l, cat_f, cat_d]) dX8_toString_4 (fun _ => rfl) (fun _ σ => ?_) (by decide)
  refine tj_aload_n dX8_toString_7 rfl ?_
  refine tj_getI fl_X8_7r dX8_toString_8 (fun v102 => ?_)
  refine tj_callV (as := [.int v102]) (rest := []) (st' := (fun r => [va_rf r])) (t := 29) (fun a e => by cases e; exact ct_J8_append_2 d _ _) (by decide) rfl q3382 q729 q730 q107 q731 rfl md_J8_append_2 rfl (by decide) rfl (by decide) dX8_toString_11 (fun _ => rfl) (fun r103 σ => ?_) (by decide)
  refine tj_ldcS (ev_t 32 rfl) dX8_toString_14 (fun v104 => ?_)
  refine tj_callV (as := [va_rf v104]) (rest := []) (st' := (fun r => [va_rf r])) (t := 29) (fun a e => by cases e; exact ct_J8_append d _ _) (by decide) rfl q3384 q609 q610 q107 q611 rfl md_J8_append rfl (by decide) rfl (by decide) dX8_toString_16 (fun _ => rfl) (fun r105 σ => ?_) (by decide)
  refine tj_aload_n dX8_toString_19 rfl ?_
  refine tj_callV (as := []) (rest := [va_rf r105]) (st' := (fun r => [.int r, va_rf r105])) (t := 5) (fun a e => by cases e; exact ct_X8_hunger d _) (by decide) rfl q3385 q2420 q2421 q151 q2422 rfl md_X8_hunger rfl (by decide) rfl (by simp [rf_cat, cat_i, cat_l, cat_f, cat_d]) dX8_toString_20 (fun _ => rfl) (fun r106 σ => ?_) (by decide)
  refine tj_callV (as := [.int r106]) (rest := []) (st' := (fun r => [va_rf r])) (t := 29) (fun a e => by cases e; exact ct_J8_append_2 d _ _) (by decide) rfl q3382 q729 q730 q107 q731 rfl md_J8_append_2 rfl (by decide) rfl (by decide) dX8_toString_23 (fun _ => rfl) (fun r107 σ => ?_) (by decide)
  refine tj_ldcS (ev_t 33 rfl) dX8_toString_26 (fun v108 => ?_)
  refine tj_callV (as := [va_rf v108]) (rest := []) (st' := (fun r => [va_rf r])) (t := 29) (fun a e => by cases e; exact ct_J8_append d _ _) (by decide) rfl q3384 q609 q610 q107 q611 rfl md_J8_append rfl (by decide) rfl (by decide) dX8_toString_28 (fun _ => rfl) (fun r109 σ => ?_) (by decide)
  refine tj_aload_n dX8_toString_31 rfl ?_
  refine tj_getI fl_X8_13r dX8_toString_32 (fun v110 => ?_)
  refine tj_callV (as := [.int v110]) (rest := []) (st' := (fun r => [va_rf r])) (t := 29) (fun a e => by cases e; exact ct_J8_append_2 d _ _) (by decide) rfl q3382 q729 q730 q107 q731 rfl md_J8_append_2 rfl (by decide) rfl (by decide) dX8_toString_35 (fun _ => rfl) (fun r111 σ => ?_) (by decide)
  refine tj_ldcS (ev_t 34 rfl) dX8_toString_38 (fun v112 => ?_)
  refine tj_callV (as := [va_rf v112]) (rest := []) (st' := (fun r => [va_rf r])) (t := 29) (fun a e => by cases e; exact ct_J8_append d _ _) (by decide) rfl q3384 q609 q610 q107 q611 rfl md_J8_append rfl (by decide) rfl (by decide) dX8_toString_40 (fun _ => rfl) (fun r113 σ => ?_) (by decide)
  refine tj_aload_n dX8_toString_43 rfl ?_
  refine tj_getI fl_X8_16r dX8_toString_44 (fun v114 => ?_)
  refine tj_callV (as := [.int v114]) (rest := []) (st' := (fun r => [va_rf r])) (t := 29) (fun a e => by cases e; exact ct_J8_append_2 d _ _) (by decide) rfl q3382 q729 q730 q107 q731 rfl md_J8_append_2 rfl (by decide) rfl (by decide) dX8_toString_47 (fun _ => rfl) (fun r115 σ => ?_) (by decide)
  refine tj_ldcS (ev_t 35 rfl) dX8_toString_50 (fun v116 => ?_)
  refine tj_callV (as := [va_rf v116]) (rest := []) (st' := (fun r => [va_rf r])) (t := 29) (fun a e => by cases e; exact ct_J8_append d _ _) (by decide) rfl q3384 q609 q610 q107 q611 rfl md_J8_append rfl (by decide) rfl (by decide) dX8_toString_52 (fun _ => rfl) (fun r117 σ => ?_) (by decide)
  refine tj_aload_n dX8_toString_55 rfl ?_
  refine tj_getR fl_X8_19r dX8_toString_56 (fun v118 => ?_)
  refine tj_getI fl_X8_52r dX8_toString_59 (fun v119 => ?_)
  refine tj_callV (as := [.int v119]) (rest := []) (st' := (fun r => [va_rf r])) (t := 29) (fun a e => by cases e; exact ct_J8_append_2 d _ _) (by decide) rfl q3382 q729 q730 q107 q731 rfl md_J8_append_2 rfl (by decide) rfl (by decide) dX8_toString_62 (fun _ => rfl) (fun r120 σ => ?_) (by decide)
  refine tj_callV (as := []) (rest := []) (st' := (fun r => [va_rf r])) (t := 29) (fun a e => by cases e; exact ct_J8_toString d _) (by decide) rfl q3389 q755 q756 q107 q757 rfl md_J8_toString rfl (by decide) rfl (by decide) dX8_toString_65 (fun _ => rfl) (fun r121 σ => ?_) (by decide)
  exact tj_aret (Or.inl ⟨_, rfl⟩) dX8_toString_68
theorem ct_X8_toString : ∀ (d : Nat) (v0 : Option Nat), ct_ yX8_toString (ws_ yX8_toString cX8_toString 1 (some (.object "java/lang/String"))) d em_r [va_rf v0] (fn_X8_toString d v0)
  | 0, _ => ct_fail
  | d + 1, v0 => ct_of [(false, va_rf v0)] [some (va_rf v0)] (by decide) rfl ⟨rfl, (rf_cat _), trivial⟩ (fun E X n0 s0 σ => tj_X8_toString_B0 d v0 σ)
theorem tj_X1_renderLion_B0 {E : tj_E} {X : tj_X} {n0 s0 : Nat} (d : Nat) (v0 : Option Nat) (v1 : Int32) (σ : hp_S) : tj_T E X RX1 "renderLion" cX1_renderLion 2 (some .int) (d + 1) [] n0 s0 em_i σ 0 [some (va_rf v0), some (.int v1)] [] (fn_X1_renderLion_B0 d v0 v1) := by
  unfold fn_X1_renderLion_B0
  refine tj_aload_n dX1_renderLion_0 rfl ?_
  refine tj_aload_n dX1_renderLion_1 rfl ?_
  refine tj_iload_n dX1_renderLion_2 rfl ?_
  refine tj_callV (as := [.int v1]) (rest := [va_rf v0]) (st' := (fun r => [va_rf r, va_rf v0])) (t := 0) (fun a e => by cases e; exact ct_X1_lionWith d _ _) (by decide) rfl q3174 q3176 qs44 q96 q3177 rfl md_X1_lionWith rfl (by decide) rfl (by simp [rf_cat, cat_i, cat_l, cat_f, cat_d]) dX1_renderLion_3 (fun _ => rfl) (fun r101 σ => ?_) (by decide)
  refine tj_callV (as := []) (rest := [va_rf v0]) (st' := (fun r => [va_rf r, va_rf v0])) (t := 5) (fun a e => by cases e; exact ct_X8_toString d _) (by decide) rfl q3376 q3377 q3378 q151 q3379 rfl md_X8_toString rfl (by decide) rfl (by simp [rf_cat, cat_i, cat_l, cat_f, cat_d]) dX1_renderLion_6 (fun _ => rfl) (fun r102 σ => ?_) (by decide)
  refine tj_callV (as := [va_rf r102]) (rest := []) (st' := (fun r => [.int r])) (t := 0) (fun a e => by cases e; exact ct_X1_write d _ _) (by decide) rfl q3032 q3034 qs43 q96 q3035 rfl md_X1_write rfl (by decide) rfl (by decide) dX1_renderLion_9 (fun _ => rfl) (fun r103 σ => ?_) (by decide)
  exact tj_iret dX1_renderLion_12
theorem ct_X1_renderLion : ∀ (d : Nat) (v0 : Option Nat) (v1 : Int32), ct_ yX1_renderLion (ws_ yX1_renderLion cX1_renderLion 2 (some .int)) d em_i [va_rf v0, .int v1] (fn_X1_renderLion d v0 v1)
  | 0, _, _ => ct_fail
  | d + 1, v0, v1 => ct_of [(false, va_rf v0), (false, .int v1)] [some (va_rf v0), some (.int v1)] (by decide) rfl ⟨rfl, (rf_cat _), ⟨rfl, rfl, trivial⟩⟩ (fun E X n0 s0 σ => tj_X1_renderLion_B0 d v0 v1 σ)
theorem tj_X0_renderLion_B0 {E : tj_E} {X : tj_X} {n0 s0 : Nat} (d : Nat) (v0 : Option Nat) (v1 : Int32) (v2 : Option Nat) (σ : hp_S) : tj_T E X RX0 "renderLion" cX0_renderLion 4 (some .int) (d + 1) [(0, 9, 12, 21)] n0 s0 em_i σ 0 [some (va_rf v0), some (.int v1), some (va_rf v2), none] [] (fn_X0_renderLion_B0 d v0 v1 v2) := by
  unfold fn_X0_renderLion_B0
  refine tj_aload_n dX0_renderLion_0 rfl ?_
  refine tj_iconst (0 : Int32) dX0_renderLion_1 rfl ?_
  refine tj_aload_n dX0_renderLion_2 rfl ?_
  refine tj_iload_n dX0_renderLion_3 rfl ?_
  refine tj_tryV (as := [.int v1]) (rest := [.int (0 : Int32), va_rf v2]) (st' := (fun r => [.int r, .int (0 : Int32), va_rf v2])) (t := 0) (fun a e => by cases e; exact ct_X1_renderLion d _ _) (by decide) rfl q3372 q3373 q3374 q96 q3375 rfl md_X1_renderLion rfl (by decide) rfl (by simp [rf_cat, cat_i, cat_l, cat_f, cat_d]) dX0_renderLion_4 (fun _ => rfl) (fun r101 σ => ?_) (fun q102 σ => ?_)
  · refine tj_i2l dX0_renderLion_7 ?_
    refine tj_last dX0_renderLion_8 (fun σ => ?_)
    refine tj_goto 15 dX0_renderLion_9 rfl ?_
    refine tj_iconst (0 : Int32) dX0_renderLion_15 rfl ?_
    exact tj_iret dX0_renderLion_16
  · refine tj_xin [] ⟨0, 9, 12, 21⟩ [] "java/util/NoSuchElementException" cx_java_util_NoSuchElementException_34 rfl (by decide) (by decide) q3055 (fun _ h => absurd h List.not_mem_nil) ?_ ?_
    · refine tj_astore_n dX0_renderLion_12 (by decide) (rf_cat _) [some (va_rf v0), some (.int v1), some (va_rf v2), some (va_rf (some q102))] rfl ?_
      refine tj_iconst (1 : Int32) dX0_renderLion_13 rfl ?_
      exact tj_iret dX0_renderLion_14
    exact tj_xfail
theorem ct_X0_renderLion : ∀ (d : Nat) (v0 : Option Nat) (v1 : Int32) (v2 : Option Nat), ct_ yX0_renderLion (wsW_ yX0_renderLion cX0_renderLion 4 (some .int) [(0, 9, 12, 21)]) d em_i [va_rf v0, .int v1, va_rf v2] (fn_X0_renderLion d v0 v1 v2)
  | 0, _, _, _ => ct_fail
  | d + 1, v0, v1, v2 => ct_ofH [(false, va_rf v0), (false, .int v1), (false, va_rf v2)] [some (va_rf v0), some (.int v1), some (va_rf v2), none] (by decide) rfl ⟨rfl, (rf_cat _), ⟨rfl, rfl, ⟨rfl, (rf_cat _), trivial⟩⟩⟩ (fun E X n0 s0 σ => tj_X0_renderLion_B0 d v0 v1 v2 σ)
theorem tj_X1_checkState_B0 {E : tj_E} {X : tj_X} {n0 s0 : Nat} (d : Nat) (v0 : Int32) (σ : hp_S) : tj_T E X RX1 "checkState" cX1_checkState 1 none (d + 1) [] n0 s0 em_v σ 0 [some (.int v0)] [] (fn_X1_checkState_B0 d v0) := by
  unfold fn_X1_checkState_B0
  refine tj_iload_n dX1_checkState_0 rfl ?_
  refine tj_if_ne 12 dX1_checkState_1 rfl (fun _ => ?_) (fun _ => ?_)
  · refine tj_mk0 ex_X1_158_3427 (by decide) dX1_checkState_4 dX1_checkState_7 dX1_checkState_8 (fun a101 σ => ?_)
    refine tj_athrow dX1_checkState_11 (fun q102 => ?_)
    exact tj_xout (by decide) (by decide)
  · exact tj_vret dX1_checkState_12
theorem ct_X1_checkState : ∀ (d : Nat) (v0 : Int32), ct_ yX1_checkState (ws_ yX1_checkState cX1_checkState 1 none) d em_v [.int v0] (fn_X1_checkState d v0)
  | 0, _ => ct_fail
  | d + 1, v0 => ct_of [(false, .int v0)] [some (.int v0)] (by decide) rfl ⟨rfl, rfl, trivial⟩ (fun E X n0 s0 σ => tj_X1_checkState_B0 d v0 σ)
theorem tj_J6_clear_L5_b {E : tj_E} {X : tj_X} {n0 s0 : Nat} (d : Nat) {b5 : Option Nat → Option Nat → mx_M Unit} (h5 : ∀ (l0 : Option Nat) (l1 : Option Nat) (σ : hp_S), tj_T E X RJ6 "clear" cJ6_clear 3 none (d + 1) [] n0 s0 em_v σ 5 [some (va_rf l0), some (va_rf l1), none] [] (b5 l0 l1)) (l0 : Option Nat) (l1 : Option Nat) (σ : hp_S) : tj_T E X RJ6 "clear" cJ6_clear 3 none (d + 1) [] n0 s0 em_v σ 5 [some (va_rf l0), some (va_rf l1), none] [] (fn_J6_clear_L5_b d b5 l0 l1) := by
  unfold fn_J6_clear_L5_b
  refine tj_aload_n dJ6_clear_5 rfl ?_
  refine tj_ifnull 34 dJ6_clear_6 rfl (fun _ => ?_) (fun _ _ => ?_)
  · refine tj_aload_n dJ6_clear_34 rfl ?_
    refine tj_aload_n dJ6_clear_35 rfl ?_
    refine tj_null dJ6_clear_36 ?_
    refine tj_dup_x1 dJ6_clear_37 (rf_cat _) (rf_cat _) ?_
    refine tj_put fl_J6_27 (nar_rf _) (fit_rf _) dJ6_clear_38 (fun σ => ?_)
    refine tj_put fl_J6_18 (nar_rf _) (fit_rf _) dJ6_clear_41 (fun σ => ?_)
    refine tj_aload_n dJ6_clear_44 rfl ?_
    refine tj_iconst (0 : Int32) dJ6_clear_45 rfl ?_
    refine tj_put fl_J6_7 rfl rfl dJ6_clear_46 (fun σ => ?_)
    refine tj_aload_n dJ6_clear_49 rfl ?_
    refine tj_dup dJ6_clear_50 (rf_cat _) ?_
    refine tj_getI fl_J6_33 dJ6_clear_51 (fun v101 => ?_)
    refine tj_iconst (1 : Int32) dJ6_clear_54 rfl ?_
    refine tj_iadd dJ6_clear_55 ?_
    refine tj_put fl_J6_33 rfl rfl dJ6_clear_56 (fun σ => ?_)
    exact tj_vret dJ6_clear_59
  · refine tj_aload_n dJ6_clear_9 rfl ?_
    refine tj_getR fl_J6_36 dJ6_clear_10 (fun v102 => ?_)
    refine tj_astore_n dJ6_clear_13 (by decide) (rf_cat _) [some (va_rf l0), some (va_rf l1), some (va_rf v102)] rfl ?_
    refine tj_aload_n dJ6_clear_14 rfl ?_
    refine tj_null dJ6_clear_15 ?_
    refine tj_put fl_J6_39 (nar_rf _) (fit_rf _) dJ6_clear_16 (fun σ => ?_)
    refine tj_aload_n dJ6_clear_19 rfl ?_
    refine tj_null dJ6_clear_20 ?_
    refine tj_put fl_J6_36 (nar_rf _) (fit_rf _) dJ6_clear_21 (fun σ => ?_)
    refine tj_aload_n dJ6_clear_24 rfl ?_
    refine tj_null dJ6_clear_25 ?_
    refine tj_put fl_J6_30 (nar_rf _) (fit_rf _) dJ6_clear_26 (fun σ => ?_)
    refine tj_aload_n dJ6_clear_29 rfl ?_
    refine tj_astore_n dJ6_clear_30 (by decide) (rf_cat _) [some (va_rf l0), some (va_rf v102), some (va_rf v102)] rfl ?_
    refine tj_goto 5 dJ6_clear_31 rfl ?_
    refine tj_wk (L' := [some (va_rf l0), some (va_rf v102), none]) ⟨rfl, rfl, trivial⟩ ?_
    exact h5 l0 v102 _
theorem tj_J6_clear_L5 {E : tj_E} {X : tj_X} {n0 s0 : Nat} (d : Nat) : ∀ (k : Nat) (l0 : Option Nat) (l1 : Option Nat) (σ : hp_S), tj_T E X RJ6 "clear" cJ6_clear 3 none (d + 1) [] n0 s0 em_v σ 5 [some (va_rf l0), some (va_rf l1), none] [] (fn_J6_clear_L5 d k l0 l1) := by
  intro k
  induction k with
  | zero =>
    intro l0 l1 σ
    exact tj_fail
  | succ k ih =>
    intro l0 l1 σ
    exact tj_J6_clear_L5_b d ih l0 l1 σ
theorem tj_J6_clear_B0 {E : tj_E} {X : tj_X} {n0 s0 : Nat} (d : Nat) (v0 : Option Nat) (σ : hp_S) : tj_T E X RJ6 "clear" cJ6_clear 3 none (d + 1) [] n0 s0 em_v σ 0 [some (va_rf v0), none, none] [] (fn_J6_clear_B0 d v0) := by
  unfold fn_J6_clear_B0
  refine tj_aload_n dJ6_clear_0 rfl ?_
  refine tj_getR fl_J6_18 dJ6_clear_1 (fun v101 => ?_)
  refine tj_astore_n dJ6_clear_4 (by decide) (rf_cat _) [some (va_rf v0), some (va_rf v101), none] rfl ?_
  exact tj_J6_clear_L5 d mx_K v0 v101 _
theorem ct_J6_clear : ∀ (d : Nat) (v0 : Option Nat), ct_ yJ6_clear (ws_ yJ6_clear cJ6_clear 3 none) d em_v [va_rf v0] (fn_J6_clear d v0)
  | 0, _ => ct_fail
  | d + 1, v0 => ct_of [(false, va_rf v0)] [some (va_rf v0), none, none] (by decide) rfl ⟨rfl, (rf_cat _), trivial⟩ (fun E X n0 s0 σ => tj_J6_clear_B0 d v0 σ)
theorem tj_X1_restore_J12 {E : tj_E} {X : tj_X} {n0 s0 : Nat} (d : Nat) (l0 : Option Nat) (p0 : Int32) (σ : hp_S) : tj_T E X RX1 "restore" cX1_restore 1 (some .int) (d + 1) [] n0 s0 em_i σ 12 [some (va_rf l0)] [.int p0] (fn_X1_restore_J12 d l0 p0) := by
  unfold fn_X1_restore_J12
  refine tj_callS (as := [.int p0]) (rest := []) (st' := (fun _ => [])) (ct_X1_checkState d p0) q3423 q3424 q96 q3425 md_X1_checkState rfl (by decide) rfl (by decide) dX1_restore_12 (fun _ => rfl) (fun _ σ => ?_) (by decide)
  refine tj_aload_n dX1_restore_15 rfl ?_
  refine tj_aload_n dX1_restore_16 rfl ?_
  refine tj_getR fl_X1_436 dX1_restore_17 (fun v101 => ?_)
  refine tj_put fl_X1_66 (nar_rf _) (fit_rf _) dX1_restore_20 (fun σ => ?_)
  refine tj_aload_n dX1_restore_23 rfl ?_
  refine tj_getR fl_X1_75r dX1_restore_24 (fun v102 => ?_)
  refine tj_callV (as := []) (rest := []) (st' := (fun _ => [])) (t := 24) (fun a e => by cases e; exact ct_J6_clear d _) (by decide) rfl q3869 q3870 q3871 q105 q3872 rfl md_J6_clear rfl (by decide) rfl (by decide) dX1_restore_27 (fun _ => rfl) (fun _ σ => ?_) (by decide)
  refine tj_aload_n dX1_restore_30 rfl ?_
  refine tj_callV (as := []) (rest := []) (st' := (fun r => [.int r])) (t := 0) (fun a e => by cases e; exact ct_X1_lionCount d _) (by decide) rfl q3041 q2695 q2696 q96 q2697 rfl md_X1_lionCount rfl (by decide) rfl (by decide) dX1_restore_31 (fun _ => rfl) (fun r103 σ => ?_) (by decide)
  exact tj_iret dX1_restore_34
theorem tj_X1_restore_B0 {E : tj_E} {X : tj_X} {n0 s0 : Nat} (d : Nat) (v0 : Option Nat) (σ : hp_S) : tj_T E X RX1 "restore" cX1_restore 1 (some .int) (d + 1) [] n0 s0 em_i σ 0 [some (va_rf v0)] [] (fn_X1_restore_B0 d v0) := by
  unfold fn_X1_restore_B0
  refine tj_aload_n dX1_restore_0 rfl ?_
  refine tj_getR fl_X1_436 dX1_restore_1 (fun v101 => ?_)
  refine tj_ifnull 11 dX1_restore_4 rfl (fun _ => ?_) (fun _ _ => ?_)
  · refine tj_iconst (0 : Int32) dX1_restore_11 rfl ?_
    exact tj_X1_restore_J12 d v0 (0 : Int32) _
  · refine tj_iconst (1 : Int32) dX1_restore_7 rfl ?_
    refine tj_goto 12 dX1_restore_8 rfl ?_
    exact tj_X1_restore_J12 d v0 (1 : Int32) _
theorem ct_X1_restore : ∀ (d : Nat) (v0 : Option Nat), ct_ yX1_restore (ws_ yX1_restore cX1_restore 1 (some .int)) d em_i [va_rf v0] (fn_X1_restore d v0)
  | 0, _ => ct_fail
  | d + 1, v0 => ct_of [(false, va_rf v0)] [some (va_rf v0)] (by decide) rfl ⟨rfl, (rf_cat _), trivial⟩ (fun E X n0 s0 σ => tj_X1_restore_B0 d v0 σ)
theorem tj_X0_restore_B0 {E : tj_E} {X : tj_X} {n0 s0 : Nat} (d : Nat) (v0 : Option Nat) (v1 : Option Nat) (σ : hp_S) : tj_T E X RX0 "restore" cX0_restore 3 (some .int) (d + 1) [(0, 8, 11, 15)] n0 s0 em_i σ 0 [some (va_rf v0), some (va_rf v1), none] [] (fn_X0_restore_B0 d v0 v1) := by
  unfold fn_X0_restore_B0
  refine tj_aload_n dX0_restore_0 rfl ?_
  refine tj_iconst (0 : Int32) dX0_restore_1 rfl ?_
  refine tj_aload_n dX0_restore_2 rfl ?_
  refine tj_tryV (as := []) (rest := [.int (0 : Int32), va_rf v1]) (st' := (fun r => [.int r, .int (0 : Int32), va_rf v1])) (t := 0) (fun a e => by cases e; exact ct_X1_restore d _) (by decide) rfl q3865 q3866 q3867 q96 q3868 rfl md_X1_restore rfl (by decide) rfl (by simp [rf_cat, cat_i, cat_l, cat_f, cat_d]) dX0_restore_3 (fun _ => rfl) (fun r101 σ => ?_) (fun q102 σ => ?_)
  · refine tj_i2l dX0_restore_6 ?_
    refine tj_last dX0_restore_7 (fun σ => ?_)
    refine tj_goto 14 dX0_restore_8 rfl ?_
    refine tj_iconst (0 : Int32) dX0_restore_14 rfl ?_
    exact tj_iret dX0_restore_15
  · refine tj_xin [] ⟨0, 8, 11, 15⟩ [] "java/lang/IllegalStateException" cx_java_lang_IllegalStateException_36 rfl (by decide) (by decide) q3046 (fun _ h => absurd h List.not_mem_nil) ?_ ?_
    · refine tj_astore_n dX0_restore_11 (by decide) (rf_cat _) [some (va_rf v0), some (va_rf v1), some (va_rf (some q102))] rfl ?_
      refine tj_iconst (1 : Int32) dX0_restore_12 rfl ?_
      exact tj_iret dX0_restore_13
    exact tj_xfail
theorem ct_X0_restore : ∀ (d : Nat) (v0 : Option Nat) (v1 : Option Nat), ct_ yX0_restore (wsW_ yX0_restore cX0_restore 3 (some .int) [(0, 8, 11, 15)]) d em_i [va_rf v0, va_rf v1] (fn_X0_restore d v0 v1)
  | 0, _, _ => ct_fail
  | d + 1, v0, v1 => ct_ofH [(false, va_rf v0), (false, va_rf v1)] [some (va_rf v0), some (va_rf v1), none] (by decide) rfl ⟨rfl, (rf_cat _), ⟨rfl, (rf_cat _), trivial⟩⟩ (fun E X n0 s0 σ => tj_X0_restore_B0 d v0 v1 σ)
theorem tj_X1_roar_B0 {E : tj_E} {X : tj_X} {n0 s0 : Nat} (d : Nat) (v0 : Option Nat) (v1 : Int32) (v2 : Int32) (σ : hp_S) : tj_T E X RX1 "roar" cX1_roar 3 (some .int) (d + 1) [] n0 s0 em_i σ 0 [some (va_rf v0), some (.int v1), some (.int v2)] [] (fn_X1_roar_B0 d v0 v1 v2) := by
  unfold fn_X1_roar_B0
  refine tj_aload_n dX1_roar_0 rfl ?_
  refine tj_ldcS (ev_t 25 rfl) dX1_roar_1 (fun v101 => ?_)
  refine tj_iconst (2 : Int32) dX1_roar_3 rfl ?_
  refine tj_newI q426 dX1_roar_4 (fun a102 σ => ?_)
  refine tj_dup dX1_roar_6 (rf_cat _) ?_
  refine tj_iconst (0 : Int32) dX1_roar_7 rfl ?_
  refine tj_iload_n dX1_roar_8 rfl ?_
  refine tj_iast dX1_roar_9 (fun σ => ?_)
  refine tj_dup dX1_roar_10 (rf_cat _) ?_
  refine tj_iconst (1 : Int32) dX1_roar_11 rfl ?_
  refine tj_iload_n dX1_roar_12 rfl ?_
  refine tj_iast dX1_roar_13 (fun σ => ?_)
  refine tj_callVX (as := [va_rf v101, va_rf (some a102)]) (rest := []) (st' := (fun r => [.int r])) (t := 0) (fun a e => by cases e; exact ct_X1_change d _ _ _) (by decide) rfl q401 q403 qs0 q96 q404 rfl md_X1_change rfl (by decide) rfl (by decide) dX1_roar_14 (fun _ => rfl) (fun r103 σ => ?_) (by decide)
  exact tj_iret dX1_roar_17
theorem ct_X1_roar : ∀ (d : Nat) (v0 : Option Nat) (v1 : Int32) (v2 : Int32), ct_ yX1_roar (ws_ yX1_roar cX1_roar 3 (some .int)) d em_i [va_rf v0, .int v1, .int v2] (fn_X1_roar d v0 v1 v2)
  | 0, _, _, _ => ct_fail
  | d + 1, v0, v1, v2 => ct_of [(false, va_rf v0), (false, .int v1), (false, .int v2)] [some (va_rf v0), some (.int v1), some (.int v2)] (by decide) rfl ⟨rfl, (rf_cat _), ⟨rfl, rfl, ⟨rfl, rfl, trivial⟩⟩⟩ (fun E X n0 s0 σ => tj_X1_roar_B0 d v0 v1 v2 σ)
