set_option maxRecDepth 100000
theorem tj_X1_runScript_J45 {E : tj_E} {X : tj_X} {n0 s0 : Nat} (d : Nat) (l0 : Option Nat) (p0 : Option Nat) (σ : hp_S) : tj_T E X RX1 "runScript" cX1_runScript 4 (some .int) (d + 1) [(8, 24, 34, 391), (8, 24, 34, 386), (8, 24, 45, 0), (34, 46, 45, 0)] n0 s0 em_i σ 45 [some (va_rf l0), none, none, none] [va_rf p0] (fn_X1_runScript_J45 d l0 p0) := by
  unfold fn_X1_runScript_J45
  refine tj_astore_n dX1_runScript_45 (by decide) trivial [some (va_rf l0), none, none, some (va_rf p0)] rfl ?_
  refine tj_aload_n dX1_runScript_46 rfl ?_
  refine tj_getR fl_X1_82r dX1_runScript_47 (fun v101 => ?_)
  refine tj_iconst (0 : Int32) dX1_runScript_50 rfl ?_
  refine tj_callV (as := [.int (0 : Int32)]) (rest := []) (st' := (fun _ => [])) (t := 29) (fun a e => by cases e; exact ct_J8_setLength d _ _) (by decide) rfl q3727 q3728 q3729 q107 q3730 rfl md_J8_setLength rfl (by decide) rfl (by decide) dX1_runScript_51 (fun _ => rfl) (fun _ σ => ?_) (by decide)
  refine tj_aload_n dX1_runScript_54 rfl ?_
  refine tj_athrow dX1_runScript_55 (fun q102 => ?_)
  exact tj_xout (by decide) (by decide)
theorem tj_X1_runScript_J34 {E : tj_E} {X : tj_X} {n0 s0 : Nat} (d : Nat) (l0 : Option Nat) (p0 : Option Nat) (σ : hp_S) : tj_T E X RX1 "runScript" cX1_runScript 4 (some .int) (d + 1) [(8, 24, 34, 391), (8, 24, 34, 386), (8, 24, 45, 0), (34, 46, 45, 0)] n0 s0 em_i σ 34 [some (va_rf l0), none, none, none] [va_rf p0] (fn_X1_runScript_J34 d l0 p0) := by
  unfold fn_X1_runScript_J34
  refine tj_astore_n dX1_runScript_34 (by decide) trivial [some (va_rf l0), none, some (va_rf p0), none] rfl ?_
  refine tj_aload_n dX1_runScript_35 rfl ?_
  refine tj_aload_n dX1_runScript_36 rfl ?_
  refine tj_tryV (as := [va_rf p0]) (rest := []) (st' := (fun _ => [])) (t := 0) (fun a e => by cases e; exact ct_X1_note d _ _) (by decide) rfl q3779 q3781 qs58 q96 q3782 rfl md_X1_note rfl (by decide) rfl (by decide) dX1_runScript_37 (fun _ => rfl) (fun _ σ => ?_) (fun q101 σ => ?_)
  · refine tj_aload_n dX1_runScript_40 rfl ?_
    refine tj_orT (fun f' h' k' kx' => tj_tryA (as := []) (rest := []) (st' := (fun r => [va_rf r])) (x0 := ⟨"LionGate$Failure", "asPublicException", "()Ljava/lang/RuntimeException;"⟩) (owner := "LionGate$Failure") (t := 15) (fun a e => by cases e; exact ct_X16_asPublicException d _) (by decide) rfl q3806 q3808 q3815 q3816 q174 q3817 q3807 md_o_LionGate_Failure_asPublicException rfl (by decide) rfl (by decide) dX1_runScript_41 (fun _ => rfl) k' kx') (fun f' h' k' kx' => tj_tryA (as := []) (rest := []) (st' := (fun r => [va_rf r])) (x0 := ⟨"LionGate$Failure", "asPublicException", "()Ljava/lang/RuntimeException;"⟩) (owner := "LionGate$Failure") (t := 14) (fun a e => by cases e; exact ct_X17_asPublicException d _) (by decide) rfl q3806 q3808 q3809 q3810 q175 q3811 q3807 md_o_LionGate_Failure_asPublicException rfl (by decide) rfl (by decide) dX1_runScript_41 (fun _ => rfl) k' kx') (fun r102 σ => ?_) (fun _ _ => tj_xfail)
    refine tj_athrow dX1_runScript_44 (fun q103 => ?_)
    refine tj_xany [⟨8, 24, 34, 391⟩, ⟨8, 24, 34, 386⟩, ⟨8, 24, 45, 0⟩] ⟨34, 46, 45, 0⟩ [] (by decide) rfl (by decide) rfl (List.forall_mem_cons.mpr ⟨Or.inl rfl, List.forall_mem_cons.mpr ⟨Or.inl rfl, List.forall_mem_cons.mpr ⟨Or.inl rfl, fun _ h => absurd h List.not_mem_nil⟩⟩⟩) ?_ ?_
    · refine tj_wk (L' := [some (va_rf l0), none, none, none]) ⟨rfl, trivial⟩ ?_
      exact tj_X1_runScript_J45 d l0 (some q103) _
    exact tj_xfail
  · refine tj_xany [⟨8, 24, 34, 391⟩, ⟨8, 24, 34, 386⟩, ⟨8, 24, 45, 0⟩] ⟨34, 46, 45, 0⟩ [] (by decide) rfl (by decide) rfl (List.forall_mem_cons.mpr ⟨Or.inl rfl, List.forall_mem_cons.mpr ⟨Or.inl rfl, List.forall_mem_cons.mpr ⟨Or.inl rfl, fun _ h => absurd h List.not_mem_nil⟩⟩⟩) ?_ ?_
    · refine tj_wk (L' := [some (va_rf l0), none, none, none]) ⟨rfl, trivial⟩ ?_
      exact tj_X1_runScript_J45 d l0 (some q101) _
    exact tj_xfail
theorem tj_X1_runScript_B0 {E : tj_E} {X : tj_X} {n0 s0 : Nat} (d : Nat) (v0 : Option Nat) (σ : hp_S) : tj_T E X RX1 "runScript" cX1_runScript 4 (some .int) (d + 1) [(8, 24, 34, 391), (8, 24, 34, 386), (8, 24, 45, 0), (34, 46, 45, 0)] n0 s0 em_i σ 0 [some (va_rf v0), none, none, none] [] (fn_X1_runScript_B0 d v0) := by
  unfold fn_X1_runScript_B0
  refine tj_aload_n dX1_runScript_0 rfl ?_
  refine tj_getR fl_X1_82r dX1_runScript_1 (fun v101 => ?_)
  refine tj_callV (as := []) (rest := []) (st' := (fun r => [va_rf r])) (t := 29) (fun a e => by cases e; exact ct_J8_toString d _) (by decide) rfl q3450 q755 q756 q107 q757 rfl md_J8_toString rfl (by decide) rfl (by decide) dX1_runScript_4 (fun _ => rfl) (fun r102 σ => ?_) (by decide)
  refine tj_astore_n dX1_runScript_7 (by decide) (rf_cat _) [some (va_rf v0), some (va_rf r102), none, none] rfl ?_
  refine tj_aload_n dX1_runScript_8 rfl ?_
  refine tj_new nw_X1_408 dX1_runScript_9 (fun a103 σ => ?_)
  refine tj_dup dX1_runScript_12 (rf_cat _) ?_
  refine tj_aload_n dX1_runScript_13 rfl ?_
  refine tj_tryI (as := [va_rf r102]) (rest := [va_rf (some a103), va_rf v0]) (st' := (fun _ => [va_rf (some a103), va_rf v0])) (fun a e => by cases e; exact ct_X15_init d _ _) q3453 q3454 q168 q3455 rfl md_X15_init rfl (by decide) rfl (by simp [rf_cat, cat_i, cat_l, cat_f, cat_d]) dX1_runScript_14 (fun _ => rfl) (fun _ σ => ?_) (fun q104 σ => ?_)
  · refine tj_tryV (as := []) (rest := [va_rf v0]) (st' := (fun r => [va_rf r, va_rf v0])) (t := 12) (fun a e => by cases e; exact ct_X15_commands d _) (by decide) rfl q3526 q3527 q3528 q168 q3529 rfl md_X15_commands rfl (by decide) rfl (by simp [rf_cat, cat_i, cat_l, cat_f, cat_d]) dX1_runScript_17 (fun _ => rfl) (fun r105 σ => ?_) (fun q106 σ => ?_)
    · refine tj_tryVX (as := [va_rf r105]) (rest := []) (st' := (fun r => [.int r])) (t := 0) (fun a e => by cases e; exact ct_X1_execute d _ _) (by decide) rfl q3706 q3708 qs57 q96 q3709 rfl md_X1_execute rfl (by decide) rfl (by decide) dX1_runScript_20 (fun _ => rfl) (fun r107 σ => ?_) (fun q108 σ => ?_)
      · refine tj_istore_n dX1_runScript_23 (by decide) (rf_cat _) [some (va_rf v0), some (va_rf r102), some (.int r107), none] rfl ?_
        refine tj_aload_n dX1_runScript_24 rfl ?_
        refine tj_getR fl_X1_82r dX1_runScript_25 (fun v109 => ?_)
        refine tj_iconst (0 : Int32) dX1_runScript_28 rfl ?_
        refine tj_callV (as := [.int (0 : Int32)]) (rest := []) (st' := (fun _ => [])) (t := 29) (fun a e => by cases e; exact ct_J8_setLength d _ _) (by decide) rfl q3727 q3728 q3729 q107 q3730 rfl md_J8_setLength rfl (by decide) rfl (by decide) dX1_runScript_29 (fun _ => rfl) (fun _ σ => ?_) (by decide)
        refine tj_iload_n dX1_runScript_32 rfl ?_
        exact tj_iret dX1_runScript_33
      · refine tj_xin [] ⟨8, 24, 34, 391⟩ [⟨8, 24, 34, 386⟩, ⟨8, 24, 45, 0⟩, ⟨34, 46, 45, 0⟩] "LionGate$SyntaxFailure" cx_LionGate_SyntaxFailure_15 rfl (by decide) (by decide) q3448 (fun _ h => absurd h List.not_mem_nil) ?_ ?_
        · refine tj_wk (L' := [some (va_rf v0), none, none, none]) ⟨rfl, trivial⟩ ?_
          exact tj_X1_runScript_J34 d v0 (some q108) _
        refine tj_xin [⟨8, 24, 34, 391⟩] ⟨8, 24, 34, 386⟩ [⟨8, 24, 45, 0⟩, ⟨34, 46, 45, 0⟩] "LionGate$CommandFailure" cx_LionGate_CommandFailure_14 rfl (by decide) (by decide) q3449 (List.forall_mem_cons.mpr ⟨Or.inr ⟨by decide, "LionGate$SyntaxFailure", q3448, nc_LionGate_SyntaxFailure_14⟩, fun _ h => absurd h List.not_mem_nil⟩) ?_ ?_
        · refine tj_wk (L' := [some (va_rf v0), none, none, none]) ⟨rfl, trivial⟩ ?_
          exact tj_X1_runScript_J34 d v0 (some q108) _
        refine tj_xany [⟨8, 24, 34, 391⟩, ⟨8, 24, 34, 386⟩] ⟨8, 24, 45, 0⟩ [⟨34, 46, 45, 0⟩] (by decide) rfl (by decide) rfl (List.forall_mem_cons.mpr ⟨Or.inr ⟨by decide, "LionGate$SyntaxFailure", q3448, nc_LionGate_SyntaxFailure_⟩, List.forall_mem_cons.mpr ⟨Or.inr ⟨by decide, "LionGate$CommandFailure", q3449, nc_LionGate_CommandFailure_⟩, fun _ h => absurd h List.not_mem_nil⟩⟩) ?_ ?_
        · refine tj_wk (L' := [some (va_rf v0), none, none, none]) ⟨rfl, trivial⟩ ?_
          exact tj_X1_runScript_J45 d v0 (some q108) _
        exact tj_xfail
    · refine tj_xin [] ⟨8, 24, 34, 391⟩ [⟨8, 24, 34, 386⟩, ⟨8, 24, 45, 0⟩, ⟨34, 46, 45, 0⟩] "LionGate$SyntaxFailure" cx_LionGate_SyntaxFailure_15 rfl (by decide) (by decide) q3448 (fun _ h => absurd h List.not_mem_nil) ?_ ?_
      · refine tj_wk (L' := [some (va_rf v0), none, none, none]) ⟨rfl, trivial⟩ ?_
        exact tj_X1_runScript_J34 d v0 (some q106) _
      refine tj_xin [⟨8, 24, 34, 391⟩] ⟨8, 24, 34, 386⟩ [⟨8, 24, 45, 0⟩, ⟨34, 46, 45, 0⟩] "LionGate$CommandFailure" cx_LionGate_CommandFailure_14 rfl (by decide) (by decide) q3449 (List.forall_mem_cons.mpr ⟨Or.inr ⟨by decide, "LionGate$SyntaxFailure", q3448, nc_LionGate_SyntaxFailure_14⟩, fun _ h => absurd h List.not_mem_nil⟩) ?_ ?_
      · refine tj_wk (L' := [some (va_rf v0), none, none, none]) ⟨rfl, trivial⟩ ?_
        exact tj_X1_runScript_J34 d v0 (some q106) _
      refine tj_xany [⟨8, 24, 34, 391⟩, ⟨8, 24, 34, 386⟩] ⟨8, 24, 45, 0⟩ [⟨34, 46, 45, 0⟩] (by decide) rfl (by decide) rfl (List.forall_mem_cons.mpr ⟨Or.inr ⟨by decide, "LionGate$SyntaxFailure", q3448, nc_LionGate_SyntaxFailure_⟩, List.forall_mem_cons.mpr ⟨Or.inr ⟨by decide, "LionGate$CommandFailure", q3449, nc_LionGate_CommandFailure_⟩, fun _ h => absurd h List.not_mem_nil⟩⟩) ?_ ?_
      · refine tj_wk (L' := [some (va_rf v0), none, none, none]) ⟨rfl, trivial⟩ ?_
        exact tj_X1_runScript_J45 d v0 (some q106) _
      exact tj_xfail
  · refine tj_xin [] ⟨8, 24, 34, 391⟩ [⟨8, 24, 34, 386⟩, ⟨8, 24, 45, 0⟩, ⟨34, 46, 45, 0⟩] "LionGate$SyntaxFailure" cx_LionGate_SyntaxFailure_15 rfl (by decide) (by decide) q3448 (fun _ h => absurd h List.not_mem_nil) ?_ ?_
    · refine tj_wk (L' := [some (va_rf v0), none, none, none]) ⟨rfl, trivial⟩ ?_
      exact tj_X1_runScript_J34 d v0 (some q104) _
    refine tj_xin [⟨8, 24, 34, 391⟩] ⟨8, 24, 34, 386⟩ [⟨8, 24, 45, 0⟩, ⟨34, 46, 45, 0⟩] "LionGate$CommandFailure" cx_LionGate_CommandFailure_14 rfl (by decide) (by decide) q3449 (List.forall_mem_cons.mpr ⟨Or.inr ⟨by decide, "LionGate$SyntaxFailure", q3448, nc_LionGate_SyntaxFailure_14⟩, fun _ h => absurd h List.not_mem_nil⟩) ?_ ?_
    · refine tj_wk (L' := [some (va_rf v0), none, none, none]) ⟨rfl, trivial⟩ ?_
      exact tj_X1_runScript_J34 d v0 (some q104) _
    refine tj_xany [⟨8, 24, 34, 391⟩, ⟨8, 24, 34, 386⟩] ⟨8, 24, 45, 0⟩ [⟨34, 46, 45, 0⟩] (by decide) rfl (by decide) rfl (List.forall_mem_cons.mpr ⟨Or.inr ⟨by decide, "LionGate$SyntaxFailure", q3448, nc_LionGate_SyntaxFailure_⟩, List.forall_mem_cons.mpr ⟨Or.inr ⟨by decide, "LionGate$CommandFailure", q3449, nc_LionGate_CommandFailure_⟩, fun _ h => absurd h List.not_mem_nil⟩⟩) ?_ ?_
    · refine tj_wk (L' := [some (va_rf v0), none, none, none]) ⟨rfl, trivial⟩ ?_
      exact tj_X1_runScript_J45 d v0 (some q104) _
    exact tj_xfail
theorem ct_X1_runScript : ∀ (d : Nat) (v0 : Option Nat), ct_ yX1_runScript (wsW_ yX1_runScript cX1_runScript 4 (some .int) [(8, 24, 34, 391), (8, 24, 34, 386), (8, 24, 45, 0), (34, 46, 45, 0)]) d em_i [va_rf v0] (fn_X1_runScript d v0)
  | 0, _ => ct_fail
  | d + 1, v0 => ct_ofH [(false, va_rf v0)] [some (va_rf v0), none, none, none] (by decide) rfl ⟨rfl, (rf_cat _), trivial⟩ (fun E X n0 s0 σ => tj_X1_runScript_B0 d v0 σ)
theorem tj_X0_runScript_B0 {E : tj_E} {X : tj_X} {n0 s0 : Nat} (d : Nat) (v0 : Option Nat) (v1 : Option Nat) (σ : hp_S) : tj_T E X RX0 "runScript" cX0_runScript 3 (some .int) (d + 1) [(0, 8, 11, 13), (0, 8, 14, 15)] n0 s0 em_i σ 0 [some (va_rf v0), some (va_rf v1), none] [] (fn_X0_runScript_B0 d v0 v1) := by
  unfold fn_X0_runScript_B0
  refine tj_aload_n dX0_runScript_0 rfl ?_
  refine tj_iconst (0 : Int32) dX0_runScript_1 rfl ?_
  refine tj_aload_n dX0_runScript_2 rfl ?_
  refine tj_tryVX (as := []) (rest := [.int (0 : Int32), va_rf v1]) (st' := (fun r => [.int r, .int (0 : Int32), va_rf v1])) (t := 0) (fun a e => by cases e; exact ct_X1_runScript d _) (by decide) rfl q3444 q3445 q3446 q96 q3447 rfl md_X1_runScript rfl (by decide) rfl (by simp [rf_cat, cat_i, cat_l, cat_f, cat_d]) dX0_runScript_3 (fun _ => rfl) (fun r101 σ => ?_) (fun q102 σ => ?_)
  · refine tj_i2l dX0_runScript_6 ?_
    refine tj_last dX0_runScript_7 (fun σ => ?_)
    refine tj_goto 17 dX0_runScript_8 rfl ?_
    refine tj_iconst (0 : Int32) dX0_runScript_17 rfl ?_
    exact tj_iret dX0_runScript_18
  · refine tj_xin [] ⟨0, 8, 11, 13⟩ [⟨0, 8, 14, 15⟩] "java/lang/IllegalArgumentException" cx_java_lang_IllegalArgumentException_35 rfl (by decide) (by decide) q3045 (fun _ h => absurd h List.not_mem_nil) ?_ ?_
    · refine tj_astore_n dX0_runScript_11 (by decide) (rf_cat _) [some (va_rf v0), some (va_rf v1), some (va_rf (some q102))] rfl ?_
      refine tj_iconst (1 : Int32) dX0_runScript_12 rfl ?_
      exact tj_iret dX0_runScript_13
    refine tj_xin [⟨0, 8, 11, 13⟩] ⟨0, 8, 14, 15⟩ [] "java/lang/IllegalStateException" cx_java_lang_IllegalStateException_36 rfl (by decide) (by decide) q3046 (List.forall_mem_cons.mpr ⟨Or.inr ⟨by decide, "java/lang/IllegalArgumentException", q3045, nc_java_lang_IllegalArgumentException_36⟩, fun _ h => absurd h List.not_mem_nil⟩) ?_ ?_
    · refine tj_astore_n dX0_runScript_14 (by decide) (rf_cat _) [some (va_rf v0), some (va_rf v1), some (va_rf (some q102))] rfl ?_
      refine tj_iconst (2 : Int32) dX0_runScript_15 rfl ?_
      exact tj_iret dX0_runScript_16
    exact tj_xfail
theorem ct_X0_runScript : ∀ (d : Nat) (v0 : Option Nat) (v1 : Option Nat), ct_ yX0_runScript (wsW_ yX0_runScript cX0_runScript 3 (some .int) [(0, 8, 11, 13), (0, 8, 14, 15)]) d em_i [va_rf v0, va_rf v1] (fn_X0_runScript d v0 v1)
  | 0, _, _ => ct_fail
  | d + 1, v0, v1 => ct_ofH [(false, va_rf v0), (false, va_rf v1)] [some (va_rf v0), some (va_rf v1), none] (by decide) rfl ⟨rfl, (rf_cat _), ⟨rfl, (rf_cat _), trivial⟩⟩ (fun E X n0 s0 σ => tj_X0_runScript_B0 d v0 v1 σ)
theorem tj_X1_serve_B0 {E : tj_E} {X : tj_X} {n0 s0 : Nat} (d : Nat) (v0 : Option Nat) (σ : hp_S) : tj_T E X RX1 "serve" cX1_serve 1 (some .int) (d + 1) [] n0 s0 em_i σ 0 [some (va_rf v0)] [] (fn_X1_serve_B0 d v0) := by
  unfold fn_X1_serve_B0
  refine tj_aload_n dX1_serve_0 rfl ?_
  refine tj_ldcS (ev_t 28 rfl) dX1_serve_1 (fun v101 => ?_)
  refine tj_iconst (0 : Int32) dX1_serve_3 rfl ?_
  refine tj_newI q426 dX1_serve_4 (fun a102 σ => ?_)
  refine tj_callVX (as := [va_rf v101, va_rf (some a102)]) (rest := []) (st' := (fun r => [.int r])) (t := 0) (fun a e => by cases e; exact ct_X1_change d _ _ _) (by decide) rfl q401 q403 qs0 q96 q404 rfl md_X1_change rfl (by decide) rfl (by decide) dX1_serve_6 (fun _ => rfl) (fun r103 σ => ?_) (by decide)
  exact tj_iret dX1_serve_9
theorem ct_X1_serve : ∀ (d : Nat) (v0 : Option Nat), ct_ yX1_serve (ws_ yX1_serve cX1_serve 1 (some .int)) d em_i [va_rf v0] (fn_X1_serve d v0)
  | 0, _ => ct_fail
  | d + 1, v0 => ct_of [(false, va_rf v0)] [some (va_rf v0)] (by decide) rfl ⟨rfl, (rf_cat _), trivial⟩ (fun E X n0 s0 σ => tj_X1_serve_B0 d v0 σ)
theorem tj_X0_serve_B0 {E : tj_E} {X : tj_X} {n0 s0 : Nat} (d : Nat) (v0 : Option Nat) (v1 : Option Nat) (σ : hp_S) : tj_T E X RX0 "serve" cX0_serve 3 (some .int) (d + 1) [(0, 8, 11, 21), (0, 8, 14, 34)] n0 s0 em_i σ 0 [some (va_rf v0), some (va_rf v1), none] [] (fn_X0_serve_B0 d v0 v1) := by
  unfold fn_X0_serve_B0
  refine tj_aload_n dX0_serve_0 rfl ?_
  refine tj_iconst (0 : Int32) dX0_serve_1 rfl ?_
  refine tj_aload_n dX0_serve_2 rfl ?_
  refine tj_tryV (as := []) (rest := [.int (0 : Int32), va_rf v1]) (st' := (fun r => [.int r, .int (0 : Int32), va_rf v1])) (t := 0) (fun a e => by cases e; exact ct_X1_serve d _) (by decide) rfl q3081 q3082 q3083 q96 q3084 rfl md_X1_serve rfl (by decide) rfl (by simp [rf_cat, cat_i, cat_l, cat_f, cat_d]) dX0_serve_3 (fun _ => rfl) (fun r101 σ => ?_) (fun q102 σ => ?_)
  · refine tj_i2l dX0_serve_6 ?_
    refine tj_last dX0_serve_7 (fun σ => ?_)
    refine tj_goto 17 dX0_serve_8 rfl ?_
    refine tj_iconst (0 : Int32) dX0_serve_17 rfl ?_
    exact tj_iret dX0_serve_18
  · refine tj_xin [] ⟨0, 8, 11, 21⟩ [⟨0, 8, 14, 34⟩] "java/util/NoSuchElementException" cx_java_util_NoSuchElementException_34 rfl (by decide) (by decide) q3055 (fun _ h => absurd h List.not_mem_nil) ?_ ?_
    · refine tj_astore_n dX0_serve_11 (by decide) (rf_cat _) [some (va_rf v0), some (va_rf v1), some (va_rf (some q102))] rfl ?_
      refine tj_iconst (1 : Int32) dX0_serve_12 rfl ?_
      exact tj_iret dX0_serve_13
    refine tj_xin [⟨0, 8, 11, 21⟩] ⟨0, 8, 14, 34⟩ [] "java/lang/UnsupportedOperationException" cx_java_lang_UnsupportedOperationException_38 rfl (by decide) (by decide) q3080 (List.forall_mem_cons.mpr ⟨Or.inr ⟨by decide, "java/util/NoSuchElementException", q3055, nc_java_util_NoSuchElementException_38⟩, fun _ h => absurd h List.not_mem_nil⟩) ?_ ?_
    · refine tj_astore_n dX0_serve_14 (by decide) (rf_cat _) [some (va_rf v0), some (va_rf v1), some (va_rf (some q102))] rfl ?_
      refine tj_iconst (2 : Int32) dX0_serve_15 rfl ?_
      exact tj_iret dX0_serve_16
    exact tj_xfail
theorem ct_X0_serve : ∀ (d : Nat) (v0 : Option Nat) (v1 : Option Nat), ct_ yX0_serve (wsW_ yX0_serve cX0_serve 3 (some .int) [(0, 8, 11, 21), (0, 8, 14, 34)]) d em_i [va_rf v0, va_rf v1] (fn_X0_serve d v0 v1)
  | 0, _, _ => ct_fail
  | d + 1, v0, v1 => ct_ofH [(false, va_rf v0), (false, va_rf v1)] [some (va_rf v0), some (va_rf v1), none] (by decide) rfl ⟨rfl, (rf_cat _), ⟨rfl, (rf_cat _), trivial⟩⟩ (fun E X n0 s0 σ => tj_X0_serve_B0 d v0 v1 σ)
theorem tj_X1_startOf_B0 {E : tj_E} {X : tj_X} {n0 s0 : Nat} (d : Nat) (v0 : Option Nat) (v1 : Int32) (σ : hp_S) : tj_T E X RX1 "startOf" cX1_startOf 2 (some .int) (d + 1) [] n0 s0 em_i σ 0 [some (va_rf v0), some (.int v1)] [] (fn_X1_startOf_B0 d v0 v1) := by
  unfold fn_X1_startOf_B0
  refine tj_aload_n dX1_startOf_0 rfl ?_
  refine tj_iload_n dX1_startOf_1 rfl ?_
  refine tj_callV (as := [.int v1]) (rest := []) (st' := (fun r => [va_rf r])) (t := 0) (fun a e => by cases e; exact ct_X1_keeperWith d _ _) (by decide) rfl q3261 q3263 qs46 q96 q3264 rfl md_X1_keeperWith rfl (by decide) rfl (by decide) dX1_startOf_2 (fun _ => rfl) (fun r101 σ => ?_) (by decide)
  refine tj_getI fl_X1_293r dX1_startOf_5 (fun v102 => ?_)
  exact tj_iret dX1_startOf_8
theorem ct_X1_startOf : ∀ (d : Nat) (v0 : Option Nat) (v1 : Int32), ct_ yX1_startOf (ws_ yX1_startOf cX1_startOf 2 (some .int)) d em_i [va_rf v0, .int v1] (fn_X1_startOf d v0 v1)
  | 0, _, _ => ct_fail
  | d + 1, v0, v1 => ct_of [(false, va_rf v0), (false, .int v1)] [some (va_rf v0), some (.int v1)] (by decide) rfl ⟨rfl, (rf_cat _), ⟨rfl, rfl, trivial⟩⟩ (fun E X n0 s0 σ => tj_X1_startOf_B0 d v0 v1 σ)
theorem tj_X0_startOf_B0 {E : tj_E} {X : tj_X} {n0 s0 : Nat} (d : Nat) (v0 : Option Nat) (v1 : Int32) (v2 : Option Nat) (σ : hp_S) : tj_T E X RX0 "startOf" cX0_startOf 4 (some .int) (d + 1) [(0, 9, 12, 42)] n0 s0 em_i σ 0 [some (va_rf v0), some (.int v1), some (va_rf v2), none] [] (fn_X0_startOf_B0 d v0 v1 v2) := by
  unfold fn_X0_startOf_B0
  refine tj_aload_n dX0_startOf_0 rfl ?_
  refine tj_iconst (0 : Int32) dX0_startOf_1 rfl ?_
  refine tj_aload_n dX0_startOf_2 rfl ?_
  refine tj_iload_n dX0_startOf_3 rfl ?_
  refine tj_tryV (as := [.int v1]) (rest := [.int (0 : Int32), va_rf v2]) (st' := (fun r => [.int r, .int (0 : Int32), va_rf v2])) (t := 0) (fun a e => by cases e; exact ct_X1_startOf d _ _) (by decide) rfl q3257 q3258 q3259 q96 q3260 rfl md_X1_startOf rfl (by decide) rfl (by simp [rf_cat, cat_i, cat_l, cat_f, cat_d]) dX0_startOf_4 (fun _ => rfl) (fun r101 σ => ?_) (fun q102 σ => ?_)
  · refine tj_i2l dX0_startOf_7 ?_
    refine tj_last dX0_startOf_8 (fun σ => ?_)
    refine tj_goto 15 dX0_startOf_9 rfl ?_
    refine tj_iconst (0 : Int32) dX0_startOf_15 rfl ?_
    exact tj_iret dX0_startOf_16
  · refine tj_xin [] ⟨0, 9, 12, 42⟩ [] "java/lang/IndexOutOfBoundsException" cx_java_lang_IndexOutOfBoundsException_37 rfl (by decide) (by decide) q3097 (fun _ h => absurd h List.not_mem_nil) ?_ ?_
    · refine tj_astore_n dX0_startOf_12 (by decide) (rf_cat _) [some (va_rf v0), some (.int v1), some (va_rf v2), some (va_rf (some q102))] rfl ?_
      refine tj_iconst (1 : Int32) dX0_startOf_13 rfl ?_
      exact tj_iret dX0_startOf_14
    exact tj_xfail
theorem ct_X0_startOf : ∀ (d : Nat) (v0 : Option Nat) (v1 : Int32) (v2 : Option Nat), ct_ yX0_startOf (wsW_ yX0_startOf cX0_startOf 4 (some .int) [(0, 9, 12, 42)]) d em_i [va_rf v0, .int v1, va_rf v2] (fn_X0_startOf d v0 v1 v2)
  | 0, _, _, _ => ct_fail
  | d + 1, v0, v1, v2 => ct_ofH [(false, va_rf v0), (false, .int v1), (false, va_rf v2)] [some (va_rf v0), some (.int v1), some (va_rf v2), none] (by decide) rfl ⟨rfl, (rf_cat _), ⟨rfl, rfl, ⟨rfl, (rf_cat _), trivial⟩⟩⟩ (fun E X n0 s0 σ => tj_X0_startOf_B0 d v0 v1 v2 σ)
theorem tj_X1_ticketAtRank_B0 {E : tj_E} {X : tj_X} {n0 s0 : Nat} (d : Nat) (v0 : Option Nat) (v1 : Int32) (σ : hp_S) : tj_T E X RX1 "ticketAtRank" cX1_ticketAtRank 2 (some .int) (d + 1) [] n0 s0 em_i σ 0 [some (va_rf v0), some (.int v1)] [] (fn_X1_ticketAtRank_B0 d v0 v1) := by
  unfold fn_X1_ticketAtRank_B0
  refine tj_aload_n dX1_ticketAtRank_0 rfl ?_
  refine tj_iload_n dX1_ticketAtRank_1 rfl ?_
  refine tj_callV (as := [.int v1]) (rest := []) (st' := (fun r => [va_rf r])) (t := 0) (fun a e => by cases e; exact ct_X1_ticketWith d _ _) (by decide) rfl q3241 q3243 qs45 q96 q3244 rfl md_X1_ticketWith rfl (by decide) rfl (by decide) dX1_ticketAtRank_2 (fun _ => rfl) (fun r101 σ => ?_) (by decide)
  refine tj_getI fl_X1_222r dX1_ticketAtRank_5 (fun v102 => ?_)
  exact tj_iret dX1_ticketAtRank_8
theorem ct_X1_ticketAtRank : ∀ (d : Nat) (v0 : Option Nat) (v1 : Int32), ct_ yX1_ticketAtRank (ws_ yX1_ticketAtRank cX1_ticketAtRank 2 (some .int)) d em_i [va_rf v0, .int v1] (fn_X1_ticketAtRank d v0 v1)
  | 0, _, _ => ct_fail
  | d + 1, v0, v1 => ct_of [(false, va_rf v0), (false, .int v1)] [some (va_rf v0), some (.int v1)] (by decide) rfl ⟨rfl, (rf_cat _), ⟨rfl, rfl, trivial⟩⟩ (fun E X n0 s0 σ => tj_X1_ticketAtRank_B0 d v0 v1 σ)
theorem tj_X0_ticketAtRank_B0 {E : tj_E} {X : tj_X} {n0 s0 : Nat} (d : Nat) (v0 : Option Nat) (v1 : Int32) (v2 : Option Nat) (σ : hp_S) : tj_T E X RX0 "ticketAtRank" cX0_ticketAtRank 4 (some .int) (d + 1) [(0, 9, 12, 21)] n0 s0 em_i σ 0 [some (va_rf v0), some (.int v1), some (va_rf v2), none] [] (fn_X0_ticketAtRank_B0 d v0 v1 v2) := by
  unfold fn_X0_ticketAtRank_B0
  refine tj_aload_n dX0_ticketAtRank_0 rfl ?_
  refine tj_iconst (0 : Int32) dX0_ticketAtRank_1 rfl ?_
  refine tj_aload_n dX0_ticketAtRank_2 rfl ?_
  refine tj_iload_n dX0_ticketAtRank_3 rfl ?_
  refine tj_tryV (as := [.int v1]) (rest := [.int (0 : Int32), va_rf v2]) (st' := (fun r => [.int r, .int (0 : Int32), va_rf v2])) (t := 0) (fun a e => by cases e; exact ct_X1_ticketAtRank d _ _) (by decide) rfl q3237 q3238 q3239 q96 q3240 rfl md_X1_ticketAtRank rfl (by decide) rfl (by simp [rf_cat, cat_i, cat_l, cat_f, cat_d]) dX0_ticketAtRank_4 (fun _ => rfl) (fun r101 σ => ?_) (fun q102 σ => ?_)
  · refine tj_i2l dX0_ticketAtRank_7 ?_
    refine tj_last dX0_ticketAtRank_8 (fun σ => ?_)
    refine tj_goto 15 dX0_ticketAtRank_9 rfl ?_
    refine tj_iconst (0 : Int32) dX0_ticketAtRank_15 rfl ?_
    exact tj_iret dX0_ticketAtRank_16
  · refine tj_xin [] ⟨0, 9, 12, 21⟩ [] "java/util/NoSuchElementException" cx_java_util_NoSuchElementException_34 rfl (by decide) (by decide) q3055 (fun _ h => absurd h List.not_mem_nil) ?_ ?_
    · refine tj_astore_n dX0_ticketAtRank_12 (by decide) (rf_cat _) [some (va_rf v0), some (.int v1), some (va_rf v2), some (va_rf (some q102))] rfl ?_
      refine tj_iconst (1 : Int32) dX0_ticketAtRank_13 rfl ?_
      exact tj_iret dX0_ticketAtRank_14
    exact tj_xfail
theorem ct_X0_ticketAtRank : ∀ (d : Nat) (v0 : Option Nat) (v1 : Int32) (v2 : Option Nat), ct_ yX0_ticketAtRank (wsW_ yX0_ticketAtRank cX0_ticketAtRank 4 (some .int) [(0, 9, 12, 21)]) d em_i [va_rf v0, .int v1, va_rf v2] (fn_X0_ticketAtRank d v0 v1 v2)
  | 0, _, _, _ => ct_fail
  | d + 1, v0, v1, v2 => ct_ofH [(false, va_rf v0), (false, .int v1), (false, va_rf v2)] [some (va_rf v0), some (.int v1), some (va_rf v2), none] (by decide) rfl ⟨rfl, (rf_cat _), ⟨rfl, rfl, ⟨rfl, (rf_cat _), trivial⟩⟩⟩ (fun E X n0 s0 σ => tj_X0_ticketAtRank_B0 d v0 v1 v2 σ)
theorem tj_X1_ticketOf_B0 {E : tj_E} {X : tj_X} {n0 s0 : Nat} (d : Nat) (v0 : Option Nat) (v1 : Int32) (σ : hp_S) : tj_T E X RX1 "ticketOf" cX1_ticketOf 2 (some .int) (d + 1) [] n0 s0 em_i σ 0 [some (va_rf v0), some (.int v1)] [] (fn_X1_ticketOf_B0 d v0 v1) := by
  unfold fn_X1_ticketOf_B0
  refine tj_aload_n dX1_ticketOf_0 rfl ?_
  refine tj_iload_n dX1_ticketOf_1 rfl ?_
  refine tj_callV (as := [.int v1]) (rest := []) (st' := (fun r => [va_rf r])) (t := 0) (fun a e => by cases e; exact ct_X1_lionWith d _ _) (by decide) rfl q3174 q3176 qs44 q96 q3177 rfl md_X1_lionWith rfl (by decide) rfl (by decide) dX1_ticketOf_2 (fun _ => rfl) (fun r101 σ => ?_) (by decide)
  refine tj_getR fl_X1_221r dX1_ticketOf_5 (fun v102 => ?_)
  refine tj_getI fl_X1_222r dX1_ticketOf_8 (fun v103 => ?_)
  exact tj_iret dX1_ticketOf_11
theorem ct_X1_ticketOf : ∀ (d : Nat) (v0 : Option Nat) (v1 : Int32), ct_ yX1_ticketOf (ws_ yX1_ticketOf cX1_ticketOf 2 (some .int)) d em_i [va_rf v0, .int v1] (fn_X1_ticketOf d v0 v1)
  | 0, _, _ => ct_fail
  | d + 1, v0, v1 => ct_of [(false, va_rf v0), (false, .int v1)] [some (va_rf v0), some (.int v1)] (by decide) rfl ⟨rfl, (rf_cat _), ⟨rfl, rfl, trivial⟩⟩ (fun E X n0 s0 σ => tj_X1_ticketOf_B0 d v0 v1 σ)
theorem tj_X0_ticketOf_B0 {E : tj_E} {X : tj_X} {n0 s0 : Nat} (d : Nat) (v0 : Option Nat) (v1 : Int32) (v2 : Option Nat) (σ : hp_S) : tj_T E X RX0 "ticketOf" cX0_ticketOf 4 (some .int) (d + 1) [(0, 9, 12, 21)] n0 s0 em_i σ 0 [some (va_rf v0), some (.int v1), some (va_rf v2), none] [] (fn_X0_ticketOf_B0 d v0 v1 v2) := by
  unfold fn_X0_ticketOf_B0
  refine tj_aload_n dX0_ticketOf_0 rfl ?_
  refine tj_iconst (0 : Int32) dX0_ticketOf_1 rfl ?_
  refine tj_aload_n dX0_ticketOf_2 rfl ?_
  refine tj_iload_n dX0_ticketOf_3 rfl ?_
  refine tj_tryV (as := [.int v1]) (rest := [.int (0 : Int32), va_rf v2]) (st' := (fun r => [.int r, .int (0 : Int32), va_rf v2])) (t := 0) (fun a e => by cases e; exact ct_X1_ticketOf d _ _) (by decide) rfl q3200 q3201 q3202 q96 q3203 rfl md_X1_ticketOf rfl (by decide) rfl (by simp [rf_cat, cat_i, cat_l, cat_f, cat_d]) dX0_ticketOf_4 (fun _ => rfl) (fun r101 σ => ?_) (fun q102 σ => ?_)
  · refine tj_i2l dX0_ticketOf_7 ?_
    refine tj_last dX0_ticketOf_8 (fun σ => ?_)
    refine tj_goto 15 dX0_ticketOf_9 rfl ?_
    refine tj_iconst (0 : Int32) dX0_ticketOf_15 rfl ?_
    exact tj_iret dX0_ticketOf_16
  · refine tj_xin [] ⟨0, 9, 12, 21⟩ [] "java/util/NoSuchElementException" cx_java_util_NoSuchElementException_34 rfl (by decide) (by decide) q3055 (fun _ h => absurd h List.not_mem_nil) ?_ ?_
    · refine tj_astore_n dX0_ticketOf_12 (by decide) (rf_cat _) [some (va_rf v0), some (.int v1), some (va_rf v2), some (va_rf (some q102))] rfl ?_
      refine tj_iconst (1 : Int32) dX0_ticketOf_13 rfl ?_
      exact tj_iret dX0_ticketOf_14
    exact tj_xfail
theorem ct_X0_ticketOf : ∀ (d : Nat) (v0 : Option Nat) (v1 : Int32) (v2 : Option Nat), ct_ yX0_ticketOf (wsW_ yX0_ticketOf cX0_ticketOf 4 (some .int) [(0, 9, 12, 21)]) d em_i [va_rf v0, .int v1, va_rf v2] (fn_X0_ticketOf d v0 v1 v2)
  | 0, _, _, _ => ct_fail
  | d + 1, v0, v1, v2 => ct_ofH [(false, va_rf v0), (false, .int v1), (false, va_rf v2)] [some (va_rf v0), some (.int v1), some (va_rf v2), none] (by decide) rfl ⟨rfl, (rf_cat _), ⟨rfl, rfl, ⟨rfl, (rf_cat _), trivial⟩⟩⟩ (fun E X n0 s0 σ => tj_X0_ticketOf_B0 d v0 v1 v2 σ)
theorem tj_X1_type_J28 {E : tj_E} {X : tj_X} {n0 s0 : Nat} (d : Nat) (l0 : Option Nat) (l1 : Int32) (p0 : Int32) (σ : hp_S) : tj_T E X RX1 "type" cX1_type 2 (some .int) (d + 1) [] n0 s0 em_i σ 28 [some (va_rf l0), some (.int l1)] [.int p0] (fn_X1_type_J28 d l0 l1 p0) := by
  unfold fn_X1_type_J28
  refine tj_callS (as := [.int p0]) (rest := []) (st' := (fun _ => [])) (ct_X1_checkState d p0) q3423 q3424 q96 q3425 md_X1_checkState rfl (by decide) rfl (by decide) dX1_type_28 (fun _ => rfl) (fun _ σ => ?_) (by decide)
  refine tj_aload_n dX1_type_31 rfl ?_
  refine tj_getR fl_X1_82r dX1_type_32 (fun v101 => ?_)
  refine tj_iload_n dX1_type_35 rfl ?_
  refine tj_callV (as := [.int l1]) (rest := []) (st' := (fun r => [va_rf r])) (t := 29) (fun a e => by cases e; exact ct_J8_append_3 d _ _) (by decide) rfl q3428 q3429 q3430 q107 q3431 rfl md_J8_append_3 rfl (by decide) rfl (by decide) dX1_type_36 (fun _ => rfl) (fun r102 σ => ?_) (by decide)
  refine tj_pop dX1_type_39 (rf_cat _) ?_
  refine tj_aload_n dX1_type_40 rfl ?_
  refine tj_getR fl_X1_82r dX1_type_41 (fun v103 => ?_)
  refine tj_callV (as := []) (rest := []) (st' := (fun r => [.int r])) (t := 29) (fun a e => by cases e; exact ct_J8_length d _) (by decide) rfl q3422 q776 q4354 q107 q777 rfl md_J8_length rfl (by decide) rfl (by decide) dX1_type_44 (fun _ => rfl) (fun r104 σ => ?_) (by decide)
  exact tj_iret dX1_type_47
theorem tj_X1_type_B0 {E : tj_E} {X : tj_X} {n0 s0 : Nat} (d : Nat) (v0 : Option Nat) (v1 : Int32) (σ : hp_S) : tj_T E X RX1 "type" cX1_type 2 (some .int) (d + 1) [] n0 s0 em_i σ 0 [some (va_rf v0), some (.int v1)] [] (fn_X1_type_B0 d v0 v1) := by
  unfold fn_X1_type_B0
  refine tj_iload_n dX1_type_0 rfl ?_
  refine tj_bipush (32 : Int32) dX1_type_1 (by decide) ?_
  refine tj_bipush (126 : Int32) dX1_type_3 (by decide) ?_
  refine tj_callS (as := [.int v1, .int (32 : Int32), .int (126 : Int32)]) (rest := []) (st' := (fun r => [.int r])) (ct_X1_isBetween d v1 (32 : Int32) (126 : Int32)) q3133 q1964 q96 q1965 md_X1_isBetween rfl (by decide) rfl (by decide) dX1_type_5 (fun _ => rfl) (fun r101 σ => ?_) (by decide)
  refine tj_callS (as := [.int r101]) (rest := []) (st' := (fun _ => [])) (ct_X1_checkArgument d r101) q3289 q3290 q96 q3291 md_X1_checkArgument rfl (by decide) rfl (by decide) dX1_type_8 (fun _ => rfl) (fun _ σ => ?_) (by decide)
  refine tj_aload_n dX1_type_11 rfl ?_
  refine tj_getR fl_X1_82r dX1_type_12 (fun v102 => ?_)
  refine tj_callV (as := []) (rest := []) (st' := (fun r => [.int r])) (t := 29) (fun a e => by cases e; exact ct_J8_length d _) (by decide) rfl q3422 q776 q4354 q107 q777 rfl md_J8_length rfl (by decide) rfl (by decide) dX1_type_15 (fun _ => rfl) (fun r103 σ => ?_) (by decide)
  refine tj_bipush (60 : Int32) dX1_type_18 (by decide) ?_
  refine tj_icmp_ge 27 dX1_type_20 rfl (fun _ => ?_) (fun _ => ?_)
  · refine tj_iconst (0 : Int32) dX1_type_27 rfl ?_
    exact tj_X1_type_J28 d v0 v1 (0 : Int32) _
  · refine tj_iconst (1 : Int32) dX1_type_23 rfl ?_
    refine tj_goto 28 dX1_type_24 rfl ?_
    exact tj_X1_type_J28 d v0 v1 (1 : Int32) _
theorem ct_X1_type : ∀ (d : Nat) (v0 : Option Nat) (v1 : Int32), ct_ yX1_type (ws_ yX1_type cX1_type 2 (some .int)) d em_i [va_rf v0, .int v1] (fn_X1_type d v0 v1)
  | 0, _, _ => ct_fail
  | d + 1, v0, v1 => ct_of [(false, va_rf v0), (false, .int v1)] [some (va_rf v0), some (.int v1)] (by decide) rfl ⟨rfl, (rf_cat _), ⟨rfl, rfl, trivial⟩⟩ (fun E X n0 s0 σ => tj_X1_type_B0 d v0 v1 σ)
theorem tj_X0_type_B0 {E : tj_E} {X : tj_X} {n0 s0 : Nat} (d : Nat) (v0 : Option Nat) (v1 : Int32) (v2 : Option Nat) (σ : hp_S) : tj_T E X RX0 "type" cX0_type 4 (some .int) (d + 1) [(0, 9, 12, 13), (0, 9, 15, 15)] n0 s0 em_i σ 0 [some (va_rf v0), some (.int v1), some (va_rf v2), none] [] (fn_X0_type_B0 d v0 v1 v2) := by
  unfold fn_X0_type_B0
  refine tj_aload_n dX0_type_0 rfl ?_
  refine tj_iconst (0 : Int32) dX0_type_1 rfl ?_
  refine tj_aload_n dX0_type_2 rfl ?_
  refine tj_iload_n dX0_type_3 rfl ?_
  refine tj_tryV (as := [.int v1]) (rest := [.int (0 : Int32), va_rf v2]) (st' := (fun r => [.int r, .int (0 : Int32), va_rf v2])) (t := 0) (fun a e => by cases e; exact ct_X1_type d _ _) (by decide) rfl q3418 q3419 q3420 q96 q3421 rfl md_X1_type rfl (by decide) rfl (by simp [rf_cat, cat_i, cat_l, cat_f, cat_d]) dX0_type_4 (fun _ => rfl) (fun r101 σ => ?_) (fun q102 σ => ?_)
  · refine tj_i2l dX0_type_7 ?_
    refine tj_last dX0_type_8 (fun σ => ?_)
    refine tj_goto 18 dX0_type_9 rfl ?_
    refine tj_iconst (0 : Int32) dX0_type_18 rfl ?_
    exact tj_iret dX0_type_19
  · refine tj_xin [] ⟨0, 9, 12, 13⟩ [⟨0, 9, 15, 15⟩] "java/lang/IllegalArgumentException" cx_java_lang_IllegalArgumentException_35 rfl (by decide) (by decide) q3045 (fun _ h => absurd h List.not_mem_nil) ?_ ?_
    · refine tj_astore_n dX0_type_12 (by decide) (rf_cat _) [some (va_rf v0), some (.int v1), some (va_rf v2), some (va_rf (some q102))] rfl ?_
      refine tj_iconst (1 : Int32) dX0_type_13 rfl ?_
      exact tj_iret dX0_type_14
    refine tj_xin [⟨0, 9, 12, 13⟩] ⟨0, 9, 15, 15⟩ [] "java/lang/IllegalStateException" cx_java_lang_IllegalStateException_36 rfl (by decide) (by decide) q3046 (List.forall_mem_cons.mpr ⟨Or.inr ⟨by decide, "java/lang/IllegalArgumentException", q3045, nc_java_lang_IllegalArgumentException_36⟩, fun _ h => absurd h List.not_mem_nil⟩) ?_ ?_
    · refine tj_astore_n dX0_type_15 (by decide) (rf_cat _) [some (va_rf v0), some (.int v1), some (va_rf v2), some (va_rf (some q102))] rfl ?_
      refine tj_iconst (2 : Int32) dX0_type_16 rfl ?_
      exact tj_iret dX0_type_17
    exact tj_xfail
theorem ct_X0_type : ∀ (d : Nat) (v0 : Option Nat) (v1 : Int32) (v2 : Option Nat), ct_ yX0_type (wsW_ yX0_type cX0_type 4 (some .int) [(0, 9, 12, 13), (0, 9, 15, 15)]) d em_i [va_rf v0, .int v1, va_rf v2] (fn_X0_type d v0 v1 v2)
  | 0, _, _, _ => ct_fail
  | d + 1, v0, v1, v2 => ct_ofH [(false, va_rf v0), (false, .int v1), (false, va_rf v2)] [some (va_rf v0), some (.int v1), some (va_rf v2), none] (by decide) rfl ⟨rfl, (rf_cat _), ⟨rfl, rfl, ⟨rfl, (rf_cat _), trivial⟩⟩⟩ (fun E X n0 s0 σ => tj_X0_type_B0 d v0 v1 v2 σ)
theorem tj_J2_isEmpty_B0 {E : tj_E} {X : tj_X} {n0 s0 : Nat} (d : Nat) (v0 : Option Nat) (σ : hp_S) : tj_T E X RJ2 "isEmpty" cJ2_isEmpty 1 (some .boolean) (d + 1) [] n0 s0 em_i σ 0 [some (va_rf v0)] [] (fn_J2_isEmpty_B0 d v0) := by
  unfold fn_J2_isEmpty_B0
  refine tj_aload_n dJ2_isEmpty_0 rfl ?_
  refine tj_callA (as := []) (rest := []) (st' := (fun r => [.int r])) (x0 := ⟨"java/util/AbstractCollection", "size", "()I"⟩) (owner := "java/util/AbstractCollection") (t := 24) (fun a e => by cases e; exact ct_J6_size d _) (by decide) rfl q2591 q4340 q4345 q1051 q105 q1052 q500 md_o_java_util_AbstractCollection_size rfl (by decide) rfl (by decide) dJ2_isEmpty_1 (fun _ => rfl) (fun r101 σ => ?_) (by decide)
  refine tj_if_ne 11 dJ2_isEmpty_4 rfl (fun _ => ?_) (fun _ => ?_)
  · refine tj_iconst (1 : Int32) dJ2_isEmpty_7 rfl ?_
    refine tj_goto 12 dJ2_isEmpty_8 rfl ?_
    exact tj_zpure rfl dJ2_isEmpty_12
  · refine tj_iconst (0 : Int32) dJ2_isEmpty_11 rfl ?_
    exact tj_zpure rfl dJ2_isEmpty_12
theorem ct_J2_isEmpty : ∀ (d : Nat) (v0 : Option Nat), ct_ yJ2_isEmpty (ws_ yJ2_isEmpty cJ2_isEmpty 1 (some .boolean)) d em_i [va_rf v0] (fn_J2_isEmpty d v0)
  | 0, _ => ct_fail
  | d + 1, v0 => ct_of [(false, va_rf v0)] [some (va_rf v0)] (by decide) rfl ⟨rfl, (rf_cat _), trivial⟩ (fun E X n0 s0 σ => tj_J2_isEmpty_B0 d v0 σ)
theorem tj_J6_unlinkLast_J42 {E : tj_E} {X : tj_X} {n0 s0 : Nat} (d : Nat) (l0 : Option Nat) (l2 : Option Nat) (σ : hp_S) : tj_T E X RJ6 "unlinkLast" cJ6_unlinkLast 4 (some (.object "java/lang/Object")) (d + 1) [] n0 s0 em_r σ 42 [some (va_rf l0), none, some (va_rf l2), none] [] (fn_J6_unlinkLast_J42 d l0 l2) := by
  unfold fn_J6_unlinkLast_J42
  refine tj_aload_n dJ6_unlinkLast_42 rfl ?_
  refine tj_dup dJ6_unlinkLast_43 (rf_cat _) ?_
  refine tj_getI fl_J6_7 dJ6_unlinkLast_44 (fun v101 => ?_)
  refine tj_iconst (1 : Int32) dJ6_unlinkLast_47 rfl ?_
  refine tj_isub dJ6_unlinkLast_48 ?_
  refine tj_put fl_J6_7 rfl rfl dJ6_unlinkLast_49 (fun σ => ?_)
  refine tj_aload_n dJ6_unlinkLast_52 rfl ?_
  refine tj_dup dJ6_unlinkLast_53 (rf_cat _) ?_
  refine tj_getI fl_J6_33 dJ6_unlinkLast_54 (fun v102 => ?_)
  refine tj_iconst (1 : Int32) dJ6_unlinkLast_57 rfl ?_
  refine tj_iadd dJ6_unlinkLast_58 ?_
  refine tj_put fl_J6_33 rfl rfl dJ6_unlinkLast_59 (fun σ => ?_)
  refine tj_aload_n dJ6_unlinkLast_62 rfl ?_
  exact tj_aret (Or.inl ⟨_, rfl⟩) dJ6_unlinkLast_63
theorem tj_J6_unlinkLast_B0 {E : tj_E} {X : tj_X} {n0 s0 : Nat} (d : Nat) (v0 : Option Nat) (v1 : Option Nat) (σ : hp_S) : tj_T E X RJ6 "unlinkLast" cJ6_unlinkLast 4 (some (.object "java/lang/Object")) (d + 1) [] n0 s0 em_r σ 0 [some (va_rf v0), some (va_rf v1), none, none] [] (fn_J6_unlinkLast_B0 d v0 v1) := by
  unfold fn_J6_unlinkLast_B0
  refine tj_aload_n dJ6_unlinkLast_0 rfl ?_
  refine tj_getR fl_J6_39 dJ6_unlinkLast_1 (fun v101 => ?_)
  refine tj_astore_n dJ6_unlinkLast_4 (by decide) (rf_cat _) [some (va_rf v0), some (va_rf v1), some (va_rf v101), none] rfl ?_
  refine tj_aload_n dJ6_unlinkLast_5 rfl ?_
  refine tj_getR fl_J6_30 dJ6_unlinkLast_6 (fun v102 => ?_)
  refine tj_astore_n dJ6_unlinkLast_9 (by decide) (rf_cat _) [some (va_rf v0), some (va_rf v1), some (va_rf v101), some (va_rf v102)] rfl ?_
  refine tj_aload_n dJ6_unlinkLast_10 rfl ?_
  refine tj_null dJ6_unlinkLast_11 ?_
  refine tj_put fl_J6_39 (nar_rf _) (fit_rf _) dJ6_unlinkLast_12 (fun σ => ?_)
  refine tj_aload_n dJ6_unlinkLast_15 rfl ?_
  refine tj_null dJ6_unlinkLast_16 ?_
  refine tj_put fl_J6_30 (nar_rf _) (fit_rf _) dJ6_unlinkLast_17 (fun σ => ?_)
  refine tj_aload_n dJ6_unlinkLast_20 rfl ?_
  refine tj_aload_n dJ6_unlinkLast_21 rfl ?_
  refine tj_put fl_J6_27 (nar_rf _) (fit_rf _) dJ6_unlinkLast_22 (fun σ => ?_)
  refine tj_aload_n dJ6_unlinkLast_25 rfl ?_
  refine tj_ifnonnull 37 dJ6_unlinkLast_26 rfl (fun _ => ?_) (fun _ _ => ?_)
  · refine tj_aload_n dJ6_unlinkLast_29 rfl ?_
    refine tj_null dJ6_unlinkLast_30 ?_
    refine tj_put fl_J6_18 (nar_rf _) (fit_rf _) dJ6_unlinkLast_31 (fun σ => ?_)
    refine tj_goto 42 dJ6_unlinkLast_34 rfl ?_
    refine tj_wk (L' := [some (va_rf v0), none, some (va_rf v101), none]) ⟨rfl, rfl, trivial⟩ ?_
    exact tj_J6_unlinkLast_J42 d v0 v101 _
  · refine tj_aload_n dJ6_unlinkLast_37 rfl ?_
    refine tj_null dJ6_unlinkLast_38 ?_
    refine tj_put fl_J6_36 (nar_rf _) (fit_rf _) dJ6_unlinkLast_39 (fun σ => ?_)
    refine tj_wk (L' := [some (va_rf v0), none, some (va_rf v101), none]) ⟨rfl, rfl, trivial⟩ ?_
    exact tj_J6_unlinkLast_J42 d v0 v101 _
theorem ct_J6_unlinkLast : ∀ (d : Nat) (v0 : Option Nat) (v1 : Option Nat), ct_ yJ6_unlinkLast (ws_ yJ6_unlinkLast cJ6_unlinkLast 4 (some (.object "java/lang/Object"))) d em_r [va_rf v0, va_rf v1] (fn_J6_unlinkLast d v0 v1)
  | 0, _, _ => ct_fail
  | d + 1, v0, v1 => ct_of [(false, va_rf v0), (false, va_rf v1)] [some (va_rf v0), some (va_rf v1), none, none] (by decide) rfl ⟨rfl, (rf_cat _), ⟨rfl, (rf_cat _), trivial⟩⟩ (fun E X n0 s0 σ => tj_J6_unlinkLast_B0 d v0 v1 σ)
theorem tj_J6_removeLast_B0 {E : tj_E} {X : tj_X} {n0 s0 : Nat} (d : Nat) (v0 : Option Nat) (σ : hp_S) : tj_T E X RJ6 "removeLast" cJ6_removeLast 2 (some (.object "java/lang/Object")) (d + 1) [] n0 s0 em_r σ 0 [some (va_rf v0), none] [] (fn_J6_removeLast_B0 d v0) := by
  unfold fn_J6_removeLast_B0
  refine tj_aload_n dJ6_removeLast_0 rfl ?_
  refine tj_getR fl_J6_27 dJ6_removeLast_1 (fun v101 => ?_)
  refine tj_astore_n dJ6_removeLast_4 (by decide) (rf_cat _) [some (va_rf v0), some (va_rf v101)] rfl ?_
  refine tj_aload_n dJ6_removeLast_5 rfl ?_
  refine tj_ifnonnull 17 dJ6_removeLast_6 rfl (fun _ => ?_) (fun _ _ => ?_)
  · exact tj_fail
  · refine tj_aload_n dJ6_removeLast_17 rfl ?_
    refine tj_aload_n dJ6_removeLast_18 rfl ?_
    refine tj_callV (as := [va_rf v101]) (rest := []) (st' := (fun r => [va_rf r])) (t := 24) (fun a e => by cases e; exact ct_J6_unlinkLast d _ _) (by decide) rfl q3858 q3860 qs59 q105 q3861 rfl md_J6_unlinkLast rfl (by decide) rfl (by decide) dJ6_removeLast_19 (fun _ => rfl) (fun r102 σ => ?_) (by decide)
    exact tj_aret (Or.inl ⟨_, rfl⟩) dJ6_removeLast_22
theorem ct_J6_removeLast : ∀ (d : Nat) (v0 : Option Nat), ct_ yJ6_removeLast (ws_ yJ6_removeLast cJ6_removeLast 2 (some (.object "java/lang/Object"))) d em_r [va_rf v0] (fn_J6_removeLast d v0)
  | 0, _ => ct_fail
  | d + 1, v0 => ct_of [(false, va_rf v0)] [some (va_rf v0), none] (by decide) rfl ⟨rfl, (rf_cat _), trivial⟩ (fun E X n0 s0 σ => tj_J6_removeLast_B0 d v0 σ)
theorem tj_X1_undo_J15 {E : tj_E} {X : tj_X} {n0 s0 : Nat} (d : Nat) (l0 : Option Nat) (p0 : Int32) (σ : hp_S) : tj_T E X RX1 "undo" cX1_undo 1 (some .int) (d + 1) [] n0 s0 em_i σ 15 [some (va_rf l0)] [.int p0] (fn_X1_undo_J15 d l0 p0) := by
  unfold fn_X1_undo_J15
  refine tj_callS (as := [.int p0]) (rest := []) (st' := (fun _ => [])) (ct_X1_checkElement d p0) q3134 q3135 q96 q3136 md_X1_checkElement rfl (by decide) rfl (by decide) dX1_undo_15 (fun _ => rfl) (fun _ σ => ?_) (by decide)
  refine tj_aload_n dX1_undo_18 rfl ?_
  refine tj_aload_n dX1_undo_19 rfl ?_
  refine tj_getR fl_X1_75r dX1_undo_20 (fun v101 => ?_)
  refine tj_callV (as := []) (rest := [va_rf l0]) (st' := (fun r => [va_rf r, va_rf l0])) (t := 24) (fun a e => by cases e; exact ct_J6_removeLast d _) (by decide) rfl q3854 q3855 q3856 q105 q3857 rfl md_J6_removeLast rfl (by decide) rfl (by simp [rf_cat, cat_i, cat_l, cat_f, cat_d]) dX1_undo_23 (fun _ => rfl) (fun r102 σ => ?_) (by decide)
  refine tj_cast (nm := "LionGate$Queue") q185 ca_LionGate_Queue dX1_undo_26 ?_
  refine tj_put fl_X1_66 (nar_rf _) (fit_rf _) dX1_undo_29 (fun σ => ?_)
  refine tj_aload_n dX1_undo_32 rfl ?_
  refine tj_getR fl_X1_75r dX1_undo_33 (fun v103 => ?_)
  refine tj_callV (as := []) (rest := []) (st' := (fun r => [.int r])) (t := 24) (fun a e => by cases e; exact ct_J6_size d _) (by decide) rfl q2659 q1051 q4351 q105 q1052 rfl md_J6_size rfl (by decide) rfl (by decide) dX1_undo_36 (fun _ => rfl) (fun r104 σ => ?_) (by decide)
  exact tj_iret dX1_undo_39
theorem tj_X1_undo_B0 {E : tj_E} {X : tj_X} {n0 s0 : Nat} (d : Nat) (v0 : Option Nat) (σ : hp_S) : tj_T E X RX1 "undo" cX1_undo 1 (some .int) (d + 1) [] n0 s0 em_i σ 0 [some (va_rf v0)] [] (fn_X1_undo_B0 d v0) := by
  unfold fn_X1_undo_B0
  refine tj_aload_n dX1_undo_0 rfl ?_
  refine tj_getR fl_X1_75r dX1_undo_1 (fun v101 => ?_)
  refine tj_callU (as := []) (rest := []) (st' := (fun r => [.int r])) (x0 := ⟨"java/util/LinkedList", "isEmpty", "()Z"⟩) (owner := "java/util/AbstractCollection") (t := 24) (fun a e => by cases e; exact ct_J2_isEmpty d _) (by decide) rfl q3848 q3849 q3851 q3852 q101 q3853 rfl md_o_java_util_AbstractCollection_isEmpty rfl (by decide) rfl (by decide) dX1_undo_4 (fun _ => rfl) (fun r102 σ => ?_) (by decide)
  refine tj_if_ne 14 dX1_undo_7 rfl (fun _ => ?_) (fun _ => ?_)
  · refine tj_iconst (1 : Int32) dX1_undo_10 rfl ?_
    refine tj_goto 15 dX1_undo_11 rfl ?_
    exact tj_X1_undo_J15 d v0 (1 : Int32) _
  · refine tj_iconst (0 : Int32) dX1_undo_14 rfl ?_
    exact tj_X1_undo_J15 d v0 (0 : Int32) _
theorem ct_X1_undo : ∀ (d : Nat) (v0 : Option Nat), ct_ yX1_undo (ws_ yX1_undo cX1_undo 1 (some .int)) d em_i [va_rf v0] (fn_X1_undo d v0)
  | 0, _ => ct_fail
  | d + 1, v0 => ct_of [(false, va_rf v0)] [some (va_rf v0)] (by decide) rfl ⟨rfl, (rf_cat _), trivial⟩ (fun E X n0 s0 σ => tj_X1_undo_B0 d v0 σ)
theorem tj_X0_undo_B0 {E : tj_E} {X : tj_X} {n0 s0 : Nat} (d : Nat) (v0 : Option Nat) (v1 : Option Nat) (σ : hp_S) : tj_T E X RX0 "undo" cX0_undo 3 (some .int) (d + 1) [(0, 8, 11, 21)] n0 s0 em_i σ 0 [some (va_rf v0), some (va_rf v1), none] [] (fn_X0_undo_B0 d v0 v1) := by
  unfold fn_X0_undo_B0
  refine tj_aload_n dX0_undo_0 rfl ?_
  refine tj_iconst (0 : Int32) dX0_undo_1 rfl ?_
  refine tj_aload_n dX0_undo_2 rfl ?_
  refine tj_tryV (as := []) (rest := [.int (0 : Int32), va_rf v1]) (st' := (fun r => [.int r, .int (0 : Int32), va_rf v1])) (t := 0) (fun a e => by cases e; exact ct_X1_undo d _) (by decide) rfl q3844 q3845 q3846 q96 q3847 rfl md_X1_undo rfl (by decide) rfl (by simp [rf_cat, cat_i, cat_l, cat_f, cat_d]) dX0_undo_3 (fun _ => rfl) (fun r101 σ => ?_) (fun q102 σ => ?_)
  · refine tj_i2l dX0_undo_6 ?_
    refine tj_last dX0_undo_7 (fun σ => ?_)
    refine tj_goto 14 dX0_undo_8 rfl ?_
    refine tj_iconst (0 : Int32) dX0_undo_14 rfl ?_
    exact tj_iret dX0_undo_15
  · refine tj_xin [] ⟨0, 8, 11, 21⟩ [] "java/util/NoSuchElementException" cx_java_util_NoSuchElementException_34 rfl (by decide) (by decide) q3055 (fun _ h => absurd h List.not_mem_nil) ?_ ?_
    · refine tj_astore_n dX0_undo_11 (by decide) (rf_cat _) [some (va_rf v0), some (va_rf v1), some (va_rf (some q102))] rfl ?_
      refine tj_iconst (1 : Int32) dX0_undo_12 rfl ?_
      exact tj_iret dX0_undo_13
    exact tj_xfail
theorem ct_X0_undo : ∀ (d : Nat) (v0 : Option Nat) (v1 : Option Nat), ct_ yX0_undo (wsW_ yX0_undo cX0_undo 3 (some .int) [(0, 8, 11, 21)]) d em_i [va_rf v0, va_rf v1] (fn_X0_undo d v0 v1)
  | 0, _, _ => ct_fail
  | d + 1, v0, v1 => ct_ofH [(false, va_rf v0), (false, va_rf v1)] [some (va_rf v0), some (va_rf v1), none] (by decide) rfl ⟨rfl, (rf_cat _), ⟨rfl, (rf_cat _), trivial⟩⟩ (fun E X n0 s0 σ => tj_X0_undo_B0 d v0 v1 σ)
theorem tj_X1_yawn_B0 {E : tj_E} {X : tj_X} {n0 s0 : Nat} (d : Nat) (v0 : Option Nat) (v1 : Int32) (v2 : Int32) (σ : hp_S) : tj_T E X RX1 "yawn" cX1_yawn 3 (some .int) (d + 1) [] n0 s0 em_i σ 0 [some (va_rf v0), some (.int v1), some (.int v2)] [] (fn_X1_yawn_B0 d v0 v1 v2) := by
  unfold fn_X1_yawn_B0
  refine tj_aload_n dX1_yawn_0 rfl ?_
  refine tj_ldcS (ev_t 26 rfl) dX1_yawn_1 (fun v101 => ?_)
  refine tj_iconst (2 : Int32) dX1_yawn_3 rfl ?_
  refine tj_newI q426 dX1_yawn_4 (fun a102 σ => ?_)
  refine tj_dup dX1_yawn_6 (rf_cat _) ?_
  refine tj_iconst (0 : Int32) dX1_yawn_7 rfl ?_
  refine tj_iload_n dX1_yawn_8 rfl ?_
  refine tj_iast dX1_yawn_9 (fun σ => ?_)
  refine tj_dup dX1_yawn_10 (rf_cat _) ?_
  refine tj_iconst (1 : Int32) dX1_yawn_11 rfl ?_
  refine tj_iload_n dX1_yawn_12 rfl ?_
  refine tj_iast dX1_yawn_13 (fun σ => ?_)
  refine tj_callVX (as := [va_rf v101, va_rf (some a102)]) (rest := []) (st' := (fun r => [.int r])) (t := 0) (fun a e => by cases e; exact ct_X1_change d _ _ _) (by decide) rfl q401 q403 qs0 q96 q404 rfl md_X1_change rfl (by decide) rfl (by decide) dX1_yawn_14 (fun _ => rfl) (fun r103 σ => ?_) (by decide)
  exact tj_iret dX1_yawn_17
theorem ct_X1_yawn : ∀ (d : Nat) (v0 : Option Nat) (v1 : Int32) (v2 : Int32), ct_ yX1_yawn (ws_ yX1_yawn cX1_yawn 3 (some .int)) d em_i [va_rf v0, .int v1, .int v2] (fn_X1_yawn d v0 v1 v2)
  | 0, _, _, _ => ct_fail
  | d + 1, v0, v1, v2 => ct_of [(false, va_rf v0), (false, .int v1), (false, .int v2)] [some (va_rf v0), some (.int v1), some (.int v2)] (by decide) rfl ⟨rfl, (rf_cat _), ⟨rfl, rfl, ⟨rfl, rfl, trivial⟩⟩⟩ (fun E X n0 s0 σ => tj_X1_yawn_B0 d v0 v1 v2 σ)
theorem tj_X0_yawn_B0 {E : tj_E} {X : tj_X} {n0 s0 : Nat} (d : Nat) (v0 : Option Nat) (v1 : Int32) (v2 : Int32) (v3 : Option Nat) (σ : hp_S) : tj_T E X RX0 "yawn" cX0_yawn 5 (some .int) (d + 1) [(0, 10, 13, 21), (0, 10, 17, 13)] n0 s0 em_i σ 0 [some (va_rf v0), some (.int v1), some (.int v2), some (va_rf v3), none] [] (fn_X0_yawn_B0 d v0 v1 v2 v3) := by
  unfold fn_X0_yawn_B0
  refine tj_aload_n dX0_yawn_0 rfl ?_
  refine tj_iconst (0 : Int32) dX0_yawn_1 rfl ?_
  refine tj_aload_n dX0_yawn_2 rfl ?_
  refine tj_iload_n dX0_yawn_3 rfl ?_
  refine tj_iload_n dX0_yawn_4 rfl ?_
  refine tj_tryV (as := [.int v1, .int v2]) (rest := [.int (0 : Int32), va_rf v3]) (st' := (fun r => [.int r, .int (0 : Int32), va_rf v3])) (t := 0) (fun a e => by cases e; exact ct_X1_yawn d _ _ _) (by decide) rfl q3064 q3065 q3066 q96 q3067 rfl md_X1_yawn rfl (by decide) rfl (by simp [rf_cat, cat_i, cat_l, cat_f, cat_d]) dX0_yawn_5 (fun _ => rfl) (fun r101 σ => ?_) (fun q102 σ => ?_)
  · refine tj_i2l dX0_yawn_8 ?_
    refine tj_last dX0_yawn_9 (fun σ => ?_)
    refine tj_goto 21 dX0_yawn_10 rfl ?_
    refine tj_iconst (0 : Int32) dX0_yawn_21 rfl ?_
    exact tj_iret dX0_yawn_22
  · refine tj_xin [] ⟨0, 10, 13, 21⟩ [⟨0, 10, 17, 13⟩] "java/util/NoSuchElementException" cx_java_util_NoSuchElementException_34 rfl (by decide) (by decide) q3055 (fun _ h => absurd h List.not_mem_nil) ?_ ?_
    · refine tj_astore dX0_yawn_13 (by decide) (rf_cat _) [some (va_rf v0), some (.int v1), some (.int v2), some (va_rf v3), some (va_rf (some q102))] rfl ?_
      refine tj_iconst (1 : Int32) dX0_yawn_15 rfl ?_
      exact tj_iret dX0_yawn_16
    refine tj_xin [⟨0, 10, 13, 21⟩] ⟨0, 10, 17, 13⟩ [] "java/lang/IllegalArgumentException" cx_java_lang_IllegalArgumentException_35 rfl (by decide) (by decide) q3045 (List.forall_mem_cons.mpr ⟨Or.inr ⟨by decide, "java/util/NoSuchElementException", q3055, nc_java_util_NoSuchElementException_35⟩, fun _ h => absurd h List.not_mem_nil⟩) ?_ ?_
    · refine tj_astore dX0_yawn_17 (by decide) (rf_cat _) [some (va_rf v0), some (.int v1), some (.int v2), some (va_rf v3), some (va_rf (some q102))] rfl ?_
      refine tj_iconst (2 : Int32) dX0_yawn_19 rfl ?_
      exact tj_iret dX0_yawn_20
    exact tj_xfail
theorem ct_X0_yawn : ∀ (d : Nat) (v0 : Option Nat) (v1 : Int32) (v2 : Int32) (v3 : Option Nat), ct_ yX0_yawn (wsW_ yX0_yawn cX0_yawn 5 (some .int) [(0, 10, 13, 21), (0, 10, 17, 13)]) d em_i [va_rf v0, .int v1, .int v2, va_rf v3] (fn_X0_yawn d v0 v1 v2 v3)
  | 0, _, _, _, _ => ct_fail
  | d + 1, v0, v1, v2, v3 => ct_ofH [(false, va_rf v0), (false, .int v1), (false, .int v2), (false, va_rf v3)] [some (va_rf v0), some (.int v1), some (.int v2), some (va_rf v3), none] (by decide) rfl ⟨rfl, (rf_cat _), ⟨rfl, rfl, ⟨rfl, rfl, ⟨rfl, (rf_cat _), trivial⟩⟩⟩⟩ (fun E X n0 s0 σ => tj_X0_yawn_B0 d v0 v1 v2 v3 σ)
theorem tj_X4_init_B0 {E : tj_E} {X : tj_X} {n0 s0 : Nat} (d : Nat) (v0 : Option Nat) (σ : hp_S) : tj_T E X RX4 "<init>" cX4_init 1 none (d + 1) [] n0 s0 em_v σ 0 [some (va_rf v0)] [] (fn_X4_init_B0 d v0) := by
  unfold fn_X4_init_B0
  refine tj_aload_n dX4_init_0 rfl ?_
  refine tj_objInit q3878 q183 q184 (by decide) dX4_init_1 (fun _ _ => ?_)
  refine tj_aload_n dX4_init_4 rfl ?_
  refine tj_iconst (-1 : Int32) dX4_init_5 rfl ?_
  refine tj_put fl_X4_7 rfl rfl dX4_init_6 (fun σ => ?_)
  refine tj_aload_n dX4_init_9 rfl ?_
  refine tj_iconst (-1 : Int32) dX4_init_10 rfl ?_
  refine tj_put fl_X4_13 rfl rfl dX4_init_11 (fun σ => ?_)
  refine tj_aload_n dX4_init_14 rfl ?_
  refine tj_bipush (112 : Int32) dX4_init_15 (by decide) ?_
  refine tj_newI q426 dX4_init_17 (fun a102 σ => ?_)
  refine tj_putF fl_X4_16 (nar_rf _) (fit_rfa _) dX4_init_19 (fun σ => ?_)
  refine tj_aload_n dX4_init_22 rfl ?_
  refine tj_bipush (112 : Int32) dX4_init_23 (by decide) ?_
  refine tj_newI q426 dX4_init_25 (fun a103 σ => ?_)
  refine tj_putF fl_X4_20 (nar_rf _) (fit_rfa _) dX4_init_27 (fun σ => ?_)
  refine tj_aload_n dX4_init_30 rfl ?_
  refine tj_bipush (112 : Int32) dX4_init_31 (by decide) ?_
  refine tj_newI q426 dX4_init_33 (fun a104 σ => ?_)
  refine tj_putF fl_X4_23 (nar_rf _) (fit_rfa _) dX4_init_35 (fun σ => ?_)
  refine tj_aload_n dX4_init_38 rfl ?_
  refine tj_sipush (896 : Int32) dX4_init_39 (by decide) ?_
  refine tj_newI q426 dX4_init_42 (fun a105 σ => ?_)
  refine tj_putF fl_X4_26 (nar_rf _) (fit_rfa _) dX4_init_44 (fun σ => ?_)
  refine tj_aload_n dX4_init_47 rfl ?_
  refine tj_bipush (10 : Int32) dX4_init_48 (by decide) ?_
  refine tj_newI q426 dX4_init_50 (fun a106 σ => ?_)
  refine tj_putF fl_X4_29 (nar_rf _) (fit_rfa _) dX4_init_52 (fun σ => ?_)
  refine tj_aload_n dX4_init_55 rfl ?_
  refine tj_bipush (60 : Int32) dX4_init_56 (by decide) ?_
  refine tj_newI q426 dX4_init_58 (fun a107 σ => ?_)
  refine tj_putF fl_X4_32 (nar_rf _) (fit_rfa _) dX4_init_60 (fun σ => ?_)
  refine tj_aload_n dX4_init_63 rfl ?_
  refine tj_bipush (96 : Int32) dX4_init_64 (by decide) ?_
  refine tj_newI q426 dX4_init_66 (fun a108 σ => ?_)
  refine tj_putF fl_X4_35 (nar_rf _) (fit_rfa _) dX4_init_68 (fun σ => ?_)
  refine tj_aload_n dX4_init_71 rfl ?_
  refine tj_bipush (9 : Int32) dX4_init_72 (by decide) ?_
  refine tj_newI q426 dX4_init_74 (fun a109 σ => ?_)
  refine tj_putF fl_X4_38 (nar_rf _) (fit_rfa _) dX4_init_76 (fun σ => ?_)
  refine tj_aload_n dX4_init_79 rfl ?_
  refine tj_bipush (51 : Int32) dX4_init_80 (by decide) ?_
  refine tj_newI q426 dX4_init_82 (fun a110 σ => ?_)
  refine tj_dup dX4_init_84 (rf_cat _) ?_
  refine tj_iconst (0 : Int32) dX4_init_85 rfl ?_
  refine tj_bipush (108 : Int32) dX4_init_86 (by decide) ?_
  refine tj_iast dX4_init_88 (fun σ => ?_)
  refine tj_dup dX4_init_89 (rf_cat _) ?_
  refine tj_iconst (1 : Int32) dX4_init_90 rfl ?_
  refine tj_bipush (105 : Int32) dX4_init_91 (by decide) ?_
  refine tj_iast dX4_init_93 (fun σ => ?_)
  refine tj_dup dX4_init_94 (rf_cat _) ?_
  refine tj_iconst (2 : Int32) dX4_init_95 rfl ?_
  refine tj_bipush (111 : Int32) dX4_init_96 (by decide) ?_
  refine tj_iast dX4_init_98 (fun σ => ?_)
  refine tj_dup dX4_init_99 (rf_cat _) ?_
  refine tj_iconst (3 : Int32) dX4_init_100 rfl ?_
  refine tj_bipush (110 : Int32) dX4_init_101 (by decide) ?_
  refine tj_iast dX4_init_103 (fun σ => ?_)
  refine tj_dup dX4_init_104 (rf_cat _) ?_
  refine tj_iconst (4 : Int32) dX4_init_105 rfl ?_
  refine tj_bipush (32 : Int32) dX4_init_106 (by decide) ?_
  refine tj_iast dX4_init_108 (fun σ => ?_)
  refine tj_dup dX4_init_109 (rf_cat _) ?_
  refine tj_iconst (5 : Int32) dX4_init_110 rfl ?_
  refine tj_bipush (114 : Int32) dX4_init_111 (by decide) ?_
  refine tj_iast dX4_init_113 (fun σ => ?_)
  refine tj_dup dX4_init_114 (rf_cat _) ?_
  refine tj_bipush (6 : Int32) dX4_init_115 (by decide) ?_
  refine tj_bipush (111 : Int32) dX4_init_117 (by decide) ?_
  refine tj_iast dX4_init_119 (fun σ => ?_)
  refine tj_dup dX4_init_120 (rf_cat _) ?_
  refine tj_bipush (7 : Int32) dX4_init_121 (by decide) ?_
  refine tj_bipush (97 : Int32) dX4_init_123 (by decide) ?_
  refine tj_iast dX4_init_125 (fun σ => ?_)
  refine tj_dup dX4_init_126 (rf_cat _) ?_
  refine tj_bipush (8 : Int32) dX4_init_127 (by decide) ?_
  refine tj_bipush (114 : Int32) dX4_init_129 (by decide) ?_
  refine tj_iast dX4_init_131 (fun σ => ?_)
  refine tj_dup dX4_init_132 (rf_cat _) ?_
  refine tj_bipush (9 : Int32) dX4_init_133 (by decide) ?_
  refine tj_bipush (32 : Int32) dX4_init_135 (by decide) ?_
  refine tj_iast dX4_init_137 (fun σ => ?_)
  refine tj_dup dX4_init_138 (rf_cat _) ?_
  refine tj_bipush (10 : Int32) dX4_init_139 (by decide) ?_
  refine tj_bipush (121 : Int32) dX4_init_141 (by decide) ?_
  refine tj_iast dX4_init_143 (fun σ => ?_)
  refine tj_dup dX4_init_144 (rf_cat _) ?_
  refine tj_bipush (11 : Int32) dX4_init_145 (by decide) ?_
  refine tj_bipush (97 : Int32) dX4_init_147 (by decide) ?_
  refine tj_iast dX4_init_149 (fun σ => ?_)
  refine tj_dup dX4_init_150 (rf_cat _) ?_
  refine tj_bipush (12 : Int32) dX4_init_151 (by decide) ?_
  refine tj_bipush (119 : Int32) dX4_init_153 (by decide) ?_
  refine tj_iast dX4_init_155 (fun σ => ?_)
  refine tj_dup dX4_init_156 (rf_cat _) ?_
  refine tj_bipush (13 : Int32) dX4_init_157 (by decide) ?_
  refine tj_bipush (110 : Int32) dX4_init_159 (by decide) ?_
  refine tj_iast dX4_init_161 (fun σ => ?_)
  refine tj_dup dX4_init_162 (rf_cat _) ?_
  refine tj_bipush (14 : Int32) dX4_init_163 (by decide) ?_
  refine tj_bipush (32 : Int32) dX4_init_165 (by decide) ?_
  refine tj_iast dX4_init_167 (fun σ => ?_)
  refine tj_dup dX4_init_168 (rf_cat _) ?_
  refine tj_bipush (15 : Int32) dX4_init_169 (by decide) ?_
  refine tj_bipush (108 : Int32) dX4_init_171 (by decide) ?_
  refine tj_iast dX4_init_173 (fun σ => ?_)
  refine tj_dup dX4_init_174 (rf_cat _) ?_
  refine tj_bipush (16 : Int32) dX4_init_175 (by decide) ?_
  refine tj_bipush (101 : Int32) dX4_init_177 (by decide) ?_
  refine tj_iast dX4_init_179 (fun σ => ?_)
  refine tj_dup dX4_init_180 (rf_cat _) ?_
  refine tj_bipush (17 : Int32) dX4_init_181 (by decide) ?_
  refine tj_bipush (97 : Int32) dX4_init_183 (by decide) ?_
  refine tj_iast dX4_init_185 (fun σ => ?_)
  refine tj_dup dX4_init_186 (rf_cat _) ?_
  refine tj_bipush (18 : Int32) dX4_init_187 (by decide) ?_
  refine tj_bipush (118 : Int32) dX4_init_189 (by decide) ?_
  refine tj_iast dX4_init_191 (fun σ => ?_)
  refine tj_dup dX4_init_192 (rf_cat _) ?_
  refine tj_bipush (19 : Int32) dX4_init_193 (by decide) ?_
  refine tj_bipush (101 : Int32) dX4_init_195 (by decide) ?_
  refine tj_iast dX4_init_197 (fun σ => ?_)
  refine tj_dup dX4_init_198 (rf_cat _) ?_
  refine tj_bipush (20 : Int32) dX4_init_199 (by decide) ?_
  refine tj_bipush (32 : Int32) dX4_init_201 (by decide) ?_
  refine tj_iast dX4_init_203 (fun σ => ?_)
  refine tj_dup dX4_init_204 (rf_cat _) ?_
  refine tj_bipush (21 : Int32) dX4_init_205 (by decide) ?_
  refine tj_bipush (115 : Int32) dX4_init_207 (by decide) ?_
  refine tj_iast dX4_init_209 (fun σ => ?_)
  refine tj_dup dX4_init_210 (rf_cat _) ?_
  refine tj_bipush (22 : Int32) dX4_init_211 (by decide) ?_
  refine tj_bipush (101 : Int32) dX4_init_213 (by decide) ?_
  refine tj_iast dX4_init_215 (fun σ => ?_)
  refine tj_dup dX4_init_216 (rf_cat _) ?_
  refine tj_bipush (23 : Int32) dX4_init_217 (by decide) ?_
  refine tj_bipush (114 : Int32) dX4_init_219 (by decide) ?_
  refine tj_iast dX4_init_221 (fun σ => ?_)
  refine tj_dup dX4_init_222 (rf_cat _) ?_
  refine tj_bipush (24 : Int32) dX4_init_223 (by decide) ?_
  refine tj_bipush (118 : Int32) dX4_init_225 (by decide) ?_
  refine tj_iast dX4_init_227 (fun σ => ?_)
  refine tj_dup dX4_init_228 (rf_cat _) ?_
  refine tj_bipush (25 : Int32) dX4_init_229 (by decide) ?_
  refine tj_bipush (101 : Int32) dX4_init_231 (by decide) ?_
  refine tj_iast dX4_init_233 (fun σ => ?_)
  refine tj_dup dX4_init_234 (rf_cat _) ?_
  refine tj_bipush (26 : Int32) dX4_init_235 (by decide) ?_
  refine tj_bipush (112 : Int32) dX4_init_237 (by decide) ?_
  refine tj_iast dX4_init_239 (fun σ => ?_)
  refine tj_dup dX4_init_240 (rf_cat _) ?_
  refine tj_bipush (27 : Int32) dX4_init_241 (by decide) ?_
  refine tj_bipush (117 : Int32) dX4_init_243 (by decide) ?_
  refine tj_iast dX4_init_245 (fun σ => ?_)
  refine tj_dup dX4_init_246 (rf_cat _) ?_
  refine tj_bipush (28 : Int32) dX4_init_247 (by decide) ?_
  refine tj_bipush (114 : Int32) dX4_init_249 (by decide) ?_
  refine tj_iast dX4_init_251 (fun σ => ?_)
  refine tj_dup dX4_init_252 (rf_cat _) ?_
  refine tj_bipush (29 : Int32) dX4_init_253 (by decide) ?_
  refine tj_bipush (103 : Int32) dX4_init_255 (by decide) ?_
  refine tj_iast dX4_init_257 (fun σ => ?_)
  refine tj_dup dX4_init_258 (rf_cat _) ?_
  refine tj_bipush (30 : Int32) dX4_init_259 (by decide) ?_
  refine tj_bipush (101 : Int32) dX4_init_261 (by decide) ?_
  refine tj_iast dX4_init_263 (fun σ => ?_)
  refine tj_dup dX4_init_264 (rf_cat _) ?_
  refine tj_bipush (31 : Int32) dX4_init_265 (by decide) ?_
  refine tj_bipush (107 : Int32) dX4_init_267 (by decide) ?_
  refine tj_iast dX4_init_269 (fun σ => ?_)
  refine tj_dup dX4_init_270 (rf_cat _) ?_
  refine tj_bipush (32 : Int32) dX4_init_271 (by decide) ?_
  refine tj_bipush (101 : Int32) dX4_init_273 (by decide) ?_
  refine tj_iast dX4_init_275 (fun σ => ?_)
  refine tj_dup dX4_init_276 (rf_cat _) ?_
  refine tj_bipush (33 : Int32) dX4_init_277 (by decide) ?_
  refine tj_bipush (101 : Int32) dX4_init_279 (by decide) ?_
  refine tj_iast dX4_init_281 (fun σ => ?_)
  refine tj_dup dX4_init_282 (rf_cat _) ?_
  refine tj_bipush (34 : Int32) dX4_init_283 (by decide) ?_
  refine tj_bipush (112 : Int32) dX4_init_285 (by decide) ?_
  refine tj_iast dX4_init_287 (fun σ => ?_)
  refine tj_dup dX4_init_288 (rf_cat _) ?_
  refine tj_bipush (35 : Int32) dX4_init_289 (by decide) ?_
  refine tj_bipush (101 : Int32) dX4_init_291 (by decide) ?_
  refine tj_iast dX4_init_293 (fun σ => ?_)
  refine tj_dup dX4_init_294 (rf_cat _) ?_
  refine tj_bipush (36 : Int32) dX4_init_295 (by decide) ?_
  refine tj_bipush (114 : Int32) dX4_init_297 (by decide) ?_
  refine tj_iast dX4_init_299 (fun σ => ?_)
  refine tj_dup dX4_init_300 (rf_cat _) ?_
  refine tj_bipush (37 : Int32) dX4_init_301 (by decide) ?_
  refine tj_bipush (32 : Int32) dX4_init_303 (by decide) ?_
  refine tj_iast dX4_init_305 (fun σ => ?_)
  refine tj_dup dX4_init_306 (rf_cat _) ?_
  refine tj_bipush (38 : Int32) dX4_init_307 (by decide) ?_
  refine tj_bipush (100 : Int32) dX4_init_309 (by decide) ?_
  refine tj_iast dX4_init_311 (fun σ => ?_)
  refine tj_dup dX4_init_312 (rf_cat _) ?_
  refine tj_bipush (39 : Int32) dX4_init_313 (by decide) ?_
  refine tj_bipush (105 : Int32) dX4_init_315 (by decide) ?_
  refine tj_iast dX4_init_317 (fun σ => ?_)
  refine tj_dup dX4_init_318 (rf_cat _) ?_
  refine tj_bipush (40 : Int32) dX4_init_319 (by decide) ?_
  refine tj_bipush (115 : Int32) dX4_init_321 (by decide) ?_
  refine tj_iast dX4_init_323 (fun σ => ?_)
  refine tj_dup dX4_init_324 (rf_cat _) ?_
  refine tj_bipush (41 : Int32) dX4_init_325 (by decide) ?_
  refine tj_bipush (109 : Int32) dX4_init_327 (by decide) ?_
  refine tj_iast dX4_init_329 (fun σ => ?_)
  refine tj_dup dX4_init_330 (rf_cat _) ?_
  refine tj_bipush (42 : Int32) dX4_init_331 (by decide) ?_
  refine tj_bipush (105 : Int32) dX4_init_333 (by decide) ?_
  refine tj_iast dX4_init_335 (fun σ => ?_)
  refine tj_dup dX4_init_336 (rf_cat _) ?_
  refine tj_bipush (43 : Int32) dX4_init_337 (by decide) ?_
  refine tj_bipush (115 : Int32) dX4_init_339 (by decide) ?_
  refine tj_iast dX4_init_341 (fun σ => ?_)
  refine tj_dup dX4_init_342 (rf_cat _) ?_
  refine tj_bipush (44 : Int32) dX4_init_343 (by decide) ?_
  refine tj_bipush (115 : Int32) dX4_init_345 (by decide) ?_
  refine tj_iast dX4_init_347 (fun σ => ?_)
  refine tj_dup dX4_init_348 (rf_cat _) ?_
  refine tj_bipush (45 : Int32) dX4_init_349 (by decide) ?_
  refine tj_bipush (32 : Int32) dX4_init_351 (by decide) ?_
  refine tj_iast dX4_init_353 (fun σ => ?_)
  refine tj_dup dX4_init_354 (rf_cat _) ?_
  refine tj_bipush (46 : Int32) dX4_init_355 (by decide) ?_
  refine tj_bipush (119 : Int32) dX4_init_357 (by decide) ?_
  refine tj_iast dX4_init_359 (fun σ => ?_)
  refine tj_dup dX4_init_360 (rf_cat _) ?_
  refine tj_bipush (47 : Int32) dX4_init_361 (by decide) ?_
  refine tj_bipush (97 : Int32) dX4_init_363 (by decide) ?_
  refine tj_iast dX4_init_365 (fun σ => ?_)
  refine tj_dup dX4_init_366 (rf_cat _) ?_
  refine tj_bipush (48 : Int32) dX4_init_367 (by decide) ?_
  refine tj_bipush (105 : Int32) dX4_init_369 (by decide) ?_
  refine tj_iast dX4_init_371 (fun σ => ?_)
  refine tj_dup dX4_init_372 (rf_cat _) ?_
  refine tj_bipush (49 : Int32) dX4_init_373 (by decide) ?_
  refine tj_bipush (116 : Int32) dX4_init_375 (by decide) ?_
  refine tj_iast dX4_init_377 (fun σ => ?_)
  refine tj_dup dX4_init_378 (rf_cat _) ?_
  refine tj_bipush (50 : Int32) dX4_init_379 (by decide) ?_
  refine tj_bipush (32 : Int32) dX4_init_381 (by decide) ?_
  refine tj_iast dX4_init_383 (fun σ => ?_)
  refine tj_putF fl_X4_41 (nar_rf _) (fit_rfa _) dX4_init_384 (fun σ => ?_)
  refine tj_aload_n dX4_init_387 rfl ?_
  refine tj_bipush (10 : Int32) dX4_init_388 (by decide) ?_
  refine tj_newI q426 dX4_init_390 (fun a111 σ => ?_)
  refine tj_dup dX4_init_392 (rf_cat _) ?_
  refine tj_iconst (0 : Int32) dX4_init_393 rfl ?_
  refine tj_iconst (0 : Int32) dX4_init_394 rfl ?_
  refine tj_iast dX4_init_395 (fun σ => ?_)
  refine tj_dup dX4_init_396 (rf_cat _) ?_
  refine tj_iconst (1 : Int32) dX4_init_397 rfl ?_
  refine tj_iconst (5 : Int32) dX4_init_398 rfl ?_
  refine tj_iast dX4_init_399 (fun σ => ?_)
  refine tj_dup dX4_init_400 (rf_cat _) ?_
  refine tj_iconst (2 : Int32) dX4_init_401 rfl ?_
  refine tj_bipush (10 : Int32) dX4_init_402 (by decide) ?_
  refine tj_iast dX4_init_404 (fun σ => ?_)
  refine tj_dup dX4_init_405 (rf_cat _) ?_
  refine tj_iconst (3 : Int32) dX4_init_406 rfl ?_
  refine tj_bipush (15 : Int32) dX4_init_407 (by decide) ?_
  refine tj_iast dX4_init_409 (fun σ => ?_)
  refine tj_dup dX4_init_410 (rf_cat _) ?_
  refine tj_iconst (4 : Int32) dX4_init_411 rfl ?_
  refine tj_bipush (21 : Int32) dX4_init_412 (by decide) ?_
  refine tj_iast dX4_init_414 (fun σ => ?_)
  refine tj_dup dX4_init_415 (rf_cat _) ?_
  refine tj_iconst (5 : Int32) dX4_init_416 rfl ?_
  refine tj_bipush (26 : Int32) dX4_init_417 (by decide) ?_
  refine tj_iast dX4_init_419 (fun σ => ?_)
  refine tj_dup dX4_init_420 (rf_cat _) ?_
  refine tj_bipush (6 : Int32) dX4_init_421 (by decide) ?_
  refine tj_bipush (31 : Int32) dX4_init_423 (by decide) ?_
  refine tj_iast dX4_init_425 (fun σ => ?_)
  refine tj_dup dX4_init_426 (rf_cat _) ?_
  refine tj_bipush (7 : Int32) dX4_init_427 (by decide) ?_
  refine tj_bipush (38 : Int32) dX4_init_429 (by decide) ?_
  refine tj_iast dX4_init_431 (fun σ => ?_)
  refine tj_dup dX4_init_432 (rf_cat _) ?_
  refine tj_bipush (8 : Int32) dX4_init_433 (by decide) ?_
  refine tj_bipush (46 : Int32) dX4_init_435 (by decide) ?_
  refine tj_iast dX4_init_437 (fun σ => ?_)
  refine tj_dup dX4_init_438 (rf_cat _) ?_
  refine tj_bipush (9 : Int32) dX4_init_439 (by decide) ?_
  refine tj_bipush (51 : Int32) dX4_init_441 (by decide) ?_
  refine tj_iast dX4_init_443 (fun σ => ?_)
  refine tj_putF fl_X4_44 (nar_rf _) (fit_rfa _) dX4_init_444 (fun σ => ?_)
  refine tj_aload_n dX4_init_447 rfl ?_
  refine tj_bipush (18 : Int32) dX4_init_448 (by decide) ?_
  refine tj_newI q426 dX4_init_450 (fun a112 σ => ?_)
  refine tj_dup dX4_init_452 (rf_cat _) ?_
  refine tj_iconst (0 : Int32) dX4_init_453 rfl ?_
  refine tj_bipush (97 : Int32) dX4_init_454 (by decide) ?_
  refine tj_iast dX4_init_456 (fun σ => ?_)
  refine tj_dup dX4_init_457 (rf_cat _) ?_
  refine tj_iconst (1 : Int32) dX4_init_458 rfl ?_
  refine tj_bipush (115 : Int32) dX4_init_459 (by decide) ?_
  refine tj_iast dX4_init_461 (fun σ => ?_)
  refine tj_dup dX4_init_462 (rf_cat _) ?_
  refine tj_iconst (2 : Int32) dX4_init_463 rfl ?_
  refine tj_bipush (101 : Int32) dX4_init_464 (by decide) ?_
  refine tj_iast dX4_init_466 (fun σ => ?_)
  refine tj_dup dX4_init_467 (rf_cat _) ?_
  refine tj_iconst (3 : Int32) dX4_init_468 rfl ?_
  refine tj_bipush (97 : Int32) dX4_init_469 (by decide) ?_
  refine tj_iast dX4_init_471 (fun σ => ?_)
  refine tj_dup dX4_init_472 (rf_cat _) ?_
  refine tj_iconst (4 : Int32) dX4_init_473 rfl ?_
  refine tj_bipush (101 : Int32) dX4_init_474 (by decide) ?_
  refine tj_iast dX4_init_476 (fun σ => ?_)
  refine tj_dup dX4_init_477 (rf_cat _) ?_
  refine tj_iconst (5 : Int32) dX4_init_478 rfl ?_
  refine tj_bipush (97 : Int32) dX4_init_479 (by decide) ?_
  refine tj_iast dX4_init_481 (fun σ => ?_)
  refine tj_dup dX4_init_482 (rf_cat _) ?_
  refine tj_bipush (6 : Int32) dX4_init_483 (by decide) ?_
  refine tj_bipush (101 : Int32) dX4_init_485 (by decide) ?_
  refine tj_iast dX4_init_487 (fun σ => ?_)
  refine tj_dup dX4_init_488 (rf_cat _) ?_
  refine tj_bipush (7 : Int32) dX4_init_489 (by decide) ?_
  refine tj_bipush (101 : Int32) dX4_init_491 (by decide) ?_
  refine tj_iast dX4_init_493 (fun σ => ?_)
  refine tj_dup dX4_init_494 (rf_cat _) ?_
  refine tj_bipush (8 : Int32) dX4_init_495 (by decide) ?_
  refine tj_bipush (101 : Int32) dX4_init_497 (by decide) ?_
  refine tj_iast dX4_init_499 (fun σ => ?_)
  refine tj_dup dX4_init_500 (rf_cat _) ?_
  refine tj_bipush (9 : Int32) dX4_init_501 (by decide) ?_
  refine tj_bipush (117 : Int32) dX4_init_503 (by decide) ?_
  refine tj_iast dX4_init_505 (fun σ => ?_)
  refine tj_dup dX4_init_506 (rf_cat _) ?_
  refine tj_bipush (10 : Int32) dX4_init_507 (by decide) ?_
  refine tj_bipush (97 : Int32) dX4_init_509 (by decide) ?_
  refine tj_iast dX4_init_511 (fun σ => ?_)
  refine tj_dup dX4_init_512 (rf_cat _) ?_
  refine tj_bipush (11 : Int32) dX4_init_513 (by decide) ?_
  refine tj_bipush (97 : Int32) dX4_init_515 (by decide) ?_
  refine tj_iast dX4_init_517 (fun σ => ?_)
  refine tj_dup dX4_init_518 (rf_cat _) ?_
  refine tj_bipush (12 : Int32) dX4_init_519 (by decide) ?_
  refine tj_bipush (97 : Int32) dX4_init_521 (by decide) ?_
  refine tj_iast dX4_init_523 (fun σ => ?_)
  refine tj_dup dX4_init_524 (rf_cat _) ?_
  refine tj_bipush (13 : Int32) dX4_init_525 (by decide) ?_
  refine tj_bipush (115 : Int32) dX4_init_527 (by decide) ?_
  refine tj_iast dX4_init_529 (fun σ => ?_)
  refine tj_dup dX4_init_530 (rf_cat _) ?_
  refine tj_bipush (14 : Int32) dX4_init_531 (by decide) ?_
  refine tj_bipush (105 : Int32) dX4_init_533 (by decide) ?_
  refine tj_iast dX4_init_535 (fun σ => ?_)
  refine tj_dup dX4_init_536 (rf_cat _) ?_
  refine tj_bipush (15 : Int32) dX4_init_537 (by decide) ?_
  refine tj_bipush (105 : Int32) dX4_init_539 (by decide) ?_
  refine tj_iast dX4_init_541 (fun σ => ?_)
  refine tj_dup dX4_init_542 (rf_cat _) ?_
  refine tj_bipush (16 : Int32) dX4_init_543 (by decide) ?_
  refine tj_bipush (97 : Int32) dX4_init_545 (by decide) ?_
  refine tj_iast dX4_init_547 (fun σ => ?_)
  refine tj_dup dX4_init_548 (rf_cat _) ?_
  refine tj_bipush (17 : Int32) dX4_init_549 (by decide) ?_
  refine tj_bipush (97 : Int32) dX4_init_551 (by decide) ?_
  refine tj_iast dX4_init_553 (fun σ => ?_)
  refine tj_putF fl_X4_47 (nar_rf _) (fit_rfa _) dX4_init_554 (fun σ => ?_)
  exact tj_vret dX4_init_557
theorem ct_X4_init : ∀ (d : Nat) (v0 : Option Nat), ct_ yX4_init (ws_ yX4_init cX4_init 1 none) d em_v [va_rf v0] (fn_X4_init d v0)
  | 0, _ => ct_fail
  | d + 1, v0 => ct_of [(false, va_rf v0)] [some (va_rf v0)] (by decide) rfl ⟨rfl, (rf_cat _), trivial⟩ (fun E X n0 s0 σ => tj_X4_init_B0 d v0 σ)
theorem tj_X4_of_B0 {E : tj_E} {X : tj_X} {n0 s0 : Nat} (d : Nat) (v0 : Int32) (v1 : Int32) (σ : hp_S) : tj_T E X RX4 "of" cX4_of 2 (some .int) (d + 1) [] n0 s0 em_i σ 0 [some (.int v0), some (.int v1)] [] (fn_X4_of_B0 d v0 v1) := by
  unfold fn_X4_of_B0
  refine tj_bipush (10 : Int32) dX4_of_0 (by decide) ?_
  refine tj_iconst (5 : Int32) dX4_of_2 rfl ?_
  refine tj_iload_n dX4_of_3 rfl ?_
  refine tj_imul dX4_of_4 ?_
  refine tj_iadd dX4_of_5 ?_
  refine tj_iload_n dX4_of_6 rfl ?_
  refine tj_iadd dX4_of_7 ?_
  exact tj_iret dX4_of_8
theorem ct_X4_of : ∀ (d : Nat) (v0 : Int32) (v1 : Int32), ct_ yX4_of (ws_ yX4_of cX4_of 2 (some .int)) d em_i [.int v0, .int v1] (fn_X4_of d v0 v1)
  | 0, _, _ => ct_fail
  | d + 1, v0, v1 => ct_of [(false, .int v0), (false, .int v1)] [some (.int v0), some (.int v1)] (by decide) rfl ⟨rfl, rfl, ⟨rfl, rfl, trivial⟩⟩ (fun E X n0 s0 σ => tj_X4_of_B0 d v0 v1 σ)
theorem tj_X4_pile_B0 {E : tj_E} {X : tj_X} {n0 s0 : Nat} (d : Nat) (v0 : Int32) (σ : hp_S) : tj_T E X RX4 "pile" cX4_pile 1 (some .int) (d + 1) [] n0 s0 em_i σ 0 [some (.int v0)] [] (fn_X4_pile_B0 d v0) := by
  unfold fn_X4_pile_B0
  refine tj_bipush (72 : Int32) dX4_pile_0 (by decide) ?_
  refine tj_iconst (2 : Int32) dX4_pile_2 rfl ?_
  refine tj_iload_n dX4_pile_3 rfl ?_
  refine tj_imul dX4_pile_4 ?_
  refine tj_iadd dX4_pile_5 ?_
  exact tj_iret dX4_pile_6
theorem ct_X4_pile : ∀ (d : Nat) (v0 : Int32), ct_ yX4_pile (ws_ yX4_pile cX4_pile 1 (some .int)) d em_i [.int v0] (fn_X4_pile d v0)
  | 0, _ => ct_fail
  | d + 1, v0 => ct_of [(false, .int v0)] [some (.int v0)] (by decide) rfl ⟨rfl, rfl, trivial⟩ (fun E X n0 s0 σ => tj_X4_pile_B0 d v0 σ)
theorem tj_X4_owner_L2_b {E : tj_E} {X : tj_X} {n0 s0 : Nat} (d : Nat) {b2 : Option Nat → Int32 → Int32 → mx_M Int32} (h2 : ∀ (l0 : Option Nat) (l1 : Int32) (l2 : Int32) (σ : hp_S), tj_T E X RX4 "owner" cX4_owner 3 (some .int) (d + 1) [] n0 s0 em_i σ 2 [some (va_rf l0), some (.int l1), some (.int l2)] [] (b2 l0 l1 l2)) (l0 : Option Nat) (l1 : Int32) (l2 : Int32) (σ : hp_S) : tj_T E X RX4 "owner" cX4_owner 3 (some .int) (d + 1) [] n0 s0 em_i σ 2 [some (va_rf l0), some (.int l1), some (.int l2)] [] (fn_X4_owner_L2_b d b2 l0 l1 l2) := by
  unfold fn_X4_owner_L2_b
  refine tj_iload_n dX4_owner_2 rfl ?_
  refine tj_aload_n dX4_owner_3 rfl ?_
  refine tj_getR fl_X4_16r dX4_owner_4 (fun v101 => ?_)
  refine tj_iconst (3 : Int32) dX4_owner_7 rfl ?_
  refine tj_iald dX4_owner_8 (fun v102 => ?_)
  refine tj_icmp_ge 42 dX4_owner_9 rfl (fun _ => ?_) (fun _ => ?_)
  · refine tj_iconst (-1 : Int32) dX4_owner_42 rfl ?_
    exact tj_iret dX4_owner_43
  · refine tj_aload_n dX4_owner_12 rfl ?_
    refine tj_getR fl_X4_16r dX4_owner_13 (fun v103 => ?_)
    refine tj_iload_n dX4_owner_16 rfl ?_
    refine tj_iconst (4 : Int32) dX4_owner_17 rfl ?_
    refine tj_callS (as := [.int l2, .int (4 : Int32)]) (rest := [va_rf v103]) (st' := (fun r => [.int r, va_rf v103])) (ct_X4_of d l2 (4 : Int32)) q3978 q3979 q110 q3980 md_X4_of rfl (by decide) rfl (by simp [rf_cat, cat_i, cat_l, cat_f, cat_d]) dX4_owner_18 (fun _ => rfl) (fun r104 σ => ?_) (by decide)
    refine tj_iald dX4_owner_21 (fun v105 => ?_)
    refine tj_aload_n dX4_owner_22 rfl ?_
    refine tj_getR fl_X4_16r dX4_owner_23 (fun v106 => ?_)
    refine tj_iload_n dX4_owner_26 rfl ?_
    refine tj_callS (as := [.int l1]) (rest := [va_rf v106, .int v105]) (st' := (fun r => [.int r, va_rf v106, .int v105])) (ct_X4_pile d l1) q3993 q3994 q110 q3995 md_X4_pile rfl (by decide) rfl (by simp [rf_cat, cat_i, cat_l, cat_f, cat_d]) dX4_owner_27 (fun _ => rfl) (fun r107 σ => ?_) (by decide)
    refine tj_iald dX4_owner_30 (fun v108 => ?_)
    refine tj_icmp_ne 36 dX4_owner_31 rfl (fun _ => ?_) (fun _ => ?_)
    · refine tj_iload_n dX4_owner_34 rfl ?_
      exact tj_iret dX4_owner_35
    · refine tj_iinc (1 : Int32) dX4_owner_36 rfl rfl (by decide) rfl [some (va_rf l0), some (.int l1), some (.int (l2 + (1 : Int32)))] rfl ?_
      refine tj_goto 2 dX4_owner_39 rfl ?_
      exact h2 l0 l1 _ _
theorem tj_X4_owner_L2 {E : tj_E} {X : tj_X} {n0 s0 : Nat} (d : Nat) : ∀ (k : Nat) (l0 : Option Nat) (l1 : Int32) (l2 : Int32) (σ : hp_S), tj_T E X RX4 "owner" cX4_owner 3 (some .int) (d + 1) [] n0 s0 em_i σ 2 [some (va_rf l0), some (.int l1), some (.int l2)] [] (fn_X4_owner_L2 d k l0 l1 l2) := by
  intro k
  induction k with
  | zero =>
    intro l0 l1 l2 σ
    exact tj_fail
  | succ k ih =>
    intro l0 l1 l2 σ
    exact tj_X4_owner_L2_b d ih l0 l1 l2 σ
theorem tj_X4_owner_B0 {E : tj_E} {X : tj_X} {n0 s0 : Nat} (d : Nat) (v0 : Option Nat) (v1 : Int32) (σ : hp_S) : tj_T E X RX4 "owner" cX4_owner 3 (some .int) (d + 1) [] n0 s0 em_i σ 0 [some (va_rf v0), some (.int v1), none] [] (fn_X4_owner_B0 d v0 v1) := by
  unfold fn_X4_owner_B0
  refine tj_iconst (0 : Int32) dX4_owner_0 rfl ?_
  refine tj_istore_n dX4_owner_1 (by decide) rfl [some (va_rf v0), some (.int v1), some (.int (0 : Int32))] rfl ?_
  exact tj_X4_owner_L2 d mx_K v0 v1 (0 : Int32) _
theorem ct_X4_owner : ∀ (d : Nat) (v0 : Option Nat) (v1 : Int32), ct_ yX4_owner (ws_ yX4_owner cX4_owner 3 (some .int)) d em_i [va_rf v0, .int v1] (fn_X4_owner d v0 v1)
  | 0, _, _ => ct_fail
  | d + 1, v0, v1 => ct_of [(false, va_rf v0), (false, .int v1)] [some (va_rf v0), some (.int v1), none] (by decide) rfl ⟨rfl, (rf_cat _), ⟨rfl, rfl, trivial⟩⟩ (fun E X n0 s0 σ => tj_X4_owner_B0 d v0 v1 σ)
theorem tj_X4_takesOut_J36 {E : tj_E} {X : tj_X} {n0 s0 : Nat} (d : Nat) {b5 : Option Nat → Int32 → mx_M Unit} (h5 : ∀ (l0 : Option Nat) (l2 : Int32) (σ : hp_S), tj_T E X RX4 "takesOut" cX4_takesOut 3 none (d + 1) [] n0 s0 em_v σ 5 [some (va_rf l0), none, some (.int l2)] [] (b5 l0 l2)) (l0 : Option Nat) (l2 : Int32) (p0 : Option Nat) (p1 : Int32) (p2 : Int32) (σ : hp_S) : tj_T E X RX4 "takesOut" cX4_takesOut 3 none (d + 1) [] n0 s0 em_v σ 36 [some (va_rf l0), none, some (.int l2)] [.int p2, .int p1, va_rf p0] (fn_X4_takesOut_J36 d b5 l0 l2 p0 p1 p2) := by
  unfold fn_X4_takesOut_J36
  refine tj_iast dX4_takesOut_36 (fun σ => ?_)
  refine tj_iinc (1 : Int32) dX4_takesOut_37 rfl rfl (by decide) trivial [some (va_rf l0), none, some (.int (l2 + (1 : Int32)))] rfl ?_
  refine tj_goto 5 dX4_takesOut_40 rfl ?_
  exact h5 l0 _ _
theorem tj_X4_takesOut_L5_b {E : tj_E} {X : tj_X} {n0 s0 : Nat} (d : Nat) {b5 : Option Nat → Int32 → mx_M Unit} (h5 : ∀ (l0 : Option Nat) (l2 : Int32) (σ : hp_S), tj_T E X RX4 "takesOut" cX4_takesOut 3 none (d + 1) [] n0 s0 em_v σ 5 [some (va_rf l0), none, some (.int l2)] [] (b5 l0 l2)) (l0 : Option Nat) (l2 : Int32) (σ : hp_S) : tj_T E X RX4 "takesOut" cX4_takesOut 3 none (d + 1) [] n0 s0 em_v σ 5 [some (va_rf l0), none, some (.int l2)] [] (fn_X4_takesOut_L5_b d b5 l0 l2) := by
  unfold fn_X4_takesOut_L5_b
  refine tj_iload_n dX4_takesOut_5 rfl ?_
  refine tj_bipush (112 : Int32) dX4_takesOut_6 (by decide) ?_
  refine tj_icmp_ge 43 dX4_takesOut_8 rfl (fun _ => ?_) (fun _ => ?_)
  · refine tj_aload_n dX4_takesOut_43 rfl ?_
    refine tj_getR fl_X4_16r dX4_takesOut_44 (fun v101 => ?_)
    refine tj_iconst (5 : Int32) dX4_takesOut_47 rfl ?_
    refine tj_dup2_11 dX4_takesOut_48 rfl (rf_cat _) ?_
    refine tj_iald dX4_takesOut_49 (fun v102 => ?_)
    refine tj_iconst (1 : Int32) dX4_takesOut_50 rfl ?_
    refine tj_isub dX4_takesOut_51 ?_
    refine tj_iast dX4_takesOut_52 (fun σ => ?_)
    exact tj_vret dX4_takesOut_53
  · refine tj_aload_n dX4_takesOut_11 rfl ?_
    refine tj_getR fl_X4_16r dX4_takesOut_12 (fun v103 => ?_)
    refine tj_iload_n dX4_takesOut_15 rfl ?_
    refine tj_iload_n dX4_takesOut_16 rfl ?_
    refine tj_iconst (2 : Int32) dX4_takesOut_17 rfl ?_
    refine tj_iadd dX4_takesOut_18 ?_
    refine tj_bipush (112 : Int32) dX4_takesOut_19 (by decide) ?_
    refine tj_icmp_ge 35 dX4_takesOut_21 rfl (fun _ => ?_) (fun _ => ?_)
    · refine tj_iconst (0 : Int32) dX4_takesOut_35 rfl ?_
      exact tj_X4_takesOut_J36 d h5 l0 l2 v103 l2 (0 : Int32) _
    · refine tj_aload_n dX4_takesOut_24 rfl ?_
      refine tj_getR fl_X4_16r dX4_takesOut_25 (fun v104 => ?_)
      refine tj_iload_n dX4_takesOut_28 rfl ?_
      refine tj_iconst (2 : Int32) dX4_takesOut_29 rfl ?_
      refine tj_iadd dX4_takesOut_30 ?_
      refine tj_iald dX4_takesOut_31 (fun v105 => ?_)
      refine tj_goto 36 dX4_takesOut_32 rfl ?_
      exact tj_X4_takesOut_J36 d h5 l0 l2 v103 l2 v105 _
theorem tj_X4_takesOut_L5 {E : tj_E} {X : tj_X} {n0 s0 : Nat} (d : Nat) : ∀ (k : Nat) (l0 : Option Nat) (l2 : Int32) (σ : hp_S), tj_T E X RX4 "takesOut" cX4_takesOut 3 none (d + 1) [] n0 s0 em_v σ 5 [some (va_rf l0), none, some (.int l2)] [] (fn_X4_takesOut_L5 d k l0 l2) := by
  intro k
  induction k with
  | zero =>
    intro l0 l2 σ
    exact tj_fail
  | succ k ih =>
    intro l0 l2 σ
    exact tj_X4_takesOut_L5_b d ih l0 l2 σ
theorem tj_X4_takesOut_B0 {E : tj_E} {X : tj_X} {n0 s0 : Nat} (d : Nat) (v0 : Option Nat) (v1 : Int32) (σ : hp_S) : tj_T E X RX4 "takesOut" cX4_takesOut 3 none (d + 1) [] n0 s0 em_v σ 0 [some (va_rf v0), some (.int v1), none] [] (fn_X4_takesOut_B0 d v0 v1) := by
  unfold fn_X4_takesOut_B0
  refine tj_iload_n dX4_takesOut_0 rfl ?_
  refine tj_callS (as := [.int v1]) (rest := []) (st' := (fun r => [.int r])) (ct_X4_pile d v1) q3993 q3994 q110 q3995 md_X4_pile rfl (by decide) rfl (by decide) dX4_takesOut_1 (fun _ => rfl) (fun r101 σ => ?_) (by decide)
  refine tj_istore_n dX4_takesOut_4 (by decide) rfl [some (va_rf v0), some (.int v1), some (.int r101)] rfl ?_
  refine tj_wk (L' := [some (va_rf v0), none, some (.int r101)]) ⟨rfl, rfl, trivial⟩ ?_
  exact tj_X4_takesOut_L5 d mx_K v0 r101 _
theorem ct_X4_takesOut : ∀ (d : Nat) (v0 : Option Nat) (v1 : Int32), ct_ yX4_takesOut (ws_ yX4_takesOut cX4_takesOut 3 none) d em_v [va_rf v0, .int v1] (fn_X4_takesOut d v0 v1)
  | 0, _, _ => ct_fail
  | d + 1, v0, v1 => ct_of [(false, va_rf v0), (false, .int v1)] [some (va_rf v0), some (.int v1), none] (by decide) rfl ⟨rfl, (rf_cat _), ⟨rfl, rfl, trivial⟩⟩ (fun E X n0 s0 σ => tj_X4_takesOut_B0 d v0 v1 σ)
theorem tj_X4_clears_J34 {E : tj_E} {X : tj_X} {n0 s0 : Nat} (d : Nat) {b11 : Option Nat → Int32 → Int32 → mx_M Int32} (h11 : ∀ (l0 : Option Nat) (l1 : Int32) (l2 : Int32) (σ : hp_S), tj_T E X RX4 "clears" cX4_clears 3 (some .int) (d + 1) [] n0 s0 em_i σ 11 [some (va_rf l0), some (.int l1), some (.int l2)] [] (b11 l0 l1 l2)) (l0 : Option Nat) (l1 : Int32) (l2 : Int32) (σ : hp_S) : tj_T E X RX4 "clears" cX4_clears 3 (some .int) (d + 1) [] n0 s0 em_i σ 34 [some (va_rf l0), some (.int l1), some (.int l2)] [] (fn_X4_clears_J34 d b11 l0 l1 l2) := by
  unfold fn_X4_clears_J34
  refine tj_iinc (-1 : Int32) dX4_clears_34 rfl rfl (by decide) rfl [some (va_rf l0), some (.int l1), some (.int (l2 + (-1 : Int32)))] rfl ?_
  refine tj_goto 11 dX4_clears_37 rfl ?_
  exact h11 l0 l1 _ _
theorem tj_X4_clears_L11_b {E : tj_E} {X : tj_X} {n0 s0 : Nat} (d : Nat) {b11 : Option Nat → Int32 → Int32 → mx_M Int32} (h11 : ∀ (l0 : Option Nat) (l1 : Int32) (l2 : Int32) (σ : hp_S), tj_T E X RX4 "clears" cX4_clears 3 (some .int) (d + 1) [] n0 s0 em_i σ 11 [some (va_rf l0), some (.int l1), some (.int l2)] [] (b11 l0 l1 l2)) (l0 : Option Nat) (l1 : Int32) (l2 : Int32) (σ : hp_S) : tj_T E X RX4 "clears" cX4_clears 3 (some .int) (d + 1) [] n0 s0 em_i σ 11 [some (va_rf l0), some (.int l1), some (.int l2)] [] (fn_X4_clears_L11_b d b11 l0 l1 l2) := by
  unfold fn_X4_clears_L11_b
  refine tj_iload_n dX4_clears_11 rfl ?_
  refine tj_if_lt 40 dX4_clears_12 rfl (fun _ => ?_) (fun _ => ?_)
  · refine tj_aload_n dX4_clears_40 rfl ?_
    refine tj_getR fl_X4_16r dX4_clears_41 (fun v101 => ?_)
    refine tj_bipush (9 : Int32) dX4_clears_44 (by decide) ?_
    refine tj_dup2_11 dX4_clears_46 rfl (rf_cat _) ?_
    refine tj_iald dX4_clears_47 (fun v102 => ?_)
    refine tj_iload_n dX4_clears_48 rfl ?_
    refine tj_iadd dX4_clears_49 ?_
    refine tj_iast dX4_clears_50 (fun σ => ?_)
    refine tj_iload_n dX4_clears_51 rfl ?_
    exact tj_iret dX4_clears_52
  · refine tj_aload_n dX4_clears_15 rfl ?_
    refine tj_iload_n dX4_clears_16 rfl ?_
    refine tj_callV (as := [.int l2]) (rest := []) (st' := (fun r => [.int r])) (t := 1) (fun a e => by cases e; exact ct_X4_owner d _ _) (by decide) rfl q3989 q3991 qs65 q110 q3992 rfl md_X4_owner rfl (by decide) rfl (by decide) dX4_clears_17 (fun _ => rfl) (fun r103 σ => ?_) (by decide)
    refine tj_if_lt 26 dX4_clears_20 rfl (fun _ => ?_) (fun _ => ?_)
    · refine tj_aload_n dX4_clears_26 rfl ?_
      refine tj_iload_n dX4_clears_27 rfl ?_
      refine tj_callV (as := [.int l2]) (rest := []) (st' := (fun _ => [])) (t := 1) (fun a e => by cases e; exact ct_X4_takesOut d _ _) (by decide) rfl q3996 q3998 qs66 q110 q3999 rfl md_X4_takesOut rfl (by decide) rfl (by decide) dX4_clears_28 (fun _ => rfl) (fun _ σ => ?_) (by decide)
      refine tj_iinc (1 : Int32) dX4_clears_31 rfl rfl (by decide) (rf_cat _) [some (va_rf l0), some (.int (l1 + (1 : Int32))), some (.int l2)] rfl ?_
      exact tj_X4_clears_J34 d h11 l0 _ l2 _
    · refine tj_goto 34 dX4_clears_23 rfl ?_
      exact tj_X4_clears_J34 d h11 l0 l1 l2 _
theorem tj_X4_clears_L11 {E : tj_E} {X : tj_X} {n0 s0 : Nat} (d : Nat) : ∀ (k : Nat) (l0 : Option Nat) (l1 : Int32) (l2 : Int32) (σ : hp_S), tj_T E X RX4 "clears" cX4_clears 3 (some .int) (d + 1) [] n0 s0 em_i σ 11 [some (va_rf l0), some (.int l1), some (.int l2)] [] (fn_X4_clears_L11 d k l0 l1 l2) := by
  intro k
  induction k with
  | zero =>
    intro l0 l1 l2 σ
    exact tj_fail
  | succ k ih =>
    intro l0 l1 l2 σ
    exact tj_X4_clears_L11_b d ih l0 l1 l2 σ
theorem tj_X4_clears_B0 {E : tj_E} {X : tj_X} {n0 s0 : Nat} (d : Nat) (v0 : Option Nat) (σ : hp_S) : tj_T E X RX4 "clears" cX4_clears 3 (some .int) (d + 1) [] n0 s0 em_i σ 0 [some (va_rf v0), none, none] [] (fn_X4_clears_B0 d v0) := by
  unfold fn_X4_clears_B0
  refine tj_iconst (0 : Int32) dX4_clears_0 rfl ?_
  refine tj_istore_n dX4_clears_1 (by decide) (rf_cat _) [some (va_rf v0), some (.int (0 : Int32)), none] rfl ?_
  refine tj_aload_n dX4_clears_2 rfl ?_
  refine tj_getR fl_X4_16r dX4_clears_3 (fun v101 => ?_)
  refine tj_iconst (5 : Int32) dX4_clears_6 rfl ?_
  refine tj_iald dX4_clears_7 (fun v102 => ?_)
  refine tj_iconst (1 : Int32) dX4_clears_8 rfl ?_
  refine tj_isub dX4_clears_9 ?_
  refine tj_topi (fun v103 => ?_)
  refine tj_istore_n dX4_clears_10 (by decide) rfl [some (va_rf v0), some (.int (0 : Int32)), some (.int v103)] rfl ?_
  exact tj_X4_clears_L11 d mx_K v0 (0 : Int32) v103 _
theorem ct_X4_clears : ∀ (d : Nat) (v0 : Option Nat), ct_ yX4_clears (ws_ yX4_clears cX4_clears 3 (some .int)) d em_i [va_rf v0] (fn_X4_clears d v0)
  | 0, _ => ct_fail
  | d + 1, v0 => ct_of [(false, va_rf v0)] [some (va_rf v0), none, none] (by decide) rfl ⟨rfl, (rf_cat _), trivial⟩ (fun E X n0 s0 σ => tj_X4_clears_B0 d v0 σ)
theorem tj_X4_draws_J121 {E : tj_E} {X : tj_X} {n0 s0 : Nat} (d : Nat) (l0 : Option Nat) (l2 : Int32) (l3 : Int32) (σ : hp_S) : tj_T E X RX4 "draws" cX4_draws 4 none (d + 1) [] n0 s0 em_v σ 121 [some (va_rf l0), none, some (.int l2), some (.int l3)] [] (fn_X4_draws_J121 d l0 l2 l3) := by
  unfold fn_X4_draws_J121
  refine tj_aload_n dX4_draws_121 rfl ?_
  refine tj_getR fl_X4_16r dX4_draws_122 (fun v101 => ?_)
  refine tj_iload_n dX4_draws_125 rfl ?_
  refine tj_callS (as := [.int l2]) (rest := [va_rf v101]) (st' := (fun r => [.int r, va_rf v101])) (ct_X4_pile d l2) q3993 q3994 q110 q3995 md_X4_pile rfl (by decide) rfl (by simp [rf_cat, cat_i, cat_l, cat_f, cat_d]) dX4_draws_126 (fun _ => rfl) (fun r102 σ => ?_) (by decide)
  refine tj_aload_n dX4_draws_129 rfl ?_
  refine tj_getR fl_X4_16r dX4_draws_130 (fun v103 => ?_)
  refine tj_iconst (2 : Int32) dX4_draws_133 rfl ?_
  refine tj_iald dX4_draws_134 (fun v104 => ?_)
  refine tj_iast dX4_draws_135 (fun σ => ?_)
  refine tj_aload_n dX4_draws_136 rfl ?_
  refine tj_getR fl_X4_16r dX4_draws_137 (fun v105 => ?_)
  refine tj_iload_n dX4_draws_140 rfl ?_
  refine tj_callS (as := [.int l2]) (rest := [va_rf v105]) (st' := (fun r => [.int r, va_rf v105])) (ct_X4_pile d l2) q3993 q3994 q110 q3995 md_X4_pile rfl (by decide) rfl (by simp [rf_cat, cat_i, cat_l, cat_f, cat_d]) dX4_draws_141 (fun _ => rfl) (fun r106 σ => ?_) (by decide)
  refine tj_iconst (1 : Int32) dX4_draws_144 rfl ?_
  refine tj_iadd dX4_draws_145 ?_
  refine tj_iload_n dX4_draws_146 rfl ?_
  refine tj_iast dX4_draws_147 (fun σ => ?_)
  refine tj_aload_n dX4_draws_148 rfl ?_
  refine tj_getR fl_X4_16r dX4_draws_149 (fun v107 => ?_)
  refine tj_iconst (5 : Int32) dX4_draws_152 rfl ?_
  refine tj_dup2_11 dX4_draws_153 rfl (rf_cat _) ?_
  refine tj_iald dX4_draws_154 (fun v108 => ?_)
  refine tj_iconst (1 : Int32) dX4_draws_155 rfl ?_
  refine tj_iadd dX4_draws_156 ?_
  refine tj_iast dX4_draws_157 (fun σ => ?_)
  refine tj_aload_n dX4_draws_158 rfl ?_
  refine tj_getR fl_X4_16r dX4_draws_159 (fun v109 => ?_)
  refine tj_iconst (2 : Int32) dX4_draws_162 rfl ?_
  refine tj_dup2_11 dX4_draws_163 rfl (rf_cat _) ?_
  refine tj_iald dX4_draws_164 (fun v110 => ?_)
  refine tj_iconst (1 : Int32) dX4_draws_165 rfl ?_
  refine tj_iadd dX4_draws_166 ?_
  refine tj_iast dX4_draws_167 (fun σ => ?_)
  exact tj_vret dX4_draws_168
theorem tj_X4_draws_L50_b {E : tj_E} {X : tj_X} {n0 s0 : Nat} (d : Nat) {b50 : Option Nat → Int32 → Int32 → mx_M Unit} (h50 : ∀ (l0 : Option Nat) (l2 : Int32) (l3 : Int32) (σ : hp_S), tj_T E X RX4 "draws" cX4_draws 4 none (d + 1) [] n0 s0 em_v σ 50 [some (va_rf l0), none, some (.int l2), some (.int l3)] [] (b50 l0 l2 l3)) (l0 : Option Nat) (l2 : Int32) (l3 : Int32) (σ : hp_S) : tj_T E X RX4 "draws" cX4_draws 4 none (d + 1) [] n0 s0 em_v σ 50 [some (va_rf l0), none, some (.int l2), some (.int l3)] [] (fn_X4_draws_L50_b d b50 l0 l2 l3) := by
  unfold fn_X4_draws_L50_b
  refine tj_iload_n dX4_draws_50 rfl ?_
  refine tj_if_le 121 dX4_draws_51 rfl (fun _ => ?_) (fun _ => ?_)
  · exact tj_X4_draws_J121 d l0 l2 l3 _
  · refine tj_aload_n dX4_draws_54 rfl ?_
    refine tj_getR fl_X4_16r dX4_draws_55 (fun v101 => ?_)
    refine tj_iload_n dX4_draws_58 rfl ?_
    refine tj_iconst (1 : Int32) dX4_draws_59 rfl ?_
    refine tj_isub dX4_draws_60 ?_
    refine tj_callS (as := [.int (l2 - (1 : Int32))]) (rest := [va_rf v101]) (st' := (fun r => [.int r, va_rf v101])) (ct_X4_pile d _) q3993 q3994 q110 q3995 md_X4_pile rfl (by decide) rfl (by simp [rf_cat, cat_i, cat_l, cat_f, cat_d]) dX4_draws_61 (fun _ => rfl) (fun r102 σ => ?_) (by decide)
    refine tj_iconst (1 : Int32) dX4_draws_64 rfl ?_
    refine tj_iadd dX4_draws_65 ?_
    refine tj_iald dX4_draws_66 (fun v103 => ?_)
    refine tj_iload_n dX4_draws_67 rfl ?_
    refine tj_icmp_ge 121 dX4_draws_68 rfl (fun _ => ?_) (fun _ => ?_)
    · exact tj_X4_draws_J121 d l0 l2 l3 _
    · refine tj_aload_n dX4_draws_71 rfl ?_
      refine tj_getR fl_X4_16r dX4_draws_72 (fun v104 => ?_)
      refine tj_iload_n dX4_draws_75 rfl ?_
      refine tj_callS (as := [.int l2]) (rest := [va_rf v104]) (st' := (fun r => [.int r, va_rf v104])) (ct_X4_pile d l2) q3993 q3994 q110 q3995 md_X4_pile rfl (by decide) rfl (by simp [rf_cat, cat_i, cat_l, cat_f, cat_d]) dX4_draws_76 (fun _ => rfl) (fun r105 σ => ?_) (by decide)
      refine tj_aload_n dX4_draws_79 rfl ?_
      refine tj_getR fl_X4_16r dX4_draws_80 (fun v106 => ?_)
      refine tj_iload_n dX4_draws_83 rfl ?_
      refine tj_iconst (1 : Int32) dX4_draws_84 rfl ?_
      refine tj_isub dX4_draws_85 ?_
      refine tj_callS (as := [.int (l2 - (1 : Int32))]) (rest := [va_rf v106, .int r105, va_rf v104]) (st' := (fun r => [.int r, va_rf v106, .int r105, va_rf v104])) (ct_X4_pile d _) q3993 q3994 q110 q3995 md_X4_pile rfl (by decide) rfl (by simp [rf_cat, cat_i, cat_l, cat_f, cat_d]) dX4_draws_86 (fun _ => rfl) (fun r107 σ => ?_) (by decide)
      refine tj_iald dX4_draws_89 (fun v108 => ?_)
      refine tj_iast dX4_draws_90 (fun σ => ?_)
      refine tj_aload_n dX4_draws_91 rfl ?_
      refine tj_getR fl_X4_16r dX4_draws_92 (fun v109 => ?_)
      refine tj_iload_n dX4_draws_95 rfl ?_
      refine tj_callS (as := [.int l2]) (rest := [va_rf v109]) (st' := (fun r => [.int r, va_rf v109])) (ct_X4_pile d l2) q3993 q3994 q110 q3995 md_X4_pile rfl (by decide) rfl (by simp [rf_cat, cat_i, cat_l, cat_f, cat_d]) dX4_draws_96 (fun _ => rfl) (fun r110 σ => ?_) (by decide)
      refine tj_iconst (1 : Int32) dX4_draws_99 rfl ?_
      refine tj_iadd dX4_draws_100 ?_
      refine tj_aload_n dX4_draws_101 rfl ?_
      refine tj_getR fl_X4_16r dX4_draws_102 (fun v111 => ?_)
      refine tj_iload_n dX4_draws_105 rfl ?_
      refine tj_iconst (1 : Int32) dX4_draws_106 rfl ?_
      refine tj_isub dX4_draws_107 ?_
      refine tj_callS (as := [.int (l2 - (1 : Int32))]) (rest := [va_rf v111, .int (r110 + (1 : Int32)), va_rf v109]) (st' := (fun r => [.int r, va_rf v111, .int (r110 + (1 : Int32)), va_rf v109])) (ct_X4_pile d _) q3993 q3994 q110 q3995 md_X4_pile rfl (by decide) rfl (by simp [rf_cat, cat_i, cat_l, cat_f, cat_d]) dX4_draws_108 (fun _ => rfl) (fun r112 σ => ?_) (by decide)
      refine tj_iconst (1 : Int32) dX4_draws_111 rfl ?_
      refine tj_iadd dX4_draws_112 ?_
      refine tj_iald dX4_draws_113 (fun v113 => ?_)
      refine tj_iast dX4_draws_114 (fun σ => ?_)
      refine tj_iinc (-1 : Int32) dX4_draws_115 rfl rfl (by decide) trivial [some (va_rf l0), none, some (.int (l2 + (-1 : Int32))), some (.int l3)] rfl ?_
      refine tj_goto 50 dX4_draws_118 rfl ?_
      exact h50 l0 _ l3 _
theorem tj_X4_draws_L50 {E : tj_E} {X : tj_X} {n0 s0 : Nat} (d : Nat) : ∀ (k : Nat) (l0 : Option Nat) (l2 : Int32) (l3 : Int32) (σ : hp_S), tj_T E X RX4 "draws" cX4_draws 4 none (d + 1) [] n0 s0 em_v σ 50 [some (va_rf l0), none, some (.int l2), some (.int l3)] [] (fn_X4_draws_L50 d k l0 l2 l3) := by
  intro k
  induction k with
  | zero =>
    intro l0 l2 l3 σ
    exact tj_fail
  | succ k ih =>
    intro l0 l2 l3 σ
    exact tj_X4_draws_L50_b d ih l0 l2 l3 σ
theorem tj_X4_draws_J32 {E : tj_E} {X : tj_X} {n0 s0 : Nat} (d : Nat) (l0 : Option Nat) (l1 : Int32) (σ : hp_S) : tj_T E X RX4 "draws" cX4_draws 4 none (d + 1) [] n0 s0 em_v σ 32 [some (va_rf l0), some (.int l1), none, none] [] (fn_X4_draws_J32 d l0 l1) := by
  unfold fn_X4_draws_J32
  refine tj_aload_n dX4_draws_32 rfl ?_
  refine tj_getR fl_X4_16r dX4_draws_33 (fun v101 => ?_)
  refine tj_iconst (5 : Int32) dX4_draws_36 rfl ?_
  refine tj_iald dX4_draws_37 (fun v102 => ?_)
  refine tj_istore_n dX4_draws_38 (by decide) rfl [some (va_rf l0), some (.int l1), some (.int v102), none] rfl ?_
  refine tj_aload_n dX4_draws_39 rfl ?_
  refine tj_getR fl_X4_16r dX4_draws_40 (fun v103 => ?_)
  refine tj_iload_n dX4_draws_43 rfl ?_
  refine tj_iconst (1 : Int32) dX4_draws_44 rfl ?_
  refine tj_callS (as := [.int l1, .int (1 : Int32)]) (rest := [va_rf v103]) (st' := (fun r => [.int r, va_rf v103])) (ct_X4_of d l1 (1 : Int32)) q3978 q3979 q110 q3980 md_X4_of rfl (by decide) rfl (by simp [rf_cat, cat_i, cat_l, cat_f, cat_d]) dX4_draws_45 (fun _ => rfl) (fun r104 σ => ?_) (by decide)
  refine tj_iald dX4_draws_48 (fun v105 => ?_)
  refine tj_istore_n dX4_draws_49 (by decide) rfl [some (va_rf l0), some (.int l1), some (.int v102), some (.int v105)] rfl ?_
  refine tj_wk (L' := [some (va_rf l0), none, some (.int v102), some (.int v105)]) ⟨rfl, rfl, rfl, trivial⟩ ?_
  exact tj_X4_draws_L50 d mx_K l0 v102 v105 _
theorem tj_X4_draws_B0 {E : tj_E} {X : tj_X} {n0 s0 : Nat} (d : Nat) (v0 : Option Nat) (v1 : Int32) (σ : hp_S) : tj_T E X RX4 "draws" cX4_draws 4 none (d + 1) [] n0 s0 em_v σ 0 [some (va_rf v0), some (.int v1), none, none] [] (fn_X4_draws_B0 d v0 v1) := by
  unfold fn_X4_draws_B0
  refine tj_aload_n dX4_draws_0 rfl ?_
  refine tj_getR fl_X4_16r dX4_draws_1 (fun v101 => ?_)
  refine tj_iload_n dX4_draws_4 rfl ?_
  refine tj_iconst (4 : Int32) dX4_draws_5 rfl ?_
  refine tj_callS (as := [.int v1, .int (4 : Int32)]) (rest := [va_rf v101]) (st' := (fun r => [.int r, va_rf v101])) (ct_X4_of d v1 (4 : Int32)) q3978 q3979 q110 q3980 md_X4_of rfl (by decide) rfl (by simp [rf_cat, cat_i, cat_l, cat_f, cat_d]) dX4_draws_6 (fun _ => rfl) (fun r102 σ => ?_) (by decide)
  refine tj_aload_n dX4_draws_9 rfl ?_
  refine tj_getR fl_X4_16r dX4_draws_10 (fun v103 => ?_)
  refine tj_iconst (2 : Int32) dX4_draws_13 rfl ?_
  refine tj_iald dX4_draws_14 (fun v104 => ?_)
  refine tj_iast dX4_draws_15 (fun σ => ?_)
  refine tj_aload_n dX4_draws_16 rfl ?_
  refine tj_getR fl_X4_16r dX4_draws_17 (fun v105 => ?_)
  refine tj_iconst (5 : Int32) dX4_draws_20 rfl ?_
  refine tj_iald dX4_draws_21 (fun v106 => ?_)
  refine tj_bipush (20 : Int32) dX4_draws_22 (by decide) ?_
  refine tj_icmp_ne 32 dX4_draws_24 rfl (fun _ => ?_) (fun _ => ?_)
  · refine tj_aload_n dX4_draws_27 rfl ?_
    refine tj_callV (as := []) (rest := []) (st' := (fun r => [.int r])) (t := 1) (fun a e => by cases e; exact ct_X4_clears d _) (by decide) rfl q3985 q3987 qs64 q110 q3988 rfl md_X4_clears rfl (by decide) rfl (by decide) dX4_draws_28 (fun _ => rfl) (fun r107 σ => ?_) (by decide)
    refine tj_istore_n dX4_draws_31 (by decide) rfl [some (va_rf v0), some (.int v1), some (.int r107), none] rfl ?_
    refine tj_wk (L' := [some (va_rf v0), some (.int v1), none, none]) ⟨rfl, rfl, trivial⟩ ?_
    exact tj_X4_draws_J32 d v0 v1 _
  · exact tj_X4_draws_J32 d v0 v1 _
theorem ct_X4_draws : ∀ (d : Nat) (v0 : Option Nat) (v1 : Int32), ct_ yX4_draws (ws_ yX4_draws cX4_draws 4 none) d em_v [va_rf v0, .int v1] (fn_X4_draws d v0 v1)
  | 0, _, _ => ct_fail
  | d + 1, v0, v1 => ct_of [(false, va_rf v0), (false, .int v1)] [some (va_rf v0), some (.int v1), none, none] (by decide) rfl ⟨rfl, (rf_cat _), ⟨rfl, rfl, trivial⟩⟩ (fun E X n0 s0 σ => tj_X4_draws_B0 d v0 v1 σ)
theorem tj_X4_fail_B0 {E : tj_E} {X : tj_X} {n0 s0 : Nat} (d : Nat) (v0 : Option Nat) (v1 : Int32) (σ : hp_S) : tj_T E X RX4 "fail" cX4_fail 2 (some .int) (d + 1) [] n0 s0 em_i σ 0 [some (va_rf v0), some (.int v1)] [] (fn_X4_fail_B0 d v0 v1) := by
  unfold fn_X4_fail_B0
  refine tj_aload_n dX4_fail_0 rfl ?_
  refine tj_iload_n dX4_fail_1 rfl ?_
  refine tj_put fl_X4_50 rfl rfl dX4_fail_2 (fun σ => ?_)
  refine tj_iconst (0 : Int32) dX4_fail_5 rfl ?_
  exact tj_iret dX4_fail_6
theorem ct_X4_fail : ∀ (d : Nat) (v0 : Option Nat) (v1 : Int32), ct_ yX4_fail (ws_ yX4_fail cX4_fail 2 (some .int)) d em_i [va_rf v0, .int v1] (fn_X4_fail d v0 v1)
  | 0, _, _ => ct_fail
  | d + 1, v0, v1 => ct_of [(false, va_rf v0), (false, .int v1)] [some (va_rf v0), some (.int v1)] (by decide) rfl ⟨rfl, (rf_cat _), ⟨rfl, rfl, trivial⟩⟩ (fun E X n0 s0 σ => tj_X4_fail_B0 d v0 v1 σ)
theorem tj_X4_isIn_B0 {E : tj_E} {X : tj_X} {n0 s0 : Nat} (d : Nat) (v0 : Int32) (v1 : Int32) (v2 : Int32) (σ : hp_S) : tj_T E X RX4 "isIn" cX4_isIn 3 (some .boolean) (d + 1) [] n0 s0 em_i σ 0 [some (.int v0), some (.int v1), some (.int v2)] [] (fn_X4_isIn_B0 d v0 v1 v2) := by
  unfold fn_X4_isIn_B0
  refine tj_iload_n dX4_isIn_0 rfl ?_
  refine tj_iload_n dX4_isIn_1 rfl ?_
  refine tj_icmp_lt 14 dX4_isIn_2 rfl (fun _ => ?_) (fun _ => ?_)
  · refine tj_iconst (0 : Int32) dX4_isIn_14 rfl ?_
    exact tj_zpure rfl dX4_isIn_15
  · refine tj_iload_n dX4_isIn_5 rfl ?_
    refine tj_iload_n dX4_isIn_6 rfl ?_
    refine tj_icmp_gt 14 dX4_isIn_7 rfl (fun _ => ?_) (fun _ => ?_)
    · refine tj_iconst (0 : Int32) dX4_isIn_14 rfl ?_
      exact tj_zpure rfl dX4_isIn_15
    · refine tj_iconst (1 : Int32) dX4_isIn_10 rfl ?_
      refine tj_goto 15 dX4_isIn_11 rfl ?_
      exact tj_zpure rfl dX4_isIn_15
theorem ct_X4_isIn : ∀ (d : Nat) (v0 : Int32) (v1 : Int32) (v2 : Int32), ct_ yX4_isIn (ws_ yX4_isIn cX4_isIn 3 (some .boolean)) d em_i [.int v0, .int v1, .int v2] (fn_X4_isIn d v0 v1 v2)
  | 0, _, _, _ => ct_fail
  | d + 1, v0, v1, v2 => ct_of [(false, .int v0), (false, .int v1), (false, .int v2)] [some (.int v0), some (.int v1), some (.int v2)] (by decide) rfl ⟨rfl, rfl, ⟨rfl, rfl, ⟨rfl, rfl, trivial⟩⟩⟩ (fun E X n0 s0 σ => tj_X4_isIn_B0 d v0 v1 v2 σ)
theorem tj_X4_adds_J31 {E : tj_E} {X : tj_X} {n0 s0 : Nat} (d : Nat) (l0 : Option Nat) (σ : hp_S) : tj_T E X RX4 "adds" cX4_adds 5 (some .int) (d + 1) [] n0 s0 em_i σ 31 [some (va_rf l0), none, none, none, none] [] (fn_X4_adds_J31 d l0) := by
  unfold fn_X4_adds_J31
  refine tj_aload_n dX4_adds_31 rfl ?_
  refine tj_iconst (1 : Int32) dX4_adds_32 rfl ?_
  refine tj_callV (as := [.int (1 : Int32)]) (rest := []) (st' := (fun r => [.int r])) (t := 1) (fun a e => by cases e; exact ct_X4_fail d _ _) (by decide) rfl q3974 q3976 qs62 q110 q3977 rfl md_X4_fail rfl (by decide) rfl (by decide) dX4_adds_33 (fun _ => rfl) (fun r101 σ => ?_) (by decide)
  exact tj_iret dX4_adds_36
theorem tj_X4_adds_B0 {E : tj_E} {X : tj_X} {n0 s0 : Nat} (d : Nat) (v0 : Option Nat) (v1 : Int32) (v2 : Int32) (v3 : Int32) (σ : hp_S) : tj_T E X RX4 "adds" cX4_adds 5 (some .int) (d + 1) [] n0 s0 em_i σ 0 [some (va_rf v0), some (.int v1), some (.int v2), some (.int v3), none] [] (fn_X4_adds_B0 d v0 v1 v2 v3) := by
  unfold fn_X4_adds_B0
  refine tj_iload_n dX4_adds_0 rfl ?_
  refine tj_iconst (0 : Int32) dX4_adds_1 rfl ?_
  refine tj_bipush (99 : Int32) dX4_adds_2 (by decide) ?_
  refine tj_callS (as := [.int v1, .int (0 : Int32), .int (99 : Int32)]) (rest := []) (st' := (fun r => [.int r])) (ct_X4_isIn d v1 (0 : Int32) (99 : Int32)) q3971 q3972 q110 q3973 md_X4_isIn rfl (by decide) rfl (by decide) dX4_adds_4 (fun _ => rfl) (fun r101 σ => ?_) (by decide)
  refine tj_if_eq 31 dX4_adds_7 rfl (fun _ => ?_) (fun _ => ?_)
  · refine tj_wk (L' := [some (va_rf v0), none, none, none, none]) ⟨rfl, trivial⟩ ?_
    exact tj_X4_adds_J31 d v0 _
  · refine tj_iload_n dX4_adds_10 rfl ?_
    refine tj_iconst (1 : Int32) dX4_adds_11 rfl ?_
    refine tj_bipush (9 : Int32) dX4_adds_12 (by decide) ?_
    refine tj_callS (as := [.int v2, .int (1 : Int32), .int (9 : Int32)]) (rest := []) (st' := (fun r => [.int r])) (ct_X4_isIn d v2 (1 : Int32) (9 : Int32)) q3971 q3972 q110 q3973 md_X4_isIn rfl (by decide) rfl (by decide) dX4_adds_14 (fun _ => rfl) (fun r102 σ => ?_) (by decide)
    refine tj_if_eq 31 dX4_adds_17 rfl (fun _ => ?_) (fun _ => ?_)
    · refine tj_wk (L' := [some (va_rf v0), none, none, none, none]) ⟨rfl, trivial⟩ ?_
      exact tj_X4_adds_J31 d v0 _
    · refine tj_iload_n dX4_adds_20 rfl ?_
      refine tj_iconst (0 : Int32) dX4_adds_21 rfl ?_
      refine tj_sipush (999 : Int32) dX4_adds_22 (by decide) ?_
      refine tj_callS (as := [.int v3, .int (0 : Int32), .int (999 : Int32)]) (rest := []) (st' := (fun r => [.int r])) (ct_X4_isIn d v3 (0 : Int32) (999 : Int32)) q3971 q3972 q110 q3973 md_X4_isIn rfl (by decide) rfl (by decide) dX4_adds_25 (fun _ => rfl) (fun r103 σ => ?_) (by decide)
      refine tj_if_ne 37 dX4_adds_28 rfl (fun _ => ?_) (fun _ => ?_)
      · refine tj_wk (L' := [some (va_rf v0), none, none, none, none]) ⟨rfl, trivial⟩ ?_
        exact tj_X4_adds_J31 d v0 _
      · refine tj_aload_n dX4_adds_37 rfl ?_
        refine tj_getR fl_X4_16r dX4_adds_38 (fun v104 => ?_)
        refine tj_iconst (3 : Int32) dX4_adds_41 rfl ?_
        refine tj_iald dX4_adds_42 (fun v105 => ?_)
        refine tj_istore dX4_adds_43 (by decide) rfl [some (va_rf v0), some (.int v1), some (.int v2), some (.int v3), some (.int v105)] rfl ?_
        refine tj_iload dX4_adds_45 rfl ?_
        refine tj_bipush (10 : Int32) dX4_adds_47 (by decide) ?_
        refine tj_icmp_ne 58 dX4_adds_49 rfl (fun _ => ?_) (fun _ => ?_)
        · refine tj_aload_n dX4_adds_52 rfl ?_
          refine tj_iconst (2 : Int32) dX4_adds_53 rfl ?_
          refine tj_callV (as := [.int (2 : Int32)]) (rest := []) (st' := (fun r => [.int r])) (t := 1) (fun a e => by cases e; exact ct_X4_fail d _ _) (by decide) rfl q3974 q3976 qs62 q110 q3977 rfl md_X4_fail rfl (by decide) rfl (by decide) dX4_adds_54 (fun _ => rfl) (fun r106 σ => ?_) (by decide)
          exact tj_iret dX4_adds_57
        · refine tj_aload_n dX4_adds_58 rfl ?_
          refine tj_getR fl_X4_16r dX4_adds_59 (fun v107 => ?_)
          refine tj_iload dX4_adds_62 rfl ?_
          refine tj_iconst (0 : Int32) dX4_adds_64 rfl ?_
          refine tj_callS (as := [.int v105, .int (0 : Int32)]) (rest := [va_rf v107]) (st' := (fun r => [.int r, va_rf v107])) (ct_X4_of d v105 (0 : Int32)) q3978 q3979 q110 q3980 md_X4_of rfl (by decide) rfl (by simp [rf_cat, cat_i, cat_l, cat_f, cat_d]) dX4_adds_65 (fun _ => rfl) (fun r108 σ => ?_) (by decide)
          refine tj_aload_n dX4_adds_68 rfl ?_
          refine tj_getR fl_X4_16r dX4_adds_69 (fun v109 => ?_)
          refine tj_iconst (1 : Int32) dX4_adds_72 rfl ?_
          refine tj_iald dX4_adds_73 (fun v110 => ?_)
          refine tj_iast dX4_adds_74 (fun σ => ?_)
          refine tj_aload_n dX4_adds_75 rfl ?_
          refine tj_getR fl_X4_16r dX4_adds_76 (fun v111 => ?_)
          refine tj_iload dX4_adds_79 rfl ?_
          refine tj_iconst (1 : Int32) dX4_adds_81 rfl ?_
          refine tj_callS (as := [.int v105, .int (1 : Int32)]) (rest := [va_rf v111]) (st' := (fun r => [.int r, va_rf v111])) (ct_X4_of d v105 (1 : Int32)) q3978 q3979 q110 q3980 md_X4_of rfl (by decide) rfl (by simp [rf_cat, cat_i, cat_l, cat_f, cat_d]) dX4_adds_82 (fun _ => rfl) (fun r112 σ => ?_) (by decide)
          refine tj_iload_n dX4_adds_85 rfl ?_
          refine tj_iast dX4_adds_86 (fun σ => ?_)
          refine tj_aload_n dX4_adds_87 rfl ?_
          refine tj_getR fl_X4_16r dX4_adds_88 (fun v113 => ?_)
          refine tj_iload dX4_adds_91 rfl ?_
          refine tj_iconst (2 : Int32) dX4_adds_93 rfl ?_
          refine tj_callS (as := [.int v105, .int (2 : Int32)]) (rest := [va_rf v113]) (st' := (fun r => [.int r, va_rf v113])) (ct_X4_of d v105 (2 : Int32)) q3978 q3979 q110 q3980 md_X4_of rfl (by decide) rfl (by simp [rf_cat, cat_i, cat_l, cat_f, cat_d]) dX4_adds_94 (fun _ => rfl) (fun r114 σ => ?_) (by decide)
          refine tj_iload_n dX4_adds_97 rfl ?_
          refine tj_iast dX4_adds_98 (fun σ => ?_)
          refine tj_aload_n dX4_adds_99 rfl ?_
          refine tj_getR fl_X4_16r dX4_adds_100 (fun v115 => ?_)
          refine tj_iload dX4_adds_103 rfl ?_
          refine tj_iconst (3 : Int32) dX4_adds_105 rfl ?_
          refine tj_callS (as := [.int v105, .int (3 : Int32)]) (rest := [va_rf v115]) (st' := (fun r => [.int r, va_rf v115])) (ct_X4_of d v105 (3 : Int32)) q3978 q3979 q110 q3980 md_X4_of rfl (by decide) rfl (by simp [rf_cat, cat_i, cat_l, cat_f, cat_d]) dX4_adds_106 (fun _ => rfl) (fun r116 σ => ?_) (by decide)
          refine tj_iload_n dX4_adds_109 rfl ?_
          refine tj_iast dX4_adds_110 (fun σ => ?_)
          refine tj_aload_n dX4_adds_111 rfl ?_
          refine tj_getR fl_X4_16r dX4_adds_112 (fun v117 => ?_)
          refine tj_iconst (3 : Int32) dX4_adds_115 rfl ?_
          refine tj_dup2_11 dX4_adds_116 rfl (rf_cat _) ?_
          refine tj_iald dX4_adds_117 (fun v118 => ?_)
          refine tj_iconst (1 : Int32) dX4_adds_118 rfl ?_
          refine tj_iadd dX4_adds_119 ?_
          refine tj_iast dX4_adds_120 (fun σ => ?_)
          refine tj_aload_n dX4_adds_121 rfl ?_
          refine tj_getR fl_X4_16r dX4_adds_122 (fun v119 => ?_)
          refine tj_iconst (1 : Int32) dX4_adds_125 rfl ?_
          refine tj_dup2_11 dX4_adds_126 rfl (rf_cat _) ?_
          refine tj_iald dX4_adds_127 (fun v120 => ?_)
          refine tj_iconst (1 : Int32) dX4_adds_128 rfl ?_
          refine tj_iadd dX4_adds_129 ?_
          refine tj_iast dX4_adds_130 (fun σ => ?_)
          refine tj_aload_n dX4_adds_131 rfl ?_
          refine tj_iload dX4_adds_132 rfl ?_
          refine tj_callV (as := [.int v105]) (rest := []) (st' := (fun _ => [])) (t := 1) (fun a e => by cases e; exact ct_X4_draws d _ _) (by decide) rfl q3981 q3983 qs63 q110 q3984 rfl md_X4_draws rfl (by decide) rfl (by decide) dX4_adds_134 (fun _ => rfl) (fun _ σ => ?_) (by decide)
          refine tj_aload_n dX4_adds_137 rfl ?_
          refine tj_getR fl_X4_16r dX4_adds_138 (fun v121 => ?_)
          refine tj_iload dX4_adds_141 rfl ?_
          refine tj_iconst (0 : Int32) dX4_adds_143 rfl ?_
          refine tj_callS (as := [.int v105, .int (0 : Int32)]) (rest := [va_rf v121]) (st' := (fun r => [.int r, va_rf v121])) (ct_X4_of d v105 (0 : Int32)) q3978 q3979 q110 q3980 md_X4_of rfl (by decide) rfl (by simp [rf_cat, cat_i, cat_l, cat_f, cat_d]) dX4_adds_144 (fun _ => rfl) (fun r122 σ => ?_) (by decide)
          refine tj_iald dX4_adds_147 (fun v123 => ?_)
          exact tj_iret dX4_adds_148
theorem ct_X4_adds : ∀ (d : Nat) (v0 : Option Nat) (v1 : Int32) (v2 : Int32) (v3 : Int32), ct_ yX4_adds (ws_ yX4_adds cX4_adds 5 (some .int)) d em_i [va_rf v0, .int v1, .int v2, .int v3] (fn_X4_adds d v0 v1 v2 v3)
  | 0, _, _, _, _ => ct_fail
  | d + 1, v0, v1, v2, v3 => ct_of [(false, va_rf v0), (false, .int v1), (false, .int v2), (false, .int v3)] [some (va_rf v0), some (.int v1), some (.int v2), some (.int v3), none] (by decide) rfl ⟨rfl, (rf_cat _), ⟨rfl, rfl, ⟨rfl, rfl, ⟨rfl, rfl, trivial⟩⟩⟩⟩ (fun E X n0 s0 σ => tj_X4_adds_B0 d v0 v1 v2 v3 σ)
theorem tj_X4_lays_L2_b {E : tj_E} {X : tj_X} {n0 s0 : Nat} (d : Nat) {b2 : Option Nat → Option Nat → Int32 → mx_M Unit} (h2 : ∀ (l0 : Option Nat) (l1 : Option Nat) (l2 : Int32) (σ : hp_S), tj_T E X RX4 "lays" cX4_lays 3 none (d + 1) [] n0 s0 em_v σ 2 [some (va_rf l0), some (va_rf l1), some (.int l2)] [] (b2 l0 l1 l2)) (l0 : Option Nat) (l1 : Option Nat) (l2 : Int32) (σ : hp_S) : tj_T E X RX4 "lays" cX4_lays 3 none (d + 1) [] n0 s0 em_v σ 2 [some (va_rf l0), some (va_rf l1), some (.int l2)] [] (fn_X4_lays_L2_b d b2 l0 l1 l2) := by
  unfold fn_X4_lays_L2_b
  refine tj_iload_n dX4_lays_2 rfl ?_
  refine tj_bipush (112 : Int32) dX4_lays_3 (by decide) ?_
  refine tj_icmp_ge 20 dX4_lays_5 rfl (fun _ => ?_) (fun _ => ?_)
  · exact tj_vret dX4_lays_20
  · refine tj_aload_n dX4_lays_8 rfl ?_
    refine tj_iload_n dX4_lays_9 rfl ?_
    refine tj_aload_n dX4_lays_10 rfl ?_
    refine tj_iload_n dX4_lays_11 rfl ?_
    refine tj_iald dX4_lays_12 (fun v101 => ?_)
    refine tj_iast dX4_lays_13 (fun σ => ?_)
    refine tj_iinc (1 : Int32) dX4_lays_14 rfl rfl (by decide) (rf_cat _) [some (va_rf l0), some (va_rf l1), some (.int (l2 + (1 : Int32)))] rfl ?_
    refine tj_goto 2 dX4_lays_17 rfl ?_
    exact h2 l0 l1 _ _
theorem tj_X4_lays_L2 {E : tj_E} {X : tj_X} {n0 s0 : Nat} (d : Nat) : ∀ (k : Nat) (l0 : Option Nat) (l1 : Option Nat) (l2 : Int32) (σ : hp_S), tj_T E X RX4 "lays" cX4_lays 3 none (d + 1) [] n0 s0 em_v σ 2 [some (va_rf l0), some (va_rf l1), some (.int l2)] [] (fn_X4_lays_L2 d k l0 l1 l2) := by
  intro k
  induction k with
  | zero =>
    intro l0 l1 l2 σ
    exact tj_fail
  | succ k ih =>
    intro l0 l1 l2 σ
    exact tj_X4_lays_L2_b d ih l0 l1 l2 σ
theorem tj_X4_lays_B0 {E : tj_E} {X : tj_X} {n0 s0 : Nat} (d : Nat) (v0 : Option Nat) (v1 : Option Nat) (σ : hp_S) : tj_T E X RX4 "lays" cX4_lays 3 none (d + 1) [] n0 s0 em_v σ 0 [some (va_rf v0), some (va_rf v1), none] [] (fn_X4_lays_B0 d v0 v1) := by
  unfold fn_X4_lays_B0
  refine tj_iconst (0 : Int32) dX4_lays_0 rfl ?_
  refine tj_istore_n dX4_lays_1 (by decide) (rf_cat _) [some (va_rf v0), some (va_rf v1), some (.int (0 : Int32))] rfl ?_
  exact tj_X4_lays_L2 d mx_K v0 v1 (0 : Int32) _
theorem ct_X4_lays : ∀ (d : Nat) (v0 : Option Nat) (v1 : Option Nat), ct_ yX4_lays (ws_ yX4_lays cX4_lays 3 none) d em_v [va_rf v0, va_rf v1] (fn_X4_lays d v0 v1)
  | 0, _, _ => ct_fail
  | d + 1, v0, v1 => ct_of [(false, va_rf v0), (false, va_rf v1)] [some (va_rf v0), some (va_rf v1), none] (by decide) rfl ⟨rfl, (rf_cat _), ⟨rfl, (rf_cat _), trivial⟩⟩ (fun E X n0 s0 σ => tj_X4_lays_B0 d v0 v1 σ)
theorem tj_X4_begins_B0 {E : tj_E} {X : tj_X} {n0 s0 : Nat} (d : Nat) (v0 : Option Nat) (σ : hp_S) : tj_T E X RX4 "begins" cX4_begins 1 none (d + 1) [] n0 s0 em_v σ 0 [some (va_rf v0)] [] (fn_X4_begins_B0 d v0) := by
  unfold fn_X4_begins_B0
  refine tj_aload_n dX4_begins_0 rfl ?_
  refine tj_iconst (0 : Int32) dX4_begins_1 rfl ?_
  refine tj_put fl_X4_50 rfl rfl dX4_begins_2 (fun σ => ?_)
  refine tj_aload_n dX4_begins_5 rfl ?_
  refine tj_getR fl_X4_20r dX4_begins_6 (fun v101 => ?_)
  refine tj_aload_n dX4_begins_9 rfl ?_
  refine tj_getR fl_X4_16r dX4_begins_10 (fun v102 => ?_)
  refine tj_callS (as := [va_rf v101, va_rf v102]) (rest := []) (st' := (fun _ => [])) (ct_X4_lays d v101 v102) q3964 q3965 q110 q3966 md_X4_lays rfl (by decide) rfl (by decide) dX4_begins_13 (fun _ => rfl) (fun _ σ => ?_) (by decide)
  exact tj_vret dX4_begins_16
theorem ct_X4_begins : ∀ (d : Nat) (v0 : Option Nat), ct_ yX4_begins (ws_ yX4_begins cX4_begins 1 none) d em_v [va_rf v0] (fn_X4_begins d v0)
  | 0, _ => ct_fail
  | d + 1, v0 => ct_of [(false, va_rf v0)] [some (va_rf v0)] (by decide) rfl ⟨rfl, (rf_cat _), trivial⟩ (fun E X n0 s0 σ => tj_X4_begins_B0 d v0 σ)
theorem tj_X4_ends_L71_b {E : tj_E} {X : tj_X} {n0 s0 : Nat} (d : Nat) {b71 : Option Nat → Int32 → Int32 → mx_M Int32} (h71 : ∀ (l0 : Option Nat) (l1 : Int32) (l2 : Int32) (σ : hp_S), tj_T E X RX4 "ends" cX4_ends 3 (some .int) (d + 1) [] n0 s0 em_i σ 71 [some (va_rf l0), some (.int l1), some (.int l2)] [] (b71 l0 l1 l2)) (l0 : Option Nat) (l1 : Int32) (l2 : Int32) (σ : hp_S) : tj_T E X RX4 "ends" cX4_ends 3 (some .int) (d + 1) [] n0 s0 em_i σ 71 [some (va_rf l0), some (.int l1), some (.int l2)] [] (fn_X4_ends_L71_b d b71 l0 l1 l2) := by
  unfold fn_X4_ends_L71_b
  refine tj_iload_n dX4_ends_71 rfl ?_
  refine tj_bipush (112 : Int32) dX4_ends_72 (by decide) ?_
  refine tj_icmp_ge 103 dX4_ends_74 rfl (fun _ => ?_) (fun _ => ?_)
  · refine tj_aload_n dX4_ends_103 rfl ?_
    refine tj_dup dX4_ends_104 (rf_cat _) ?_
    refine tj_getI fl_X4_57 dX4_ends_105 (fun v101 => ?_)
    refine tj_iconst (1 : Int32) dX4_ends_108 rfl ?_
    refine tj_iadd dX4_ends_109 ?_
    refine tj_put fl_X4_57 rfl rfl dX4_ends_110 (fun σ => ?_)
    refine tj_iload_n dX4_ends_113 rfl ?_
    exact tj_iret dX4_ends_114
  · refine tj_aload_n dX4_ends_77 rfl ?_
    refine tj_getR fl_X4_26r dX4_ends_78 (fun v102 => ?_)
    refine tj_aload_n dX4_ends_81 rfl ?_
    refine tj_getI fl_X4_57 dX4_ends_82 (fun v103 => ?_)
    refine tj_bipush (112 : Int32) dX4_ends_85 (by decide) ?_
    refine tj_imul dX4_ends_87 ?_
    refine tj_iload_n dX4_ends_88 rfl ?_
    refine tj_iadd dX4_ends_89 ?_
    refine tj_aload_n dX4_ends_90 rfl ?_
    refine tj_getR fl_X4_20r dX4_ends_91 (fun v104 => ?_)
    refine tj_iload_n dX4_ends_94 rfl ?_
    refine tj_iald dX4_ends_95 (fun v105 => ?_)
    refine tj_iast dX4_ends_96 (fun σ => ?_)
    refine tj_iinc (1 : Int32) dX4_ends_97 rfl rfl (by decide) rfl [some (va_rf l0), some (.int l1), some (.int (l2 + (1 : Int32)))] rfl ?_
    refine tj_goto 71 dX4_ends_100 rfl ?_
    exact h71 l0 l1 _ _
theorem tj_X4_ends_L71 {E : tj_E} {X : tj_X} {n0 s0 : Nat} (d : Nat) : ∀ (k : Nat) (l0 : Option Nat) (l1 : Int32) (l2 : Int32) (σ : hp_S), tj_T E X RX4 "ends" cX4_ends 3 (some .int) (d + 1) [] n0 s0 em_i σ 71 [some (va_rf l0), some (.int l1), some (.int l2)] [] (fn_X4_ends_L71 d k l0 l1 l2) := by
  intro k
  induction k with
  | zero =>
    intro l0 l1 l2 σ
    exact tj_fail
  | succ k ih =>
    intro l0 l1 l2 σ
    exact tj_X4_ends_L71_b d ih l0 l1 l2 σ
theorem tj_X4_ends_J69 {E : tj_E} {X : tj_X} {n0 s0 : Nat} (d : Nat) (l0 : Option Nat) (l1 : Int32) (σ : hp_S) : tj_T E X RX4 "ends" cX4_ends 3 (some .int) (d + 1) [] n0 s0 em_i σ 69 [some (va_rf l0), some (.int l1), none] [] (fn_X4_ends_J69 d l0 l1) := by
  unfold fn_X4_ends_J69
  refine tj_iconst (0 : Int32) dX4_ends_69 rfl ?_
  refine tj_istore_n dX4_ends_70 (by decide) rfl [some (va_rf l0), some (.int l1), some (.int (0 : Int32))] rfl ?_
  exact tj_X4_ends_L71 d mx_K l0 l1 (0 : Int32) _
theorem tj_X4_ends_L31_b {E : tj_E} {X : tj_X} {n0 s0 : Nat} (d : Nat) {b31 : Option Nat → Int32 → Int32 → mx_M Int32} (h31 : ∀ (l0 : Option Nat) (l1 : Int32) (l2 : Int32) (σ : hp_S), tj_T E X RX4 "ends" cX4_ends 3 (some .int) (d + 1) [] n0 s0 em_i σ 31 [some (va_rf l0), some (.int l1), some (.int l2)] [] (b31 l0 l1 l2)) (l0 : Option Nat) (l1 : Int32) (l2 : Int32) (σ : hp_S) : tj_T E X RX4 "ends" cX4_ends 3 (some .int) (d + 1) [] n0 s0 em_i σ 31 [some (va_rf l0), some (.int l1), some (.int l2)] [] (fn_X4_ends_L31_b d b31 l0 l1 l2) := by
  unfold fn_X4_ends_L31_b
  refine tj_iload_n dX4_ends_31 rfl ?_
  refine tj_sipush (784 : Int32) dX4_ends_32 (by decide) ?_
  refine tj_icmp_ge 59 dX4_ends_35 rfl (fun _ => ?_) (fun _ => ?_)
  · refine tj_aload_n dX4_ends_59 rfl ?_
    refine tj_dup dX4_ends_60 (rf_cat _) ?_
    refine tj_getI fl_X4_57 dX4_ends_61 (fun v101 => ?_)
    refine tj_iconst (1 : Int32) dX4_ends_64 rfl ?_
    refine tj_isub dX4_ends_65 ?_
    refine tj_put fl_X4_57 rfl rfl dX4_ends_66 (fun σ => ?_)
    refine tj_wk (L' := [some (va_rf l0), some (.int l1), none]) ⟨rfl, rfl, trivial⟩ ?_
    exact tj_X4_ends_J69 d l0 l1 _
  · refine tj_aload_n dX4_ends_38 rfl ?_
    refine tj_getR fl_X4_26r dX4_ends_39 (fun v102 => ?_)
    refine tj_iload_n dX4_ends_42 rfl ?_
    refine tj_aload_n dX4_ends_43 rfl ?_
    refine tj_getR fl_X4_26r dX4_ends_44 (fun v103 => ?_)
    refine tj_iload_n dX4_ends_47 rfl ?_
    refine tj_bipush (112 : Int32) dX4_ends_48 (by decide) ?_
    refine tj_iadd dX4_ends_50 ?_
    refine tj_iald dX4_ends_51 (fun v104 => ?_)
    refine tj_iast dX4_ends_52 (fun σ => ?_)
    refine tj_iinc (1 : Int32) dX4_ends_53 rfl rfl (by decide) rfl [some (va_rf l0), some (.int l1), some (.int (l2 + (1 : Int32)))] rfl ?_
    refine tj_goto 31 dX4_ends_56 rfl ?_
    exact h31 l0 l1 _ _
theorem tj_X4_ends_L31 {E : tj_E} {X : tj_X} {n0 s0 : Nat} (d : Nat) : ∀ (k : Nat) (l0 : Option Nat) (l1 : Int32) (l2 : Int32) (σ : hp_S), tj_T E X RX4 "ends" cX4_ends 3 (some .int) (d + 1) [] n0 s0 em_i σ 31 [some (va_rf l0), some (.int l1), some (.int l2)] [] (fn_X4_ends_L31 d k l0 l1 l2) := by
  intro k
  induction k with
  | zero =>
    intro l0 l1 l2 σ
    exact tj_fail
  | succ k ih =>
    intro l0 l1 l2 σ
    exact tj_X4_ends_L31_b d ih l0 l1 l2 σ
theorem tj_X4_ends_B0 {E : tj_E} {X : tj_X} {n0 s0 : Nat} (d : Nat) (v0 : Option Nat) (v1 : Int32) (σ : hp_S) : tj_T E X RX4 "ends" cX4_ends 3 (some .int) (d + 1) [] n0 s0 em_i σ 0 [some (va_rf v0), some (.int v1), none] [] (fn_X4_ends_B0 d v0 v1) := by
  unfold fn_X4_ends_B0
  refine tj_aload_n dX4_ends_0 rfl ?_
  refine tj_getI fl_X4_50 dX4_ends_1 (fun v101 => ?_)
  refine tj_if_eq 20 dX4_ends_4 rfl (fun _ => ?_) (fun _ => ?_)
  · refine tj_aload_n dX4_ends_20 rfl ?_
    refine tj_getI fl_X4_57 dX4_ends_21 (fun v102 => ?_)
    refine tj_bipush (8 : Int32) dX4_ends_24 (by decide) ?_
    refine tj_icmp_ne 69 dX4_ends_26 rfl (fun _ => ?_) (fun _ => ?_)
    · refine tj_iconst (0 : Int32) dX4_ends_29 rfl ?_
      refine tj_istore_n dX4_ends_30 (by decide) rfl [some (va_rf v0), some (.int v1), some (.int (0 : Int32))] rfl ?_
      exact tj_X4_ends_L31 d mx_K v0 v1 (0 : Int32) _
    · exact tj_X4_ends_J69 d v0 v1 _
  · refine tj_aload_n dX4_ends_7 rfl ?_
    refine tj_getR fl_X4_16r dX4_ends_8 (fun v103 => ?_)
    refine tj_aload_n dX4_ends_11 rfl ?_
    refine tj_getR fl_X4_20r dX4_ends_12 (fun v104 => ?_)
    refine tj_callS (as := [va_rf v103, va_rf v104]) (rest := []) (st' := (fun _ => [])) (ct_X4_lays d v103 v104) q3964 q3965 q110 q3966 md_X4_lays rfl (by decide) rfl (by decide) dX4_ends_15 (fun _ => rfl) (fun _ σ => ?_) (by decide)
    refine tj_iconst (0 : Int32) dX4_ends_18 rfl ?_
    exact tj_iret dX4_ends_19
theorem ct_X4_ends : ∀ (d : Nat) (v0 : Option Nat) (v1 : Int32), ct_ yX4_ends (ws_ yX4_ends cX4_ends 3 (some .int)) d em_i [va_rf v0, .int v1] (fn_X4_ends d v0 v1)
  | 0, _, _ => ct_fail
  | d + 1, v0, v1 => ct_of [(false, va_rf v0), (false, .int v1)] [some (va_rf v0), some (.int v1), none] (by decide) rfl ⟨rfl, (rf_cat _), ⟨rfl, rfl, trivial⟩⟩ (fun E X n0 s0 σ => tj_X4_ends_B0 d v0 v1 σ)
theorem tj_X4_addLion_B0 {E : tj_E} {X : tj_X} {n0 s0 : Nat} (d : Nat) (v0 : Option Nat) (v1 : Int32) (v2 : Int32) (v3 : Int32) (σ : hp_S) : tj_T E X RX4 "addLion" cX4_addLion 4 (some .int) (d + 1) [] n0 s0 em_i σ 0 [some (va_rf v0), some (.int v1), some (.int v2), some (.int v3)] [] (fn_X4_addLion_B0 d v0 v1 v2 v3) := by
  unfold fn_X4_addLion_B0
  refine tj_aload_n dX4_addLion_0 rfl ?_
  refine tj_callV (as := []) (rest := []) (st' := (fun _ => [])) (t := 1) (fun a e => by cases e; exact ct_X4_begins d _) (by decide) rfl q3960 q3962 qs60 q110 q3963 rfl md_X4_begins rfl (by decide) rfl (by decide) dX4_addLion_1 (fun _ => rfl) (fun _ σ => ?_) (by decide)
  refine tj_aload_n dX4_addLion_4 rfl ?_
  refine tj_aload_n dX4_addLion_5 rfl ?_
  refine tj_iload_n dX4_addLion_6 rfl ?_
  refine tj_iload_n dX4_addLion_7 rfl ?_
  refine tj_iload_n dX4_addLion_8 rfl ?_
  refine tj_callV (as := [.int v1, .int v2, .int v3]) (rest := [va_rf v0]) (st' := (fun r => [.int r, va_rf v0])) (t := 1) (fun a e => by cases e; exact ct_X4_adds d _ _ _ _) (by decide) rfl q3967 q3969 qs61 q110 q3970 rfl md_X4_adds rfl (by decide) rfl (by simp [rf_cat, cat_i, cat_l, cat_f, cat_d]) dX4_addLion_9 (fun _ => rfl) (fun r101 σ => ?_) (by decide)
  refine tj_callV (as := [.int r101]) (rest := []) (st' := (fun r => [.int r])) (t := 1) (fun a e => by cases e; exact ct_X4_ends d _ _) (by decide) rfl q4000 q4002 qs67 q110 q4003 rfl md_X4_ends rfl (by decide) rfl (by decide) dX4_addLion_12 (fun _ => rfl) (fun r102 σ => ?_) (by decide)
  exact tj_iret dX4_addLion_15
theorem ct_X4_addLion : ∀ (d : Nat) (v0 : Option Nat) (v1 : Int32) (v2 : Int32) (v3 : Int32), ct_ yX4_addLion (ws_ yX4_addLion cX4_addLion 4 (some .int)) d em_i [va_rf v0, .int v1, .int v2, .int v3] (fn_X4_addLion d v0 v1 v2 v3)
  | 0, _, _, _, _ => ct_fail
  | d + 1, v0, v1, v2, v3 => ct_of [(false, va_rf v0), (false, .int v1), (false, .int v2), (false, .int v3)] [some (va_rf v0), some (.int v1), some (.int v2), some (.int v3)] (by decide) rfl ⟨rfl, (rf_cat _), ⟨rfl, rfl, ⟨rfl, rfl, ⟨rfl, rfl, trivial⟩⟩⟩⟩ (fun E X n0 s0 σ => tj_X4_addLion_B0 d v0 v1 v2 v3 σ)
theorem tj_X4_isInTime_J74 {E : tj_E} {X : tj_X} {n0 s0 : Nat} (d : Nat) {b9 : Option Nat → Int32 → Int32 → Int32 → mx_M Int32} (h9 : ∀ (l0 : Option Nat) (l1 : Int32) (l2 : Int32) (l3 : Int32) (σ : hp_S), tj_T E X RX4 "isInTime" cX4_isInTime 4 (some .boolean) (d + 1) [] n0 s0 em_i σ 9 [some (va_rf l0), some (.int l1), some (.int l2), some (.int l3)] [] (b9 l0 l1 l2 l3)) (l0 : Option Nat) (l1 : Int32) (l2 : Int32) (l3 : Int32) (σ : hp_S) : tj_T E X RX4 "isInTime" cX4_isInTime 4 (some .boolean) (d + 1) [] n0 s0 em_i σ 74 [some (va_rf l0), some (.int l1), some (.int l2), some (.int l3)] [] (fn_X4_isInTime_J74 d b9 l0 l1 l2 l3) := by
  unfold fn_X4_isInTime_J74
  refine tj_iinc (1 : Int32) dX4_isInTime_74 rfl rfl (by decide) rfl [some (va_rf l0), some (.int l1), some (.int l2), some (.int (l3 + (1 : Int32)))] rfl ?_
  refine tj_goto 9 dX4_isInTime_77 rfl ?_
  exact h9 l0 l1 l2 _ _
theorem tj_X4_isInTime_L9_b {E : tj_E} {X : tj_X} {n0 s0 : Nat} (d : Nat) {b9 : Option Nat → Int32 → Int32 → Int32 → mx_M Int32} (h9 : ∀ (l0 : Option Nat) (l1 : Int32) (l2 : Int32) (l3 : Int32) (σ : hp_S), tj_T E X RX4 "isInTime" cX4_isInTime 4 (some .boolean) (d + 1) [] n0 s0 em_i σ 9 [some (va_rf l0), some (.int l1), some (.int l2), some (.int l3)] [] (b9 l0 l1 l2 l3)) (l0 : Option Nat) (l1 : Int32) (l2 : Int32) (l3 : Int32) (σ : hp_S) : tj_T E X RX4 "isInTime" cX4_isInTime 4 (some .boolean) (d + 1) [] n0 s0 em_i σ 9 [some (va_rf l0), some (.int l1), some (.int l2), some (.int l3)] [] (fn_X4_isInTime_L9_b d b9 l0 l1 l2 l3) := by
  unfold fn_X4_isInTime_L9_b
  refine tj_iload_n dX4_isInTime_9 rfl ?_
  refine tj_aload_n dX4_isInTime_10 rfl ?_
  refine tj_getR fl_X4_16r dX4_isInTime_11 (fun v101 => ?_)
  refine tj_iconst (3 : Int32) dX4_isInTime_14 rfl ?_
  refine tj_iald dX4_isInTime_15 (fun v102 => ?_)
  refine tj_icmp_ge 80 dX4_isInTime_16 rfl (fun _ => ?_) (fun _ => ?_)
  · refine tj_iconst (1 : Int32) dX4_isInTime_80 rfl ?_
    exact tj_zpure rfl dX4_isInTime_81
  · refine tj_iload_n dX4_isInTime_19 rfl ?_
    refine tj_aload_n dX4_isInTime_20 rfl ?_
    refine tj_getR fl_X4_29r dX4_isInTime_21 (fun v103 => ?_)
    refine tj_iload_n dX4_isInTime_24 rfl ?_
    refine tj_iald dX4_isInTime_25 (fun v104 => ?_)
    refine tj_ishr dX4_isInTime_26 ?_
    refine tj_iconst (1 : Int32) dX4_isInTime_27 rfl ?_
    refine tj_iand dX4_isInTime_28 ?_
    refine tj_if_ne 35 dX4_isInTime_29 rfl (fun _ => ?_) (fun _ => ?_)
    · refine tj_goto 74 dX4_isInTime_32 rfl ?_
      exact tj_X4_isInTime_J74 d h9 l0 l1 l2 l3 _
    · refine tj_iload_n dX4_isInTime_35 rfl ?_
      refine tj_aload_n dX4_isInTime_36 rfl ?_
      refine tj_getR fl_X4_16r dX4_isInTime_37 (fun v105 => ?_)
      refine tj_aload_n dX4_isInTime_40 rfl ?_
      refine tj_getR fl_X4_29r dX4_isInTime_41 (fun v106 => ?_)
      refine tj_iload_n dX4_isInTime_44 rfl ?_
      refine tj_iald dX4_isInTime_45 (fun v107 => ?_)
      refine tj_iconst (2 : Int32) dX4_isInTime_46 rfl ?_
      refine tj_callS (as := [.int v107, .int (2 : Int32)]) (rest := [va_rf v105, .int l2]) (st' := (fun r => [.int r, va_rf v105, .int l2])) (ct_X4_of d v107 (2 : Int32)) q3978 q3979 q110 q3980 md_X4_of rfl (by decide) rfl (by simp [rf_cat, cat_i, cat_l, cat_f, cat_d]) dX4_isInTime_47 (fun _ => rfl) (fun r108 σ => ?_) (by decide)
      refine tj_iald dX4_isInTime_50 (fun v109 => ?_)
      refine tj_iadd dX4_isInTime_51 ?_
      refine tj_topi (fun v110 => ?_)
      refine tj_istore_n dX4_isInTime_52 (by decide) rfl [some (va_rf l0), some (.int l1), some (.int v110), some (.int l3)] rfl ?_
      refine tj_iload_n dX4_isInTime_53 rfl ?_
      refine tj_aload_n dX4_isInTime_54 rfl ?_
      refine tj_getR fl_X4_16r dX4_isInTime_55 (fun v111 => ?_)
      refine tj_aload_n dX4_isInTime_58 rfl ?_
      refine tj_getR fl_X4_29r dX4_isInTime_59 (fun v112 => ?_)
      refine tj_iload_n dX4_isInTime_62 rfl ?_
      refine tj_iald dX4_isInTime_63 (fun v113 => ?_)
      refine tj_iconst (3 : Int32) dX4_isInTime_64 rfl ?_
      refine tj_callS (as := [.int v113, .int (3 : Int32)]) (rest := [va_rf v111, .int v110]) (st' := (fun r => [.int r, va_rf v111, .int v110])) (ct_X4_of d v113 (3 : Int32)) q3978 q3979 q110 q3980 md_X4_of rfl (by decide) rfl (by simp [rf_cat, cat_i, cat_l, cat_f, cat_d]) dX4_isInTime_65 (fun _ => rfl) (fun r114 σ => ?_) (by decide)
      refine tj_iald dX4_isInTime_68 (fun v115 => ?_)
      refine tj_icmp_le 74 dX4_isInTime_69 rfl (fun _ => ?_) (fun _ => ?_)
      · exact tj_X4_isInTime_J74 d h9 l0 l1 v110 l3 _
      · refine tj_iconst (0 : Int32) dX4_isInTime_72 rfl ?_
        exact tj_zpure rfl dX4_isInTime_73
theorem tj_X4_isInTime_L9 {E : tj_E} {X : tj_X} {n0 s0 : Nat} (d : Nat) : ∀ (k : Nat) (l0 : Option Nat) (l1 : Int32) (l2 : Int32) (l3 : Int32) (σ : hp_S), tj_T E X RX4 "isInTime" cX4_isInTime 4 (some .boolean) (d + 1) [] n0 s0 em_i σ 9 [some (va_rf l0), some (.int l1), some (.int l2), some (.int l3)] [] (fn_X4_isInTime_L9 d k l0 l1 l2 l3) := by
  intro k
  induction k with
  | zero =>
    intro l0 l1 l2 l3 σ
    exact tj_fail
  | succ k ih =>
    intro l0 l1 l2 l3 σ
    exact tj_X4_isInTime_L9_b d ih l0 l1 l2 l3 σ
theorem tj_X4_isInTime_B0 {E : tj_E} {X : tj_X} {n0 s0 : Nat} (d : Nat) (v0 : Option Nat) (v1 : Int32) (σ : hp_S) : tj_T E X RX4 "isInTime" cX4_isInTime 4 (some .boolean) (d + 1) [] n0 s0 em_i σ 0 [some (va_rf v0), some (.int v1), none, none] [] (fn_X4_isInTime_B0 d v0 v1) := by
  unfold fn_X4_isInTime_B0
  refine tj_aload_n dX4_isInTime_0 rfl ?_
  refine tj_getR fl_X4_16r dX4_isInTime_1 (fun v101 => ?_)
  refine tj_iconst (0 : Int32) dX4_isInTime_4 rfl ?_
  refine tj_iald dX4_isInTime_5 (fun v102 => ?_)
  refine tj_istore_n dX4_isInTime_6 (by decide) rfl [some (va_rf v0), some (.int v1), some (.int v102), none] rfl ?_
  refine tj_iconst (0 : Int32) dX4_isInTime_7 rfl ?_
  refine tj_istore_n dX4_isInTime_8 (by decide) rfl [some (va_rf v0), some (.int v1), some (.int v102), some (.int (0 : Int32))] rfl ?_
  exact tj_X4_isInTime_L9 d mx_K v0 v1 v102 (0 : Int32) _
theorem ct_X4_isInTime : ∀ (d : Nat) (v0 : Option Nat) (v1 : Int32), ct_ yX4_isInTime (ws_ yX4_isInTime cX4_isInTime 4 (some .boolean)) d em_i [va_rf v0, .int v1] (fn_X4_isInTime d v0 v1)
  | 0, _, _ => ct_fail
  | d + 1, v0, v1 => ct_of [(false, va_rf v0), (false, .int v1)] [some (va_rf v0), some (.int v1), none, none] (by decide) rfl ⟨rfl, (rf_cat _), ⟨rfl, rfl, trivial⟩⟩ (fun E X n0 s0 σ => tj_X4_isInTime_B0 d v0 v1 σ)
theorem tj_X4_sorts_J68 {E : tj_E} {X : tj_X} {n0 s0 : Nat} (d : Nat) {b2 : Option Nat → Int32 → mx_M Unit} (h2 : ∀ (l0 : Option Nat) (l1 : Int32) (σ : hp_S), tj_T E X RX4 "sorts" cX4_sorts 3 none (d + 1) [] n0 s0 em_v σ 2 [some (va_rf l0), some (.int l1), none] [] (b2 l0 l1)) (l0 : Option Nat) (l1 : Int32) (l2 : Int32) (σ : hp_S) : tj_T E X RX4 "sorts" cX4_sorts 3 none (d + 1) [] n0 s0 em_v σ 68 [some (va_rf l0), some (.int l1), some (.int l2)] [] (fn_X4_sorts_J68 d b2 l0 l1 l2) := by
  unfold fn_X4_sorts_J68
  refine tj_aload_n dX4_sorts_68 rfl ?_
  refine tj_getR fl_X4_29r dX4_sorts_69 (fun v101 => ?_)
  refine tj_iload_n dX4_sorts_72 rfl ?_
  refine tj_iload_n dX4_sorts_73 rfl ?_
  refine tj_iast dX4_sorts_74 (fun σ => ?_)
  refine tj_iinc (1 : Int32) dX4_sorts_75 rfl rfl (by decide) (rf_cat _) [some (va_rf l0), some (.int (l1 + (1 : Int32))), some (.int l2)] rfl ?_
  refine tj_goto 2 dX4_sorts_78 rfl ?_
  refine tj_wk (L' := [some (va_rf l0), some (.int (l1 + (1 : Int32))), none]) ⟨rfl, rfl, trivial⟩ ?_
  exact h2 l0 _ _
theorem tj_X4_sorts_L14_b {E : tj_E} {X : tj_X} {n0 s0 : Nat} (d : Nat) {b2 : Option Nat → Int32 → mx_M Unit} {b14 : Option Nat → Int32 → Int32 → mx_M Unit} (h2 : ∀ (l0 : Option Nat) (l1 : Int32) (σ : hp_S), tj_T E X RX4 "sorts" cX4_sorts 3 none (d + 1) [] n0 s0 em_v σ 2 [some (va_rf l0), some (.int l1), none] [] (b2 l0 l1)) (h14 : ∀ (l0 : Option Nat) (l1 : Int32) (l2 : Int32) (σ : hp_S), tj_T E X RX4 "sorts" cX4_sorts 3 none (d + 1) [] n0 s0 em_v σ 14 [some (va_rf l0), some (.int l1), some (.int l2)] [] (b14 l0 l1 l2)) (l0 : Option Nat) (l1 : Int32) (l2 : Int32) (σ : hp_S) : tj_T E X RX4 "sorts" cX4_sorts 3 none (d + 1) [] n0 s0 em_v σ 14 [some (va_rf l0), some (.int l1), some (.int l2)] [] (fn_X4_sorts_L14_b d b2 b14 l0 l1 l2) := by
  unfold fn_X4_sorts_L14_b
  refine tj_iload_n dX4_sorts_14 rfl ?_
  refine tj_if_le 68 dX4_sorts_15 rfl (fun _ => ?_) (fun _ => ?_)
  · exact tj_X4_sorts_J68 d h2 l0 l1 l2 _
  · refine tj_aload_n dX4_sorts_18 rfl ?_
    refine tj_getR fl_X4_16r dX4_sorts_19 (fun v101 => ?_)
    refine tj_aload_n dX4_sorts_22 rfl ?_
    refine tj_getR fl_X4_29r dX4_sorts_23 (fun v102 => ?_)
    refine tj_iload_n dX4_sorts_26 rfl ?_
    refine tj_iconst (1 : Int32) dX4_sorts_27 rfl ?_
    refine tj_isub dX4_sorts_28 ?_
    refine tj_iald dX4_sorts_29 (fun v103 => ?_)
    refine tj_iconst (3 : Int32) dX4_sorts_30 rfl ?_
    refine tj_callS (as := [.int v103, .int (3 : Int32)]) (rest := [va_rf v101]) (st' := (fun r => [.int r, va_rf v101])) (ct_X4_of d v103 (3 : Int32)) q3978 q3979 q110 q3980 md_X4_of rfl (by decide) rfl (by simp [rf_cat, cat_i, cat_l, cat_f, cat_d]) dX4_sorts_31 (fun _ => rfl) (fun r104 σ => ?_) (by decide)
    refine tj_iald dX4_sorts_34 (fun v105 => ?_)
    refine tj_aload_n dX4_sorts_35 rfl ?_
    refine tj_getR fl_X4_16r dX4_sorts_36 (fun v106 => ?_)
    refine tj_iload_n dX4_sorts_39 rfl ?_
    refine tj_iconst (3 : Int32) dX4_sorts_40 rfl ?_
    refine tj_callS (as := [.int l1, .int (3 : Int32)]) (rest := [va_rf v106, .int v105]) (st' := (fun r => [.int r, va_rf v106, .int v105])) (ct_X4_of d l1 (3 : Int32)) q3978 q3979 q110 q3980 md_X4_of rfl (by decide) rfl (by simp [rf_cat, cat_i, cat_l, cat_f, cat_d]) dX4_sorts_41 (fun _ => rfl) (fun r107 σ => ?_) (by decide)
    refine tj_iald dX4_sorts_44 (fun v108 => ?_)
    refine tj_icmp_le 68 dX4_sorts_45 rfl (fun _ => ?_) (fun _ => ?_)
    · exact tj_X4_sorts_J68 d h2 l0 l1 l2 _
    · refine tj_aload_n dX4_sorts_48 rfl ?_
      refine tj_getR fl_X4_29r dX4_sorts_49 (fun v109 => ?_)
      refine tj_iload_n dX4_sorts_52 rfl ?_
      refine tj_aload_n dX4_sorts_53 rfl ?_
      refine tj_getR fl_X4_29r dX4_sorts_54 (fun v110 => ?_)
      refine tj_iload_n dX4_sorts_57 rfl ?_
      refine tj_iconst (1 : Int32) dX4_sorts_58 rfl ?_
      refine tj_isub dX4_sorts_59 ?_
      refine tj_iald dX4_sorts_60 (fun v111 => ?_)
      refine tj_iast dX4_sorts_61 (fun σ => ?_)
      refine tj_iinc (-1 : Int32) dX4_sorts_62 rfl rfl (by decide) rfl [some (va_rf l0), some (.int l1), some (.int (l2 + (-1 : Int32)))] rfl ?_
      refine tj_goto 14 dX4_sorts_65 rfl ?_
      exact h14 l0 l1 _ _
theorem tj_X4_sorts_L14 {E : tj_E} {X : tj_X} {n0 s0 : Nat} (d : Nat) {b2 : Option Nat → Int32 → mx_M Unit} (h2 : ∀ (l0 : Option Nat) (l1 : Int32) (σ : hp_S), tj_T E X RX4 "sorts" cX4_sorts 3 none (d + 1) [] n0 s0 em_v σ 2 [some (va_rf l0), some (.int l1), none] [] (b2 l0 l1)) : ∀ (k : Nat) (l0 : Option Nat) (l1 : Int32) (l2 : Int32) (σ : hp_S), tj_T E X RX4 "sorts" cX4_sorts 3 none (d + 1) [] n0 s0 em_v σ 14 [some (va_rf l0), some (.int l1), some (.int l2)] [] (fn_X4_sorts_L14 d b2 k l0 l1 l2) := by
  intro k
  induction k with
  | zero =>
    intro l0 l1 l2 σ
    exact tj_fail
  | succ k ih =>
    intro l0 l1 l2 σ
    exact tj_X4_sorts_L14_b d h2 ih l0 l1 l2 σ
theorem tj_X4_sorts_L2_b {E : tj_E} {X : tj_X} {n0 s0 : Nat} (d : Nat) {b2 : Option Nat → Int32 → mx_M Unit} (h2 : ∀ (l0 : Option Nat) (l1 : Int32) (σ : hp_S), tj_T E X RX4 "sorts" cX4_sorts 3 none (d + 1) [] n0 s0 em_v σ 2 [some (va_rf l0), some (.int l1), none] [] (b2 l0 l1)) (l0 : Option Nat) (l1 : Int32) (σ : hp_S) : tj_T E X RX4 "sorts" cX4_sorts 3 none (d + 1) [] n0 s0 em_v σ 2 [some (va_rf l0), some (.int l1), none] [] (fn_X4_sorts_L2_b d b2 l0 l1) := by
  unfold fn_X4_sorts_L2_b
  refine tj_iload_n dX4_sorts_2 rfl ?_
  refine tj_aload_n dX4_sorts_3 rfl ?_
  refine tj_getR fl_X4_16r dX4_sorts_4 (fun v101 => ?_)
  refine tj_iconst (3 : Int32) dX4_sorts_7 rfl ?_
  refine tj_iald dX4_sorts_8 (fun v102 => ?_)
  refine tj_icmp_ge 81 dX4_sorts_9 rfl (fun _ => ?_) (fun _ => ?_)
  · exact tj_vret dX4_sorts_81
  · refine tj_iload_n dX4_sorts_12 rfl ?_
    refine tj_istore_n dX4_sorts_13 (by decide) rfl [some (va_rf l0), some (.int l1), some (.int l1)] rfl ?_
    exact tj_X4_sorts_L14 d h2 mx_K l0 l1 l1 _
theorem tj_X4_sorts_L2 {E : tj_E} {X : tj_X} {n0 s0 : Nat} (d : Nat) : ∀ (k : Nat) (l0 : Option Nat) (l1 : Int32) (σ : hp_S), tj_T E X RX4 "sorts" cX4_sorts 3 none (d + 1) [] n0 s0 em_v σ 2 [some (va_rf l0), some (.int l1), none] [] (fn_X4_sorts_L2 d k l0 l1) := by
  intro k
  induction k with
  | zero =>
    intro l0 l1 σ
    exact tj_fail
  | succ k ih =>
    intro l0 l1 σ
    exact tj_X4_sorts_L2_b d ih l0 l1 σ
theorem tj_X4_sorts_B0 {E : tj_E} {X : tj_X} {n0 s0 : Nat} (d : Nat) (v0 : Option Nat) (σ : hp_S) : tj_T E X RX4 "sorts" cX4_sorts 3 none (d + 1) [] n0 s0 em_v σ 0 [some (va_rf v0), none, none] [] (fn_X4_sorts_B0 d v0) := by
  unfold fn_X4_sorts_B0
  refine tj_iconst (0 : Int32) dX4_sorts_0 rfl ?_
  refine tj_istore_n dX4_sorts_1 (by decide) (rf_cat _) [some (va_rf v0), some (.int (0 : Int32)), none] rfl ?_
  exact tj_X4_sorts_L2 d mx_K v0 (0 : Int32) _
theorem ct_X4_sorts : ∀ (d : Nat) (v0 : Option Nat), ct_ yX4_sorts (ws_ yX4_sorts cX4_sorts 3 none) d em_v [va_rf v0] (fn_X4_sorts d v0)
  | 0, _ => ct_fail
  | d + 1, v0 => ct_of [(false, va_rf v0)] [some (va_rf v0), none, none] (by decide) rfl ⟨rfl, (rf_cat _), trivial⟩ (fun E X n0 s0 σ => tj_X4_sorts_B0 d v0 σ)
theorem tj_X4_areAllInTime_B0 {E : tj_E} {X : tj_X} {n0 s0 : Nat} (d : Nat) (v0 : Option Nat) (σ : hp_S) : tj_T E X RX4 "areAllInTime" cX4_areAllInTime 1 (some .boolean) (d + 1) [] n0 s0 em_i σ 0 [some (va_rf v0)] [] (fn_X4_areAllInTime_B0 d v0) := by
  unfold fn_X4_areAllInTime_B0
  refine tj_aload_n dX4_areAllInTime_0 rfl ?_
  refine tj_iconst (0 : Int32) dX4_areAllInTime_1 rfl ?_
  refine tj_put fl_X4_50 rfl rfl dX4_areAllInTime_2 (fun σ => ?_)
  refine tj_aload_n dX4_areAllInTime_5 rfl ?_
  refine tj_callV (as := []) (rest := []) (st' := (fun _ => [])) (t := 1) (fun a e => by cases e; exact ct_X4_sorts d _) (by decide) rfl q4141 q4143 qs80 q110 q4144 rfl md_X4_sorts rfl (by decide) rfl (by decide) dX4_areAllInTime_6 (fun _ => rfl) (fun _ σ => ?_) (by decide)
  refine tj_aload_n dX4_areAllInTime_9 rfl ?_
  refine tj_iconst (1 : Int32) dX4_areAllInTime_10 rfl ?_
  refine tj_aload_n dX4_areAllInTime_11 rfl ?_
  refine tj_getR fl_X4_16r dX4_areAllInTime_12 (fun v101 => ?_)
  refine tj_iconst (3 : Int32) dX4_areAllInTime_15 rfl ?_
  refine tj_iald dX4_areAllInTime_16 (fun v102 => ?_)
  refine tj_ishl dX4_areAllInTime_17 ?_
  refine tj_iconst (1 : Int32) dX4_areAllInTime_18 rfl ?_
  refine tj_isub dX4_areAllInTime_19 ?_
  refine tj_callV (as := [.int (((1 : Int32) <<< (v102 &&& 31)) - (1 : Int32))]) (rest := []) (st' := (fun r => [.int r])) (t := 1) (fun a e => by cases e; exact ct_X4_isInTime d _ _) (by decide) rfl q4145 q4147 qs81 q110 q4148 rfl md_X4_isInTime rfl (by decide) rfl (by decide) dX4_areAllInTime_20 (fun _ => rfl) (fun r103 σ => ?_) (by decide)
  exact tj_zret dX4_areAllInTime_23
theorem ct_X4_areAllInTime : ∀ (d : Nat) (v0 : Option Nat), ct_ yX4_areAllInTime (ws_ yX4_areAllInTime cX4_areAllInTime 1 (some .boolean)) d em_i [va_rf v0] (fn_X4_areAllInTime d v0)
  | 0, _ => ct_fail
  | d + 1, v0 => ct_of [(false, va_rf v0)] [some (va_rf v0)] (by decide) rfl ⟨rfl, (rf_cat _), trivial⟩ (fun E X n0 s0 σ => tj_X4_areAllInTime_B0 d v0 σ)
theorem tj_X4_lion_L2_b {E : tj_E} {X : tj_X} {n0 s0 : Nat} (d : Nat) {b2 : Option Nat → Int32 → Int32 → mx_M Int32} (h2 : ∀ (l0 : Option Nat) (l1 : Int32) (l2 : Int32) (σ : hp_S), tj_T E X RX4 "lion" cX4_lion 3 (some .int) (d + 1) [] n0 s0 em_i σ 2 [some (va_rf l0), some (.int l1), some (.int l2)] [] (b2 l0 l1 l2)) (l0 : Option Nat) (l1 : Int32) (l2 : Int32) (σ : hp_S) : tj_T E X RX4 "lion" cX4_lion 3 (some .int) (d + 1) [] n0 s0 em_i σ 2 [some (va_rf l0), some (.int l1), some (.int l2)] [] (fn_X4_lion_L2_b d b2 l0 l1 l2) := by
  unfold fn_X4_lion_L2_b
  refine tj_iload_n dX4_lion_2 rfl ?_
  refine tj_aload_n dX4_lion_3 rfl ?_
  refine tj_getR fl_X4_16r dX4_lion_4 (fun v101 => ?_)
  refine tj_iconst (3 : Int32) dX4_lion_7 rfl ?_
  refine tj_iald dX4_lion_8 (fun v102 => ?_)
  refine tj_icmp_ge 34 dX4_lion_9 rfl (fun _ => ?_) (fun _ => ?_)
  · refine tj_iconst (-1 : Int32) dX4_lion_34 rfl ?_
    exact tj_iret dX4_lion_35
  · refine tj_aload_n dX4_lion_12 rfl ?_
    refine tj_getR fl_X4_16r dX4_lion_13 (fun v103 => ?_)
    refine tj_iload_n dX4_lion_16 rfl ?_
    refine tj_iconst (0 : Int32) dX4_lion_17 rfl ?_
    refine tj_callS (as := [.int l2, .int (0 : Int32)]) (rest := [va_rf v103]) (st' := (fun r => [.int r, va_rf v103])) (ct_X4_of d l2 (0 : Int32)) q3978 q3979 q110 q3980 md_X4_of rfl (by decide) rfl (by simp [rf_cat, cat_i, cat_l, cat_f, cat_d]) dX4_lion_18 (fun _ => rfl) (fun r104 σ => ?_) (by decide)
    refine tj_iald dX4_lion_21 (fun v105 => ?_)
    refine tj_iload_n dX4_lion_22 rfl ?_
    refine tj_icmp_ne 28 dX4_lion_23 rfl (fun _ => ?_) (fun _ => ?_)
    · refine tj_iload_n dX4_lion_26 rfl ?_
      exact tj_iret dX4_lion_27
    · refine tj_iinc (1 : Int32) dX4_lion_28 rfl rfl (by decide) rfl [some (va_rf l0), some (.int l1), some (.int (l2 + (1 : Int32)))] rfl ?_
      refine tj_goto 2 dX4_lion_31 rfl ?_
      exact h2 l0 l1 _ _
theorem tj_X4_lion_L2 {E : tj_E} {X : tj_X} {n0 s0 : Nat} (d : Nat) : ∀ (k : Nat) (l0 : Option Nat) (l1 : Int32) (l2 : Int32) (σ : hp_S), tj_T E X RX4 "lion" cX4_lion 3 (some .int) (d + 1) [] n0 s0 em_i σ 2 [some (va_rf l0), some (.int l1), some (.int l2)] [] (fn_X4_lion_L2 d k l0 l1 l2) := by
  intro k
  induction k with
  | zero =>
    intro l0 l1 l2 σ
    exact tj_fail
  | succ k ih =>
    intro l0 l1 l2 σ
    exact tj_X4_lion_L2_b d ih l0 l1 l2 σ
theorem tj_X4_lion_B0 {E : tj_E} {X : tj_X} {n0 s0 : Nat} (d : Nat) (v0 : Option Nat) (v1 : Int32) (σ : hp_S) : tj_T E X RX4 "lion" cX4_lion 3 (some .int) (d + 1) [] n0 s0 em_i σ 0 [some (va_rf v0), some (.int v1), none] [] (fn_X4_lion_B0 d v0 v1) := by
  unfold fn_X4_lion_B0
  refine tj_iconst (0 : Int32) dX4_lion_0 rfl ?_
  refine tj_istore_n dX4_lion_1 (by decide) rfl [some (va_rf v0), some (.int v1), some (.int (0 : Int32))] rfl ?_
  exact tj_X4_lion_L2 d mx_K v0 v1 (0 : Int32) _
theorem ct_X4_lion : ∀ (d : Nat) (v0 : Option Nat) (v1 : Int32), ct_ yX4_lion (ws_ yX4_lion cX4_lion 3 (some .int)) d em_i [va_rf v0, .int v1] (fn_X4_lion d v0 v1)
  | 0, _, _ => ct_fail
  | d + 1, v0, v1 => ct_of [(false, va_rf v0), (false, .int v1)] [some (va_rf v0), some (.int v1), none] (by decide) rfl ⟨rfl, (rf_cat _), ⟨rfl, rfl, trivial⟩⟩ (fun E X n0 s0 σ => tj_X4_lion_B0 d v0 v1 σ)
theorem tj_X4_about_J16 {E : tj_E} {X : tj_X} {n0 s0 : Nat} (d : Nat) (l0 : Option Nat) (l2 : Int32) (l3 : Int32) (p0 : Option Nat) (p1 : Int32) (σ : hp_S) : tj_T E X RX4 "about" cX4_about 4 (some .int) (d + 1) [] n0 s0 em_i σ 16 [some (va_rf l0), none, some (.int l2), some (.int l3)] [.int p1, va_rf p0] (fn_X4_about_J16 d l0 l2 l3 p0 p1) := by
  unfold fn_X4_about_J16
  refine tj_put fl_X4_50 rfl rfl dX4_about_16 (fun σ => ?_)
  refine tj_aload_n dX4_about_19 rfl ?_
  refine tj_getI fl_X4_50 dX4_about_20 (fun v101 => ?_)
  refine tj_if_ne 39 dX4_about_23 rfl (fun _ => ?_) (fun _ => ?_)
  · refine tj_aload_n dX4_about_26 rfl ?_
    refine tj_getR fl_X4_16r dX4_about_27 (fun v102 => ?_)
    refine tj_iload_n dX4_about_30 rfl ?_
    refine tj_iload_n dX4_about_31 rfl ?_
    refine tj_callS (as := [.int l3, .int l2]) (rest := [va_rf v102]) (st' := (fun r => [.int r, va_rf v102])) (ct_X4_of d l3 l2) q3978 q3979 q110 q3980 md_X4_of rfl (by decide) rfl (by simp [rf_cat, cat_i, cat_l, cat_f, cat_d]) dX4_about_32 (fun _ => rfl) (fun r103 σ => ?_) (by decide)
    refine tj_iald dX4_about_35 (fun v104 => ?_)
    refine tj_goto 40 dX4_about_36 rfl ?_
    exact tj_iret dX4_about_40
  · refine tj_iconst (0 : Int32) dX4_about_39 rfl ?_
    exact tj_iret dX4_about_40
theorem tj_X4_about_B0 {E : tj_E} {X : tj_X} {n0 s0 : Nat} (d : Nat) (v0 : Option Nat) (v1 : Int32) (v2 : Int32) (σ : hp_S) : tj_T E X RX4 "about" cX4_about 4 (some .int) (d + 1) [] n0 s0 em_i σ 0 [some (va_rf v0), some (.int v1), some (.int v2), none] [] (fn_X4_about_B0 d v0 v1 v2) := by
  unfold fn_X4_about_B0
  refine tj_aload_n dX4_about_0 rfl ?_
  refine tj_iload_n dX4_about_1 rfl ?_
  refine tj_callV (as := [.int v1]) (rest := []) (st' := (fun r => [.int r])) (t := 1) (fun a e => by cases e; exact ct_X4_lion d _ _) (by decide) rfl q4012 q4014 qs69 q110 q4015 rfl md_X4_lion rfl (by decide) rfl (by decide) dX4_about_2 (fun _ => rfl) (fun r101 σ => ?_) (by decide)
  refine tj_istore_n dX4_about_5 (by decide) rfl [some (va_rf v0), some (.int v1), some (.int v2), some (.int r101)] rfl ?_
  refine tj_aload_n dX4_about_6 rfl ?_
  refine tj_iload_n dX4_about_7 rfl ?_
  refine tj_if_ge 15 dX4_about_8 rfl (fun _ => ?_) (fun _ => ?_)
  · refine tj_iconst (0 : Int32) dX4_about_15 rfl ?_
    refine tj_wk (L' := [some (va_rf v0), none, some (.int v2), some (.int r101)]) ⟨rfl, rfl, rfl, trivial⟩ ?_
    exact tj_X4_about_J16 d v0 v2 r101 v0 (0 : Int32) _
  · refine tj_iconst (1 : Int32) dX4_about_11 rfl ?_
    refine tj_goto 16 dX4_about_12 rfl ?_
    refine tj_wk (L' := [some (va_rf v0), none, some (.int v2), some (.int r101)]) ⟨rfl, rfl, rfl, trivial⟩ ?_
    exact tj_X4_about_J16 d v0 v2 r101 v0 (1 : Int32) _
theorem ct_X4_about : ∀ (d : Nat) (v0 : Option Nat) (v1 : Int32) (v2 : Int32), ct_ yX4_about (ws_ yX4_about cX4_about 4 (some .int)) d em_i [va_rf v0, .int v1, .int v2] (fn_X4_about d v0 v1 v2)
  | 0, _, _, _ => ct_fail
  | d + 1, v0, v1, v2 => ct_of [(false, va_rf v0), (false, .int v1), (false, .int v2)] [some (va_rf v0), some (.int v1), some (.int v2), none] (by decide) rfl ⟨rfl, (rf_cat _), ⟨rfl, rfl, ⟨rfl, rfl, trivial⟩⟩⟩ (fun E X n0 s0 σ => tj_X4_about_B0 d v0 v1 v2 σ)
theorem tj_X4_deadlineOf_B0 {E : tj_E} {X : tj_X} {n0 s0 : Nat} (d : Nat) (v0 : Option Nat) (v1 : Int32) (σ : hp_S) : tj_T E X RX4 "deadlineOf" cX4_deadlineOf 2 (some .int) (d + 1) [] n0 s0 em_i σ 0 [some (va_rf v0), some (.int v1)] [] (fn_X4_deadlineOf_B0 d v0 v1) := by
  unfold fn_X4_deadlineOf_B0
  refine tj_aload_n dX4_deadlineOf_0 rfl ?_
  refine tj_iload_n dX4_deadlineOf_1 rfl ?_
  refine tj_iconst (3 : Int32) dX4_deadlineOf_2 rfl ?_
  refine tj_callV (as := [.int v1, .int (3 : Int32)]) (rest := []) (st' := (fun r => [.int r])) (t := 1) (fun a e => by cases e; exact ct_X4_about d _ _ _) (by decide) rfl q4092 q4094 qs79 q110 q4095 rfl md_X4_about rfl (by decide) rfl (by decide) dX4_deadlineOf_3 (fun _ => rfl) (fun r101 σ => ?_) (by decide)
  exact tj_iret dX4_deadlineOf_6
theorem ct_X4_deadlineOf : ∀ (d : Nat) (v0 : Option Nat) (v1 : Int32), ct_ yX4_deadlineOf (ws_ yX4_deadlineOf cX4_deadlineOf 2 (some .int)) d em_i [va_rf v0, .int v1] (fn_X4_deadlineOf d v0 v1)
  | 0, _, _ => ct_fail
  | d + 1, v0, v1 => ct_of [(false, va_rf v0), (false, .int v1)] [some (va_rf v0), some (.int v1)] (by decide) rfl ⟨rfl, (rf_cat _), ⟨rfl, rfl, trivial⟩⟩ (fun E X n0 s0 σ => tj_X4_deadlineOf_B0 d v0 v1 σ)
theorem tj_X4_dismisses_J60 {E : tj_E} {X : tj_X} {n0 s0 : Nat} (d : Nat) {b29 : Option Nat → Int32 → mx_M Int32} (h29 : ∀ (l0 : Option Nat) (l2 : Int32) (σ : hp_S), tj_T E X RX4 "dismisses" cX4_dismisses 3 (some .int) (d + 1) [] n0 s0 em_i σ 29 [some (va_rf l0), none, some (.int l2)] [] (b29 l0 l2)) (l0 : Option Nat) (l2 : Int32) (p0 : Option Nat) (p1 : Int32) (p2 : Int32) (σ : hp_S) : tj_T E X RX4 "dismisses" cX4_dismisses 3 (some .int) (d + 1) [] n0 s0 em_i σ 60 [some (va_rf l0), none, some (.int l2)] [.int p2, .int p1, va_rf p0] (fn_X4_dismisses_J60 d b29 l0 l2 p0 p1 p2) := by
  unfold fn_X4_dismisses_J60
  refine tj_iast dX4_dismisses_60 (fun σ => ?_)
  refine tj_iinc (1 : Int32) dX4_dismisses_61 rfl rfl (by decide) trivial [some (va_rf l0), none, some (.int (l2 + (1 : Int32)))] rfl ?_
  refine tj_goto 29 dX4_dismisses_64 rfl ?_
  exact h29 l0 _ _
theorem tj_X4_dismisses_L29_b {E : tj_E} {X : tj_X} {n0 s0 : Nat} (d : Nat) {b29 : Option Nat → Int32 → mx_M Int32} (h29 : ∀ (l0 : Option Nat) (l2 : Int32) (σ : hp_S), tj_T E X RX4 "dismisses" cX4_dismisses 3 (some .int) (d + 1) [] n0 s0 em_i σ 29 [some (va_rf l0), none, some (.int l2)] [] (b29 l0 l2)) (l0 : Option Nat) (l2 : Int32) (σ : hp_S) : tj_T E X RX4 "dismisses" cX4_dismisses 3 (some .int) (d + 1) [] n0 s0 em_i σ 29 [some (va_rf l0), none, some (.int l2)] [] (fn_X4_dismisses_L29_b d b29 l0 l2) := by
  unfold fn_X4_dismisses_L29_b
  refine tj_iload_n dX4_dismisses_29 rfl ?_
  refine tj_bipush (72 : Int32) dX4_dismisses_30 (by decide) ?_
  refine tj_icmp_ge 67 dX4_dismisses_32 rfl (fun _ => ?_) (fun _ => ?_)
  · refine tj_aload_n dX4_dismisses_67 rfl ?_
    refine tj_getR fl_X4_16r dX4_dismisses_68 (fun v101 => ?_)
    refine tj_iconst (4 : Int32) dX4_dismisses_71 rfl ?_
    refine tj_dup2_11 dX4_dismisses_72 rfl (rf_cat _) ?_
    refine tj_iald dX4_dismisses_73 (fun v102 => ?_)
    refine tj_iconst (1 : Int32) dX4_dismisses_74 rfl ?_
    refine tj_isub dX4_dismisses_75 ?_
    refine tj_iast dX4_dismisses_76 (fun σ => ?_)
    refine tj_aload_n dX4_dismisses_77 rfl ?_
    refine tj_getR fl_X4_16r dX4_dismisses_78 (fun v103 => ?_)
    refine tj_iconst (4 : Int32) dX4_dismisses_81 rfl ?_
    refine tj_iald dX4_dismisses_82 (fun v104 => ?_)
    exact tj_iret dX4_dismisses_83
  · refine tj_aload_n dX4_dismisses_35 rfl ?_
    refine tj_getR fl_X4_16r dX4_dismisses_36 (fun v105 => ?_)
    refine tj_iload_n dX4_dismisses_39 rfl ?_
    refine tj_iload_n dX4_dismisses_40 rfl ?_
    refine tj_iconst (2 : Int32) dX4_dismisses_41 rfl ?_
    refine tj_iadd dX4_dismisses_42 ?_
    refine tj_bipush (72 : Int32) dX4_dismisses_43 (by decide) ?_
    refine tj_icmp_ge 59 dX4_dismisses_45 rfl (fun _ => ?_) (fun _ => ?_)
    · refine tj_iconst (0 : Int32) dX4_dismisses_59 rfl ?_
      exact tj_X4_dismisses_J60 d h29 l0 l2 v105 l2 (0 : Int32) _
    · refine tj_aload_n dX4_dismisses_48 rfl ?_
      refine tj_getR fl_X4_16r dX4_dismisses_49 (fun v106 => ?_)
      refine tj_iload_n dX4_dismisses_52 rfl ?_
      refine tj_iconst (2 : Int32) dX4_dismisses_53 rfl ?_
      refine tj_iadd dX4_dismisses_54 ?_
      refine tj_iald dX4_dismisses_55 (fun v107 => ?_)
      refine tj_goto 60 dX4_dismisses_56 rfl ?_
      exact tj_X4_dismisses_J60 d h29 l0 l2 v105 l2 v107 _
theorem tj_X4_dismisses_L29 {E : tj_E} {X : tj_X} {n0 s0 : Nat} (d : Nat) : ∀ (k : Nat) (l0 : Option Nat) (l2 : Int32) (σ : hp_S), tj_T E X RX4 "dismisses" cX4_dismisses 3 (some .int) (d + 1) [] n0 s0 em_i σ 29 [some (va_rf l0), none, some (.int l2)] [] (fn_X4_dismisses_L29 d k l0 l2) := by
  intro k
  induction k with
  | zero =>
    intro l0 l2 σ
    exact tj_fail
  | succ k ih =>
    intro l0 l2 σ
    exact tj_X4_dismisses_L29_b d ih l0 l2 σ
theorem tj_X4_dismisses_B0 {E : tj_E} {X : tj_X} {n0 s0 : Nat} (d : Nat) (v0 : Option Nat) (v1 : Int32) (σ : hp_S) : tj_T E X RX4 "dismisses" cX4_dismisses 3 (some .int) (d + 1) [] n0 s0 em_i σ 0 [some (va_rf v0), some (.int v1), none] [] (fn_X4_dismisses_B0 d v0 v1) := by
  unfold fn_X4_dismisses_B0
  refine tj_iload_n dX4_dismisses_0 rfl ?_
  refine tj_iconst (0 : Int32) dX4_dismisses_1 rfl ?_
  refine tj_aload_n dX4_dismisses_2 rfl ?_
  refine tj_getR fl_X4_16r dX4_dismisses_3 (fun v101 => ?_)
  refine tj_iconst (4 : Int32) dX4_dismisses_6 rfl ?_
  refine tj_iald dX4_dismisses_7 (fun v102 => ?_)
  refine tj_iconst (1 : Int32) dX4_dismisses_8 rfl ?_
  refine tj_isub dX4_dismisses_9 ?_
  refine tj_callS (as := [.int v1, .int (0 : Int32), .int (v102 - (1 : Int32))]) (rest := []) (st' := (fun r => [.int r])) (ct_X4_isIn d v1 (0 : Int32) _) q3971 q3972 q110 q3973 md_X4_isIn rfl (by decide) rfl (by decide) dX4_dismisses_10 (fun _ => rfl) (fun r103 σ => ?_) (by decide)
  refine tj_if_ne 22 dX4_dismisses_13 rfl (fun _ => ?_) (fun _ => ?_)
  · refine tj_aload_n dX4_dismisses_16 rfl ?_
    refine tj_iconst (1 : Int32) dX4_dismisses_17 rfl ?_
    refine tj_callV (as := [.int (1 : Int32)]) (rest := []) (st' := (fun r => [.int r])) (t := 1) (fun a e => by cases e; exact ct_X4_fail d _ _) (by decide) rfl q3974 q3976 qs62 q110 q3977 rfl md_X4_fail rfl (by decide) rfl (by decide) dX4_dismisses_18 (fun _ => rfl) (fun r104 σ => ?_) (by decide)
    exact tj_iret dX4_dismisses_21
  · refine tj_bipush (60 : Int32) dX4_dismisses_22 (by decide) ?_
    refine tj_iconst (2 : Int32) dX4_dismisses_24 rfl ?_
    refine tj_iload_n dX4_dismisses_25 rfl ?_
    refine tj_imul dX4_dismisses_26 ?_
    refine tj_iadd dX4_dismisses_27 ?_
    refine tj_topi (fun v105 => ?_)
    refine tj_istore_n dX4_dismisses_28 (by decide) rfl [some (va_rf v0), some (.int v1), some (.int v105)] rfl ?_
    refine tj_wk (L' := [some (va_rf v0), none, some (.int v105)]) ⟨rfl, rfl, trivial⟩ ?_
    exact tj_X4_dismisses_L29 d mx_K v0 v105 _
theorem ct_X4_dismisses : ∀ (d : Nat) (v0 : Option Nat) (v1 : Int32), ct_ yX4_dismisses (ws_ yX4_dismisses cX4_dismisses 3 (some .int)) d em_i [va_rf v0, .int v1] (fn_X4_dismisses d v0 v1)
  | 0, _, _ => ct_fail
  | d + 1, v0, v1 => ct_of [(false, va_rf v0), (false, .int v1)] [some (va_rf v0), some (.int v1), none] (by decide) rfl ⟨rfl, (rf_cat _), ⟨rfl, rfl, trivial⟩⟩ (fun E X n0 s0 σ => tj_X4_dismisses_B0 d v0 v1 σ)
theorem tj_X4_dismissKeeper_B0 {E : tj_E} {X : tj_X} {n0 s0 : Nat} (d : Nat) (v0 : Option Nat) (v1 : Int32) (σ : hp_S) : tj_T E X RX4 "dismissKeeper" cX4_dismissKeeper 2 (some .int) (d + 1) [] n0 s0 em_i σ 0 [some (va_rf v0), some (.int v1)] [] (fn_X4_dismissKeeper_B0 d v0 v1) := by
  unfold fn_X4_dismissKeeper_B0
  refine tj_aload_n dX4_dismissKeeper_0 rfl ?_
  refine tj_callV (as := []) (rest := []) (st' := (fun _ => [])) (t := 1) (fun a e => by cases e; exact ct_X4_begins d _) (by decide) rfl q3960 q3962 qs60 q110 q3963 rfl md_X4_begins rfl (by decide) rfl (by decide) dX4_dismissKeeper_1 (fun _ => rfl) (fun _ σ => ?_) (by decide)
  refine tj_aload_n dX4_dismissKeeper_4 rfl ?_
  refine tj_aload_n dX4_dismissKeeper_5 rfl ?_
  refine tj_iload_n dX4_dismissKeeper_6 rfl ?_
  refine tj_callV (as := [.int v1]) (rest := [va_rf v0]) (st' := (fun r => [.int r, va_rf v0])) (t := 1) (fun a e => by cases e; exact ct_X4_dismisses d _ _) (by decide) rfl q4064 q4066 qs76 q110 q4067 rfl md_X4_dismisses rfl (by decide) rfl (by simp [rf_cat, cat_i, cat_l, cat_f, cat_d]) dX4_dismissKeeper_7 (fun _ => rfl) (fun r101 σ => ?_) (by decide)
  refine tj_callV (as := [.int r101]) (rest := []) (st' := (fun r => [.int r])) (t := 1) (fun a e => by cases e; exact ct_X4_ends d _ _) (by decide) rfl q4000 q4002 qs67 q110 q4003 rfl md_X4_ends rfl (by decide) rfl (by decide) dX4_dismissKeeper_10 (fun _ => rfl) (fun r102 σ => ?_) (by decide)
  exact tj_iret dX4_dismissKeeper_13
theorem ct_X4_dismissKeeper : ∀ (d : Nat) (v0 : Option Nat) (v1 : Int32), ct_ yX4_dismissKeeper (ws_ yX4_dismissKeeper cX4_dismissKeeper 2 (some .int)) d em_i [va_rf v0, .int v1] (fn_X4_dismissKeeper d v0 v1)
  | 0, _, _ => ct_fail
  | d + 1, v0, v1 => ct_of [(false, va_rf v0), (false, .int v1)] [some (va_rf v0), some (.int v1)] (by decide) rfl ⟨rfl, (rf_cat _), ⟨rfl, rfl, trivial⟩⟩ (fun E X n0 s0 σ => tj_X4_dismissKeeper_B0 d v0 v1 σ)
