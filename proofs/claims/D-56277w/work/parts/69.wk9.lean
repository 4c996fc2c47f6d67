set_option maxRecDepth 100000
theorem tj_X4_roars_B0 {E : tj_E} {X : tj_X} {n0 s0 : Nat} (d : Nat) (v0 : Option Nat) (v1 : Int32) (v2 : Int32) (v3 : Int32) (σ : hp_S) : tj_T E X RX4 "roars" cX4_roars 5 (some .int) (d + 1) [] n0 s0 em_i σ 0 [some (va_rf v0), some (.int v1), some (.int v2), some (.int v3), none] [] (fn_X4_roars_B0 d v0 v1 v2 v3) := by
  unfold fn_X4_roars_B0
  refine tj_aload_n dX4_roars_0 rfl ?_
  refine tj_iload_n dX4_roars_1 rfl ?_
  refine tj_callV (as := [.int v1]) (rest := []) (st' := (fun r => [.int r])) (t := 1) (fun a e => by cases e; exact ct_X4_lion d _ _) (by decide) rfl q4012 q4014 qs69 q110 q4015 rfl md_X4_lion rfl (by decide) rfl (by decide) dX4_roars_2 (fun _ => rfl) (fun r101 σ => ?_) (by decide)
  refine tj_istore dX4_roars_5 (by decide) rfl [some (va_rf v0), some (.int v1), some (.int v2), some (.int v3), some (.int r101)] rfl ?_
  refine tj_iload dX4_roars_7 rfl ?_
  refine tj_if_ge 18 dX4_roars_9 rfl (fun _ => ?_) (fun _ => ?_)
  · refine tj_iload_n dX4_roars_18 rfl ?_
    refine tj_iconst (1 : Int32) dX4_roars_19 rfl ?_
    refine tj_bipush (50 : Int32) dX4_roars_20 (by decide) ?_
    refine tj_callS (as := [.int v2, .int (1 : Int32), .int (50 : Int32)]) (rest := []) (st' := (fun r => [.int r])) (ct_X4_isIn d v2 (1 : Int32) (50 : Int32)) q3971 q3972 q110 q3973 md_X4_isIn rfl (by decide) rfl (by decide) dX4_roars_22 (fun _ => rfl) (fun r102 σ => ?_) (by decide)
    refine tj_if_ne 34 dX4_roars_25 rfl (fun _ => ?_) (fun _ => ?_)
    · refine tj_aload_n dX4_roars_28 rfl ?_
      refine tj_iconst (2 : Int32) dX4_roars_29 rfl ?_
      refine tj_callV (as := [.int (2 : Int32)]) (rest := []) (st' := (fun r => [.int r])) (t := 1) (fun a e => by cases e; exact ct_X4_fail d _ _) (by decide) rfl q3974 q3976 qs62 q110 q3977 rfl md_X4_fail rfl (by decide) rfl (by decide) dX4_roars_30 (fun _ => rfl) (fun r103 σ => ?_) (by decide)
      exact tj_iret dX4_roars_33
    · refine tj_aload_n dX4_roars_34 rfl ?_
      refine tj_iload dX4_roars_35 rfl ?_
      refine tj_iload_n dX4_roars_37 rfl ?_
      refine tj_iload_n dX4_roars_38 rfl ?_
      refine tj_imul dX4_roars_39 ?_
      refine tj_callV (as := [.int r101, .int (v3 * v2)]) (rest := []) (st' := (fun r => [.int r])) (t := 1) (fun a e => by cases e; exact ct_X4_starves d _ _ _) (by decide) rfl q4016 q4018 qs70 q110 q4019 rfl md_X4_starves rfl (by decide) rfl (by decide) dX4_roars_40 (fun _ => rfl) (fun r104 σ => ?_) (by decide)
      exact tj_iret dX4_roars_43
  · refine tj_aload_n dX4_roars_12 rfl ?_
    refine tj_iconst (1 : Int32) dX4_roars_13 rfl ?_
    refine tj_callV (as := [.int (1 : Int32)]) (rest := []) (st' := (fun r => [.int r])) (t := 1) (fun a e => by cases e; exact ct_X4_fail d _ _) (by decide) rfl q3974 q3976 qs62 q110 q3977 rfl md_X4_fail rfl (by decide) rfl (by decide) dX4_roars_14 (fun _ => rfl) (fun r105 σ => ?_) (by decide)
    exact tj_iret dX4_roars_17
theorem ct_X4_roars : ∀ (d : Nat) (v0 : Option Nat) (v1 : Int32) (v2 : Int32) (v3 : Int32), ct_ yX4_roars (ws_ yX4_roars cX4_roars 5 (some .int)) d em_i [va_rf v0, .int v1, .int v2, .int v3] (fn_X4_roars d v0 v1 v2 v3)
  | 0, _, _, _, _ => ct_fail
  | d + 1, v0, v1, v2, v3 => ct_of [(false, va_rf v0), (false, .int v1), (false, .int v2), (false, .int v3)] [some (va_rf v0), some (.int v1), some (.int v2), some (.int v3), none] (by decide) rfl ⟨rfl, (rf_cat _), ⟨rfl, rfl, ⟨rfl, rfl, ⟨rfl, rfl, trivial⟩⟩⟩⟩ (fun E X n0 s0 σ => tj_X4_roars_B0 d v0 v1 v2 v3 σ)
theorem tj_X4_roar_B0 {E : tj_E} {X : tj_X} {n0 s0 : Nat} (d : Nat) (v0 : Option Nat) (v1 : Int32) (v2 : Int32) (σ : hp_S) : tj_T E X RX4 "roar" cX4_roar 3 (some .int) (d + 1) [] n0 s0 em_i σ 0 [some (va_rf v0), some (.int v1), some (.int v2)] [] (fn_X4_roar_B0 d v0 v1 v2) := by
  unfold fn_X4_roar_B0
  refine tj_aload_n dX4_roar_0 rfl ?_
  refine tj_callV (as := []) (rest := []) (st' := (fun _ => [])) (t := 1) (fun a e => by cases e; exact ct_X4_begins d _) (by decide) rfl q3960 q3962 qs60 q110 q3963 rfl md_X4_begins rfl (by decide) rfl (by decide) dX4_roar_1 (fun _ => rfl) (fun _ σ => ?_) (by decide)
  refine tj_aload_n dX4_roar_4 rfl ?_
  refine tj_aload_n dX4_roar_5 rfl ?_
  refine tj_iload_n dX4_roar_6 rfl ?_
  refine tj_iload_n dX4_roar_7 rfl ?_
  refine tj_iconst (1 : Int32) dX4_roar_8 rfl ?_
  refine tj_callV (as := [.int v1, .int v2, .int (1 : Int32)]) (rest := [va_rf v0]) (st' := (fun r => [.int r, va_rf v0])) (t := 1) (fun a e => by cases e; exact ct_X4_roars d _ _ _ _) (by decide) rfl q4008 q4010 qs68 q110 q4011 rfl md_X4_roars rfl (by decide) rfl (by simp [rf_cat, cat_i, cat_l, cat_f, cat_d]) dX4_roar_9 (fun _ => rfl) (fun r101 σ => ?_) (by decide)
  refine tj_callV (as := [.int r101]) (rest := []) (st' := (fun r => [.int r])) (t := 1) (fun a e => by cases e; exact ct_X4_ends d _ _) (by decide) rfl q4000 q4002 qs67 q110 q4003 rfl md_X4_ends rfl (by decide) rfl (by decide) dX4_roar_12 (fun _ => rfl) (fun r102 σ => ?_) (by decide)
  exact tj_iret dX4_roar_15
theorem ct_X4_roar : ∀ (d : Nat) (v0 : Option Nat) (v1 : Int32) (v2 : Int32), ct_ yX4_roar (ws_ yX4_roar cX4_roar 3 (some .int)) d em_i [va_rf v0, .int v1, .int v2] (fn_X4_roar d v0 v1 v2)
  | 0, _, _, _ => ct_fail
  | d + 1, v0, v1, v2 => ct_of [(false, va_rf v0), (false, .int v1), (false, .int v2)] [some (va_rf v0), some (.int v1), some (.int v2)] (by decide) rfl ⟨rfl, (rf_cat _), ⟨rfl, rfl, ⟨rfl, rfl, trivial⟩⟩⟩ (fun E X n0 s0 σ => tj_X4_roar_B0 d v0 v1 v2 σ)
theorem tj_X4_sign_B0 {E : tj_E} {X : tj_X} {n0 s0 : Nat} (d : Nat) (v0 : Option Nat) (σ : hp_S) : tj_T E X RX4 "sign" cX4_sign 1 (some .int) (d + 1) [] n0 s0 em_i σ 0 [some (va_rf v0)] [] (fn_X4_sign_B0 d v0) := by
  unfold fn_X4_sign_B0
  refine tj_aload_n dX4_sign_0 rfl ?_
  refine tj_getI fl_X4_180 dX4_sign_1 (fun v101 => ?_)
  refine tj_aload_n dX4_sign_4 rfl ?_
  refine tj_getI fl_X4_183 dX4_sign_5 (fun v102 => ?_)
  refine tj_icmp_ge 23 dX4_sign_8 rfl (fun _ => ?_) (fun _ => ?_)
  · refine tj_iconst (-1 : Int32) dX4_sign_23 rfl ?_
    exact tj_iret dX4_sign_24
  · refine tj_aload_n dX4_sign_11 rfl ?_
    refine tj_getR fl_X4_32r dX4_sign_12 (fun v103 => ?_)
    refine tj_aload_n dX4_sign_15 rfl ?_
    refine tj_getI fl_X4_180 dX4_sign_16 (fun v104 => ?_)
    refine tj_iald dX4_sign_19 (fun v105 => ?_)
    refine tj_goto 24 dX4_sign_20 rfl ?_
    exact tj_iret dX4_sign_24
theorem ct_X4_sign : ∀ (d : Nat) (v0 : Option Nat), ct_ yX4_sign (ws_ yX4_sign cX4_sign 1 (some .int)) d em_i [va_rf v0] (fn_X4_sign d v0)
  | 0, _ => ct_fail
  | d + 1, v0 => ct_of [(false, va_rf v0)] [some (va_rf v0)] (by decide) rfl ⟨rfl, (rf_cat _), trivial⟩ (fun E X n0 s0 σ => tj_X4_sign_B0 d v0 σ)
theorem tj_X4_digits_J59 {E : tj_E} {X : tj_X} {n0 s0 : Nat} (d : Nat) (l0 : Option Nat) (l2 : Int32) (l3 : Int32) (σ : hp_S) : tj_T E X RX4 "digits" cX4_digits 4 (some .int) (d + 1) [] n0 s0 em_i σ 59 [some (va_rf l0), none, some (.int l2), some (.int l3)] [] (fn_X4_digits_J59 d l0 l2 l3) := by
  unfold fn_X4_digits_J59
  refine tj_aload_n dX4_digits_59 rfl ?_
  refine tj_dup dX4_digits_60 (rf_cat _) ?_
  refine tj_getI fl_X4_186 dX4_digits_61 (fun v101 => ?_)
  refine tj_iload_n dX4_digits_64 rfl ?_
  refine tj_if_ne 72 dX4_digits_65 rfl (fun _ => ?_) (fun _ => ?_)
  · refine tj_iconst (1 : Int32) dX4_digits_68 rfl ?_
    refine tj_goto 73 dX4_digits_69 rfl ?_
    refine tj_ior dX4_digits_73 ?_
    refine tj_putN fl_X4_186 nf_Z dX4_digits_74 (fun σ => ?_)
    refine tj_iload_n dX4_digits_77 rfl ?_
    exact tj_iret dX4_digits_78
  · refine tj_iconst (0 : Int32) dX4_digits_72 rfl ?_
    refine tj_ior dX4_digits_73 ?_
    refine tj_putN fl_X4_186 nf_Z dX4_digits_74 (fun σ => ?_)
    refine tj_iload_n dX4_digits_77 rfl ?_
    exact tj_iret dX4_digits_78
theorem tj_X4_digits_L4_b {E : tj_E} {X : tj_X} {n0 s0 : Nat} (d : Nat) {b4 : Option Nat → Int32 → Int32 → Int32 → mx_M Int32} (h4 : ∀ (l0 : Option Nat) (l1 : Int32) (l2 : Int32) (l3 : Int32) (σ : hp_S), tj_T E X RX4 "digits" cX4_digits 4 (some .int) (d + 1) [] n0 s0 em_i σ 4 [some (va_rf l0), some (.int l1), some (.int l2), some (.int l3)] [] (b4 l0 l1 l2 l3)) (l0 : Option Nat) (l1 : Int32) (l2 : Int32) (l3 : Int32) (σ : hp_S) : tj_T E X RX4 "digits" cX4_digits 4 (some .int) (d + 1) [] n0 s0 em_i σ 4 [some (va_rf l0), some (.int l1), some (.int l2), some (.int l3)] [] (fn_X4_digits_L4_b d b4 l0 l1 l2 l3) := by
  unfold fn_X4_digits_L4_b
  refine tj_aload_n dX4_digits_4 rfl ?_
  refine tj_getI fl_X4_186 dX4_digits_5 (fun v101 => ?_)
  refine tj_if_ne 59 dX4_digits_8 rfl (fun _ => ?_) (fun _ => ?_)
  · refine tj_iload_n dX4_digits_11 rfl ?_
    refine tj_iload_n dX4_digits_12 rfl ?_
    refine tj_icmp_ge 59 dX4_digits_13 rfl (fun _ => ?_) (fun _ => ?_)
    · refine tj_wk (L' := [some (va_rf l0), none, some (.int l2), some (.int l3)]) ⟨rfl, rfl, rfl, trivial⟩ ?_
      exact tj_X4_digits_J59 d l0 l2 l3 _
    · refine tj_aload_n dX4_digits_16 rfl ?_
      refine tj_callV (as := []) (rest := []) (st' := (fun r => [.int r])) (t := 1) (fun a e => by cases e; exact ct_X4_sign d _) (by decide) rfl q4283 q4285 qs90 q110 q4286 rfl md_X4_sign rfl (by decide) rfl (by decide) dX4_digits_17 (fun _ => rfl) (fun r102 σ => ?_) (by decide)
      refine tj_bipush (48 : Int32) dX4_digits_20 (by decide) ?_
      refine tj_bipush (57 : Int32) dX4_digits_22 (by decide) ?_
      refine tj_callS (as := [.int r102, .int (48 : Int32), .int (57 : Int32)]) (rest := []) (st' := (fun r => [.int r])) (ct_X4_isIn d r102 (48 : Int32) (57 : Int32)) q3971 q3972 q110 q3973 md_X4_isIn rfl (by decide) rfl (by decide) dX4_digits_24 (fun _ => rfl) (fun r103 σ => ?_) (by decide)
      refine tj_if_eq 59 dX4_digits_27 rfl (fun _ => ?_) (fun _ => ?_)
      · refine tj_wk (L' := [some (va_rf l0), none, some (.int l2), some (.int l3)]) ⟨rfl, rfl, rfl, trivial⟩ ?_
        exact tj_X4_digits_J59 d l0 l2 l3 _
      · refine tj_bipush (10 : Int32) dX4_digits_30 (by decide) ?_
        refine tj_iload_n dX4_digits_32 rfl ?_
        refine tj_imul dX4_digits_33 ?_
        refine tj_aload_n dX4_digits_34 rfl ?_
        refine tj_callV (as := []) (rest := [.int ((10 : Int32) * l2)]) (st' := (fun r => [.int r, .int ((10 : Int32) * l2)])) (t := 1) (fun a e => by cases e; exact ct_X4_sign d _) (by decide) rfl q4283 q4285 qs90 q110 q4286 rfl md_X4_sign rfl (by decide) rfl (by simp [rf_cat, cat_i, cat_l, cat_f, cat_d]) dX4_digits_35 (fun _ => rfl) (fun r104 σ => ?_) (by decide)
        refine tj_iadd dX4_digits_38 ?_
        refine tj_bipush (48 : Int32) dX4_digits_39 (by decide) ?_
        refine tj_isub dX4_digits_41 ?_
        refine tj_topi (fun v105 => ?_)
        refine tj_istore_n dX4_digits_42 (by decide) rfl [some (va_rf l0), some (.int l1), some (.int v105), some (.int l3)] rfl ?_
        refine tj_aload_n dX4_digits_43 rfl ?_
        refine tj_dup dX4_digits_44 (rf_cat _) ?_
        refine tj_getI fl_X4_180 dX4_digits_45 (fun v106 => ?_)
        refine tj_iconst (1 : Int32) dX4_digits_48 rfl ?_
        refine tj_iadd dX4_digits_49 ?_
        refine tj_put fl_X4_180 rfl rfl dX4_digits_50 (fun σ => ?_)
        refine tj_iinc (1 : Int32) dX4_digits_53 rfl rfl (by decide) rfl [some (va_rf l0), some (.int l1), some (.int v105), some (.int (l3 + (1 : Int32)))] rfl ?_
        refine tj_goto 4 dX4_digits_56 rfl ?_
        exact h4 l0 l1 v105 _ _
  · refine tj_wk (L' := [some (va_rf l0), none, some (.int l2), some (.int l3)]) ⟨rfl, rfl, rfl, trivial⟩ ?_
    exact tj_X4_digits_J59 d l0 l2 l3 _
theorem tj_X4_digits_L4 {E : tj_E} {X : tj_X} {n0 s0 : Nat} (d : Nat) : ∀ (k : Nat) (l0 : Option Nat) (l1 : Int32) (l2 : Int32) (l3 : Int32) (σ : hp_S), tj_T E X RX4 "digits" cX4_digits 4 (some .int) (d + 1) [] n0 s0 em_i σ 4 [some (va_rf l0), some (.int l1), some (.int l2), some (.int l3)] [] (fn_X4_digits_L4 d k l0 l1 l2 l3) := by
  intro k
  induction k with
  | zero =>
    intro l0 l1 l2 l3 σ
    exact tj_fail
  | succ k ih =>
    intro l0 l1 l2 l3 σ
    exact tj_X4_digits_L4_b d ih l0 l1 l2 l3 σ
theorem tj_X4_digits_B0 {E : tj_E} {X : tj_X} {n0 s0 : Nat} (d : Nat) (v0 : Option Nat) (v1 : Int32) (σ : hp_S) : tj_T E X RX4 "digits" cX4_digits 4 (some .int) (d + 1) [] n0 s0 em_i σ 0 [some (va_rf v0), some (.int v1), none, none] [] (fn_X4_digits_B0 d v0 v1) := by
  unfold fn_X4_digits_B0
  refine tj_iconst (0 : Int32) dX4_digits_0 rfl ?_
  refine tj_istore_n dX4_digits_1 (by decide) rfl [some (va_rf v0), some (.int v1), some (.int (0 : Int32)), none] rfl ?_
  refine tj_iconst (0 : Int32) dX4_digits_2 rfl ?_
  refine tj_istore_n dX4_digits_3 (by decide) rfl [some (va_rf v0), some (.int v1), some (.int (0 : Int32)), some (.int (0 : Int32))] rfl ?_
  exact tj_X4_digits_L4 d mx_K v0 v1 (0 : Int32) (0 : Int32) _
theorem ct_X4_digits : ∀ (d : Nat) (v0 : Option Nat) (v1 : Int32), ct_ yX4_digits (ws_ yX4_digits cX4_digits 4 (some .int)) d em_i [va_rf v0, .int v1] (fn_X4_digits d v0 v1)
  | 0, _, _ => ct_fail
  | d + 1, v0, v1 => ct_of [(false, va_rf v0), (false, .int v1)] [some (va_rf v0), some (.int v1), none, none] (by decide) rfl ⟨rfl, (rf_cat _), ⟨rfl, rfl, trivial⟩⟩ (fun E X n0 s0 σ => tj_X4_digits_B0 d v0 v1 σ)
theorem tj_X4_expects_J22 {E : tj_E} {X : tj_X} {n0 s0 : Nat} (d : Nat) (l0 : Option Nat) (p0 : Option Nat) (p1 : Int32) (σ : hp_S) : tj_T E X RX4 "expects" cX4_expects 2 none (d + 1) [] n0 s0 em_v σ 22 [some (va_rf l0), none] [.int p1, va_rf p0] (fn_X4_expects_J22 d l0 p0 p1) := by
  unfold fn_X4_expects_J22
  refine tj_putN fl_X4_186 nf_Z dX4_expects_22 (fun σ => ?_)
  refine tj_aload_n dX4_expects_25 rfl ?_
  refine tj_dup dX4_expects_26 (rf_cat _) ?_
  refine tj_getI fl_X4_180 dX4_expects_27 (fun v101 => ?_)
  refine tj_aload_n dX4_expects_30 rfl ?_
  refine tj_getI fl_X4_186 dX4_expects_31 (fun v102 => ?_)
  refine tj_if_eq 41 dX4_expects_34 rfl (fun _ => ?_) (fun _ => ?_)
  · refine tj_iconst (1 : Int32) dX4_expects_41 rfl ?_
    refine tj_iadd dX4_expects_42 ?_
    refine tj_put fl_X4_180 rfl rfl dX4_expects_43 (fun σ => ?_)
    exact tj_vret dX4_expects_46
  · refine tj_iconst (0 : Int32) dX4_expects_37 rfl ?_
    refine tj_goto 42 dX4_expects_38 rfl ?_
    refine tj_iadd dX4_expects_42 ?_
    refine tj_put fl_X4_180 rfl rfl dX4_expects_43 (fun σ => ?_)
    exact tj_vret dX4_expects_46
theorem tj_X4_expects_B0 {E : tj_E} {X : tj_X} {n0 s0 : Nat} (d : Nat) (v0 : Option Nat) (v1 : Int32) (σ : hp_S) : tj_T E X RX4 "expects" cX4_expects 2 none (d + 1) [] n0 s0 em_v σ 0 [some (va_rf v0), some (.int v1)] [] (fn_X4_expects_B0 d v0 v1) := by
  unfold fn_X4_expects_B0
  refine tj_aload_n dX4_expects_0 rfl ?_
  refine tj_getI fl_X4_186 dX4_expects_1 (fun v101 => ?_)
  refine tj_if_eq 8 dX4_expects_4 rfl (fun _ => ?_) (fun _ => ?_)
  · refine tj_aload_n dX4_expects_8 rfl ?_
    refine tj_aload_n dX4_expects_9 rfl ?_
    refine tj_callV (as := []) (rest := [va_rf v0]) (st' := (fun r => [.int r, va_rf v0])) (t := 1) (fun a e => by cases e; exact ct_X4_sign d _) (by decide) rfl q4283 q4285 qs90 q110 q4286 rfl md_X4_sign rfl (by decide) rfl (by simp [rf_cat, cat_i, cat_l, cat_f, cat_d]) dX4_expects_10 (fun _ => rfl) (fun r102 σ => ?_) (by decide)
    refine tj_iload_n dX4_expects_13 rfl ?_
    refine tj_icmp_eq 21 dX4_expects_14 rfl (fun _ => ?_) (fun _ => ?_)
    · refine tj_iconst (0 : Int32) dX4_expects_21 rfl ?_
      refine tj_wk (L' := [some (va_rf v0), none]) ⟨rfl, trivial⟩ ?_
      exact tj_X4_expects_J22 d v0 v0 (0 : Int32) _
    · refine tj_iconst (1 : Int32) dX4_expects_17 rfl ?_
      refine tj_goto 22 dX4_expects_18 rfl ?_
      refine tj_wk (L' := [some (va_rf v0), none]) ⟨rfl, trivial⟩ ?_
      exact tj_X4_expects_J22 d v0 v0 (1 : Int32) _
  · exact tj_vret dX4_expects_7
theorem ct_X4_expects : ∀ (d : Nat) (v0 : Option Nat) (v1 : Int32), ct_ yX4_expects (ws_ yX4_expects cX4_expects 2 none) d em_v [va_rf v0, .int v1] (fn_X4_expects d v0 v1)
  | 0, _, _ => ct_fail
  | d + 1, v0, v1 => ct_of [(false, va_rf v0), (false, .int v1)] [some (va_rf v0), some (.int v1)] (by decide) rfl ⟨rfl, (rf_cat _), ⟨rfl, rfl, trivial⟩⟩ (fun E X n0 s0 σ => tj_X4_expects_B0 d v0 v1 σ)
theorem tj_X4_behind_B0 {E : tj_E} {X : tj_X} {n0 s0 : Nat} (d : Nat) (v0 : Option Nat) (v1 : Int32) (v2 : Int32) (σ : hp_S) : tj_T E X RX4 "behind" cX4_behind 3 (some .int) (d + 1) [] n0 s0 em_i σ 0 [some (va_rf v0), some (.int v1), some (.int v2)] [] (fn_X4_behind_B0 d v0 v1 v2) := by
  unfold fn_X4_behind_B0
  refine tj_aload_n dX4_behind_0 rfl ?_
  refine tj_iload_n dX4_behind_1 rfl ?_
  refine tj_callV (as := [.int v1]) (rest := []) (st' := (fun _ => [])) (t := 1) (fun a e => by cases e; exact ct_X4_expects d _ _) (by decide) rfl q4295 q4297 qs93 q110 q4298 rfl md_X4_expects rfl (by decide) rfl (by decide) dX4_behind_2 (fun _ => rfl) (fun _ σ => ?_) (by decide)
  refine tj_aload_n dX4_behind_5 rfl ?_
  refine tj_getI fl_X4_186 dX4_behind_6 (fun v101 => ?_)
  refine tj_if_eq 16 dX4_behind_9 rfl (fun _ => ?_) (fun _ => ?_)
  · refine tj_aload_n dX4_behind_16 rfl ?_
    refine tj_iload_n dX4_behind_17 rfl ?_
    refine tj_callV (as := [.int v2]) (rest := []) (st' := (fun r => [.int r])) (t := 1) (fun a e => by cases e; exact ct_X4_digits d _ _) (by decide) rfl q4287 q4289 qs91 q110 q4290 rfl md_X4_digits rfl (by decide) rfl (by decide) dX4_behind_18 (fun _ => rfl) (fun r102 σ => ?_) (by decide)
    exact tj_iret dX4_behind_21
  · refine tj_iconst (0 : Int32) dX4_behind_12 rfl ?_
    refine tj_goto 21 dX4_behind_13 rfl ?_
    exact tj_iret dX4_behind_21
theorem ct_X4_behind : ∀ (d : Nat) (v0 : Option Nat) (v1 : Int32) (v2 : Int32), ct_ yX4_behind (ws_ yX4_behind cX4_behind 3 (some .int)) d em_i [va_rf v0, .int v1, .int v2] (fn_X4_behind d v0 v1 v2)
  | 0, _, _, _ => ct_fail
  | d + 1, v0, v1, v2 => ct_of [(false, va_rf v0), (false, .int v1), (false, .int v2)] [some (va_rf v0), some (.int v1), some (.int v2)] (by decide) rfl ⟨rfl, (rf_cat _), ⟨rfl, rfl, ⟨rfl, rfl, trivial⟩⟩⟩ (fun E X n0 s0 σ => tj_X4_behind_B0 d v0 v1 v2 σ)
theorem tj_X4_serves_J168 {E : tj_E} {X : tj_X} {n0 s0 : Nat} (d : Nat) (l0 : Option Nat) (l1 : Int32) (l2 : Int32) (p0 : Option Nat) (p1 : Int32) (p2 : Int32) (p3 : Int32) (σ : hp_S) : tj_T E X RX4 "serves" cX4_serves 3 (some .int) (d + 1) [] n0 s0 em_i σ 168 [some (va_rf l0), some (.int l1), some (.int l2)] [.int p3, .int p2, .int p1, va_rf p0] (fn_X4_serves_J168 d l0 l1 l2 p0 p1 p2 p3) := by
  unfold fn_X4_serves_J168
  refine tj_iadd dX4_serves_168 ?_
  refine tj_iast dX4_serves_169 (fun σ => ?_)
  refine tj_aload_n dX4_serves_170 rfl ?_
  refine tj_iload_n dX4_serves_171 rfl ?_
  refine tj_callV (as := [.int l1]) (rest := []) (st' := (fun _ => [])) (t := 1) (fun a e => by cases e; exact ct_X4_goes d _ _) (by decide) rfl q4032 q4034 qs72 q110 q4035 rfl md_X4_goes rfl (by decide) rfl (by decide) dX4_serves_172 (fun _ => rfl) (fun _ σ => ?_) (by decide)
  refine tj_iload_n dX4_serves_175 rfl ?_
  exact tj_iret dX4_serves_176
theorem tj_X4_serves_L37_b {E : tj_E} {X : tj_X} {n0 s0 : Nat} (d : Nat) {b37 : Option Nat → mx_M Int32} (h37 : ∀ (l0 : Option Nat) (σ : hp_S), tj_T E X RX4 "serves" cX4_serves 3 (some .int) (d + 1) [] n0 s0 em_i σ 37 [some (va_rf l0), none, none] [] (b37 l0)) (l0 : Option Nat) (σ : hp_S) : tj_T E X RX4 "serves" cX4_serves 3 (some .int) (d + 1) [] n0 s0 em_i σ 37 [some (va_rf l0), none, none] [] (fn_X4_serves_L37_b d b37 l0) := by
  unfold fn_X4_serves_L37_b
  refine tj_aload_n dX4_serves_37 rfl ?_
  refine tj_iconst (0 : Int32) dX4_serves_38 rfl ?_
  refine tj_callV (as := [.int (0 : Int32)]) (rest := []) (st' := (fun r => [.int r])) (t := 1) (fun a e => by cases e; exact ct_X4_owner d _ _) (by decide) rfl q3989 q3991 qs65 q110 q3992 rfl md_X4_owner rfl (by decide) rfl (by decide) dX4_serves_39 (fun _ => rfl) (fun r101 σ => ?_) (by decide)
  refine tj_if_ge 64 dX4_serves_42 rfl (fun _ => ?_) (fun _ => ?_)
  · refine tj_aload_n dX4_serves_64 rfl ?_
    refine tj_iconst (0 : Int32) dX4_serves_65 rfl ?_
    refine tj_callV (as := [.int (0 : Int32)]) (rest := []) (st' := (fun r => [.int r])) (t := 1) (fun a e => by cases e; exact ct_X4_owner d _ _) (by decide) rfl q3989 q3991 qs65 q110 q3992 rfl md_X4_owner rfl (by decide) rfl (by decide) dX4_serves_66 (fun _ => rfl) (fun r102 σ => ?_) (by decide)
    refine tj_istore_n dX4_serves_69 (by decide) (rf_cat _) [some (va_rf l0), some (.int r102), none] rfl ?_
    refine tj_aload_n dX4_serves_70 rfl ?_
    refine tj_getR fl_X4_16r dX4_serves_71 (fun v103 => ?_)
    refine tj_iload_n dX4_serves_74 rfl ?_
    refine tj_iconst (0 : Int32) dX4_serves_75 rfl ?_
    refine tj_callS (as := [.int r102, .int (0 : Int32)]) (rest := [va_rf v103]) (st' := (fun r => [.int r, va_rf v103])) (ct_X4_of d r102 (0 : Int32)) q3978 q3979 q110 q3980 md_X4_of rfl (by decide) rfl (by simp [rf_cat, cat_i, cat_l, cat_f, cat_d]) dX4_serves_76 (fun _ => rfl) (fun r104 σ => ?_) (by decide)
    refine tj_iald dX4_serves_79 (fun v105 => ?_)
    refine tj_istore_n dX4_serves_80 (by decide) rfl [some (va_rf l0), some (.int r102), some (.int v105)] rfl ?_
    refine tj_aload_n dX4_serves_81 rfl ?_
    refine tj_iconst (0 : Int32) dX4_serves_82 rfl ?_
    refine tj_callV (as := [.int (0 : Int32)]) (rest := []) (st' := (fun _ => [])) (t := 1) (fun a e => by cases e; exact ct_X4_takesOut d _ _) (by decide) rfl q3996 q3998 qs66 q110 q3999 rfl md_X4_takesOut rfl (by decide) rfl (by decide) dX4_serves_83 (fun _ => rfl) (fun _ σ => ?_) (by decide)
    refine tj_aload_n dX4_serves_86 rfl ?_
    refine tj_getR fl_X4_16r dX4_serves_87 (fun v106 => ?_)
    refine tj_iconst (0 : Int32) dX4_serves_90 rfl ?_
    refine tj_dup2_11 dX4_serves_91 rfl (rf_cat _) ?_
    refine tj_iald dX4_serves_92 (fun v107 => ?_)
    refine tj_aload_n dX4_serves_93 rfl ?_
    refine tj_getR fl_X4_16r dX4_serves_94 (fun v108 => ?_)
    refine tj_iload_n dX4_serves_97 rfl ?_
    refine tj_iconst (2 : Int32) dX4_serves_98 rfl ?_
    refine tj_callS (as := [.int r102, .int (2 : Int32)]) (rest := [va_rf v108, .int v107, .int (0 : Int32), va_rf v106]) (st' := (fun r => [.int r, va_rf v108, .int v107, .int (0 : Int32), va_rf v106])) (ct_X4_of d r102 (2 : Int32)) q3978 q3979 q110 q3980 md_X4_of rfl (by decide) rfl (by simp [rf_cat, cat_i, cat_l, cat_f, cat_d]) dX4_serves_99 (fun _ => rfl) (fun r109 σ => ?_) (by decide)
    refine tj_iald dX4_serves_102 (fun v110 => ?_)
    refine tj_iadd dX4_serves_103 ?_
    refine tj_iast dX4_serves_104 (fun σ => ?_)
    refine tj_aload_n dX4_serves_105 rfl ?_
    refine tj_getR fl_X4_16r dX4_serves_106 (fun v111 => ?_)
    refine tj_bipush (8 : Int32) dX4_serves_109 (by decide) ?_
    refine tj_dup2_11 dX4_serves_111 rfl (rf_cat _) ?_
    refine tj_iald dX4_serves_112 (fun v112 => ?_)
    refine tj_aload_n dX4_serves_113 rfl ?_
    refine tj_getR fl_X4_16r dX4_serves_114 (fun v113 => ?_)
    refine tj_iload_n dX4_serves_117 rfl ?_
    refine tj_iconst (2 : Int32) dX4_serves_118 rfl ?_
    refine tj_callS (as := [.int r102, .int (2 : Int32)]) (rest := [va_rf v113, .int v112, .int (8 : Int32), va_rf v111]) (st' := (fun r => [.int r, va_rf v113, .int v112, .int (8 : Int32), va_rf v111])) (ct_X4_of d r102 (2 : Int32)) q3978 q3979 q110 q3980 md_X4_of rfl (by decide) rfl (by simp [rf_cat, cat_i, cat_l, cat_f, cat_d]) dX4_serves_119 (fun _ => rfl) (fun r114 σ => ?_) (by decide)
    refine tj_iald dX4_serves_122 (fun v115 => ?_)
    refine tj_iadd dX4_serves_123 ?_
    refine tj_iast dX4_serves_124 (fun σ => ?_)
    refine tj_aload_n dX4_serves_125 rfl ?_
    refine tj_getR fl_X4_16r dX4_serves_126 (fun v116 => ?_)
    refine tj_bipush (6 : Int32) dX4_serves_129 (by decide) ?_
    refine tj_dup2_11 dX4_serves_131 rfl (rf_cat _) ?_
    refine tj_iald dX4_serves_132 (fun v117 => ?_)
    refine tj_iconst (1 : Int32) dX4_serves_133 rfl ?_
    refine tj_iadd dX4_serves_134 ?_
    refine tj_iast dX4_serves_135 (fun σ => ?_)
    refine tj_aload_n dX4_serves_136 rfl ?_
    refine tj_getR fl_X4_16r dX4_serves_137 (fun v118 => ?_)
    refine tj_bipush (7 : Int32) dX4_serves_140 (by decide) ?_
    refine tj_dup2_11 dX4_serves_142 rfl (rf_cat _) ?_
    refine tj_iald dX4_serves_143 (fun v119 => ?_)
    refine tj_aload_n dX4_serves_144 rfl ?_
    refine tj_getR fl_X4_16r dX4_serves_145 (fun v120 => ?_)
    refine tj_iconst (0 : Int32) dX4_serves_148 rfl ?_
    refine tj_iald dX4_serves_149 (fun v121 => ?_)
    refine tj_aload_n dX4_serves_150 rfl ?_
    refine tj_getR fl_X4_16r dX4_serves_151 (fun v122 => ?_)
    refine tj_iload_n dX4_serves_154 rfl ?_
    refine tj_iconst (3 : Int32) dX4_serves_155 rfl ?_
    refine tj_callS (as := [.int r102, .int (3 : Int32)]) (rest := [va_rf v122, .int v121, .int v119, .int (7 : Int32), va_rf v118]) (st' := (fun r => [.int r, va_rf v122, .int v121, .int v119, .int (7 : Int32), va_rf v118])) (ct_X4_of d r102 (3 : Int32)) q3978 q3979 q110 q3980 md_X4_of rfl (by decide) rfl (by simp [rf_cat, cat_i, cat_l, cat_f, cat_d]) dX4_serves_156 (fun _ => rfl) (fun r123 σ => ?_) (by decide)
    refine tj_iald dX4_serves_159 (fun v124 => ?_)
    refine tj_icmp_le 167 dX4_serves_160 rfl (fun _ => ?_) (fun _ => ?_)
    · refine tj_iconst (0 : Int32) dX4_serves_167 rfl ?_
      exact tj_X4_serves_J168 d l0 r102 v105 v118 (7 : Int32) v119 (0 : Int32) _
    · refine tj_iconst (1 : Int32) dX4_serves_163 rfl ?_
      refine tj_goto 168 dX4_serves_164 rfl ?_
      exact tj_X4_serves_J168 d l0 r102 v105 v118 (7 : Int32) v119 (1 : Int32) _
  · refine tj_aload_n dX4_serves_45 rfl ?_
    refine tj_iconst (0 : Int32) dX4_serves_46 rfl ?_
    refine tj_callV (as := [.int (0 : Int32)]) (rest := []) (st' := (fun _ => [])) (t := 1) (fun a e => by cases e; exact ct_X4_takesOut d _ _) (by decide) rfl q3996 q3998 qs66 q110 q3999 rfl md_X4_takesOut rfl (by decide) rfl (by decide) dX4_serves_47 (fun _ => rfl) (fun _ σ => ?_) (by decide)
    refine tj_aload_n dX4_serves_50 rfl ?_
    refine tj_getR fl_X4_16r dX4_serves_51 (fun v125 => ?_)
    refine tj_bipush (9 : Int32) dX4_serves_54 (by decide) ?_
    refine tj_dup2_11 dX4_serves_56 rfl (rf_cat _) ?_
    refine tj_iald dX4_serves_57 (fun v126 => ?_)
    refine tj_iconst (1 : Int32) dX4_serves_58 rfl ?_
    refine tj_iadd dX4_serves_59 ?_
    refine tj_iast dX4_serves_60 (fun σ => ?_)
    refine tj_goto 37 dX4_serves_61 rfl ?_
    exact h37 l0 _
theorem tj_X4_serves_L37 {E : tj_E} {X : tj_X} {n0 s0 : Nat} (d : Nat) : ∀ (k : Nat) (l0 : Option Nat) (σ : hp_S), tj_T E X RX4 "serves" cX4_serves 3 (some .int) (d + 1) [] n0 s0 em_i σ 37 [some (va_rf l0), none, none] [] (fn_X4_serves_L37 d k l0) := by
  intro k
  induction k with
  | zero =>
    intro l0 σ
    exact tj_fail
  | succ k ih =>
    intro l0 σ
    exact tj_X4_serves_L37_b d ih l0 σ
theorem tj_X4_serves_B0 {E : tj_E} {X : tj_X} {n0 s0 : Nat} (d : Nat) (v0 : Option Nat) (σ : hp_S) : tj_T E X RX4 "serves" cX4_serves 3 (some .int) (d + 1) [] n0 s0 em_i σ 0 [some (va_rf v0), none, none] [] (fn_X4_serves_B0 d v0) := by
  unfold fn_X4_serves_B0
  refine tj_aload_n dX4_serves_0 rfl ?_
  refine tj_getR fl_X4_16r dX4_serves_1 (fun v101 => ?_)
  refine tj_iconst (3 : Int32) dX4_serves_4 rfl ?_
  refine tj_iald dX4_serves_5 (fun v102 => ?_)
  refine tj_if_ne 15 dX4_serves_6 rfl (fun _ => ?_) (fun _ => ?_)
  · refine tj_aload_n dX4_serves_9 rfl ?_
    refine tj_iconst (1 : Int32) dX4_serves_10 rfl ?_
    refine tj_callV (as := [.int (1 : Int32)]) (rest := []) (st' := (fun r => [.int r])) (t := 1) (fun a e => by cases e; exact ct_X4_fail d _ _) (by decide) rfl q3974 q3976 qs62 q110 q3977 rfl md_X4_fail rfl (by decide) rfl (by decide) dX4_serves_11 (fun _ => rfl) (fun r103 σ => ?_) (by decide)
    exact tj_iret dX4_serves_14
  · refine tj_aload_n dX4_serves_15 rfl ?_
    refine tj_aload_n dX4_serves_16 rfl ?_
    refine tj_getR fl_X4_16r dX4_serves_17 (fun v104 => ?_)
    refine tj_iconst (0 : Int32) dX4_serves_20 rfl ?_
    refine tj_iald dX4_serves_21 (fun v105 => ?_)
    refine tj_bipush (24 : Int32) dX4_serves_22 (by decide) ?_
    refine tj_irem dX4_serves_24 (fun v106 => ?_)
    refine tj_callV (as := [.int v106]) (rest := []) (st' := (fun r => [.int r])) (t := 1) (fun a e => by cases e; exact ct_X4_onDutyAt d _ _) (by decide) rfl q4044 q4046 qs74 q110 q4047 rfl md_X4_onDutyAt rfl (by decide) rfl (by decide) dX4_serves_25 (fun _ => rfl) (fun r107 σ => ?_) (by decide)
    refine tj_if_ne 37 dX4_serves_28 rfl (fun _ => ?_) (fun _ => ?_)
    · refine tj_aload_n dX4_serves_31 rfl ?_
      refine tj_iconst (2 : Int32) dX4_serves_32 rfl ?_
      refine tj_callV (as := [.int (2 : Int32)]) (rest := []) (st' := (fun r => [.int r])) (t := 1) (fun a e => by cases e; exact ct_X4_fail d _ _) (by decide) rfl q3974 q3976 qs62 q110 q3977 rfl md_X4_fail rfl (by decide) rfl (by decide) dX4_serves_33 (fun _ => rfl) (fun r108 σ => ?_) (by decide)
      exact tj_iret dX4_serves_36
    · exact tj_X4_serves_L37 d mx_K v0 _
theorem ct_X4_serves : ∀ (d : Nat) (v0 : Option Nat), ct_ yX4_serves (ws_ yX4_serves cX4_serves 3 (some .int)) d em_i [va_rf v0] (fn_X4_serves d v0)
  | 0, _ => ct_fail
  | d + 1, v0 => ct_of [(false, va_rf v0)] [some (va_rf v0), none, none] (by decide) rfl ⟨rfl, (rf_cat _), trivial⟩ (fun E X n0 s0 σ => tj_X4_serves_B0 d v0 σ)
theorem tj_X4_does_B0 {E : tj_E} {X : tj_X} {n0 s0 : Nat} (d : Nat) (v0 : Option Nat) (v1 : Int32) (v2 : Int32) (v3 : Int32) (v4 : Int32) (σ : hp_S) : tj_T E X RX4 "does" cX4_does 5 (some .int) (d + 1) [] n0 s0 em_i σ 0 [some (va_rf v0), some (.int v1), some (.int v2), some (.int v3), some (.int v4)] [] (fn_X4_does_B0 d v0 v1 v2 v3 v4) := by
  unfold fn_X4_does_B0
  refine tj_iload_n dX4_does_0 rfl ?_
  refine tj_table [((0 : Int32), 48), ((1 : Int32), 57), ((2 : Int32), 65), ((3 : Int32), 73), ((4 : Int32), 79), ((5 : Int32), 84), ((6 : Int32), 89), ((7 : Int32), 96)] 102 dX4_does_1 rfl rfl rfl rfl rfl ?_ ?_
  · intro i t key A h1 h2
    match i, h1, h2 with
    | 0, h1, h2 =>
      cases h1; cases h2
      refine tj_aload_n dX4_does_48 rfl ?_
      refine tj_iload_n dX4_does_49 rfl ?_
      refine tj_iload_n dX4_does_50 rfl ?_
      refine tj_iload dX4_does_51 rfl ?_
      refine tj_callV (as := [.int v2, .int v3, .int v4]) (rest := []) (st' := (fun r => [.int r])) (t := 1) (fun a e => by cases e; exact ct_X4_adds d _ _ _ _) (by decide) rfl q3967 q3969 qs61 q110 q3970 rfl md_X4_adds rfl (by decide) rfl (by decide) dX4_does_53 (fun _ => rfl) (fun r101 σ => ?_) (by decide)
      exact tj_iret dX4_does_56
    | 1, h1, h2 =>
      cases h1; cases h2
      refine tj_aload_n dX4_does_57 rfl ?_
      refine tj_iload_n dX4_does_58 rfl ?_
      refine tj_iload_n dX4_does_59 rfl ?_
      refine tj_iconst (1 : Int32) dX4_does_60 rfl ?_
      refine tj_callV (as := [.int v2, .int v3, .int (1 : Int32)]) (rest := []) (st' := (fun r => [.int r])) (t := 1) (fun a e => by cases e; exact ct_X4_roars d _ _ _ _) (by decide) rfl q4008 q4010 qs68 q110 q4011 rfl md_X4_roars rfl (by decide) rfl (by decide) dX4_does_61 (fun _ => rfl) (fun r102 σ => ?_) (by decide)
      exact tj_iret dX4_does_64
    | 2, h1, h2 =>
      cases h1; cases h2
      refine tj_aload_n dX4_does_65 rfl ?_
      refine tj_iload_n dX4_does_66 rfl ?_
      refine tj_iload_n dX4_does_67 rfl ?_
      refine tj_iconst (-1 : Int32) dX4_does_68 rfl ?_
      refine tj_callV (as := [.int v2, .int v3, .int (-1 : Int32)]) (rest := []) (st' := (fun r => [.int r])) (t := 1) (fun a e => by cases e; exact ct_X4_roars d _ _ _ _) (by decide) rfl q4008 q4010 qs68 q110 q4011 rfl md_X4_roars rfl (by decide) rfl (by decide) dX4_does_69 (fun _ => rfl) (fun r103 σ => ?_) (by decide)
      exact tj_iret dX4_does_72
    | 3, h1, h2 =>
      cases h1; cases h2
      refine tj_aload_n dX4_does_73 rfl ?_
      refine tj_iload_n dX4_does_74 rfl ?_
      refine tj_callV (as := [.int v2]) (rest := []) (st' := (fun r => [.int r])) (t := 1) (fun a e => by cases e; exact ct_X4_leaves d _ _) (by decide) rfl q4028 q4030 qs71 q110 q4031 rfl md_X4_leaves rfl (by decide) rfl (by decide) dX4_does_75 (fun _ => rfl) (fun r104 σ => ?_) (by decide)
      exact tj_iret dX4_does_78
    | 4, h1, h2 =>
      cases h1; cases h2
      refine tj_aload_n dX4_does_79 rfl ?_
      refine tj_callV (as := []) (rest := []) (st' := (fun r => [.int r])) (t := 1) (fun a e => by cases e; exact ct_X4_serves d _) (by decide) rfl q4040 q4042 qs73 q110 q4043 rfl md_X4_serves rfl (by decide) rfl (by decide) dX4_does_80 (fun _ => rfl) (fun r105 σ => ?_) (by decide)
      exact tj_iret dX4_does_83
    | 5, h1, h2 =>
      cases h1; cases h2
      refine tj_aload_n dX4_does_84 rfl ?_
      refine tj_callV (as := []) (rest := []) (st' := (fun r => [.int r])) (t := 1) (fun a e => by cases e; exact ct_X4_clears d _) (by decide) rfl q3985 q3987 qs64 q110 q3988 rfl md_X4_clears rfl (by decide) rfl (by decide) dX4_does_85 (fun _ => rfl) (fun r106 σ => ?_) (by decide)
      exact tj_iret dX4_does_88
    | 6, h1, h2 =>
      cases h1; cases h2
      refine tj_aload_n dX4_does_89 rfl ?_
      refine tj_iload_n dX4_does_90 rfl ?_
      refine tj_iload_n dX4_does_91 rfl ?_
      refine tj_callV (as := [.int v2, .int v3]) (rest := []) (st' := (fun r => [.int r])) (t := 1) (fun a e => by cases e; exact ct_X4_hires d _ _ _) (by decide) rfl q4056 q4058 qs75 q110 q4059 rfl md_X4_hires rfl (by decide) rfl (by decide) dX4_does_92 (fun _ => rfl) (fun r107 σ => ?_) (by decide)
      exact tj_iret dX4_does_95
    | 7, h1, h2 =>
      cases h1; cases h2
      refine tj_aload_n dX4_does_96 rfl ?_
      refine tj_iload_n dX4_does_97 rfl ?_
      refine tj_callV (as := [.int v2]) (rest := []) (st' := (fun r => [.int r])) (t := 1) (fun a e => by cases e; exact ct_X4_dismisses d _ _) (by decide) rfl q4064 q4066 qs76 q110 q4067 rfl md_X4_dismisses rfl (by decide) rfl (by decide) dX4_does_98 (fun _ => rfl) (fun r108 σ => ?_) (by decide)
      exact tj_iret dX4_does_101
    | _ + 8, h1, _ => simp at h1
  · refine tj_aload_n dX4_does_102 rfl ?_
    refine tj_iload_n dX4_does_103 rfl ?_
    refine tj_callV (as := [.int v2]) (rest := []) (st' := (fun r => [.int r])) (t := 1) (fun a e => by cases e; exact ct_X4_passes d _ _) (by decide) rfl q4072 q4074 qs77 q110 q4075 rfl md_X4_passes rfl (by decide) rfl (by decide) dX4_does_104 (fun _ => rfl) (fun r109 σ => ?_) (by decide)
    exact tj_iret dX4_does_107
theorem ct_X4_does : ∀ (d : Nat) (v0 : Option Nat) (v1 : Int32) (v2 : Int32) (v3 : Int32) (v4 : Int32), ct_ yX4_does (ws_ yX4_does cX4_does 5 (some .int)) d em_i [va_rf v0, .int v1, .int v2, .int v3, .int v4] (fn_X4_does d v0 v1 v2 v3 v4)
  | 0, _, _, _, _, _ => ct_fail
  | d + 1, v0, v1, v2, v3, v4 => ct_of [(false, va_rf v0), (false, .int v1), (false, .int v2), (false, .int v3), (false, .int v4)] [some (va_rf v0), some (.int v1), some (.int v2), some (.int v3), some (.int v4)] (by decide) rfl ⟨rfl, (rf_cat _), ⟨rfl, rfl, ⟨rfl, rfl, ⟨rfl, rfl, ⟨rfl, rfl, trivial⟩⟩⟩⟩⟩ (fun E X n0 s0 σ => tj_X4_does_B0 d v0 v1 v2 v3 v4 σ)
theorem tj_X4_word_J122 {E : tj_E} {X : tj_X} {n0 s0 : Nat} (d : Nat) {b25 : Option Nat → Int32 → Int32 → mx_M Int32} {b41 : Option Nat → Int32 → Int32 → Int32 → Int32 → mx_M Int32} (h25 : ∀ (l0 : Option Nat) (l1 : Int32) (l2 : Int32) (σ : hp_S), tj_T E X RX4 "word" cX4_word 5 (some .int) (d + 1) [] n0 s0 em_i σ 25 [some (va_rf l0), some (.int l1), some (.int l2), none, none] [] (b25 l0 l1 l2)) (h41 : ∀ (l0 : Option Nat) (l1 : Int32) (l2 : Int32) (l3 : Int32) (l4 : Int32) (σ : hp_S), tj_T E X RX4 "word" cX4_word 5 (some .int) (d + 1) [] n0 s0 em_i σ 41 [some (va_rf l0), some (.int l1), some (.int l2), some (.int l3), some (.int l4)] [] (b41 l0 l1 l2 l3 l4)) (l0 : Option Nat) (l1 : Int32) (l2 : Int32) (l4 : Int32) (p0 : Int32) (p1 : Int32) (σ : hp_S) : tj_T E X RX4 "word" cX4_word 5 (some .int) (d + 1) [] n0 s0 em_i σ 122 [some (va_rf l0), some (.int l1), some (.int l2), none, some (.int l4)] [.int p1, .int p0] (fn_X4_word_J122 d b25 b41 l0 l1 l2 l4 p0 p1) := by
  unfold fn_X4_word_J122
  refine tj_ior dX4_word_122 ?_
  refine tj_topi (fun v101 => ?_)
  refine tj_istore_n dX4_word_123 (by decide) rfl [some (va_rf l0), some (.int l1), some (.int l2), some (.int v101), some (.int l4)] rfl ?_
  refine tj_iinc (1 : Int32) dX4_word_124 rfl rfl (by decide) rfl [some (va_rf l0), some (.int l1), some (.int l2), some (.int v101), some (.int (l4 + (1 : Int32)))] rfl ?_
  refine tj_goto 41 dX4_word_127 rfl ?_
  exact h41 l0 l1 l2 v101 _ _
theorem tj_X4_word_J103 {E : tj_E} {X : tj_X} {n0 s0 : Nat} (d : Nat) {b25 : Option Nat → Int32 → Int32 → mx_M Int32} {b41 : Option Nat → Int32 → Int32 → Int32 → Int32 → mx_M Int32} (h25 : ∀ (l0 : Option Nat) (l1 : Int32) (l2 : Int32) (σ : hp_S), tj_T E X RX4 "word" cX4_word 5 (some .int) (d + 1) [] n0 s0 em_i σ 25 [some (va_rf l0), some (.int l1), some (.int l2), none, none] [] (b25 l0 l1 l2)) (h41 : ∀ (l0 : Option Nat) (l1 : Int32) (l2 : Int32) (l3 : Int32) (l4 : Int32) (σ : hp_S), tj_T E X RX4 "word" cX4_word 5 (some .int) (d + 1) [] n0 s0 em_i σ 41 [some (va_rf l0), some (.int l1), some (.int l2), some (.int l3), some (.int l4)] [] (b41 l0 l1 l2 l3 l4)) (l0 : Option Nat) (l1 : Int32) (l2 : Int32) (l3 : Int32) (l4 : Int32) (p0 : Option Nat) (p1 : Int32) (p2 : Int32) (p3 : Int32) (σ : hp_S) : tj_T E X RX4 "word" cX4_word 5 (some .int) (d + 1) [] n0 s0 em_i σ 103 [some (va_rf l0), some (.int l1), some (.int l2), some (.int l3), some (.int l4)] [.int p3, .int p2, .int p1, va_rf p0] (fn_X4_word_J103 d b25 b41 l0 l1 l2 l3 l4 p0 p1 p2 p3) := by
  unfold fn_X4_word_J103
  refine tj_iand dX4_word_103 ?_
  refine tj_iast dX4_word_104 (fun σ => ?_)
  refine tj_iload_n dX4_word_105 rfl ?_
  refine tj_aload_n dX4_word_106 rfl ?_
  refine tj_getR fl_X4_38r dX4_word_107 (fun v101 => ?_)
  refine tj_iload dX4_word_110 rfl ?_
  refine tj_iald dX4_word_112 (fun v102 => ?_)
  refine tj_iconst (1 : Int32) dX4_word_113 rfl ?_
  refine tj_icmp_ne 121 dX4_word_114 rfl (fun _ => ?_) (fun _ => ?_)
  · refine tj_iconst (1 : Int32) dX4_word_117 rfl ?_
    refine tj_goto 122 dX4_word_118 rfl ?_
    refine tj_wk (L' := [some (va_rf l0), some (.int l1), some (.int l2), none, some (.int l4)]) ⟨rfl, rfl, rfl, rfl, trivial⟩ ?_
    exact tj_X4_word_J122 d h25 h41 l0 l1 l2 l4 l3 (1 : Int32) _
  · refine tj_iconst (0 : Int32) dX4_word_121 rfl ?_
    refine tj_wk (L' := [some (va_rf l0), some (.int l1), some (.int l2), none, some (.int l4)]) ⟨rfl, rfl, rfl, rfl, trivial⟩ ?_
    exact tj_X4_word_J122 d h25 h41 l0 l1 l2 l4 l3 (0 : Int32) _
theorem tj_X4_word_J102 {E : tj_E} {X : tj_X} {n0 s0 : Nat} (d : Nat) {b25 : Option Nat → Int32 → Int32 → mx_M Int32} {b41 : Option Nat → Int32 → Int32 → Int32 → Int32 → mx_M Int32} (h25 : ∀ (l0 : Option Nat) (l1 : Int32) (l2 : Int32) (σ : hp_S), tj_T E X RX4 "word" cX4_word 5 (some .int) (d + 1) [] n0 s0 em_i σ 25 [some (va_rf l0), some (.int l1), some (.int l2), none, none] [] (b25 l0 l1 l2)) (h41 : ∀ (l0 : Option Nat) (l1 : Int32) (l2 : Int32) (l3 : Int32) (l4 : Int32) (σ : hp_S), tj_T E X RX4 "word" cX4_word 5 (some .int) (d + 1) [] n0 s0 em_i σ 41 [some (va_rf l0), some (.int l1), some (.int l2), some (.int l3), some (.int l4)] [] (b41 l0 l1 l2 l3 l4)) (l0 : Option Nat) (l1 : Int32) (l2 : Int32) (l3 : Int32) (l4 : Int32) (p0 : Option Nat) (p1 : Int32) (p2 : Int32) (σ : hp_S) : tj_T E X RX4 "word" cX4_word 5 (some .int) (d + 1) [] n0 s0 em_i σ 102 [some (va_rf l0), some (.int l1), some (.int l2), some (.int l3), some (.int l4)] [.int p2, .int p1, va_rf p0] (fn_X4_word_J102 d b25 b41 l0 l1 l2 l3 l4 p0 p1 p2) := by
  unfold fn_X4_word_J102
  refine tj_iconst (0 : Int32) dX4_word_102 rfl ?_
  exact tj_X4_word_J103 d h25 h41 l0 l1 l2 l3 l4 p0 p1 p2 (0 : Int32) _
theorem tj_X4_word_J212 {E : tj_E} {X : tj_X} {n0 s0 : Nat} (d : Nat) {b25 : Option Nat → Int32 → Int32 → mx_M Int32} {b167 : Option Nat → Int32 → Int32 → Int32 → mx_M Int32} (h25 : ∀ (l0 : Option Nat) (l1 : Int32) (l2 : Int32) (σ : hp_S), tj_T E X RX4 "word" cX4_word 5 (some .int) (d + 1) [] n0 s0 em_i σ 25 [some (va_rf l0), some (.int l1), some (.int l2), none, none] [] (b25 l0 l1 l2)) (h167 : ∀ (l0 : Option Nat) (l1 : Int32) (l2 : Int32) (l4 : Int32) (σ : hp_S), tj_T E X RX4 "word" cX4_word 5 (some .int) (d + 1) [] n0 s0 em_i σ 167 [some (va_rf l0), some (.int l1), some (.int l2), none, some (.int l4)] [] (b167 l0 l1 l2 l4)) (l0 : Option Nat) (l1 : Int32) (l4 : Int32) (p0 : Int32) (σ : hp_S) : tj_T E X RX4 "word" cX4_word 5 (some .int) (d + 1) [] n0 s0 em_i σ 212 [some (va_rf l0), some (.int l1), none, none, some (.int l4)] [.int p0] (fn_X4_word_J212 d b25 b167 l0 l1 l4 p0) := by
  unfold fn_X4_word_J212
  refine tj_istore_n dX4_word_212 (by decide) rfl [some (va_rf l0), some (.int l1), some (.int p0), none, some (.int l4)] rfl ?_
  refine tj_iinc (1 : Int32) dX4_word_213 rfl rfl (by decide) trivial [some (va_rf l0), some (.int l1), some (.int p0), none, some (.int (l4 + (1 : Int32)))] rfl ?_
  refine tj_goto 167 dX4_word_216 rfl ?_
  exact h167 l0 l1 p0 _ _
theorem tj_X4_word_J211 {E : tj_E} {X : tj_X} {n0 s0 : Nat} (d : Nat) {b25 : Option Nat → Int32 → Int32 → mx_M Int32} {b167 : Option Nat → Int32 → Int32 → Int32 → mx_M Int32} (h25 : ∀ (l0 : Option Nat) (l1 : Int32) (l2 : Int32) (σ : hp_S), tj_T E X RX4 "word" cX4_word 5 (some .int) (d + 1) [] n0 s0 em_i σ 25 [some (va_rf l0), some (.int l1), some (.int l2), none, none] [] (b25 l0 l1 l2)) (h167 : ∀ (l0 : Option Nat) (l1 : Int32) (l2 : Int32) (l4 : Int32) (σ : hp_S), tj_T E X RX4 "word" cX4_word 5 (some .int) (d + 1) [] n0 s0 em_i σ 167 [some (va_rf l0), some (.int l1), some (.int l2), none, some (.int l4)] [] (b167 l0 l1 l2 l4)) (l0 : Option Nat) (l1 : Int32) (l2 : Int32) (l4 : Int32) (σ : hp_S) : tj_T E X RX4 "word" cX4_word 5 (some .int) (d + 1) [] n0 s0 em_i σ 211 [some (va_rf l0), some (.int l1), some (.int l2), none, some (.int l4)] [] (fn_X4_word_J211 d b25 b167 l0 l1 l2 l4) := by
  unfold fn_X4_word_J211
  refine tj_iload_n dX4_word_211 rfl ?_
  refine tj_wk (L' := [some (va_rf l0), some (.int l1), none, none, some (.int l4)]) ⟨rfl, rfl, rfl, trivial⟩ ?_
  exact tj_X4_word_J212 d h25 h167 l0 l1 l4 l2 _
theorem tj_X4_word_L167_b {E : tj_E} {X : tj_X} {n0 s0 : Nat} (d : Nat) {b25 : Option Nat → Int32 → Int32 → mx_M Int32} {b167 : Option Nat → Int32 → Int32 → Int32 → mx_M Int32} (h25 : ∀ (l0 : Option Nat) (l1 : Int32) (l2 : Int32) (σ : hp_S), tj_T E X RX4 "word" cX4_word 5 (some .int) (d + 1) [] n0 s0 em_i σ 25 [some (va_rf l0), some (.int l1), some (.int l2), none, none] [] (b25 l0 l1 l2)) (h167 : ∀ (l0 : Option Nat) (l1 : Int32) (l2 : Int32) (l4 : Int32) (σ : hp_S), tj_T E X RX4 "word" cX4_word 5 (some .int) (d + 1) [] n0 s0 em_i σ 167 [some (va_rf l0), some (.int l1), some (.int l2), none, some (.int l4)] [] (b167 l0 l1 l2 l4)) (l0 : Option Nat) (l1 : Int32) (l2 : Int32) (l4 : Int32) (σ : hp_S) : tj_T E X RX4 "word" cX4_word 5 (some .int) (d + 1) [] n0 s0 em_i σ 167 [some (va_rf l0), some (.int l1), some (.int l2), none, some (.int l4)] [] (fn_X4_word_L167_b d b25 b167 l0 l1 l2 l4) := by
  unfold fn_X4_word_L167_b
  refine tj_iload dX4_word_167 rfl ?_
  refine tj_bipush (9 : Int32) dX4_word_169 (by decide) ?_
  refine tj_icmp_ge 219 dX4_word_171 rfl (fun _ => ?_) (fun _ => ?_)
  · refine tj_goto 25 dX4_word_219 rfl ?_
    refine tj_wk (L' := [some (va_rf l0), some (.int l1), some (.int l2), none, none]) ⟨rfl, rfl, rfl, trivial⟩ ?_
    exact h25 l0 l1 l2 _
  · refine tj_aload_n dX4_word_174 rfl ?_
    refine tj_getR fl_X4_38r dX4_word_175 (fun v101 => ?_)
    refine tj_iload dX4_word_178 rfl ?_
    refine tj_iald dX4_word_180 (fun v102 => ?_)
    refine tj_iconst (1 : Int32) dX4_word_181 rfl ?_
    refine tj_icmp_ne 211 dX4_word_182 rfl (fun _ => ?_) (fun _ => ?_)
    · refine tj_aload_n dX4_word_185 rfl ?_
      refine tj_getR fl_X4_44r dX4_word_186 (fun v103 => ?_)
      refine tj_iload dX4_word_189 rfl ?_
      refine tj_iald dX4_word_191 (fun v104 => ?_)
      refine tj_iload_n dX4_word_192 rfl ?_
      refine tj_iadd dX4_word_193 ?_
      refine tj_aload_n dX4_word_194 rfl ?_
      refine tj_getR fl_X4_44r dX4_word_195 (fun v105 => ?_)
      refine tj_iload dX4_word_198 rfl ?_
      refine tj_iconst (1 : Int32) dX4_word_200 rfl ?_
      refine tj_iadd dX4_word_201 ?_
      refine tj_iald dX4_word_202 (fun v106 => ?_)
      refine tj_icmp_ne 211 dX4_word_203 rfl (fun _ => ?_) (fun _ => ?_)
      · refine tj_iload dX4_word_206 rfl ?_
        refine tj_goto 212 dX4_word_208 rfl ?_
        refine tj_wk (L' := [some (va_rf l0), some (.int l1), none, none, some (.int l4)]) ⟨rfl, rfl, rfl, trivial⟩ ?_
        exact tj_X4_word_J212 d h25 h167 l0 l1 l4 l4 _
      · exact tj_X4_word_J211 d h25 h167 l0 l1 l2 l4 _
    · exact tj_X4_word_J211 d h25 h167 l0 l1 l2 l4 _
theorem tj_X4_word_L167 {E : tj_E} {X : tj_X} {n0 s0 : Nat} (d : Nat) {b25 : Option Nat → Int32 → Int32 → mx_M Int32} (h25 : ∀ (l0 : Option Nat) (l1 : Int32) (l2 : Int32) (σ : hp_S), tj_T E X RX4 "word" cX4_word 5 (some .int) (d + 1) [] n0 s0 em_i σ 25 [some (va_rf l0), some (.int l1), some (.int l2), none, none] [] (b25 l0 l1 l2)) : ∀ (k : Nat) (l0 : Option Nat) (l1 : Int32) (l2 : Int32) (l4 : Int32) (σ : hp_S), tj_T E X RX4 "word" cX4_word 5 (some .int) (d + 1) [] n0 s0 em_i σ 167 [some (va_rf l0), some (.int l1), some (.int l2), none, some (.int l4)] [] (fn_X4_word_L167 d b25 k l0 l1 l2 l4) := by
  intro k
  induction k with
  | zero =>
    intro l0 l1 l2 l4 σ
    exact tj_fail
  | succ k ih =>
    intro l0 l1 l2 l4 σ
    exact tj_X4_word_L167_b d h25 ih l0 l1 l2 l4 σ
theorem tj_X4_word_J157 {E : tj_E} {X : tj_X} {n0 s0 : Nat} (d : Nat) {b25 : Option Nat → Int32 → Int32 → mx_M Int32} (h25 : ∀ (l0 : Option Nat) (l1 : Int32) (l2 : Int32) (σ : hp_S), tj_T E X RX4 "word" cX4_word 5 (some .int) (d + 1) [] n0 s0 em_i σ 25 [some (va_rf l0), some (.int l1), some (.int l2), none, none] [] (b25 l0 l1 l2)) (l0 : Option Nat) (l1 : Int32) (l2 : Int32) (p0 : Option Nat) (p1 : Int32) (p2 : Int32) (σ : hp_S) : tj_T E X RX4 "word" cX4_word 5 (some .int) (d + 1) [] n0 s0 em_i σ 157 [some (va_rf l0), some (.int l1), some (.int l2), none, none] [.int p2, .int p1, va_rf p0] (fn_X4_word_J157 d b25 l0 l1 l2 p0 p1 p2) := by
  unfold fn_X4_word_J157
  refine tj_iadd dX4_word_157 ?_
  refine tj_put fl_X4_180 rfl rfl dX4_word_158 (fun σ => ?_)
  refine tj_iinc (1 : Int32) dX4_word_161 rfl rfl (by decide) (rf_cat _) [some (va_rf l0), some (.int (l1 + (1 : Int32))), some (.int l2), none, none] rfl ?_
  refine tj_iconst (0 : Int32) dX4_word_164 rfl ?_
  refine tj_istore dX4_word_165 (by decide) trivial [some (va_rf l0), some (.int (l1 + (1 : Int32))), some (.int l2), none, some (.int (0 : Int32))] rfl ?_
  exact tj_X4_word_L167 d h25 mx_K l0 _ l2 (0 : Int32) _
theorem tj_X4_word_J140 {E : tj_E} {X : tj_X} {n0 s0 : Nat} (d : Nat) {b25 : Option Nat → Int32 → Int32 → mx_M Int32} (h25 : ∀ (l0 : Option Nat) (l1 : Int32) (l2 : Int32) (σ : hp_S), tj_T E X RX4 "word" cX4_word 5 (some .int) (d + 1) [] n0 s0 em_i σ 25 [some (va_rf l0), some (.int l1), some (.int l2), none, none] [] (b25 l0 l1 l2)) (l0 : Option Nat) (l1 : Int32) (l2 : Int32) (l3 : Int32) (p0 : Option Nat) (p1 : Int32) (σ : hp_S) : tj_T E X RX4 "word" cX4_word 5 (some .int) (d + 1) [] n0 s0 em_i σ 140 [some (va_rf l0), some (.int l1), some (.int l2), some (.int l3), none] [.int p1, va_rf p0] (fn_X4_word_J140 d b25 l0 l1 l2 l3 p0 p1) := by
  unfold fn_X4_word_J140
  refine tj_putN fl_X4_186 nf_Z dX4_word_140 (fun σ => ?_)
  refine tj_aload_n dX4_word_143 rfl ?_
  refine tj_dup dX4_word_144 (rf_cat _) ?_
  refine tj_getI fl_X4_180 dX4_word_145 (fun v101 => ?_)
  refine tj_iload_n dX4_word_148 rfl ?_
  refine tj_if_eq 156 dX4_word_149 rfl (fun _ => ?_) (fun _ => ?_)
  · refine tj_iconst (0 : Int32) dX4_word_156 rfl ?_
    refine tj_wk (L' := [some (va_rf l0), some (.int l1), some (.int l2), none, none]) ⟨rfl, rfl, rfl, trivial⟩ ?_
    exact tj_X4_word_J157 d h25 l0 l1 l2 l0 v101 (0 : Int32) _
  · refine tj_iconst (1 : Int32) dX4_word_152 rfl ?_
    refine tj_goto 157 dX4_word_153 rfl ?_
    refine tj_wk (L' := [some (va_rf l0), some (.int l1), some (.int l2), none, none]) ⟨rfl, rfl, rfl, trivial⟩ ?_
    exact tj_X4_word_J157 d h25 l0 l1 l2 l0 v101 (1 : Int32) _
theorem tj_X4_word_L41_b {E : tj_E} {X : tj_X} {n0 s0 : Nat} (d : Nat) {b25 : Option Nat → Int32 → Int32 → mx_M Int32} {b41 : Option Nat → Int32 → Int32 → Int32 → Int32 → mx_M Int32} (h25 : ∀ (l0 : Option Nat) (l1 : Int32) (l2 : Int32) (σ : hp_S), tj_T E X RX4 "word" cX4_word 5 (some .int) (d + 1) [] n0 s0 em_i σ 25 [some (va_rf l0), some (.int l1), some (.int l2), none, none] [] (b25 l0 l1 l2)) (h41 : ∀ (l0 : Option Nat) (l1 : Int32) (l2 : Int32) (l3 : Int32) (l4 : Int32) (σ : hp_S), tj_T E X RX4 "word" cX4_word 5 (some .int) (d + 1) [] n0 s0 em_i σ 41 [some (va_rf l0), some (.int l1), some (.int l2), some (.int l3), some (.int l4)] [] (b41 l0 l1 l2 l3 l4)) (l0 : Option Nat) (l1 : Int32) (l2 : Int32) (l3 : Int32) (l4 : Int32) (σ : hp_S) : tj_T E X RX4 "word" cX4_word 5 (some .int) (d + 1) [] n0 s0 em_i σ 41 [some (va_rf l0), some (.int l1), some (.int l2), some (.int l3), some (.int l4)] [] (fn_X4_word_L41_b d b25 b41 l0 l1 l2 l3 l4) := by
  unfold fn_X4_word_L41_b
  refine tj_iload dX4_word_41 rfl ?_
  refine tj_bipush (9 : Int32) dX4_word_43 (by decide) ?_
  refine tj_icmp_ge 130 dX4_word_45 rfl (fun _ => ?_) (fun _ => ?_)
  · refine tj_aload_n dX4_word_130 rfl ?_
    refine tj_iload_n dX4_word_131 rfl ?_
    refine tj_if_ne 139 dX4_word_132 rfl (fun _ => ?_) (fun _ => ?_)
    · refine tj_iconst (1 : Int32) dX4_word_135 rfl ?_
      refine tj_goto 140 dX4_word_136 rfl ?_
      refine tj_wk (L' := [some (va_rf l0), some (.int l1), some (.int l2), some (.int l3), none]) ⟨rfl, rfl, rfl, rfl, trivial⟩ ?_
      exact tj_X4_word_J140 d h25 l0 l1 l2 l3 l0 (1 : Int32) _
    · refine tj_iconst (0 : Int32) dX4_word_139 rfl ?_
      refine tj_wk (L' := [some (va_rf l0), some (.int l1), some (.int l2), some (.int l3), none]) ⟨rfl, rfl, rfl, rfl, trivial⟩ ?_
      exact tj_X4_word_J140 d h25 l0 l1 l2 l3 l0 (0 : Int32) _
  · refine tj_aload_n dX4_word_48 rfl ?_
    refine tj_getR fl_X4_38r dX4_word_49 (fun v101 => ?_)
    refine tj_iload dX4_word_52 rfl ?_
    refine tj_dup2_11 dX4_word_54 rfl (rf_cat _) ?_
    refine tj_iald dX4_word_55 (fun v102 => ?_)
    refine tj_aload_n dX4_word_56 rfl ?_
    refine tj_getR fl_X4_44r dX4_word_57 (fun v103 => ?_)
    refine tj_iload dX4_word_60 rfl ?_
    refine tj_iald dX4_word_62 (fun v104 => ?_)
    refine tj_iload_n dX4_word_63 rfl ?_
    refine tj_iadd dX4_word_64 ?_
    refine tj_aload_n dX4_word_65 rfl ?_
    refine tj_getR fl_X4_44r dX4_word_66 (fun v105 => ?_)
    refine tj_iload dX4_word_69 rfl ?_
    refine tj_iconst (1 : Int32) dX4_word_71 rfl ?_
    refine tj_iadd dX4_word_72 ?_
    refine tj_iald dX4_word_73 (fun v106 => ?_)
    refine tj_icmp_ge 102 dX4_word_74 rfl (fun _ => ?_) (fun _ => ?_)
    · exact tj_X4_word_J102 d h25 h41 l0 l1 l2 l3 l4 v101 l4 v102 _
    · refine tj_aload_n dX4_word_77 rfl ?_
      refine tj_getR fl_X4_41r dX4_word_78 (fun v107 => ?_)
      refine tj_aload_n dX4_word_81 rfl ?_
      refine tj_getR fl_X4_44r dX4_word_82 (fun v108 => ?_)
      refine tj_iload dX4_word_85 rfl ?_
      refine tj_iald dX4_word_87 (fun v109 => ?_)
      refine tj_iload_n dX4_word_88 rfl ?_
      refine tj_iadd dX4_word_89 ?_
      refine tj_iald dX4_word_90 (fun v110 => ?_)
      refine tj_aload_n dX4_word_91 rfl ?_
      refine tj_callV (as := []) (rest := [.int v110, .int v102, .int l4, va_rf v101]) (st' := (fun r => [.int r, .int v110, .int v102, .int l4, va_rf v101])) (t := 1) (fun a e => by cases e; exact ct_X4_sign d _) (by decide) rfl q4283 q4285 qs90 q110 q4286 rfl md_X4_sign rfl (by decide) rfl (by simp [rf_cat, cat_i, cat_l, cat_f, cat_d]) dX4_word_92 (fun _ => rfl) (fun r111 σ => ?_) (by decide)
      refine tj_icmp_ne 102 dX4_word_95 rfl (fun _ => ?_) (fun _ => ?_)
      · refine tj_iconst (1 : Int32) dX4_word_98 rfl ?_
        refine tj_goto 103 dX4_word_99 rfl ?_
        exact tj_X4_word_J103 d h25 h41 l0 l1 l2 l3 l4 v101 l4 v102 (1 : Int32) _
      · exact tj_X4_word_J102 d h25 h41 l0 l1 l2 l3 l4 v101 l4 v102 _
theorem tj_X4_word_L41 {E : tj_E} {X : tj_X} {n0 s0 : Nat} (d : Nat) {b25 : Option Nat → Int32 → Int32 → mx_M Int32} (h25 : ∀ (l0 : Option Nat) (l1 : Int32) (l2 : Int32) (σ : hp_S), tj_T E X RX4 "word" cX4_word 5 (some .int) (d + 1) [] n0 s0 em_i σ 25 [some (va_rf l0), some (.int l1), some (.int l2), none, none] [] (b25 l0 l1 l2)) : ∀ (k : Nat) (l0 : Option Nat) (l1 : Int32) (l2 : Int32) (l3 : Int32) (l4 : Int32) (σ : hp_S), tj_T E X RX4 "word" cX4_word 5 (some .int) (d + 1) [] n0 s0 em_i σ 41 [some (va_rf l0), some (.int l1), some (.int l2), some (.int l3), some (.int l4)] [] (fn_X4_word_L41 d b25 k l0 l1 l2 l3 l4) := by
  intro k
  induction k with
  | zero =>
    intro l0 l1 l2 l3 l4 σ
    exact tj_fail
  | succ k ih =>
    intro l0 l1 l2 l3 l4 σ
    exact tj_X4_word_L41_b d h25 ih l0 l1 l2 l3 l4 σ
theorem tj_X4_word_L25_b {E : tj_E} {X : tj_X} {n0 s0 : Nat} (d : Nat) {b25 : Option Nat → Int32 → Int32 → mx_M Int32} (h25 : ∀ (l0 : Option Nat) (l1 : Int32) (l2 : Int32) (σ : hp_S), tj_T E X RX4 "word" cX4_word 5 (some .int) (d + 1) [] n0 s0 em_i σ 25 [some (va_rf l0), some (.int l1), some (.int l2), none, none] [] (b25 l0 l1 l2)) (l0 : Option Nat) (l1 : Int32) (l2 : Int32) (σ : hp_S) : tj_T E X RX4 "word" cX4_word 5 (some .int) (d + 1) [] n0 s0 em_i σ 25 [some (va_rf l0), some (.int l1), some (.int l2), none, none] [] (fn_X4_word_L25_b d b25 l0 l1 l2) := by
  unfold fn_X4_word_L25_b
  refine tj_iload_n dX4_word_25 rfl ?_
  refine tj_if_ge 222 dX4_word_26 rfl (fun _ => ?_) (fun _ => ?_)
  · refine tj_iload_n dX4_word_222 rfl ?_
    exact tj_iret dX4_word_223
  · refine tj_aload_n dX4_word_29 rfl ?_
    refine tj_getI fl_X4_186 dX4_word_30 (fun v101 => ?_)
    refine tj_if_ne 222 dX4_word_33 rfl (fun _ => ?_) (fun _ => ?_)
    · refine tj_iconst (0 : Int32) dX4_word_36 rfl ?_
      refine tj_istore_n dX4_word_37 (by decide) rfl [some (va_rf l0), some (.int l1), some (.int l2), some (.int (0 : Int32)), none] rfl ?_
      refine tj_iconst (0 : Int32) dX4_word_38 rfl ?_
      refine tj_istore dX4_word_39 (by decide) rfl [some (va_rf l0), some (.int l1), some (.int l2), some (.int (0 : Int32)), some (.int (0 : Int32))] rfl ?_
      exact tj_X4_word_L41 d h25 mx_K l0 l1 l2 (0 : Int32) (0 : Int32) _
    · refine tj_iload_n dX4_word_222 rfl ?_
      exact tj_iret dX4_word_223
theorem tj_X4_word_L25 {E : tj_E} {X : tj_X} {n0 s0 : Nat} (d : Nat) : ∀ (k : Nat) (l0 : Option Nat) (l1 : Int32) (l2 : Int32) (σ : hp_S), tj_T E X RX4 "word" cX4_word 5 (some .int) (d + 1) [] n0 s0 em_i σ 25 [some (va_rf l0), some (.int l1), some (.int l2), none, none] [] (fn_X4_word_L25 d k l0 l1 l2) := by
  intro k
  induction k with
  | zero =>
    intro l0 l1 l2 σ
    exact tj_fail
  | succ k ih =>
    intro l0 l1 l2 σ
    exact tj_X4_word_L25_b d ih l0 l1 l2 σ
theorem tj_X4_word_L2_b {E : tj_E} {X : tj_X} {n0 s0 : Nat} (d : Nat) {b2 : Option Nat → Int32 → mx_M Int32} (h2 : ∀ (l0 : Option Nat) (l1 : Int32) (σ : hp_S), tj_T E X RX4 "word" cX4_word 5 (some .int) (d + 1) [] n0 s0 em_i σ 2 [some (va_rf l0), some (.int l1), none, none, none] [] (b2 l0 l1)) (l0 : Option Nat) (l1 : Int32) (σ : hp_S) : tj_T E X RX4 "word" cX4_word 5 (some .int) (d + 1) [] n0 s0 em_i σ 2 [some (va_rf l0), some (.int l1), none, none, none] [] (fn_X4_word_L2_b d b2 l0 l1) := by
  unfold fn_X4_word_L2_b
  refine tj_iload_n dX4_word_2 rfl ?_
  refine tj_bipush (9 : Int32) dX4_word_3 (by decide) ?_
  refine tj_icmp_ge 21 dX4_word_5 rfl (fun _ => ?_) (fun _ => ?_)
  · refine tj_iconst (0 : Int32) dX4_word_21 rfl ?_
    refine tj_istore_n dX4_word_22 (by decide) (rf_cat _) [some (va_rf l0), some (.int (0 : Int32)), none, none, none] rfl ?_
    refine tj_iconst (-1 : Int32) dX4_word_23 rfl ?_
    refine tj_istore_n dX4_word_24 (by decide) rfl [some (va_rf l0), some (.int (0 : Int32)), some (.int (-1 : Int32)), none, none] rfl ?_
    exact tj_X4_word_L25 d mx_K l0 (0 : Int32) (-1 : Int32) _
  · refine tj_aload_n dX4_word_8 rfl ?_
    refine tj_getR fl_X4_38r dX4_word_9 (fun v101 => ?_)
    refine tj_iload_n dX4_word_12 rfl ?_
    refine tj_iconst (1 : Int32) dX4_word_13 rfl ?_
    refine tj_iast dX4_word_14 (fun σ => ?_)
    refine tj_iinc (1 : Int32) dX4_word_15 rfl rfl (by decide) (rf_cat _) [some (va_rf l0), some (.int (l1 + (1 : Int32))), none, none, none] rfl ?_
    refine tj_goto 2 dX4_word_18 rfl ?_
    exact h2 l0 _ _
theorem tj_X4_word_L2 {E : tj_E} {X : tj_X} {n0 s0 : Nat} (d : Nat) : ∀ (k : Nat) (l0 : Option Nat) (l1 : Int32) (σ : hp_S), tj_T E X RX4 "word" cX4_word 5 (some .int) (d + 1) [] n0 s0 em_i σ 2 [some (va_rf l0), some (.int l1), none, none, none] [] (fn_X4_word_L2 d k l0 l1) := by
  intro k
  induction k with
  | zero =>
    intro l0 l1 σ
    exact tj_fail
  | succ k ih =>
    intro l0 l1 σ
    exact tj_X4_word_L2_b d ih l0 l1 σ
theorem tj_X4_word_B0 {E : tj_E} {X : tj_X} {n0 s0 : Nat} (d : Nat) (v0 : Option Nat) (σ : hp_S) : tj_T E X RX4 "word" cX4_word 5 (some .int) (d + 1) [] n0 s0 em_i σ 0 [some (va_rf v0), none, none, none, none] [] (fn_X4_word_B0 d v0) := by
  unfold fn_X4_word_B0
  refine tj_iconst (0 : Int32) dX4_word_0 rfl ?_
  refine tj_istore_n dX4_word_1 (by decide) (rf_cat _) [some (va_rf v0), some (.int (0 : Int32)), none, none, none] rfl ?_
  exact tj_X4_word_L2 d mx_K v0 (0 : Int32) _
theorem ct_X4_word : ∀ (d : Nat) (v0 : Option Nat), ct_ yX4_word (ws_ yX4_word cX4_word 5 (some .int)) d em_i [va_rf v0] (fn_X4_word d v0)
  | 0, _ => ct_fail
  | d + 1, v0 => ct_of [(false, va_rf v0)] [some (va_rf v0), none, none, none, none] (by decide) rfl ⟨rfl, (rf_cat _), trivial⟩ (fun E X n0 s0 σ => tj_X4_word_B0 d v0 σ)
theorem tj_X4_command_J116 {E : tj_E} {X : tj_X} {n0 s0 : Nat} (d : Nat) (l0 : Option Nat) (l1 : Int32) (l2 : Int32) (l3 : Int32) (l4 : Int32) (σ : hp_S) : tj_T E X RX4 "command" cX4_command 6 none (d + 1) [] n0 s0 em_v σ 116 [some (va_rf l0), some (.int l1), some (.int l2), some (.int l3), some (.int l4), none] [] (fn_X4_command_J116 d l0 l1 l2 l3 l4) := by
  unfold fn_X4_command_J116
  refine tj_aload_n dX4_command_116 rfl ?_
  refine tj_getI fl_X4_186 dX4_command_117 (fun v101 => ?_)
  refine tj_if_ne 130 dX4_command_120 rfl (fun _ => ?_) (fun _ => ?_)
  · refine tj_aload_n dX4_command_123 rfl ?_
    refine tj_getI fl_X4_205 dX4_command_124 (fun v102 => ?_)
    refine tj_if_ne 131 dX4_command_127 rfl (fun _ => ?_) (fun _ => ?_)
    · exact tj_vret dX4_command_130
    · refine tj_aload_n dX4_command_131 rfl ?_
      refine tj_iload_n dX4_command_132 rfl ?_
      refine tj_put fl_X4_208 rfl rfl dX4_command_133 (fun σ => ?_)
      refine tj_aload_n dX4_command_136 rfl ?_
      refine tj_iload_n dX4_command_137 rfl ?_
      refine tj_iload dX4_command_138 rfl ?_
      refine tj_iload_n dX4_command_140 rfl ?_
      refine tj_iload_n dX4_command_141 rfl ?_
      refine tj_callV (as := [.int l1, .int l4, .int l2, .int l3]) (rest := []) (st' := (fun r => [.int r])) (t := 1) (fun a e => by cases e; exact ct_X4_does d _ _ _ _ _) (by decide) rfl q4299 q4301 qs94 q110 q4302 rfl md_X4_does rfl (by decide) rfl (by decide) dX4_command_142 (fun _ => rfl) (fun r103 σ => ?_) (by decide)
      refine tj_istore dX4_command_145 (by decide) rfl [some (va_rf l0), some (.int l1), some (.int l2), some (.int l3), some (.int l4), some (.int r103)] rfl ?_
      exact tj_vret dX4_command_147
  · exact tj_vret dX4_command_130
theorem tj_X4_command_J95 {E : tj_E} {X : tj_X} {n0 s0 : Nat} (d : Nat) (l0 : Option Nat) (l1 : Int32) (l2 : Int32) (l3 : Int32) (l4 : Int32) (σ : hp_S) : tj_T E X RX4 "command" cX4_command 6 none (d + 1) [] n0 s0 em_v σ 95 [some (va_rf l0), some (.int l1), some (.int l2), some (.int l3), some (.int l4), none] [] (fn_X4_command_J95 d l0 l1 l2 l3 l4) := by
  unfold fn_X4_command_J95
  refine tj_iload_n dX4_command_95 rfl ?_
  refine tj_bipush (6 : Int32) dX4_command_96 (by decide) ?_
  refine tj_icmp_ne 116 dX4_command_98 rfl (fun _ => ?_) (fun _ => ?_)
  · refine tj_aload_n dX4_command_101 rfl ?_
    refine tj_getI fl_X4_186 dX4_command_102 (fun v101 => ?_)
    refine tj_if_ne 116 dX4_command_105 rfl (fun _ => ?_) (fun _ => ?_)
    · refine tj_aload_n dX4_command_108 rfl ?_
      refine tj_bipush (45 : Int32) dX4_command_109 (by decide) ?_
      refine tj_iconst (3 : Int32) dX4_command_111 rfl ?_
      refine tj_callV (as := [.int (45 : Int32), .int (3 : Int32)]) (rest := []) (st' := (fun r => [.int r])) (t := 1) (fun a e => by cases e; exact ct_X4_behind d _ _ _) (by decide) rfl q4291 q4293 qs92 q110 q4294 rfl md_X4_behind rfl (by decide) rfl (by decide) dX4_command_112 (fun _ => rfl) (fun r102 σ => ?_) (by decide)
      refine tj_istore_n dX4_command_115 (by decide) rfl [some (va_rf l0), some (.int l1), some (.int r102), some (.int l3), some (.int l4), none] rfl ?_
      exact tj_X4_command_J116 d l0 l1 r102 l3 l4 _
    · exact tj_X4_command_J116 d l0 l1 l2 l3 l4 _
  · exact tj_X4_command_J116 d l0 l1 l2 l3 l4 _
theorem tj_X4_command_J76 {E : tj_E} {X : tj_X} {n0 s0 : Nat} (d : Nat) (l0 : Option Nat) (l1 : Int32) (l2 : Int32) (l3 : Int32) (l4 : Int32) (σ : hp_S) : tj_T E X RX4 "command" cX4_command 6 none (d + 1) [] n0 s0 em_v σ 76 [some (va_rf l0), some (.int l1), some (.int l2), some (.int l3), some (.int l4), none] [] (fn_X4_command_J76 d l0 l1 l2 l3 l4) := by
  unfold fn_X4_command_J76
  refine tj_iload_n dX4_command_76 rfl ?_
  refine tj_if_ne 95 dX4_command_77 rfl (fun _ => ?_) (fun _ => ?_)
  · refine tj_aload_n dX4_command_80 rfl ?_
    refine tj_getI fl_X4_186 dX4_command_81 (fun v101 => ?_)
    refine tj_if_ne 95 dX4_command_84 rfl (fun _ => ?_) (fun _ => ?_)
    · refine tj_aload_n dX4_command_87 rfl ?_
      refine tj_bipush (32 : Int32) dX4_command_88 (by decide) ?_
      refine tj_iconst (3 : Int32) dX4_command_90 rfl ?_
      refine tj_callV (as := [.int (32 : Int32), .int (3 : Int32)]) (rest := []) (st' := (fun r => [.int r])) (t := 1) (fun a e => by cases e; exact ct_X4_behind d _ _ _) (by decide) rfl q4291 q4293 qs92 q110 q4294 rfl md_X4_behind rfl (by decide) rfl (by decide) dX4_command_91 (fun _ => rfl) (fun r102 σ => ?_) (by decide)
      refine tj_istore_n dX4_command_94 (by decide) rfl [some (va_rf l0), some (.int l1), some (.int l2), some (.int r102), some (.int l4), none] rfl ?_
      exact tj_X4_command_J95 d l0 l1 l2 r102 l4 _
    · exact tj_X4_command_J95 d l0 l1 l2 l3 l4 _
  · exact tj_X4_command_J95 d l0 l1 l2 l3 l4 _
theorem tj_X4_command_J72 {E : tj_E} {X : tj_X} {n0 s0 : Nat} (d : Nat) (l0 : Option Nat) (l1 : Int32) (l3 : Int32) (l4 : Int32) (p0 : Option Nat) (p1 : Int32) (p2 : Int32) (σ : hp_S) : tj_T E X RX4 "command" cX4_command 6 none (d + 1) [] n0 s0 em_v σ 72 [some (va_rf l0), some (.int l1), none, some (.int l3), some (.int l4), none] [.int p2, .int p1, va_rf p0] (fn_X4_command_J72 d l0 l1 l3 l4 p0 p1 p2) := by
  unfold fn_X4_command_J72
  refine tj_callV (as := [.int p1, .int p2]) (rest := []) (st' := (fun r => [.int r])) (t := 1) (fun a e => by cases e; exact ct_X4_behind d _ _ _) (by decide) rfl q4291 q4293 qs92 q110 q4294 rfl md_X4_behind rfl (by decide) rfl (by decide) dX4_command_72 (fun _ => rfl) (fun r101 σ => ?_) (by decide)
  refine tj_istore_n dX4_command_75 (by decide) rfl [some (va_rf l0), some (.int l1), some (.int r101), some (.int l3), some (.int l4), none] rfl ?_
  exact tj_X4_command_J76 d l0 l1 r101 l3 l4 _
theorem tj_X4_command_J46 {E : tj_E} {X : tj_X} {n0 s0 : Nat} (d : Nat) (l0 : Option Nat) (l1 : Int32) (l2 : Int32) (l3 : Int32) (p0 : Int32) (σ : hp_S) : tj_T E X RX4 "command" cX4_command 6 none (d + 1) [] n0 s0 em_v σ 46 [some (va_rf l0), some (.int l1), some (.int l2), some (.int l3), none, none] [.int p0] (fn_X4_command_J46 d l0 l1 l2 l3 p0) := by
  unfold fn_X4_command_J46
  refine tj_istore dX4_command_46 (by decide) rfl [some (va_rf l0), some (.int l1), some (.int l2), some (.int l3), some (.int p0), none] rfl ?_
  refine tj_iload_n dX4_command_48 rfl ?_
  refine tj_iconst (3 : Int32) dX4_command_49 rfl ?_
  refine tj_icmp_ge 76 dX4_command_50 rfl (fun _ => ?_) (fun _ => ?_)
  · exact tj_X4_command_J76 d l0 l1 l2 l3 p0 _
  · refine tj_aload_n dX4_command_53 rfl ?_
    refine tj_getI fl_X4_186 dX4_command_54 (fun v101 => ?_)
    refine tj_if_ne 76 dX4_command_57 rfl (fun _ => ?_) (fun _ => ?_)
    · refine tj_aload_n dX4_command_60 rfl ?_
      refine tj_bipush (32 : Int32) dX4_command_61 (by decide) ?_
      refine tj_iload_n dX4_command_63 rfl ?_
      refine tj_if_ne 71 dX4_command_64 rfl (fun _ => ?_) (fun _ => ?_)
      · refine tj_iconst (1 : Int32) dX4_command_67 rfl ?_
        refine tj_goto 72 dX4_command_68 rfl ?_
        refine tj_wk (L' := [some (va_rf l0), some (.int l1), none, some (.int l3), some (.int p0), none]) ⟨rfl, rfl, rfl, rfl, trivial⟩ ?_
        exact tj_X4_command_J72 d l0 l1 l3 p0 l0 (32 : Int32) (1 : Int32) _
      · refine tj_iconst (3 : Int32) dX4_command_71 rfl ?_
        refine tj_wk (L' := [some (va_rf l0), some (.int l1), none, some (.int l3), some (.int p0), none]) ⟨rfl, rfl, rfl, rfl, trivial⟩ ?_
        exact tj_X4_command_J72 d l0 l1 l3 p0 l0 (32 : Int32) (3 : Int32) _
    · exact tj_X4_command_J76 d l0 l1 l2 l3 p0 _
theorem tj_X4_command_J27 {E : tj_E} {X : tj_X} {n0 s0 : Nat} (d : Nat) (l0 : Option Nat) (l1 : Int32) (l2 : Int32) (l3 : Int32) (σ : hp_S) : tj_T E X RX4 "command" cX4_command 6 none (d + 1) [] n0 s0 em_v σ 27 [some (va_rf l0), some (.int l1), some (.int l2), some (.int l3), none, none] [] (fn_X4_command_J27 d l0 l1 l2 l3) := by
  unfold fn_X4_command_J27
  refine tj_iconst (0 : Int32) dX4_command_27 rfl ?_
  refine tj_goto 46 dX4_command_28 rfl ?_
  exact tj_X4_command_J46 d l0 l1 l2 l3 (0 : Int32) _
theorem tj_X4_command_J43 {E : tj_E} {X : tj_X} {n0 s0 : Nat} (d : Nat) (l0 : Option Nat) (l1 : Int32) (l2 : Int32) (l3 : Int32) (p0 : Option Nat) (p1 : Int32) (σ : hp_S) : tj_T E X RX4 "command" cX4_command 6 none (d + 1) [] n0 s0 em_v σ 43 [some (va_rf l0), some (.int l1), some (.int l2), some (.int l3), none, none] [.int p1, va_rf p0] (fn_X4_command_J43 d l0 l1 l2 l3 p0 p1) := by
  unfold fn_X4_command_J43
  refine tj_callV (as := [.int p1]) (rest := []) (st' := (fun r => [.int r])) (t := 1) (fun a e => by cases e; exact ct_X4_digits d _ _) (by decide) rfl q4287 q4289 qs91 q110 q4290 rfl md_X4_digits rfl (by decide) rfl (by decide) dX4_command_43 (fun _ => rfl) (fun r101 σ => ?_) (by decide)
  exact tj_X4_command_J46 d l0 l1 l2 l3 r101 _
theorem tj_X4_command_B0 {E : tj_E} {X : tj_X} {n0 s0 : Nat} (d : Nat) (v0 : Option Nat) (σ : hp_S) : tj_T E X RX4 "command" cX4_command 6 none (d + 1) [] n0 s0 em_v σ 0 [some (va_rf v0), none, none, none, none, none] [] (fn_X4_command_B0 d v0) := by
  unfold fn_X4_command_B0
  refine tj_aload_n dX4_command_0 rfl ?_
  refine tj_callV (as := []) (rest := []) (st' := (fun r => [.int r])) (t := 1) (fun a e => by cases e; exact ct_X4_word d _) (by decide) rfl q4279 q4281 qs89 q110 q4282 rfl md_X4_word rfl (by decide) rfl (by decide) dX4_command_1 (fun _ => rfl) (fun r101 σ => ?_) (by decide)
  refine tj_istore_n dX4_command_4 (by decide) (rf_cat _) [some (va_rf v0), some (.int r101), none, none, none, none] rfl ?_
  refine tj_iconst (0 : Int32) dX4_command_5 rfl ?_
  refine tj_istore_n dX4_command_6 (by decide) rfl [some (va_rf v0), some (.int r101), some (.int (0 : Int32)), none, none, none] rfl ?_
  refine tj_iconst (0 : Int32) dX4_command_7 rfl ?_
  refine tj_istore_n dX4_command_8 (by decide) rfl [some (va_rf v0), some (.int r101), some (.int (0 : Int32)), some (.int (0 : Int32)), none, none] rfl ?_
  refine tj_aload_n dX4_command_9 rfl ?_
  refine tj_getI fl_X4_186 dX4_command_10 (fun v102 => ?_)
  refine tj_if_eq 17 dX4_command_13 rfl (fun _ => ?_) (fun _ => ?_)
  · refine tj_iload_n dX4_command_17 rfl ?_
    refine tj_iconst (4 : Int32) dX4_command_18 rfl ?_
    refine tj_icmp_eq 27 dX4_command_19 rfl (fun _ => ?_) (fun _ => ?_)
    · exact tj_X4_command_J27 d v0 r101 (0 : Int32) (0 : Int32) _
    · refine tj_iload_n dX4_command_22 rfl ?_
      refine tj_iconst (5 : Int32) dX4_command_23 rfl ?_
      refine tj_icmp_ne 31 dX4_command_24 rfl (fun _ => ?_) (fun _ => ?_)
      · exact tj_X4_command_J27 d v0 r101 (0 : Int32) (0 : Int32) _
      · refine tj_aload_n dX4_command_31 rfl ?_
        refine tj_iload_n dX4_command_32 rfl ?_
        refine tj_bipush (7 : Int32) dX4_command_33 (by decide) ?_
        refine tj_icmp_ne 42 dX4_command_35 rfl (fun _ => ?_) (fun _ => ?_)
        · refine tj_iconst (1 : Int32) dX4_command_38 rfl ?_
          refine tj_goto 43 dX4_command_39 rfl ?_
          exact tj_X4_command_J43 d v0 r101 (0 : Int32) (0 : Int32) v0 (1 : Int32) _
        · refine tj_iconst (3 : Int32) dX4_command_42 rfl ?_
          exact tj_X4_command_J43 d v0 r101 (0 : Int32) (0 : Int32) v0 (3 : Int32) _
  · exact tj_vret dX4_command_16
theorem ct_X4_command : ∀ (d : Nat) (v0 : Option Nat), ct_ yX4_command (ws_ yX4_command cX4_command 6 none) d em_v [va_rf v0] (fn_X4_command d v0)
  | 0, _ => ct_fail
  | d + 1, v0 => ct_of [(false, va_rf v0)] [some (va_rf v0), none, none, none, none, none] (by decide) rfl ⟨rfl, (rf_cat _), trivial⟩ (fun E X n0 s0 σ => tj_X4_command_B0 d v0 σ)
theorem tj_X4_commands_J58 {E : tj_E} {X : tj_X} {n0 s0 : Nat} (d : Nat) {b16 : Option Nat → Int32 → mx_M Int32} (h16 : ∀ (l0 : Option Nat) (l1 : Int32) (σ : hp_S), tj_T E X RX4 "commands" cX4_commands 2 (some .int) (d + 1) [] n0 s0 em_i σ 16 [some (va_rf l0), some (.int l1)] [] (b16 l0 l1)) (l0 : Option Nat) (l1 : Int32) (σ : hp_S) : tj_T E X RX4 "commands" cX4_commands 2 (some .int) (d + 1) [] n0 s0 em_i σ 58 [some (va_rf l0), some (.int l1)] [] (fn_X4_commands_J58 d b16 l0 l1) := by
  unfold fn_X4_commands_J58
  refine tj_iinc (1 : Int32) dX4_commands_58 rfl rfl (by decide) (rf_cat _) [some (va_rf l0), some (.int (l1 + (1 : Int32)))] rfl ?_
  refine tj_goto 16 dX4_commands_61 rfl ?_
  exact h16 l0 _ _
theorem tj_X4_commands_L16_b {E : tj_E} {X : tj_X} {n0 s0 : Nat} (d : Nat) {b16 : Option Nat → Int32 → mx_M Int32} (h16 : ∀ (l0 : Option Nat) (l1 : Int32) (σ : hp_S), tj_T E X RX4 "commands" cX4_commands 2 (some .int) (d + 1) [] n0 s0 em_i σ 16 [some (va_rf l0), some (.int l1)] [] (b16 l0 l1)) (l0 : Option Nat) (l1 : Int32) (σ : hp_S) : tj_T E X RX4 "commands" cX4_commands 2 (some .int) (d + 1) [] n0 s0 em_i σ 16 [some (va_rf l0), some (.int l1)] [] (fn_X4_commands_L16_b d b16 l0 l1) := by
  unfold fn_X4_commands_L16_b
  refine tj_aload_n dX4_commands_16 rfl ?_
  refine tj_getI fl_X4_186 dX4_commands_17 (fun v101 => ?_)
  refine tj_if_ne 64 dX4_commands_20 rfl (fun _ => ?_) (fun _ => ?_)
  · refine tj_aload_n dX4_commands_23 rfl ?_
    refine tj_getI fl_X4_50 dX4_commands_24 (fun v102 => ?_)
    refine tj_if_ne 64 dX4_commands_27 rfl (fun _ => ?_) (fun _ => ?_)
    · refine tj_aload_n dX4_commands_30 rfl ?_
      refine tj_getI fl_X4_180 dX4_commands_31 (fun v103 => ?_)
      refine tj_aload_n dX4_commands_34 rfl ?_
      refine tj_getI fl_X4_183 dX4_commands_35 (fun v104 => ?_)
      refine tj_icmp_ge 64 dX4_commands_38 rfl (fun _ => ?_) (fun _ => ?_)
      · refine tj_iload_n dX4_commands_64 rfl ?_
        exact tj_iret dX4_commands_65
      · refine tj_aload_n dX4_commands_41 rfl ?_
        refine tj_bipush (59 : Int32) dX4_commands_42 (by decide) ?_
        refine tj_callV (as := [.int (59 : Int32)]) (rest := []) (st' := (fun _ => [])) (t := 1) (fun a e => by cases e; exact ct_X4_expects d _ _) (by decide) rfl q4295 q4297 qs93 q110 q4298 rfl md_X4_expects rfl (by decide) rfl (by decide) dX4_commands_44 (fun _ => rfl) (fun _ σ => ?_) (by decide)
        refine tj_aload_n dX4_commands_47 rfl ?_
        refine tj_getI fl_X4_186 dX4_commands_48 (fun v105 => ?_)
        refine tj_if_ne 58 dX4_commands_51 rfl (fun _ => ?_) (fun _ => ?_)
        · refine tj_aload_n dX4_commands_54 rfl ?_
          refine tj_callV (as := []) (rest := []) (st' := (fun _ => [])) (t := 1) (fun a e => by cases e; exact ct_X4_command d _) (by decide) rfl q4275 q4277 qs88 q110 q4278 rfl md_X4_command rfl (by decide) rfl (by decide) dX4_commands_55 (fun _ => rfl) (fun _ σ => ?_) (by decide)
          exact tj_X4_commands_J58 d h16 l0 l1 _
        · exact tj_X4_commands_J58 d h16 l0 l1 _
    · refine tj_iload_n dX4_commands_64 rfl ?_
      exact tj_iret dX4_commands_65
  · refine tj_iload_n dX4_commands_64 rfl ?_
    exact tj_iret dX4_commands_65
theorem tj_X4_commands_L16 {E : tj_E} {X : tj_X} {n0 s0 : Nat} (d : Nat) : ∀ (k : Nat) (l0 : Option Nat) (l1 : Int32) (σ : hp_S), tj_T E X RX4 "commands" cX4_commands 2 (some .int) (d + 1) [] n0 s0 em_i σ 16 [some (va_rf l0), some (.int l1)] [] (fn_X4_commands_L16 d k l0 l1) := by
  intro k
  induction k with
  | zero =>
    intro l0 l1 σ
    exact tj_fail
  | succ k ih =>
    intro l0 l1 σ
    exact tj_X4_commands_L16_b d ih l0 l1 σ
theorem tj_X4_commands_B0 {E : tj_E} {X : tj_X} {n0 s0 : Nat} (d : Nat) (v0 : Option Nat) (σ : hp_S) : tj_T E X RX4 "commands" cX4_commands 2 (some .int) (d + 1) [] n0 s0 em_i σ 0 [some (va_rf v0), none] [] (fn_X4_commands_B0 d v0) := by
  unfold fn_X4_commands_B0
  refine tj_aload_n dX4_commands_0 rfl ?_
  refine tj_iconst (0 : Int32) dX4_commands_1 rfl ?_
  refine tj_put fl_X4_180 rfl rfl dX4_commands_2 (fun σ => ?_)
  refine tj_aload_n dX4_commands_5 rfl ?_
  refine tj_iconst (0 : Int32) dX4_commands_6 rfl ?_
  refine tj_put fl_X4_186 rfl rfl dX4_commands_7 (fun σ => ?_)
  refine tj_iconst (1 : Int32) dX4_commands_10 rfl ?_
  refine tj_istore_n dX4_commands_11 (by decide) (rf_cat _) [some (va_rf v0), some (.int (1 : Int32))] rfl ?_
  refine tj_aload_n dX4_commands_12 rfl ?_
  refine tj_callV (as := []) (rest := []) (st' := (fun _ => [])) (t := 1) (fun a e => by cases e; exact ct_X4_command d _) (by decide) rfl q4275 q4277 qs88 q110 q4278 rfl md_X4_command rfl (by decide) rfl (by decide) dX4_commands_13 (fun _ => rfl) (fun _ σ => ?_) (by decide)
  exact tj_X4_commands_L16 d mx_K v0 (1 : Int32) _
theorem ct_X4_commands : ∀ (d : Nat) (v0 : Option Nat), ct_ yX4_commands (ws_ yX4_commands cX4_commands 2 (some .int)) d em_i [va_rf v0] (fn_X4_commands d v0)
  | 0, _ => ct_fail
  | d + 1, v0 => ct_of [(false, va_rf v0)] [some (va_rf v0), none] (by decide) rfl ⟨rfl, (rf_cat _), trivial⟩ (fun E X n0 s0 σ => tj_X4_commands_B0 d v0 σ)
theorem tj_X4_runScript_J99 {E : tj_E} {X : tj_X} {n0 s0 : Nat} (d : Nat) (l0 : Option Nat) (l1 : Int32) (σ : hp_S) : tj_T E X RX4 "runScript" cX4_runScript 2 (some .int) (d + 1) [] n0 s0 em_i σ 99 [some (va_rf l0), some (.int l1)] [] (fn_X4_runScript_J99 d l0 l1) := by
  unfold fn_X4_runScript_J99
  refine tj_aload_n dX4_runScript_99 rfl ?_
  refine tj_iload_n dX4_runScript_100 rfl ?_
  refine tj_callV (as := [.int l1]) (rest := []) (st' := (fun r => [.int r])) (t := 1) (fun a e => by cases e; exact ct_X4_ends d _ _) (by decide) rfl q4000 q4002 qs67 q110 q4003 rfl md_X4_ends rfl (by decide) rfl (by decide) dX4_runScript_101 (fun _ => rfl) (fun r101 σ => ?_) (by decide)
  exact tj_iret dX4_runScript_104
theorem tj_X4_runScript_B0 {E : tj_E} {X : tj_X} {n0 s0 : Nat} (d : Nat) (v0 : Option Nat) (σ : hp_S) : tj_T E X RX4 "runScript" cX4_runScript 2 (some .int) (d + 1) [] n0 s0 em_i σ 0 [some (va_rf v0), none] [] (fn_X4_runScript_B0 d v0) := by
  unfold fn_X4_runScript_B0
  refine tj_aload_n dX4_runScript_0 rfl ?_
  refine tj_callV (as := []) (rest := []) (st' := (fun _ => [])) (t := 1) (fun a e => by cases e; exact ct_X4_begins d _) (by decide) rfl q3960 q3962 qs60 q110 q3963 rfl md_X4_begins rfl (by decide) rfl (by decide) dX4_runScript_1 (fun _ => rfl) (fun _ σ => ?_) (by decide)
  refine tj_aload_n dX4_runScript_4 rfl ?_
  refine tj_aload_n dX4_runScript_5 rfl ?_
  refine tj_getI fl_X4_177 dX4_runScript_6 (fun v101 => ?_)
  refine tj_put fl_X4_183 rfl rfl dX4_runScript_9 (fun σ => ?_)
  refine tj_aload_n dX4_runScript_12 rfl ?_
  refine tj_iconst (0 : Int32) dX4_runScript_13 rfl ?_
  refine tj_put fl_X4_177 rfl rfl dX4_runScript_14 (fun σ => ?_)
  refine tj_aload_n dX4_runScript_17 rfl ?_
  refine tj_iconst (0 : Int32) dX4_runScript_18 rfl ?_
  refine tj_put fl_X4_205 rfl rfl dX4_runScript_19 (fun σ => ?_)
  refine tj_aload_n dX4_runScript_22 rfl ?_
  refine tj_callV (as := []) (rest := []) (st' := (fun r => [.int r])) (t := 1) (fun a e => by cases e; exact ct_X4_commands d _) (by decide) rfl q4271 q4273 qs87 q110 q4274 rfl md_X4_commands rfl (by decide) rfl (by decide) dX4_runScript_23 (fun _ => rfl) (fun r102 σ => ?_) (by decide)
  refine tj_istore_n dX4_runScript_26 (by decide) (rf_cat _) [some (va_rf v0), some (.int r102)] rfl ?_
  refine tj_aload_n dX4_runScript_27 rfl ?_
  refine tj_getI fl_X4_186 dX4_runScript_28 (fun v103 => ?_)
  refine tj_if_eq 48 dX4_runScript_31 rfl (fun _ => ?_) (fun _ => ?_)
  · refine tj_aload_n dX4_runScript_48 rfl ?_
    refine tj_iconst (1 : Int32) dX4_runScript_49 rfl ?_
    refine tj_put fl_X4_205 rfl rfl dX4_runScript_50 (fun σ => ?_)
    refine tj_aload_n dX4_runScript_53 rfl ?_
    refine tj_callV (as := []) (rest := []) (st' := (fun r => [.int r])) (t := 1) (fun a e => by cases e; exact ct_X4_commands d _) (by decide) rfl q4271 q4273 qs87 q110 q4274 rfl md_X4_commands rfl (by decide) rfl (by decide) dX4_runScript_54 (fun _ => rfl) (fun r104 σ => ?_) (by decide)
    refine tj_istore_n dX4_runScript_57 (by decide) (rf_cat _) [some (va_rf v0), some (.int r104)] rfl ?_
    refine tj_aload_n dX4_runScript_58 rfl ?_
    refine tj_getI fl_X4_50 dX4_runScript_59 (fun v105 => ?_)
    refine tj_if_eq 99 dX4_runScript_62 rfl (fun _ => ?_) (fun _ => ?_)
    · exact tj_X4_runScript_J99 d v0 r104 _
    · refine tj_aload_n dX4_runScript_65 rfl ?_
      refine tj_iload_n dX4_runScript_66 rfl ?_
      refine tj_iconst (1 : Int32) dX4_runScript_67 rfl ?_
      refine tj_isub dX4_runScript_68 ?_
      refine tj_put fl_X4_13 rfl rfl dX4_runScript_69 (fun σ => ?_)
      refine tj_aload_n dX4_runScript_72 rfl ?_
      refine tj_aload_n dX4_runScript_73 rfl ?_
      refine tj_getR fl_X4_47r dX4_runScript_74 (fun v106 => ?_)
      refine tj_iconst (2 : Int32) dX4_runScript_77 rfl ?_
      refine tj_aload_n dX4_runScript_78 rfl ?_
      refine tj_getI fl_X4_208 dX4_runScript_79 (fun v107 => ?_)
      refine tj_imul dX4_runScript_82 ?_
      refine tj_aload_n dX4_runScript_83 rfl ?_
      refine tj_getI fl_X4_50 dX4_runScript_84 (fun v108 => ?_)
      refine tj_iadd dX4_runScript_87 ?_
      refine tj_iconst (1 : Int32) dX4_runScript_88 rfl ?_
      refine tj_isub dX4_runScript_89 ?_
      refine tj_iald dX4_runScript_90 (fun v109 => ?_)
      refine tj_put fl_X4_221 rfl rfl dX4_runScript_91 (fun σ => ?_)
      refine tj_aload_n dX4_runScript_94 rfl ?_
      refine tj_iconst (2 : Int32) dX4_runScript_95 rfl ?_
      refine tj_put fl_X4_50 rfl rfl dX4_runScript_96 (fun σ => ?_)
      exact tj_X4_runScript_J99 d v0 r104 _
  · refine tj_aload_n dX4_runScript_34 rfl ?_
    refine tj_aload_n dX4_runScript_35 rfl ?_
    refine tj_getI fl_X4_180 dX4_runScript_36 (fun v110 => ?_)
    refine tj_put fl_X4_7 rfl rfl dX4_runScript_39 (fun σ => ?_)
    refine tj_aload_n dX4_runScript_42 rfl ?_
    refine tj_iconst (1 : Int32) dX4_runScript_43 rfl ?_
    refine tj_callV (as := [.int (1 : Int32)]) (rest := []) (st' := (fun r => [.int r])) (t := 1) (fun a e => by cases e; exact ct_X4_fail d _ _) (by decide) rfl q3974 q3976 qs62 q110 q3977 rfl md_X4_fail rfl (by decide) rfl (by decide) dX4_runScript_44 (fun _ => rfl) (fun r111 σ => ?_) (by decide)
    exact tj_iret dX4_runScript_47
theorem ct_X4_runScript : ∀ (d : Nat) (v0 : Option Nat), ct_ yX4_runScript (ws_ yX4_runScript cX4_runScript 2 (some .int)) d em_i [va_rf v0] (fn_X4_runScript d v0)
  | 0, _ => ct_fail
  | d + 1, v0 => ct_of [(false, va_rf v0)] [some (va_rf v0), none] (by decide) rfl ⟨rfl, (rf_cat _), trivial⟩ (fun E X n0 s0 σ => tj_X4_runScript_B0 d v0 σ)
theorem tj_X4_save_B0 {E : tj_E} {X : tj_X} {n0 s0 : Nat} (d : Nat) (v0 : Option Nat) (σ : hp_S) : tj_T E X RX4 "save" cX4_save 1 (some .int) (d + 1) [] n0 s0 em_i σ 0 [some (va_rf v0)] [] (fn_X4_save_B0 d v0) := by
  unfold fn_X4_save_B0
  refine tj_aload_n dX4_save_0 rfl ?_
  refine tj_iconst (0 : Int32) dX4_save_1 rfl ?_
  refine tj_put fl_X4_50 rfl rfl dX4_save_2 (fun σ => ?_)
  refine tj_aload_n dX4_save_5 rfl ?_
  refine tj_getR fl_X4_23r dX4_save_6 (fun v101 => ?_)
  refine tj_aload_n dX4_save_9 rfl ?_
  refine tj_getR fl_X4_16r dX4_save_10 (fun v102 => ?_)
  refine tj_callS (as := [va_rf v101, va_rf v102]) (rest := []) (st' := (fun _ => [])) (ct_X4_lays d v101 v102) q3964 q3965 q110 q3966 md_X4_lays rfl (by decide) rfl (by decide) dX4_save_13 (fun _ => rfl) (fun _ σ => ?_) (by decide)
  refine tj_aload_n dX4_save_16 rfl ?_
  refine tj_iconst (1 : Int32) dX4_save_17 rfl ?_
  refine tj_put fl_X4_224 rfl rfl dX4_save_18 (fun σ => ?_)
  refine tj_aload_n dX4_save_21 rfl ?_
  refine tj_getR fl_X4_16r dX4_save_22 (fun v103 => ?_)
  refine tj_iconst (3 : Int32) dX4_save_25 rfl ?_
  refine tj_iald dX4_save_26 (fun v104 => ?_)
  exact tj_iret dX4_save_27
theorem ct_X4_save : ∀ (d : Nat) (v0 : Option Nat), ct_ yX4_save (ws_ yX4_save cX4_save 1 (some .int)) d em_i [va_rf v0] (fn_X4_save d v0)
  | 0, _ => ct_fail
  | d + 1, v0 => ct_of [(false, va_rf v0)] [some (va_rf v0)] (by decide) rfl ⟨rfl, (rf_cat _), trivial⟩ (fun E X n0 s0 σ => tj_X4_save_B0 d v0 σ)
theorem tj_X4_serve_B0 {E : tj_E} {X : tj_X} {n0 s0 : Nat} (d : Nat) (v0 : Option Nat) (σ : hp_S) : tj_T E X RX4 "serve" cX4_serve 1 (some .int) (d + 1) [] n0 s0 em_i σ 0 [some (va_rf v0)] [] (fn_X4_serve_B0 d v0) := by
  unfold fn_X4_serve_B0
  refine tj_aload_n dX4_serve_0 rfl ?_
  refine tj_callV (as := []) (rest := []) (st' := (fun _ => [])) (t := 1) (fun a e => by cases e; exact ct_X4_begins d _) (by decide) rfl q3960 q3962 qs60 q110 q3963 rfl md_X4_begins rfl (by decide) rfl (by decide) dX4_serve_1 (fun _ => rfl) (fun _ σ => ?_) (by decide)
  refine tj_aload_n dX4_serve_4 rfl ?_
  refine tj_aload_n dX4_serve_5 rfl ?_
  refine tj_callV (as := []) (rest := [va_rf v0]) (st' := (fun r => [.int r, va_rf v0])) (t := 1) (fun a e => by cases e; exact ct_X4_serves d _) (by decide) rfl q4040 q4042 qs73 q110 q4043 rfl md_X4_serves rfl (by decide) rfl (by simp [rf_cat, cat_i, cat_l, cat_f, cat_d]) dX4_serve_6 (fun _ => rfl) (fun r101 σ => ?_) (by decide)
  refine tj_callV (as := [.int r101]) (rest := []) (st' := (fun r => [.int r])) (t := 1) (fun a e => by cases e; exact ct_X4_ends d _ _) (by decide) rfl q4000 q4002 qs67 q110 q4003 rfl md_X4_ends rfl (by decide) rfl (by decide) dX4_serve_9 (fun _ => rfl) (fun r102 σ => ?_) (by decide)
  exact tj_iret dX4_serve_12
theorem ct_X4_serve : ∀ (d : Nat) (v0 : Option Nat), ct_ yX4_serve (ws_ yX4_serve cX4_serve 1 (some .int)) d em_i [va_rf v0] (fn_X4_serve d v0)
  | 0, _ => ct_fail
  | d + 1, v0 => ct_of [(false, va_rf v0)] [some (va_rf v0)] (by decide) rfl ⟨rfl, (rf_cat _), trivial⟩ (fun E X n0 s0 σ => tj_X4_serve_B0 d v0 σ)
theorem tj_X4_servedTotal_B0 {E : tj_E} {X : tj_X} {n0 s0 : Nat} (d : Nat) (v0 : Option Nat) (σ : hp_S) : tj_T E X RX4 "servedTotal" cX4_servedTotal 1 (some .int) (d + 1) [] n0 s0 em_i σ 0 [some (va_rf v0)] [] (fn_X4_servedTotal_B0 d v0) := by
  unfold fn_X4_servedTotal_B0
  refine tj_aload_n dX4_servedTotal_0 rfl ?_
  refine tj_bipush (6 : Int32) dX4_servedTotal_1 (by decide) ?_
  refine tj_callV (as := [.int (6 : Int32)]) (rest := []) (st' := (fun r => [.int r])) (t := 1) (fun a e => by cases e; exact ct_X4_tells d _ _) (by decide) rfl q4080 q4082 qs78 q110 q4083 rfl md_X4_tells rfl (by decide) rfl (by decide) dX4_servedTotal_3 (fun _ => rfl) (fun r101 σ => ?_) (by decide)
  exact tj_iret dX4_servedTotal_6
theorem ct_X4_servedTotal : ∀ (d : Nat) (v0 : Option Nat), ct_ yX4_servedTotal (ws_ yX4_servedTotal cX4_servedTotal 1 (some .int)) d em_i [va_rf v0] (fn_X4_servedTotal d v0)
  | 0, _ => ct_fail
  | d + 1, v0 => ct_of [(false, va_rf v0)] [some (va_rf v0)] (by decide) rfl ⟨rfl, (rf_cat _), trivial⟩ (fun E X n0 s0 σ => tj_X4_servedTotal_B0 d v0 σ)
theorem tj_X4_staleCount_B0 {E : tj_E} {X : tj_X} {n0 s0 : Nat} (d : Nat) (v0 : Option Nat) (σ : hp_S) : tj_T E X RX4 "staleCount" cX4_staleCount 1 (some .int) (d + 1) [] n0 s0 em_i σ 0 [some (va_rf v0)] [] (fn_X4_staleCount_B0 d v0) := by
  unfold fn_X4_staleCount_B0
  refine tj_aload_n dX4_staleCount_0 rfl ?_
  refine tj_iconst (0 : Int32) dX4_staleCount_1 rfl ?_
  refine tj_put fl_X4_50 rfl rfl dX4_staleCount_2 (fun σ => ?_)
  refine tj_aload_n dX4_staleCount_5 rfl ?_
  refine tj_getR fl_X4_16r dX4_staleCount_6 (fun v101 => ?_)
  refine tj_iconst (5 : Int32) dX4_staleCount_9 rfl ?_
  refine tj_iald dX4_staleCount_10 (fun v102 => ?_)
  refine tj_aload_n dX4_staleCount_11 rfl ?_
  refine tj_getR fl_X4_16r dX4_staleCount_12 (fun v103 => ?_)
  refine tj_iconst (3 : Int32) dX4_staleCount_15 rfl ?_
  refine tj_iald dX4_staleCount_16 (fun v104 => ?_)
  refine tj_isub dX4_staleCount_17 ?_
  exact tj_iret dX4_staleCount_18
theorem ct_X4_staleCount : ∀ (d : Nat) (v0 : Option Nat), ct_ yX4_staleCount (ws_ yX4_staleCount cX4_staleCount 1 (some .int)) d em_i [va_rf v0] (fn_X4_staleCount d v0)
  | 0, _ => ct_fail
  | d + 1, v0 => ct_of [(false, va_rf v0)] [some (va_rf v0)] (by decide) rfl ⟨rfl, (rf_cat _), trivial⟩ (fun E X n0 s0 σ => tj_X4_staleCount_B0 d v0 σ)
theorem tj_X4_startOf_B0 {E : tj_E} {X : tj_X} {n0 s0 : Nat} (d : Nat) (v0 : Option Nat) (v1 : Int32) (σ : hp_S) : tj_T E X RX4 "startOf" cX4_startOf 2 (some .int) (d + 1) [] n0 s0 em_i σ 0 [some (va_rf v0), some (.int v1)] [] (fn_X4_startOf_B0 d v0 v1) := by
  unfold fn_X4_startOf_B0
  refine tj_aload_n dX4_startOf_0 rfl ?_
  refine tj_iload_n dX4_startOf_1 rfl ?_
  refine tj_iconst (0 : Int32) dX4_startOf_2 rfl ?_
  refine tj_callV (as := [.int v1, .int (0 : Int32)]) (rest := []) (st' := (fun r => [.int r])) (t := 1) (fun a e => by cases e; exact ct_X4_shift d _ _ _) (by decide) rfl q4169 q4171 qs82 q110 q4172 rfl md_X4_shift rfl (by decide) rfl (by decide) dX4_startOf_3 (fun _ => rfl) (fun r101 σ => ?_) (by decide)
  exact tj_iret dX4_startOf_6
theorem ct_X4_startOf : ∀ (d : Nat) (v0 : Option Nat) (v1 : Int32), ct_ yX4_startOf (ws_ yX4_startOf cX4_startOf 2 (some .int)) d em_i [va_rf v0, .int v1] (fn_X4_startOf d v0 v1)
  | 0, _, _ => ct_fail
  | d + 1, v0, v1 => ct_of [(false, va_rf v0), (false, .int v1)] [some (va_rf v0), some (.int v1)] (by decide) rfl ⟨rfl, (rf_cat _), ⟨rfl, rfl, trivial⟩⟩ (fun E X n0 s0 σ => tj_X4_startOf_B0 d v0 v1 σ)
theorem tj_X4_thrown_B0 {E : tj_E} {X : tj_X} {n0 s0 : Nat} (d : Nat) (v0 : Option Nat) (σ : hp_S) : tj_T E X RX4 "thrown" cX4_thrown 1 (some .int) (d + 1) [] n0 s0 em_i σ 0 [some (va_rf v0)] [] (fn_X4_thrown_B0 d v0) := by
  unfold fn_X4_thrown_B0
  refine tj_aload_n dX4_thrown_0 rfl ?_
  refine tj_getI fl_X4_50 dX4_thrown_1 (fun v101 => ?_)
  exact tj_iret dX4_thrown_4
theorem ct_X4_thrown : ∀ (d : Nat) (v0 : Option Nat), ct_ yX4_thrown (ws_ yX4_thrown cX4_thrown 1 (some .int)) d em_i [va_rf v0] (fn_X4_thrown d v0)
  | 0, _ => ct_fail
  | d + 1, v0 => ct_of [(false, va_rf v0)] [some (va_rf v0)] (by decide) rfl ⟨rfl, (rf_cat _), trivial⟩ (fun E X n0 s0 σ => tj_X4_thrown_B0 d v0 σ)
theorem tj_X4_thrownTotal_B0 {E : tj_E} {X : tj_X} {n0 s0 : Nat} (d : Nat) (v0 : Option Nat) (σ : hp_S) : tj_T E X RX4 "thrownTotal" cX4_thrownTotal 1 (some .int) (d + 1) [] n0 s0 em_i σ 0 [some (va_rf v0)] [] (fn_X4_thrownTotal_B0 d v0) := by
  unfold fn_X4_thrownTotal_B0
  refine tj_aload_n dX4_thrownTotal_0 rfl ?_
  refine tj_bipush (9 : Int32) dX4_thrownTotal_1 (by decide) ?_
  refine tj_callV (as := [.int (9 : Int32)]) (rest := []) (st' := (fun r => [.int r])) (t := 1) (fun a e => by cases e; exact ct_X4_tells d _ _) (by decide) rfl q4080 q4082 qs78 q110 q4083 rfl md_X4_tells rfl (by decide) rfl (by decide) dX4_thrownTotal_3 (fun _ => rfl) (fun r101 σ => ?_) (by decide)
  exact tj_iret dX4_thrownTotal_6
theorem ct_X4_thrownTotal : ∀ (d : Nat) (v0 : Option Nat), ct_ yX4_thrownTotal (ws_ yX4_thrownTotal cX4_thrownTotal 1 (some .int)) d em_i [va_rf v0] (fn_X4_thrownTotal d v0)
  | 0, _ => ct_fail
  | d + 1, v0 => ct_of [(false, va_rf v0)] [some (va_rf v0)] (by decide) rfl ⟨rfl, (rf_cat _), trivial⟩ (fun E X n0 s0 σ => tj_X4_thrownTotal_B0 d v0 σ)
theorem tj_X4_ticketAtRank_J22 {E : tj_E} {X : tj_X} {n0 s0 : Nat} (d : Nat) (l0 : Option Nat) (l1 : Int32) (p0 : Option Nat) (p1 : Int32) (σ : hp_S) : tj_T E X RX4 "ticketAtRank" cX4_ticketAtRank 2 (some .int) (d + 1) [] n0 s0 em_i σ 22 [some (va_rf l0), some (.int l1)] [.int p1, va_rf p0] (fn_X4_ticketAtRank_J22 d l0 l1 p0 p1) := by
  unfold fn_X4_ticketAtRank_J22
  refine tj_put fl_X4_50 rfl rfl dX4_ticketAtRank_22 (fun σ => ?_)
  refine tj_aload_n dX4_ticketAtRank_25 rfl ?_
  refine tj_getI fl_X4_50 dX4_ticketAtRank_26 (fun v101 => ?_)
  refine tj_if_ne 44 dX4_ticketAtRank_29 rfl (fun _ => ?_) (fun _ => ?_)
  · refine tj_aload_n dX4_ticketAtRank_32 rfl ?_
    refine tj_getR fl_X4_16r dX4_ticketAtRank_33 (fun v102 => ?_)
    refine tj_iload_n dX4_ticketAtRank_36 rfl ?_
    refine tj_callS (as := [.int l1]) (rest := [va_rf v102]) (st' := (fun r => [.int r, va_rf v102])) (ct_X4_pile d l1) q3993 q3994 q110 q3995 md_X4_pile rfl (by decide) rfl (by simp [rf_cat, cat_i, cat_l, cat_f, cat_d]) dX4_ticketAtRank_37 (fun _ => rfl) (fun r103 σ => ?_) (by decide)
    refine tj_iald dX4_ticketAtRank_40 (fun v104 => ?_)
    refine tj_goto 45 dX4_ticketAtRank_41 rfl ?_
    exact tj_iret dX4_ticketAtRank_45
  · refine tj_iconst (0 : Int32) dX4_ticketAtRank_44 rfl ?_
    exact tj_iret dX4_ticketAtRank_45
theorem tj_X4_ticketAtRank_B0 {E : tj_E} {X : tj_X} {n0 s0 : Nat} (d : Nat) (v0 : Option Nat) (v1 : Int32) (σ : hp_S) : tj_T E X RX4 "ticketAtRank" cX4_ticketAtRank 2 (some .int) (d + 1) [] n0 s0 em_i σ 0 [some (va_rf v0), some (.int v1)] [] (fn_X4_ticketAtRank_B0 d v0 v1) := by
  unfold fn_X4_ticketAtRank_B0
  refine tj_aload_n dX4_ticketAtRank_0 rfl ?_
  refine tj_iload_n dX4_ticketAtRank_1 rfl ?_
  refine tj_iconst (0 : Int32) dX4_ticketAtRank_2 rfl ?_
  refine tj_aload_n dX4_ticketAtRank_3 rfl ?_
  refine tj_getR fl_X4_16r dX4_ticketAtRank_4 (fun v101 => ?_)
  refine tj_iconst (5 : Int32) dX4_ticketAtRank_7 rfl ?_
  refine tj_iald dX4_ticketAtRank_8 (fun v102 => ?_)
  refine tj_iconst (1 : Int32) dX4_ticketAtRank_9 rfl ?_
  refine tj_isub dX4_ticketAtRank_10 ?_
  refine tj_callS (as := [.int v1, .int (0 : Int32), .int (v102 - (1 : Int32))]) (rest := [va_rf v0]) (st' := (fun r => [.int r, va_rf v0])) (ct_X4_isIn d v1 (0 : Int32) _) q3971 q3972 q110 q3973 md_X4_isIn rfl (by decide) rfl (by simp [rf_cat, cat_i, cat_l, cat_f, cat_d]) dX4_ticketAtRank_11 (fun _ => rfl) (fun r103 σ => ?_) (by decide)
  refine tj_if_eq 21 dX4_ticketAtRank_14 rfl (fun _ => ?_) (fun _ => ?_)
  · refine tj_iconst (1 : Int32) dX4_ticketAtRank_21 rfl ?_
    exact tj_X4_ticketAtRank_J22 d v0 v1 v0 (1 : Int32) _
  · refine tj_iconst (0 : Int32) dX4_ticketAtRank_17 rfl ?_
    refine tj_goto 22 dX4_ticketAtRank_18 rfl ?_
    exact tj_X4_ticketAtRank_J22 d v0 v1 v0 (0 : Int32) _
theorem ct_X4_ticketAtRank : ∀ (d : Nat) (v0 : Option Nat) (v1 : Int32), ct_ yX4_ticketAtRank (ws_ yX4_ticketAtRank cX4_ticketAtRank 2 (some .int)) d em_i [va_rf v0, .int v1] (fn_X4_ticketAtRank d v0 v1)
  | 0, _, _ => ct_fail
  | d + 1, v0, v1 => ct_of [(false, va_rf v0), (false, .int v1)] [some (va_rf v0), some (.int v1)] (by decide) rfl ⟨rfl, (rf_cat _), ⟨rfl, rfl, trivial⟩⟩ (fun E X n0 s0 σ => tj_X4_ticketAtRank_B0 d v0 v1 σ)
theorem tj_X4_ticketCount_B0 {E : tj_E} {X : tj_X} {n0 s0 : Nat} (d : Nat) (v0 : Option Nat) (σ : hp_S) : tj_T E X RX4 "ticketCount" cX4_ticketCount 1 (some .int) (d + 1) [] n0 s0 em_i σ 0 [some (va_rf v0)] [] (fn_X4_ticketCount_B0 d v0) := by
  unfold fn_X4_ticketCount_B0
  refine tj_aload_n dX4_ticketCount_0 rfl ?_
  refine tj_iconst (5 : Int32) dX4_ticketCount_1 rfl ?_
  refine tj_callV (as := [.int (5 : Int32)]) (rest := []) (st' := (fun r => [.int r])) (t := 1) (fun a e => by cases e; exact ct_X4_tells d _ _) (by decide) rfl q4080 q4082 qs78 q110 q4083 rfl md_X4_tells rfl (by decide) rfl (by decide) dX4_ticketCount_2 (fun _ => rfl) (fun r101 σ => ?_) (by decide)
  exact tj_iret dX4_ticketCount_5
theorem ct_X4_ticketCount : ∀ (d : Nat) (v0 : Option Nat), ct_ yX4_ticketCount (ws_ yX4_ticketCount cX4_ticketCount 1 (some .int)) d em_i [va_rf v0] (fn_X4_ticketCount d v0)
  | 0, _ => ct_fail
  | d + 1, v0 => ct_of [(false, va_rf v0)] [some (va_rf v0)] (by decide) rfl ⟨rfl, (rf_cat _), trivial⟩ (fun E X n0 s0 σ => tj_X4_ticketCount_B0 d v0 σ)
theorem tj_X4_ticketOf_B0 {E : tj_E} {X : tj_X} {n0 s0 : Nat} (d : Nat) (v0 : Option Nat) (v1 : Int32) (σ : hp_S) : tj_T E X RX4 "ticketOf" cX4_ticketOf 2 (some .int) (d + 1) [] n0 s0 em_i σ 0 [some (va_rf v0), some (.int v1)] [] (fn_X4_ticketOf_B0 d v0 v1) := by
  unfold fn_X4_ticketOf_B0
  refine tj_aload_n dX4_ticketOf_0 rfl ?_
  refine tj_iload_n dX4_ticketOf_1 rfl ?_
  refine tj_iconst (4 : Int32) dX4_ticketOf_2 rfl ?_
  refine tj_callV (as := [.int v1, .int (4 : Int32)]) (rest := []) (st' := (fun r => [.int r])) (t := 1) (fun a e => by cases e; exact ct_X4_about d _ _ _) (by decide) rfl q4092 q4094 qs79 q110 q4095 rfl md_X4_about rfl (by decide) rfl (by decide) dX4_ticketOf_3 (fun _ => rfl) (fun r101 σ => ?_) (by decide)
  exact tj_iret dX4_ticketOf_6
theorem ct_X4_ticketOf : ∀ (d : Nat) (v0 : Option Nat) (v1 : Int32), ct_ yX4_ticketOf (ws_ yX4_ticketOf cX4_ticketOf 2 (some .int)) d em_i [va_rf v0, .int v1] (fn_X4_ticketOf d v0 v1)
  | 0, _, _ => ct_fail
  | d + 1, v0, v1 => ct_of [(false, va_rf v0), (false, .int v1)] [some (va_rf v0), some (.int v1)] (by decide) rfl ⟨rfl, (rf_cat _), ⟨rfl, rfl, trivial⟩⟩ (fun E X n0 s0 σ => tj_X4_ticketOf_B0 d v0 v1 σ)
theorem tj_X4_ticketsByAccounts_B0 {E : tj_E} {X : tj_X} {n0 s0 : Nat} (d : Nat) (v0 : Option Nat) (σ : hp_S) : tj_T E X RX4 "ticketsByAccounts" cX4_ticketsByAccounts 1 (some .int) (d + 1) [] n0 s0 em_i σ 0 [some (va_rf v0)] [] (fn_X4_ticketsByAccounts_B0 d v0) := by
  unfold fn_X4_ticketsByAccounts_B0
  refine tj_aload_n dX4_ticketsByAccounts_0 rfl ?_
  refine tj_iconst (5 : Int32) dX4_ticketsByAccounts_1 rfl ?_
  refine tj_callV (as := [.int (5 : Int32)]) (rest := []) (st' := (fun r => [.int r])) (t := 1) (fun a e => by cases e; exact ct_X4_tells d _ _) (by decide) rfl q4080 q4082 qs78 q110 q4083 rfl md_X4_tells rfl (by decide) rfl (by decide) dX4_ticketsByAccounts_2 (fun _ => rfl) (fun r101 σ => ?_) (by decide)
  exact tj_iret dX4_ticketsByAccounts_5
theorem ct_X4_ticketsByAccounts : ∀ (d : Nat) (v0 : Option Nat), ct_ yX4_ticketsByAccounts (ws_ yX4_ticketsByAccounts cX4_ticketsByAccounts 1 (some .int)) d em_i [va_rf v0] (fn_X4_ticketsByAccounts d v0)
  | 0, _ => ct_fail
  | d + 1, v0 => ct_of [(false, va_rf v0)] [some (va_rf v0)] (by decide) rfl ⟨rfl, (rf_cat _), trivial⟩ (fun E X n0 s0 σ => tj_X4_ticketsByAccounts_B0 d v0 σ)
theorem tj_X4_type_J30 {E : tj_E} {X : tj_X} {n0 s0 : Nat} (d : Nat) (l0 : Option Nat) (l1 : Int32) (p0 : Option Nat) (p1 : Int32) (σ : hp_S) : tj_T E X RX4 "type" cX4_type 2 (some .int) (d + 1) [] n0 s0 em_i σ 30 [some (va_rf l0), some (.int l1)] [.int p1, va_rf p0] (fn_X4_type_J30 d l0 l1 p0 p1) := by
  unfold fn_X4_type_J30
  refine tj_put fl_X4_50 rfl rfl dX4_type_30 (fun σ => ?_)
  refine tj_aload_n dX4_type_33 rfl ?_
  refine tj_getI fl_X4_50 dX4_type_34 (fun v101 => ?_)
  refine tj_if_eq 42 dX4_type_37 rfl (fun _ => ?_) (fun _ => ?_)
  · refine tj_aload_n dX4_type_42 rfl ?_
    refine tj_getR fl_X4_32r dX4_type_43 (fun v102 => ?_)
    refine tj_aload_n dX4_type_46 rfl ?_
    refine tj_getI fl_X4_177 dX4_type_47 (fun v103 => ?_)
    refine tj_iload_n dX4_type_50 rfl ?_
    refine tj_iast dX4_type_51 (fun σ => ?_)
    refine tj_aload_n dX4_type_52 rfl ?_
    refine tj_dup dX4_type_53 (rf_cat _) ?_
    refine tj_getI fl_X4_177 dX4_type_54 (fun v104 => ?_)
    refine tj_iconst (1 : Int32) dX4_type_57 rfl ?_
    refine tj_iadd dX4_type_58 ?_
    refine tj_put fl_X4_177 rfl rfl dX4_type_59 (fun σ => ?_)
    refine tj_aload_n dX4_type_62 rfl ?_
    refine tj_getI fl_X4_177 dX4_type_63 (fun v105 => ?_)
    exact tj_iret dX4_type_66
  · refine tj_iconst (0 : Int32) dX4_type_40 rfl ?_
    exact tj_iret dX4_type_41
theorem tj_X4_type_B0 {E : tj_E} {X : tj_X} {n0 s0 : Nat} (d : Nat) (v0 : Option Nat) (v1 : Int32) (σ : hp_S) : tj_T E X RX4 "type" cX4_type 2 (some .int) (d + 1) [] n0 s0 em_i σ 0 [some (va_rf v0), some (.int v1)] [] (fn_X4_type_B0 d v0 v1) := by
  unfold fn_X4_type_B0
  refine tj_aload_n dX4_type_0 rfl ?_
  refine tj_iload_n dX4_type_1 rfl ?_
  refine tj_bipush (32 : Int32) dX4_type_2 (by decide) ?_
  refine tj_bipush (126 : Int32) dX4_type_4 (by decide) ?_
  refine tj_callS (as := [.int v1, .int (32 : Int32), .int (126 : Int32)]) (rest := [va_rf v0]) (st' := (fun r => [.int r, va_rf v0])) (ct_X4_isIn d v1 (32 : Int32) (126 : Int32)) q3971 q3972 q110 q3973 md_X4_isIn rfl (by decide) rfl (by simp [rf_cat, cat_i, cat_l, cat_f, cat_d]) dX4_type_6 (fun _ => rfl) (fun r101 σ => ?_) (by decide)
  refine tj_if_ne 16 dX4_type_9 rfl (fun _ => ?_) (fun _ => ?_)
  · refine tj_iconst (1 : Int32) dX4_type_12 rfl ?_
    refine tj_goto 30 dX4_type_13 rfl ?_
    exact tj_X4_type_J30 d v0 v1 v0 (1 : Int32) _
  · refine tj_aload_n dX4_type_16 rfl ?_
    refine tj_getI fl_X4_177 dX4_type_17 (fun v102 => ?_)
    refine tj_bipush (60 : Int32) dX4_type_20 (by decide) ?_
    refine tj_icmp_ne 29 dX4_type_22 rfl (fun _ => ?_) (fun _ => ?_)
    · refine tj_iconst (2 : Int32) dX4_type_25 rfl ?_
      refine tj_goto 30 dX4_type_26 rfl ?_
      exact tj_X4_type_J30 d v0 v1 v0 (2 : Int32) _
    · refine tj_iconst (0 : Int32) dX4_type_29 rfl ?_
      exact tj_X4_type_J30 d v0 v1 v0 (0 : Int32) _
theorem ct_X4_type : ∀ (d : Nat) (v0 : Option Nat) (v1 : Int32), ct_ yX4_type (ws_ yX4_type cX4_type 2 (some .int)) d em_i [va_rf v0, .int v1] (fn_X4_type d v0 v1)
  | 0, _, _ => ct_fail
  | d + 1, v0, v1 => ct_of [(false, va_rf v0), (false, .int v1)] [some (va_rf v0), some (.int v1)] (by decide) rfl ⟨rfl, (rf_cat _), ⟨rfl, rfl, trivial⟩⟩ (fun E X n0 s0 σ => tj_X4_type_B0 d v0 v1 σ)
theorem tj_X4_undo_L37_b {E : tj_E} {X : tj_X} {n0 s0 : Nat} (d : Nat) {b37 : Option Nat → Int32 → mx_M Int32} (h37 : ∀ (l0 : Option Nat) (l1 : Int32) (σ : hp_S), tj_T E X RX4 "undo" cX4_undo 2 (some .int) (d + 1) [] n0 s0 em_i σ 37 [some (va_rf l0), some (.int l1)] [] (b37 l0 l1)) (l0 : Option Nat) (l1 : Int32) (σ : hp_S) : tj_T E X RX4 "undo" cX4_undo 2 (some .int) (d + 1) [] n0 s0 em_i σ 37 [some (va_rf l0), some (.int l1)] [] (fn_X4_undo_L37_b d b37 l0 l1) := by
  unfold fn_X4_undo_L37_b
  refine tj_iload_n dX4_undo_37 rfl ?_
  refine tj_bipush (112 : Int32) dX4_undo_38 (by decide) ?_
  refine tj_icmp_ge 69 dX4_undo_40 rfl (fun _ => ?_) (fun _ => ?_)
  · refine tj_aload_n dX4_undo_69 rfl ?_
    refine tj_getI fl_X4_57 dX4_undo_70 (fun v101 => ?_)
    exact tj_iret dX4_undo_73
  · refine tj_aload_n dX4_undo_43 rfl ?_
    refine tj_getR fl_X4_16r dX4_undo_44 (fun v102 => ?_)
    refine tj_iload_n dX4_undo_47 rfl ?_
    refine tj_aload_n dX4_undo_48 rfl ?_
    refine tj_getR fl_X4_26r dX4_undo_49 (fun v103 => ?_)
    refine tj_aload_n dX4_undo_52 rfl ?_
    refine tj_getI fl_X4_57 dX4_undo_53 (fun v104 => ?_)
    refine tj_bipush (112 : Int32) dX4_undo_56 (by decide) ?_
    refine tj_imul dX4_undo_58 ?_
    refine tj_iload_n dX4_undo_59 rfl ?_
    refine tj_iadd dX4_undo_60 ?_
    refine tj_iald dX4_undo_61 (fun v105 => ?_)
    refine tj_iast dX4_undo_62 (fun σ => ?_)
    refine tj_iinc (1 : Int32) dX4_undo_63 rfl rfl (by decide) (rf_cat _) [some (va_rf l0), some (.int (l1 + (1 : Int32)))] rfl ?_
    refine tj_goto 37 dX4_undo_66 rfl ?_
    exact h37 l0 _ _
theorem tj_X4_undo_L37 {E : tj_E} {X : tj_X} {n0 s0 : Nat} (d : Nat) : ∀ (k : Nat) (l0 : Option Nat) (l1 : Int32) (σ : hp_S), tj_T E X RX4 "undo" cX4_undo 2 (some .int) (d + 1) [] n0 s0 em_i σ 37 [some (va_rf l0), some (.int l1)] [] (fn_X4_undo_L37 d k l0 l1) := by
  intro k
  induction k with
  | zero =>
    intro l0 l1 σ
    exact tj_fail
  | succ k ih =>
    intro l0 l1 σ
    exact tj_X4_undo_L37_b d ih l0 l1 σ
theorem tj_X4_undo_J13 {E : tj_E} {X : tj_X} {n0 s0 : Nat} (d : Nat) (l0 : Option Nat) (p0 : Option Nat) (p1 : Int32) (σ : hp_S) : tj_T E X RX4 "undo" cX4_undo 2 (some .int) (d + 1) [] n0 s0 em_i σ 13 [some (va_rf l0), none] [.int p1, va_rf p0] (fn_X4_undo_J13 d l0 p0 p1) := by
  unfold fn_X4_undo_J13
  refine tj_put fl_X4_50 rfl rfl dX4_undo_13 (fun σ => ?_)
  refine tj_aload_n dX4_undo_16 rfl ?_
  refine tj_getI fl_X4_50 dX4_undo_17 (fun v101 => ?_)
  refine tj_if_eq 25 dX4_undo_20 rfl (fun _ => ?_) (fun _ => ?_)
  · refine tj_aload_n dX4_undo_25 rfl ?_
    refine tj_dup dX4_undo_26 (rf_cat _) ?_
    refine tj_getI fl_X4_57 dX4_undo_27 (fun v102 => ?_)
    refine tj_iconst (1 : Int32) dX4_undo_30 rfl ?_
    refine tj_isub dX4_undo_31 ?_
    refine tj_put fl_X4_57 rfl rfl dX4_undo_32 (fun σ => ?_)
    refine tj_iconst (0 : Int32) dX4_undo_35 rfl ?_
    refine tj_istore_n dX4_undo_36 (by decide) (rf_cat _) [some (va_rf l0), some (.int (0 : Int32))] rfl ?_
    exact tj_X4_undo_L37 d mx_K l0 (0 : Int32) _
  · refine tj_iconst (0 : Int32) dX4_undo_23 rfl ?_
    exact tj_iret dX4_undo_24
theorem tj_X4_undo_B0 {E : tj_E} {X : tj_X} {n0 s0 : Nat} (d : Nat) (v0 : Option Nat) (σ : hp_S) : tj_T E X RX4 "undo" cX4_undo 2 (some .int) (d + 1) [] n0 s0 em_i σ 0 [some (va_rf v0), none] [] (fn_X4_undo_B0 d v0) := by
  unfold fn_X4_undo_B0
  refine tj_aload_n dX4_undo_0 rfl ?_
  refine tj_aload_n dX4_undo_1 rfl ?_
  refine tj_getI fl_X4_57 dX4_undo_2 (fun v101 => ?_)
  refine tj_if_ne 12 dX4_undo_5 rfl (fun _ => ?_) (fun _ => ?_)
  · refine tj_iconst (1 : Int32) dX4_undo_8 rfl ?_
    refine tj_goto 13 dX4_undo_9 rfl ?_
    exact tj_X4_undo_J13 d v0 v0 (1 : Int32) _
  · refine tj_iconst (0 : Int32) dX4_undo_12 rfl ?_
    exact tj_X4_undo_J13 d v0 v0 (0 : Int32) _
theorem ct_X4_undo : ∀ (d : Nat) (v0 : Option Nat), ct_ yX4_undo (ws_ yX4_undo cX4_undo 2 (some .int)) d em_i [va_rf v0] (fn_X4_undo d v0)
  | 0, _ => ct_fail
  | d + 1, v0 => ct_of [(false, va_rf v0)] [some (va_rf v0), none] (by decide) rfl ⟨rfl, (rf_cat _), trivial⟩ (fun E X n0 s0 σ => tj_X4_undo_B0 d v0 σ)
theorem tj_X4_yawn_B0 {E : tj_E} {X : tj_X} {n0 s0 : Nat} (d : Nat) (v0 : Option Nat) (v1 : Int32) (v2 : Int32) (σ : hp_S) : tj_T E X RX4 "yawn" cX4_yawn 3 (some .int) (d + 1) [] n0 s0 em_i σ 0 [some (va_rf v0), some (.int v1), some (.int v2)] [] (fn_X4_yawn_B0 d v0 v1 v2) := by
  unfold fn_X4_yawn_B0
  refine tj_aload_n dX4_yawn_0 rfl ?_
  refine tj_callV (as := []) (rest := []) (st' := (fun _ => [])) (t := 1) (fun a e => by cases e; exact ct_X4_begins d _) (by decide) rfl q3960 q3962 qs60 q110 q3963 rfl md_X4_begins rfl (by decide) rfl (by decide) dX4_yawn_1 (fun _ => rfl) (fun _ σ => ?_) (by decide)
  refine tj_aload_n dX4_yawn_4 rfl ?_
  refine tj_aload_n dX4_yawn_5 rfl ?_
  refine tj_iload_n dX4_yawn_6 rfl ?_
  refine tj_iload_n dX4_yawn_7 rfl ?_
  refine tj_iconst (-1 : Int32) dX4_yawn_8 rfl ?_
  refine tj_callV (as := [.int v1, .int v2, .int (-1 : Int32)]) (rest := [va_rf v0]) (st' := (fun r => [.int r, va_rf v0])) (t := 1) (fun a e => by cases e; exact ct_X4_roars d _ _ _ _) (by decide) rfl q4008 q4010 qs68 q110 q4011 rfl md_X4_roars rfl (by decide) rfl (by simp [rf_cat, cat_i, cat_l, cat_f, cat_d]) dX4_yawn_9 (fun _ => rfl) (fun r101 σ => ?_) (by decide)
  refine tj_callV (as := [.int r101]) (rest := []) (st' := (fun r => [.int r])) (t := 1) (fun a e => by cases e; exact ct_X4_ends d _ _) (by decide) rfl q4000 q4002 qs67 q110 q4003 rfl md_X4_ends rfl (by decide) rfl (by decide) dX4_yawn_12 (fun _ => rfl) (fun r102 σ => ?_) (by decide)
  exact tj_iret dX4_yawn_15
theorem ct_X4_yawn : ∀ (d : Nat) (v0 : Option Nat) (v1 : Int32) (v2 : Int32), ct_ yX4_yawn (ws_ yX4_yawn cX4_yawn 3 (some .int)) d em_i [va_rf v0, .int v1, .int v2] (fn_X4_yawn d v0 v1 v2)
  | 0, _, _, _ => ct_fail
  | d + 1, v0, v1, v2 => ct_of [(false, va_rf v0), (false, .int v1), (false, .int v2)] [some (va_rf v0), some (.int v1), some (.int v2)] (by decide) rfl ⟨rfl, (rf_cat _), ⟨rfl, rfl, ⟨rfl, rfl, trivial⟩⟩⟩ (fun E X n0 s0 σ => tj_X4_yawn_B0 d v0 v1 v2 σ)
