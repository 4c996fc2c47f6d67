set_option maxRecDepth 100000
theorem tj_L_law_J2489 {E : tj_E} {X : tj_X} {n0 s0 : Nat} (d : Nat) {b28 : Option Nat → Option Nat → Option Nat → Option Nat → Option Nat → Int32 → mx_M Int32} (h28 : ∀ (l0 : Option Nat) (l1 : Option Nat) (l2 : Option Nat) (l3 : Option Nat) (l4 : Option Nat) (l5 : Int32) (σ : hp_S), tj_T E X RX0 "law" code 9 (some .boolean) (d + 1) [] n0 s0 em_i σ 28 [some (va_rf l0), some (va_rf l1), some (va_rf l2), some (va_rf l3), some (va_rf l4), some (.int l5), none, none, none] [] (b28 l0 l1 l2 l3 l4 l5)) (l0 : Option Nat) (l1 : Option Nat) (l2 : Option Nat) (l3 : Option Nat) (l4 : Option Nat) (l5 : Int32) (σ : hp_S) : tj_T E X RX0 "law" code 9 (some .boolean) (d + 1) [] n0 s0 em_i σ 2489 [some (va_rf l0), some (va_rf l1), some (va_rf l2), some (va_rf l3), some (va_rf l4), some (.int l5), none, none, none] [] (fn_L_law_J2489 d b28 l0 l1 l2 l3 l4 l5) := by
  unfold fn_L_law_J2489
  refine tj_iinc (4 : Int32) dL_law_2489 rfl rfl (by decide) (rf_cat _) [some (va_rf l0), some (va_rf l1), some (va_rf l2), some (va_rf l3), some (va_rf l4), some (.int (l5 + (4 : Int32))), none, none, none] rfl ?_
  refine tj_goto 28 dL_law_2492 rfl ?_
  exact h28 l0 l1 l2 l3 l4 _ _
theorem tj_L_law_J349 {E : tj_E} {X : tj_X} {n0 s0 : Nat} (d : Nat) {b28 : Option Nat → Option Nat → Option Nat → Option Nat → Option Nat → Int32 → mx_M Int32} (h28 : ∀ (l0 : Option Nat) (l1 : Option Nat) (l2 : Option Nat) (l3 : Option Nat) (l4 : Option Nat) (l5 : Int32) (σ : hp_S), tj_T E X RX0 "law" code 9 (some .boolean) (d + 1) [] n0 s0 em_i σ 28 [some (va_rf l0), some (va_rf l1), some (va_rf l2), some (va_rf l3), some (va_rf l4), some (.int l5), none, none, none] [] (b28 l0 l1 l2 l3 l4 l5)) (l0 : Option Nat) (l1 : Option Nat) (l2 : Option Nat) (l3 : Option Nat) (l4 : Option Nat) (l5 : Int32) (σ : hp_S) : tj_T E X RX0 "law" code 9 (some .boolean) (d + 1) [] n0 s0 em_i σ 349 [some (va_rf l0), some (va_rf l1), some (va_rf l2), some (va_rf l3), some (va_rf l4), some (.int l5), none, none, none] [] (fn_L_law_J349 d b28 l0 l1 l2 l3 l4 l5) := by
  unfold fn_L_law_J349
  refine tj_goto 2489 dL_law_349 rfl ?_
  exact tj_L_law_J2489 d h28 l0 l1 l2 l3 l4 l5 _
theorem tj_L_law_J417 {E : tj_E} {X : tj_X} {n0 s0 : Nat} (d : Nat) {b28 : Option Nat → Option Nat → Option Nat → Option Nat → Option Nat → Int32 → mx_M Int32} (h28 : ∀ (l0 : Option Nat) (l1 : Option Nat) (l2 : Option Nat) (l3 : Option Nat) (l4 : Option Nat) (l5 : Int32) (σ : hp_S), tj_T E X RX0 "law" code 9 (some .boolean) (d + 1) [] n0 s0 em_i σ 28 [some (va_rf l0), some (va_rf l1), some (va_rf l2), some (va_rf l3), some (va_rf l4), some (.int l5), none, none, none] [] (b28 l0 l1 l2 l3 l4 l5)) (l0 : Option Nat) (l1 : Option Nat) (l2 : Option Nat) (l3 : Option Nat) (l4 : Option Nat) (l5 : Int32) (σ : hp_S) : tj_T E X RX0 "law" code 9 (some .boolean) (d + 1) [] n0 s0 em_i σ 417 [some (va_rf l0), some (va_rf l1), some (va_rf l2), some (va_rf l3), some (va_rf l4), some (.int l5), none, none, none] [] (fn_L_law_J417 d b28 l0 l1 l2 l3 l4 l5) := by
  unfold fn_L_law_J417
  refine tj_goto 2489 dL_law_417 rfl ?_
  exact tj_L_law_J2489 d h28 l0 l1 l2 l3 l4 l5 _
theorem tj_L_law_J485 {E : tj_E} {X : tj_X} {n0 s0 : Nat} (d : Nat) {b28 : Option Nat → Option Nat → Option Nat → Option Nat → Option Nat → Int32 → mx_M Int32} (h28 : ∀ (l0 : Option Nat) (l1 : Option Nat) (l2 : Option Nat) (l3 : Option Nat) (l4 : Option Nat) (l5 : Int32) (σ : hp_S), tj_T E X RX0 "law" code 9 (some .boolean) (d + 1) [] n0 s0 em_i σ 28 [some (va_rf l0), some (va_rf l1), some (va_rf l2), some (va_rf l3), some (va_rf l4), some (.int l5), none, none, none] [] (b28 l0 l1 l2 l3 l4 l5)) (l0 : Option Nat) (l1 : Option Nat) (l2 : Option Nat) (l3 : Option Nat) (l4 : Option Nat) (l5 : Int32) (σ : hp_S) : tj_T E X RX0 "law" code 9 (some .boolean) (d + 1) [] n0 s0 em_i σ 485 [some (va_rf l0), some (va_rf l1), some (va_rf l2), some (va_rf l3), some (va_rf l4), some (.int l5), none, none, none] [] (fn_L_law_J485 d b28 l0 l1 l2 l3 l4 l5) := by
  unfold fn_L_law_J485
  refine tj_goto 2489 dL_law_485 rfl ?_
  exact tj_L_law_J2489 d h28 l0 l1 l2 l3 l4 l5 _
theorem tj_L_law_J541 {E : tj_E} {X : tj_X} {n0 s0 : Nat} (d : Nat) {b28 : Option Nat → Option Nat → Option Nat → Option Nat → Option Nat → Int32 → mx_M Int32} (h28 : ∀ (l0 : Option Nat) (l1 : Option Nat) (l2 : Option Nat) (l3 : Option Nat) (l4 : Option Nat) (l5 : Int32) (σ : hp_S), tj_T E X RX0 "law" code 9 (some .boolean) (d + 1) [] n0 s0 em_i σ 28 [some (va_rf l0), some (va_rf l1), some (va_rf l2), some (va_rf l3), some (va_rf l4), some (.int l5), none, none, none] [] (b28 l0 l1 l2 l3 l4 l5)) (l0 : Option Nat) (l1 : Option Nat) (l2 : Option Nat) (l3 : Option Nat) (l4 : Option Nat) (l5 : Int32) (σ : hp_S) : tj_T E X RX0 "law" code 9 (some .boolean) (d + 1) [] n0 s0 em_i σ 541 [some (va_rf l0), some (va_rf l1), some (va_rf l2), some (va_rf l3), some (va_rf l4), some (.int l5), none, none, none] [] (fn_L_law_J541 d b28 l0 l1 l2 l3 l4 l5) := by
  unfold fn_L_law_J541
  refine tj_goto 2489 dL_law_541 rfl ?_
  exact tj_L_law_J2489 d h28 l0 l1 l2 l3 l4 l5 _
theorem tj_L_law_J585 {E : tj_E} {X : tj_X} {n0 s0 : Nat} (d : Nat) {b28 : Option Nat → Option Nat → Option Nat → Option Nat → Option Nat → Int32 → mx_M Int32} (h28 : ∀ (l0 : Option Nat) (l1 : Option Nat) (l2 : Option Nat) (l3 : Option Nat) (l4 : Option Nat) (l5 : Int32) (σ : hp_S), tj_T E X RX0 "law" code 9 (some .boolean) (d + 1) [] n0 s0 em_i σ 28 [some (va_rf l0), some (va_rf l1), some (va_rf l2), some (va_rf l3), some (va_rf l4), some (.int l5), none, none, none] [] (b28 l0 l1 l2 l3 l4 l5)) (l0 : Option Nat) (l1 : Option Nat) (l2 : Option Nat) (l3 : Option Nat) (l4 : Option Nat) (l5 : Int32) (σ : hp_S) : tj_T E X RX0 "law" code 9 (some .boolean) (d + 1) [] n0 s0 em_i σ 585 [some (va_rf l0), some (va_rf l1), some (va_rf l2), some (va_rf l3), some (va_rf l4), some (.int l5), none, none, none] [] (fn_L_law_J585 d b28 l0 l1 l2 l3 l4 l5) := by
  unfold fn_L_law_J585
  refine tj_goto 2489 dL_law_585 rfl ?_
  exact tj_L_law_J2489 d h28 l0 l1 l2 l3 l4 l5 _
theorem tj_L_law_J666 {E : tj_E} {X : tj_X} {n0 s0 : Nat} (d : Nat) {b28 : Option Nat → Option Nat → Option Nat → Option Nat → Option Nat → Int32 → mx_M Int32} (h28 : ∀ (l0 : Option Nat) (l1 : Option Nat) (l2 : Option Nat) (l3 : Option Nat) (l4 : Option Nat) (l5 : Int32) (σ : hp_S), tj_T E X RX0 "law" code 9 (some .boolean) (d + 1) [] n0 s0 em_i σ 28 [some (va_rf l0), some (va_rf l1), some (va_rf l2), some (va_rf l3), some (va_rf l4), some (.int l5), none, none, none] [] (b28 l0 l1 l2 l3 l4 l5)) (l0 : Option Nat) (l1 : Option Nat) (l2 : Option Nat) (l3 : Option Nat) (l4 : Option Nat) (l5 : Int32) (σ : hp_S) : tj_T E X RX0 "law" code 9 (some .boolean) (d + 1) [] n0 s0 em_i σ 666 [some (va_rf l0), some (va_rf l1), some (va_rf l2), some (va_rf l3), some (va_rf l4), some (.int l5), none, none, none] [] (fn_L_law_J666 d b28 l0 l1 l2 l3 l4 l5) := by
  unfold fn_L_law_J666
  refine tj_goto 2489 dL_law_666 rfl ?_
  exact tj_L_law_J2489 d h28 l0 l1 l2 l3 l4 l5 _
theorem tj_L_law_J722 {E : tj_E} {X : tj_X} {n0 s0 : Nat} (d : Nat) {b28 : Option Nat → Option Nat → Option Nat → Option Nat → Option Nat → Int32 → mx_M Int32} (h28 : ∀ (l0 : Option Nat) (l1 : Option Nat) (l2 : Option Nat) (l3 : Option Nat) (l4 : Option Nat) (l5 : Int32) (σ : hp_S), tj_T E X RX0 "law" code 9 (some .boolean) (d + 1) [] n0 s0 em_i σ 28 [some (va_rf l0), some (va_rf l1), some (va_rf l2), some (va_rf l3), some (va_rf l4), some (.int l5), none, none, none] [] (b28 l0 l1 l2 l3 l4 l5)) (l0 : Option Nat) (l1 : Option Nat) (l2 : Option Nat) (l3 : Option Nat) (l4 : Option Nat) (l5 : Int32) (σ : hp_S) : tj_T E X RX0 "law" code 9 (some .boolean) (d + 1) [] n0 s0 em_i σ 722 [some (va_rf l0), some (va_rf l1), some (va_rf l2), some (va_rf l3), some (va_rf l4), some (.int l5), none, none, none] [] (fn_L_law_J722 d b28 l0 l1 l2 l3 l4 l5) := by
  unfold fn_L_law_J722
  refine tj_goto 2489 dL_law_722 rfl ?_
  exact tj_L_law_J2489 d h28 l0 l1 l2 l3 l4 l5 _
theorem tj_L_law_J778 {E : tj_E} {X : tj_X} {n0 s0 : Nat} (d : Nat) {b28 : Option Nat → Option Nat → Option Nat → Option Nat → Option Nat → Int32 → mx_M Int32} (h28 : ∀ (l0 : Option Nat) (l1 : Option Nat) (l2 : Option Nat) (l3 : Option Nat) (l4 : Option Nat) (l5 : Int32) (σ : hp_S), tj_T E X RX0 "law" code 9 (some .boolean) (d + 1) [] n0 s0 em_i σ 28 [some (va_rf l0), some (va_rf l1), some (va_rf l2), some (va_rf l3), some (va_rf l4), some (.int l5), none, none, none] [] (b28 l0 l1 l2 l3 l4 l5)) (l0 : Option Nat) (l1 : Option Nat) (l2 : Option Nat) (l3 : Option Nat) (l4 : Option Nat) (l5 : Int32) (σ : hp_S) : tj_T E X RX0 "law" code 9 (some .boolean) (d + 1) [] n0 s0 em_i σ 778 [some (va_rf l0), some (va_rf l1), some (va_rf l2), some (va_rf l3), some (va_rf l4), some (.int l5), none, none, none] [] (fn_L_law_J778 d b28 l0 l1 l2 l3 l4 l5) := by
  unfold fn_L_law_J778
  refine tj_goto 2489 dL_law_778 rfl ?_
  exact tj_L_law_J2489 d h28 l0 l1 l2 l3 l4 l5 _
theorem tj_L_law_J847 {E : tj_E} {X : tj_X} {n0 s0 : Nat} (d : Nat) {b28 : Option Nat → Option Nat → Option Nat → Option Nat → Option Nat → Int32 → mx_M Int32} (h28 : ∀ (l0 : Option Nat) (l1 : Option Nat) (l2 : Option Nat) (l3 : Option Nat) (l4 : Option Nat) (l5 : Int32) (σ : hp_S), tj_T E X RX0 "law" code 9 (some .boolean) (d + 1) [] n0 s0 em_i σ 28 [some (va_rf l0), some (va_rf l1), some (va_rf l2), some (va_rf l3), some (va_rf l4), some (.int l5), none, none, none] [] (b28 l0 l1 l2 l3 l4 l5)) (l0 : Option Nat) (l1 : Option Nat) (l2 : Option Nat) (l3 : Option Nat) (l4 : Option Nat) (l5 : Int32) (σ : hp_S) : tj_T E X RX0 "law" code 9 (some .boolean) (d + 1) [] n0 s0 em_i σ 847 [some (va_rf l0), some (va_rf l1), some (va_rf l2), some (va_rf l3), some (va_rf l4), some (.int l5), none, none, none] [] (fn_L_law_J847 d b28 l0 l1 l2 l3 l4 l5) := by
  unfold fn_L_law_J847
  refine tj_goto 2489 dL_law_847 rfl ?_
  exact tj_L_law_J2489 d h28 l0 l1 l2 l3 l4 l5 _
theorem tj_L_law_J903 {E : tj_E} {X : tj_X} {n0 s0 : Nat} (d : Nat) {b28 : Option Nat → Option Nat → Option Nat → Option Nat → Option Nat → Int32 → mx_M Int32} (h28 : ∀ (l0 : Option Nat) (l1 : Option Nat) (l2 : Option Nat) (l3 : Option Nat) (l4 : Option Nat) (l5 : Int32) (σ : hp_S), tj_T E X RX0 "law" code 9 (some .boolean) (d + 1) [] n0 s0 em_i σ 28 [some (va_rf l0), some (va_rf l1), some (va_rf l2), some (va_rf l3), some (va_rf l4), some (.int l5), none, none, none] [] (b28 l0 l1 l2 l3 l4 l5)) (l0 : Option Nat) (l1 : Option Nat) (l2 : Option Nat) (l3 : Option Nat) (l4 : Option Nat) (l5 : Int32) (σ : hp_S) : tj_T E X RX0 "law" code 9 (some .boolean) (d + 1) [] n0 s0 em_i σ 903 [some (va_rf l0), some (va_rf l1), some (va_rf l2), some (va_rf l3), some (va_rf l4), some (.int l5), none, none, none] [] (fn_L_law_J903 d b28 l0 l1 l2 l3 l4 l5) := by
  unfold fn_L_law_J903
  refine tj_goto 2489 dL_law_903 rfl ?_
  exact tj_L_law_J2489 d h28 l0 l1 l2 l3 l4 l5 _
theorem tj_L_law_J959 {E : tj_E} {X : tj_X} {n0 s0 : Nat} (d : Nat) {b28 : Option Nat → Option Nat → Option Nat → Option Nat → Option Nat → Int32 → mx_M Int32} (h28 : ∀ (l0 : Option Nat) (l1 : Option Nat) (l2 : Option Nat) (l3 : Option Nat) (l4 : Option Nat) (l5 : Int32) (σ : hp_S), tj_T E X RX0 "law" code 9 (some .boolean) (d + 1) [] n0 s0 em_i σ 28 [some (va_rf l0), some (va_rf l1), some (va_rf l2), some (va_rf l3), some (va_rf l4), some (.int l5), none, none, none] [] (b28 l0 l1 l2 l3 l4 l5)) (l0 : Option Nat) (l1 : Option Nat) (l2 : Option Nat) (l3 : Option Nat) (l4 : Option Nat) (l5 : Int32) (σ : hp_S) : tj_T E X RX0 "law" code 9 (some .boolean) (d + 1) [] n0 s0 em_i σ 959 [some (va_rf l0), some (va_rf l1), some (va_rf l2), some (va_rf l3), some (va_rf l4), some (.int l5), none, none, none] [] (fn_L_law_J959 d b28 l0 l1 l2 l3 l4 l5) := by
  unfold fn_L_law_J959
  refine tj_goto 2489 dL_law_959 rfl ?_
  exact tj_L_law_J2489 d h28 l0 l1 l2 l3 l4 l5 _
theorem tj_L_law_J1015 {E : tj_E} {X : tj_X} {n0 s0 : Nat} (d : Nat) {b28 : Option Nat → Option Nat → Option Nat → Option Nat → Option Nat → Int32 → mx_M Int32} (h28 : ∀ (l0 : Option Nat) (l1 : Option Nat) (l2 : Option Nat) (l3 : Option Nat) (l4 : Option Nat) (l5 : Int32) (σ : hp_S), tj_T E X RX0 "law" code 9 (some .boolean) (d + 1) [] n0 s0 em_i σ 28 [some (va_rf l0), some (va_rf l1), some (va_rf l2), some (va_rf l3), some (va_rf l4), some (.int l5), none, none, none] [] (b28 l0 l1 l2 l3 l4 l5)) (l0 : Option Nat) (l1 : Option Nat) (l2 : Option Nat) (l3 : Option Nat) (l4 : Option Nat) (l5 : Int32) (σ : hp_S) : tj_T E X RX0 "law" code 9 (some .boolean) (d + 1) [] n0 s0 em_i σ 1015 [some (va_rf l0), some (va_rf l1), some (va_rf l2), some (va_rf l3), some (va_rf l4), some (.int l5), none, none, none] [] (fn_L_law_J1015 d b28 l0 l1 l2 l3 l4 l5) := by
  unfold fn_L_law_J1015
  refine tj_goto 2489 dL_law_1015 rfl ?_
  exact tj_L_law_J2489 d h28 l0 l1 l2 l3 l4 l5 _
theorem tj_L_law_J1071 {E : tj_E} {X : tj_X} {n0 s0 : Nat} (d : Nat) {b28 : Option Nat → Option Nat → Option Nat → Option Nat → Option Nat → Int32 → mx_M Int32} (h28 : ∀ (l0 : Option Nat) (l1 : Option Nat) (l2 : Option Nat) (l3 : Option Nat) (l4 : Option Nat) (l5 : Int32) (σ : hp_S), tj_T E X RX0 "law" code 9 (some .boolean) (d + 1) [] n0 s0 em_i σ 28 [some (va_rf l0), some (va_rf l1), some (va_rf l2), some (va_rf l3), some (va_rf l4), some (.int l5), none, none, none] [] (b28 l0 l1 l2 l3 l4 l5)) (l0 : Option Nat) (l1 : Option Nat) (l2 : Option Nat) (l3 : Option Nat) (l4 : Option Nat) (l5 : Int32) (σ : hp_S) : tj_T E X RX0 "law" code 9 (some .boolean) (d + 1) [] n0 s0 em_i σ 1071 [some (va_rf l0), some (va_rf l1), some (va_rf l2), some (va_rf l3), some (va_rf l4), some (.int l5), none, none, none] [] (fn_L_law_J1071 d b28 l0 l1 l2 l3 l4 l5) := by
  unfold fn_L_law_J1071
  refine tj_goto 2489 dL_law_1071 rfl ?_
  exact tj_L_law_J2489 d h28 l0 l1 l2 l3 l4 l5 _
theorem tj_L_law_J1115 {E : tj_E} {X : tj_X} {n0 s0 : Nat} (d : Nat) {b28 : Option Nat → Option Nat → Option Nat → Option Nat → Option Nat → Int32 → mx_M Int32} (h28 : ∀ (l0 : Option Nat) (l1 : Option Nat) (l2 : Option Nat) (l3 : Option Nat) (l4 : Option Nat) (l5 : Int32) (σ : hp_S), tj_T E X RX0 "law" code 9 (some .boolean) (d + 1) [] n0 s0 em_i σ 28 [some (va_rf l0), some (va_rf l1), some (va_rf l2), some (va_rf l3), some (va_rf l4), some (.int l5), none, none, none] [] (b28 l0 l1 l2 l3 l4 l5)) (l0 : Option Nat) (l1 : Option Nat) (l2 : Option Nat) (l3 : Option Nat) (l4 : Option Nat) (l5 : Int32) (σ : hp_S) : tj_T E X RX0 "law" code 9 (some .boolean) (d + 1) [] n0 s0 em_i σ 1115 [some (va_rf l0), some (va_rf l1), some (va_rf l2), some (va_rf l3), some (va_rf l4), some (.int l5), none, none, none] [] (fn_L_law_J1115 d b28 l0 l1 l2 l3 l4 l5) := by
  unfold fn_L_law_J1115
  refine tj_goto 2489 dL_law_1115 rfl ?_
  exact tj_L_law_J2489 d h28 l0 l1 l2 l3 l4 l5 _
theorem tj_L_law_J1159 {E : tj_E} {X : tj_X} {n0 s0 : Nat} (d : Nat) {b28 : Option Nat → Option Nat → Option Nat → Option Nat → Option Nat → Int32 → mx_M Int32} (h28 : ∀ (l0 : Option Nat) (l1 : Option Nat) (l2 : Option Nat) (l3 : Option Nat) (l4 : Option Nat) (l5 : Int32) (σ : hp_S), tj_T E X RX0 "law" code 9 (some .boolean) (d + 1) [] n0 s0 em_i σ 28 [some (va_rf l0), some (va_rf l1), some (va_rf l2), some (va_rf l3), some (va_rf l4), some (.int l5), none, none, none] [] (b28 l0 l1 l2 l3 l4 l5)) (l0 : Option Nat) (l1 : Option Nat) (l2 : Option Nat) (l3 : Option Nat) (l4 : Option Nat) (l5 : Int32) (σ : hp_S) : tj_T E X RX0 "law" code 9 (some .boolean) (d + 1) [] n0 s0 em_i σ 1159 [some (va_rf l0), some (va_rf l1), some (va_rf l2), some (va_rf l3), some (va_rf l4), some (.int l5), none, none, none] [] (fn_L_law_J1159 d b28 l0 l1 l2 l3 l4 l5) := by
  unfold fn_L_law_J1159
  refine tj_goto 2489 dL_law_1159 rfl ?_
  exact tj_L_law_J2489 d h28 l0 l1 l2 l3 l4 l5 _
theorem tj_L_law_J1215 {E : tj_E} {X : tj_X} {n0 s0 : Nat} (d : Nat) {b28 : Option Nat → Option Nat → Option Nat → Option Nat → Option Nat → Int32 → mx_M Int32} (h28 : ∀ (l0 : Option Nat) (l1 : Option Nat) (l2 : Option Nat) (l3 : Option Nat) (l4 : Option Nat) (l5 : Int32) (σ : hp_S), tj_T E X RX0 "law" code 9 (some .boolean) (d + 1) [] n0 s0 em_i σ 28 [some (va_rf l0), some (va_rf l1), some (va_rf l2), some (va_rf l3), some (va_rf l4), some (.int l5), none, none, none] [] (b28 l0 l1 l2 l3 l4 l5)) (l0 : Option Nat) (l1 : Option Nat) (l2 : Option Nat) (l3 : Option Nat) (l4 : Option Nat) (l5 : Int32) (σ : hp_S) : tj_T E X RX0 "law" code 9 (some .boolean) (d + 1) [] n0 s0 em_i σ 1215 [some (va_rf l0), some (va_rf l1), some (va_rf l2), some (va_rf l3), some (va_rf l4), some (.int l5), none, none, none] [] (fn_L_law_J1215 d b28 l0 l1 l2 l3 l4 l5) := by
  unfold fn_L_law_J1215
  refine tj_goto 2489 dL_law_1215 rfl ?_
  exact tj_L_law_J2489 d h28 l0 l1 l2 l3 l4 l5 _
theorem tj_L_law_J1297 {E : tj_E} {X : tj_X} {n0 s0 : Nat} (d : Nat) {b28 : Option Nat → Option Nat → Option Nat → Option Nat → Option Nat → Int32 → mx_M Int32} (h28 : ∀ (l0 : Option Nat) (l1 : Option Nat) (l2 : Option Nat) (l3 : Option Nat) (l4 : Option Nat) (l5 : Int32) (σ : hp_S), tj_T E X RX0 "law" code 9 (some .boolean) (d + 1) [] n0 s0 em_i σ 28 [some (va_rf l0), some (va_rf l1), some (va_rf l2), some (va_rf l3), some (va_rf l4), some (.int l5), none, none, none] [] (b28 l0 l1 l2 l3 l4 l5)) (l0 : Option Nat) (l1 : Option Nat) (l2 : Option Nat) (l3 : Option Nat) (l4 : Option Nat) (l5 : Int32) (σ : hp_S) : tj_T E X RX0 "law" code 9 (some .boolean) (d + 1) [] n0 s0 em_i σ 1297 [some (va_rf l0), some (va_rf l1), some (va_rf l2), some (va_rf l3), some (va_rf l4), some (.int l5), none, none, none] [] (fn_L_law_J1297 d b28 l0 l1 l2 l3 l4 l5) := by
  unfold fn_L_law_J1297
  refine tj_goto 2489 dL_law_1297 rfl ?_
  exact tj_L_law_J2489 d h28 l0 l1 l2 l3 l4 l5 _
theorem tj_L_law_J1360 {E : tj_E} {X : tj_X} {n0 s0 : Nat} (d : Nat) {b28 : Option Nat → Option Nat → Option Nat → Option Nat → Option Nat → Int32 → mx_M Int32} (h28 : ∀ (l0 : Option Nat) (l1 : Option Nat) (l2 : Option Nat) (l3 : Option Nat) (l4 : Option Nat) (l5 : Int32) (σ : hp_S), tj_T E X RX0 "law" code 9 (some .boolean) (d + 1) [] n0 s0 em_i σ 28 [some (va_rf l0), some (va_rf l1), some (va_rf l2), some (va_rf l3), some (va_rf l4), some (.int l5), none, none, none] [] (b28 l0 l1 l2 l3 l4 l5)) (l0 : Option Nat) (l1 : Option Nat) (l2 : Option Nat) (l3 : Option Nat) (l4 : Option Nat) (l5 : Int32) (σ : hp_S) : tj_T E X RX0 "law" code 9 (some .boolean) (d + 1) [] n0 s0 em_i σ 1360 [some (va_rf l0), some (va_rf l1), some (va_rf l2), some (va_rf l3), some (va_rf l4), some (.int l5), none, none, none] [] (fn_L_law_J1360 d b28 l0 l1 l2 l3 l4 l5) := by
  unfold fn_L_law_J1360
  refine tj_goto 2489 dL_law_1360 rfl ?_
  exact tj_L_law_J2489 d h28 l0 l1 l2 l3 l4 l5 _
theorem tj_L_law_J1354 {E : tj_E} {X : tj_X} {n0 s0 : Nat} (d : Nat) {b28 : Option Nat → Option Nat → Option Nat → Option Nat → Option Nat → Int32 → mx_M Int32} (h28 : ∀ (l0 : Option Nat) (l1 : Option Nat) (l2 : Option Nat) (l3 : Option Nat) (l4 : Option Nat) (l5 : Int32) (σ : hp_S), tj_T E X RX0 "law" code 9 (some .boolean) (d + 1) [] n0 s0 em_i σ 28 [some (va_rf l0), some (va_rf l1), some (va_rf l2), some (va_rf l3), some (va_rf l4), some (.int l5), none, none, none] [] (b28 l0 l1 l2 l3 l4 l5)) (l0 : Option Nat) (l1 : Option Nat) (l2 : Option Nat) (l3 : Option Nat) (l4 : Option Nat) (l5 : Int32) (p0 : Int64) (p1 : Int64) (σ : hp_S) : tj_T E X RX0 "law" code 9 (some .boolean) (d + 1) [] n0 s0 em_i σ 1354 [some (va_rf l0), some (va_rf l1), some (va_rf l2), some (va_rf l3), some (va_rf l4), some (.int l5), none, none, none] [.long p1, .long p0] (fn_L_law_J1354 d b28 l0 l1 l2 l3 l4 l5 p0 p1) := by
  unfold fn_L_law_J1354
  refine tj_lcmp dL_law_1354 ?_
  refine tj_if_eq 1360 dL_law_1355 rfl (fun _ => ?_) (fun _ => ?_)
  · exact tj_L_law_J1360 d h28 l0 l1 l2 l3 l4 l5 _
  · refine tj_iconst (0 : Int32) dL_law_1358 rfl ?_
    exact tj_zpure rfl dL_law_1359
theorem tj_L_law_J1468 {E : tj_E} {X : tj_X} {n0 s0 : Nat} (d : Nat) {b28 : Option Nat → Option Nat → Option Nat → Option Nat → Option Nat → Int32 → mx_M Int32} (h28 : ∀ (l0 : Option Nat) (l1 : Option Nat) (l2 : Option Nat) (l3 : Option Nat) (l4 : Option Nat) (l5 : Int32) (σ : hp_S), tj_T E X RX0 "law" code 9 (some .boolean) (d + 1) [] n0 s0 em_i σ 28 [some (va_rf l0), some (va_rf l1), some (va_rf l2), some (va_rf l3), some (va_rf l4), some (.int l5), none, none, none] [] (b28 l0 l1 l2 l3 l4 l5)) (l0 : Option Nat) (l1 : Option Nat) (l2 : Option Nat) (l3 : Option Nat) (l4 : Option Nat) (l5 : Int32) (σ : hp_S) : tj_T E X RX0 "law" code 9 (some .boolean) (d + 1) [] n0 s0 em_i σ 1468 [some (va_rf l0), some (va_rf l1), some (va_rf l2), some (va_rf l3), some (va_rf l4), some (.int l5), none, none, none] [] (fn_L_law_J1468 d b28 l0 l1 l2 l3 l4 l5) := by
  unfold fn_L_law_J1468
  refine tj_goto 2489 dL_law_1468 rfl ?_
  exact tj_L_law_J2489 d h28 l0 l1 l2 l3 l4 l5 _
theorem tj_L_law_J1524 {E : tj_E} {X : tj_X} {n0 s0 : Nat} (d : Nat) {b28 : Option Nat → Option Nat → Option Nat → Option Nat → Option Nat → Int32 → mx_M Int32} (h28 : ∀ (l0 : Option Nat) (l1 : Option Nat) (l2 : Option Nat) (l3 : Option Nat) (l4 : Option Nat) (l5 : Int32) (σ : hp_S), tj_T E X RX0 "law" code 9 (some .boolean) (d + 1) [] n0 s0 em_i σ 28 [some (va_rf l0), some (va_rf l1), some (va_rf l2), some (va_rf l3), some (va_rf l4), some (.int l5), none, none, none] [] (b28 l0 l1 l2 l3 l4 l5)) (l0 : Option Nat) (l1 : Option Nat) (l2 : Option Nat) (l3 : Option Nat) (l4 : Option Nat) (l5 : Int32) (σ : hp_S) : tj_T E X RX0 "law" code 9 (some .boolean) (d + 1) [] n0 s0 em_i σ 1524 [some (va_rf l0), some (va_rf l1), some (va_rf l2), some (va_rf l3), some (va_rf l4), some (.int l5), none, none, none] [] (fn_L_law_J1524 d b28 l0 l1 l2 l3 l4 l5) := by
  unfold fn_L_law_J1524
  refine tj_goto 2489 dL_law_1524 rfl ?_
  exact tj_L_law_J2489 d h28 l0 l1 l2 l3 l4 l5 _
theorem tj_L_law_J1580 {E : tj_E} {X : tj_X} {n0 s0 : Nat} (d : Nat) {b28 : Option Nat → Option Nat → Option Nat → Option Nat → Option Nat → Int32 → mx_M Int32} (h28 : ∀ (l0 : Option Nat) (l1 : Option Nat) (l2 : Option Nat) (l3 : Option Nat) (l4 : Option Nat) (l5 : Int32) (σ : hp_S), tj_T E X RX0 "law" code 9 (some .boolean) (d + 1) [] n0 s0 em_i σ 28 [some (va_rf l0), some (va_rf l1), some (va_rf l2), some (va_rf l3), some (va_rf l4), some (.int l5), none, none, none] [] (b28 l0 l1 l2 l3 l4 l5)) (l0 : Option Nat) (l1 : Option Nat) (l2 : Option Nat) (l3 : Option Nat) (l4 : Option Nat) (l5 : Int32) (σ : hp_S) : tj_T E X RX0 "law" code 9 (some .boolean) (d + 1) [] n0 s0 em_i σ 1580 [some (va_rf l0), some (va_rf l1), some (va_rf l2), some (va_rf l3), some (va_rf l4), some (.int l5), none, none, none] [] (fn_L_law_J1580 d b28 l0 l1 l2 l3 l4 l5) := by
  unfold fn_L_law_J1580
  refine tj_goto 2489 dL_law_1580 rfl ?_
  exact tj_L_law_J2489 d h28 l0 l1 l2 l3 l4 l5 _
theorem tj_L_law_J1655 {E : tj_E} {X : tj_X} {n0 s0 : Nat} (d : Nat) {b28 : Option Nat → Option Nat → Option Nat → Option Nat → Option Nat → Int32 → mx_M Int32} (h28 : ∀ (l0 : Option Nat) (l1 : Option Nat) (l2 : Option Nat) (l3 : Option Nat) (l4 : Option Nat) (l5 : Int32) (σ : hp_S), tj_T E X RX0 "law" code 9 (some .boolean) (d + 1) [] n0 s0 em_i σ 28 [some (va_rf l0), some (va_rf l1), some (va_rf l2), some (va_rf l3), some (va_rf l4), some (.int l5), none, none, none] [] (b28 l0 l1 l2 l3 l4 l5)) (l0 : Option Nat) (l1 : Option Nat) (l2 : Option Nat) (l3 : Option Nat) (l4 : Option Nat) (l5 : Int32) (σ : hp_S) : tj_T E X RX0 "law" code 9 (some .boolean) (d + 1) [] n0 s0 em_i σ 1655 [some (va_rf l0), some (va_rf l1), some (va_rf l2), some (va_rf l3), some (va_rf l4), some (.int l5), none, none, none] [] (fn_L_law_J1655 d b28 l0 l1 l2 l3 l4 l5) := by
  unfold fn_L_law_J1655
  refine tj_goto 2489 dL_law_1655 rfl ?_
  exact tj_L_law_J2489 d h28 l0 l1 l2 l3 l4 l5 _
theorem tj_L_law_J1649 {E : tj_E} {X : tj_X} {n0 s0 : Nat} (d : Nat) {b28 : Option Nat → Option Nat → Option Nat → Option Nat → Option Nat → Int32 → mx_M Int32} (h28 : ∀ (l0 : Option Nat) (l1 : Option Nat) (l2 : Option Nat) (l3 : Option Nat) (l4 : Option Nat) (l5 : Int32) (σ : hp_S), tj_T E X RX0 "law" code 9 (some .boolean) (d + 1) [] n0 s0 em_i σ 28 [some (va_rf l0), some (va_rf l1), some (va_rf l2), some (va_rf l3), some (va_rf l4), some (.int l5), none, none, none] [] (b28 l0 l1 l2 l3 l4 l5)) (l0 : Option Nat) (l1 : Option Nat) (l2 : Option Nat) (l3 : Option Nat) (l4 : Option Nat) (l5 : Int32) (p0 : Int64) (p1 : Int64) (σ : hp_S) : tj_T E X RX0 "law" code 9 (some .boolean) (d + 1) [] n0 s0 em_i σ 1649 [some (va_rf l0), some (va_rf l1), some (va_rf l2), some (va_rf l3), some (va_rf l4), some (.int l5), none, none, none] [.long p1, .long p0] (fn_L_law_J1649 d b28 l0 l1 l2 l3 l4 l5 p0 p1) := by
  unfold fn_L_law_J1649
  refine tj_lcmp dL_law_1649 ?_
  refine tj_if_eq 1655 dL_law_1650 rfl (fun _ => ?_) (fun _ => ?_)
  · exact tj_L_law_J1655 d h28 l0 l1 l2 l3 l4 l5 _
  · refine tj_iconst (0 : Int32) dL_law_1653 rfl ?_
    exact tj_zpure rfl dL_law_1654
theorem tj_L_law_J1723 {E : tj_E} {X : tj_X} {n0 s0 : Nat} (d : Nat) {b28 : Option Nat → Option Nat → Option Nat → Option Nat → Option Nat → Int32 → mx_M Int32} (h28 : ∀ (l0 : Option Nat) (l1 : Option Nat) (l2 : Option Nat) (l3 : Option Nat) (l4 : Option Nat) (l5 : Int32) (σ : hp_S), tj_T E X RX0 "law" code 9 (some .boolean) (d + 1) [] n0 s0 em_i σ 28 [some (va_rf l0), some (va_rf l1), some (va_rf l2), some (va_rf l3), some (va_rf l4), some (.int l5), none, none, none] [] (b28 l0 l1 l2 l3 l4 l5)) (l0 : Option Nat) (l1 : Option Nat) (l2 : Option Nat) (l3 : Option Nat) (l4 : Option Nat) (l5 : Int32) (σ : hp_S) : tj_T E X RX0 "law" code 9 (some .boolean) (d + 1) [] n0 s0 em_i σ 1723 [some (va_rf l0), some (va_rf l1), some (va_rf l2), some (va_rf l3), some (va_rf l4), some (.int l5), none, none, none] [] (fn_L_law_J1723 d b28 l0 l1 l2 l3 l4 l5) := by
  unfold fn_L_law_J1723
  refine tj_goto 2489 dL_law_1723 rfl ?_
  exact tj_L_law_J2489 d h28 l0 l1 l2 l3 l4 l5 _
theorem tj_L_law_J1791 {E : tj_E} {X : tj_X} {n0 s0 : Nat} (d : Nat) {b28 : Option Nat → Option Nat → Option Nat → Option Nat → Option Nat → Int32 → mx_M Int32} (h28 : ∀ (l0 : Option Nat) (l1 : Option Nat) (l2 : Option Nat) (l3 : Option Nat) (l4 : Option Nat) (l5 : Int32) (σ : hp_S), tj_T E X RX0 "law" code 9 (some .boolean) (d + 1) [] n0 s0 em_i σ 28 [some (va_rf l0), some (va_rf l1), some (va_rf l2), some (va_rf l3), some (va_rf l4), some (.int l5), none, none, none] [] (b28 l0 l1 l2 l3 l4 l5)) (l0 : Option Nat) (l1 : Option Nat) (l2 : Option Nat) (l3 : Option Nat) (l4 : Option Nat) (l5 : Int32) (σ : hp_S) : tj_T E X RX0 "law" code 9 (some .boolean) (d + 1) [] n0 s0 em_i σ 1791 [some (va_rf l0), some (va_rf l1), some (va_rf l2), some (va_rf l3), some (va_rf l4), some (.int l5), none, none, none] [] (fn_L_law_J1791 d b28 l0 l1 l2 l3 l4 l5) := by
  unfold fn_L_law_J1791
  refine tj_goto 2489 dL_law_1791 rfl ?_
  exact tj_L_law_J2489 d h28 l0 l1 l2 l3 l4 l5 _
theorem tj_L_law_J1947 {E : tj_E} {X : tj_X} {n0 s0 : Nat} (d : Nat) {b28 : Option Nat → Option Nat → Option Nat → Option Nat → Option Nat → Int32 → mx_M Int32} (h28 : ∀ (l0 : Option Nat) (l1 : Option Nat) (l2 : Option Nat) (l3 : Option Nat) (l4 : Option Nat) (l5 : Int32) (σ : hp_S), tj_T E X RX0 "law" code 9 (some .boolean) (d + 1) [] n0 s0 em_i σ 28 [some (va_rf l0), some (va_rf l1), some (va_rf l2), some (va_rf l3), some (va_rf l4), some (.int l5), none, none, none] [] (b28 l0 l1 l2 l3 l4 l5)) (l0 : Option Nat) (l1 : Option Nat) (l2 : Option Nat) (l3 : Option Nat) (l4 : Option Nat) (l5 : Int32) (σ : hp_S) : tj_T E X RX0 "law" code 9 (some .boolean) (d + 1) [] n0 s0 em_i σ 1947 [some (va_rf l0), some (va_rf l1), some (va_rf l2), some (va_rf l3), some (va_rf l4), some (.int l5), none, none, none] [] (fn_L_law_J1947 d b28 l0 l1 l2 l3 l4 l5) := by
  unfold fn_L_law_J1947
  refine tj_goto 2489 dL_law_1947 rfl ?_
  exact tj_L_law_J2489 d h28 l0 l1 l2 l3 l4 l5 _
theorem tj_L_law_J2013 {E : tj_E} {X : tj_X} {n0 s0 : Nat} (d : Nat) {b28 : Option Nat → Option Nat → Option Nat → Option Nat → Option Nat → Int32 → mx_M Int32} (h28 : ∀ (l0 : Option Nat) (l1 : Option Nat) (l2 : Option Nat) (l3 : Option Nat) (l4 : Option Nat) (l5 : Int32) (σ : hp_S), tj_T E X RX0 "law" code 9 (some .boolean) (d + 1) [] n0 s0 em_i σ 28 [some (va_rf l0), some (va_rf l1), some (va_rf l2), some (va_rf l3), some (va_rf l4), some (.int l5), none, none, none] [] (b28 l0 l1 l2 l3 l4 l5)) (l0 : Option Nat) (l1 : Option Nat) (l2 : Option Nat) (l3 : Option Nat) (l4 : Option Nat) (l5 : Int32) (σ : hp_S) : tj_T E X RX0 "law" code 9 (some .boolean) (d + 1) [] n0 s0 em_i σ 2013 [some (va_rf l0), some (va_rf l1), some (va_rf l2), some (va_rf l3), some (va_rf l4), some (.int l5), none, none, none] [] (fn_L_law_J2013 d b28 l0 l1 l2 l3 l4 l5) := by
  unfold fn_L_law_J2013
  refine tj_goto 2489 dL_law_2013 rfl ?_
  exact tj_L_law_J2489 d h28 l0 l1 l2 l3 l4 l5 _
theorem tj_L_law_J2082 {E : tj_E} {X : tj_X} {n0 s0 : Nat} (d : Nat) {b28 : Option Nat → Option Nat → Option Nat → Option Nat → Option Nat → Int32 → mx_M Int32} (h28 : ∀ (l0 : Option Nat) (l1 : Option Nat) (l2 : Option Nat) (l3 : Option Nat) (l4 : Option Nat) (l5 : Int32) (σ : hp_S), tj_T E X RX0 "law" code 9 (some .boolean) (d + 1) [] n0 s0 em_i σ 28 [some (va_rf l0), some (va_rf l1), some (va_rf l2), some (va_rf l3), some (va_rf l4), some (.int l5), none, none, none] [] (b28 l0 l1 l2 l3 l4 l5)) (l0 : Option Nat) (l1 : Option Nat) (l2 : Option Nat) (l3 : Option Nat) (l4 : Option Nat) (l5 : Int32) (σ : hp_S) : tj_T E X RX0 "law" code 9 (some .boolean) (d + 1) [] n0 s0 em_i σ 2082 [some (va_rf l0), some (va_rf l1), some (va_rf l2), some (va_rf l3), some (va_rf l4), some (.int l5), none, none, none] [] (fn_L_law_J2082 d b28 l0 l1 l2 l3 l4 l5) := by
  unfold fn_L_law_J2082
  refine tj_goto 2489 dL_law_2082 rfl ?_
  exact tj_L_law_J2489 d h28 l0 l1 l2 l3 l4 l5 _
theorem tj_L_law_J2151 {E : tj_E} {X : tj_X} {n0 s0 : Nat} (d : Nat) {b28 : Option Nat → Option Nat → Option Nat → Option Nat → Option Nat → Int32 → mx_M Int32} (h28 : ∀ (l0 : Option Nat) (l1 : Option Nat) (l2 : Option Nat) (l3 : Option Nat) (l4 : Option Nat) (l5 : Int32) (σ : hp_S), tj_T E X RX0 "law" code 9 (some .boolean) (d + 1) [] n0 s0 em_i σ 28 [some (va_rf l0), some (va_rf l1), some (va_rf l2), some (va_rf l3), some (va_rf l4), some (.int l5), none, none, none] [] (b28 l0 l1 l2 l3 l4 l5)) (l0 : Option Nat) (l1 : Option Nat) (l2 : Option Nat) (l3 : Option Nat) (l4 : Option Nat) (l5 : Int32) (σ : hp_S) : tj_T E X RX0 "law" code 9 (some .boolean) (d + 1) [] n0 s0 em_i σ 2151 [some (va_rf l0), some (va_rf l1), some (va_rf l2), some (va_rf l3), some (va_rf l4), some (.int l5), none, none, none] [] (fn_L_law_J2151 d b28 l0 l1 l2 l3 l4 l5) := by
  unfold fn_L_law_J2151
  refine tj_goto 2489 dL_law_2151 rfl ?_
  exact tj_L_law_J2489 d h28 l0 l1 l2 l3 l4 l5 _
theorem tj_L_law_J2209 {E : tj_E} {X : tj_X} {n0 s0 : Nat} (d : Nat) {b28 : Option Nat → Option Nat → Option Nat → Option Nat → Option Nat → Int32 → mx_M Int32} (h28 : ∀ (l0 : Option Nat) (l1 : Option Nat) (l2 : Option Nat) (l3 : Option Nat) (l4 : Option Nat) (l5 : Int32) (σ : hp_S), tj_T E X RX0 "law" code 9 (some .boolean) (d + 1) [] n0 s0 em_i σ 28 [some (va_rf l0), some (va_rf l1), some (va_rf l2), some (va_rf l3), some (va_rf l4), some (.int l5), none, none, none] [] (b28 l0 l1 l2 l3 l4 l5)) (l0 : Option Nat) (l1 : Option Nat) (l2 : Option Nat) (l3 : Option Nat) (l4 : Option Nat) (l5 : Int32) (σ : hp_S) : tj_T E X RX0 "law" code 9 (some .boolean) (d + 1) [] n0 s0 em_i σ 2209 [some (va_rf l0), some (va_rf l1), some (va_rf l2), some (va_rf l3), some (va_rf l4), some (.int l5), none, none, none] [] (fn_L_law_J2209 d b28 l0 l1 l2 l3 l4 l5) := by
  unfold fn_L_law_J2209
  refine tj_goto 2489 dL_law_2209 rfl ?_
  exact tj_L_law_J2489 d h28 l0 l1 l2 l3 l4 l5 _
theorem tj_L_law_J2253 {E : tj_E} {X : tj_X} {n0 s0 : Nat} (d : Nat) {b28 : Option Nat → Option Nat → Option Nat → Option Nat → Option Nat → Int32 → mx_M Int32} (h28 : ∀ (l0 : Option Nat) (l1 : Option Nat) (l2 : Option Nat) (l3 : Option Nat) (l4 : Option Nat) (l5 : Int32) (σ : hp_S), tj_T E X RX0 "law" code 9 (some .boolean) (d + 1) [] n0 s0 em_i σ 28 [some (va_rf l0), some (va_rf l1), some (va_rf l2), some (va_rf l3), some (va_rf l4), some (.int l5), none, none, none] [] (b28 l0 l1 l2 l3 l4 l5)) (l0 : Option Nat) (l1 : Option Nat) (l2 : Option Nat) (l3 : Option Nat) (l4 : Option Nat) (l5 : Int32) (σ : hp_S) : tj_T E X RX0 "law" code 9 (some .boolean) (d + 1) [] n0 s0 em_i σ 2253 [some (va_rf l0), some (va_rf l1), some (va_rf l2), some (va_rf l3), some (va_rf l4), some (.int l5), none, none, none] [] (fn_L_law_J2253 d b28 l0 l1 l2 l3 l4 l5) := by
  unfold fn_L_law_J2253
  refine tj_goto 2489 dL_law_2253 rfl ?_
  exact tj_L_law_J2489 d h28 l0 l1 l2 l3 l4 l5 _
theorem tj_L_law_J2297 {E : tj_E} {X : tj_X} {n0 s0 : Nat} (d : Nat) {b28 : Option Nat → Option Nat → Option Nat → Option Nat → Option Nat → Int32 → mx_M Int32} (h28 : ∀ (l0 : Option Nat) (l1 : Option Nat) (l2 : Option Nat) (l3 : Option Nat) (l4 : Option Nat) (l5 : Int32) (σ : hp_S), tj_T E X RX0 "law" code 9 (some .boolean) (d + 1) [] n0 s0 em_i σ 28 [some (va_rf l0), some (va_rf l1), some (va_rf l2), some (va_rf l3), some (va_rf l4), some (.int l5), none, none, none] [] (b28 l0 l1 l2 l3 l4 l5)) (l0 : Option Nat) (l1 : Option Nat) (l2 : Option Nat) (l3 : Option Nat) (l4 : Option Nat) (l5 : Int32) (σ : hp_S) : tj_T E X RX0 "law" code 9 (some .boolean) (d + 1) [] n0 s0 em_i σ 2297 [some (va_rf l0), some (va_rf l1), some (va_rf l2), some (va_rf l3), some (va_rf l4), some (.int l5), none, none, none] [] (fn_L_law_J2297 d b28 l0 l1 l2 l3 l4 l5) := by
  unfold fn_L_law_J2297
  refine tj_goto 2489 dL_law_2297 rfl ?_
  exact tj_L_law_J2489 d h28 l0 l1 l2 l3 l4 l5 _
theorem tj_L_law_J2341 {E : tj_E} {X : tj_X} {n0 s0 : Nat} (d : Nat) {b28 : Option Nat → Option Nat → Option Nat → Option Nat → Option Nat → Int32 → mx_M Int32} (h28 : ∀ (l0 : Option Nat) (l1 : Option Nat) (l2 : Option Nat) (l3 : Option Nat) (l4 : Option Nat) (l5 : Int32) (σ : hp_S), tj_T E X RX0 "law" code 9 (some .boolean) (d + 1) [] n0 s0 em_i σ 28 [some (va_rf l0), some (va_rf l1), some (va_rf l2), some (va_rf l3), some (va_rf l4), some (.int l5), none, none, none] [] (b28 l0 l1 l2 l3 l4 l5)) (l0 : Option Nat) (l1 : Option Nat) (l2 : Option Nat) (l3 : Option Nat) (l4 : Option Nat) (l5 : Int32) (σ : hp_S) : tj_T E X RX0 "law" code 9 (some .boolean) (d + 1) [] n0 s0 em_i σ 2341 [some (va_rf l0), some (va_rf l1), some (va_rf l2), some (va_rf l3), some (va_rf l4), some (.int l5), none, none, none] [] (fn_L_law_J2341 d b28 l0 l1 l2 l3 l4 l5) := by
  unfold fn_L_law_J2341
  refine tj_goto 2489 dL_law_2341 rfl ?_
  exact tj_L_law_J2489 d h28 l0 l1 l2 l3 l4 l5 _
theorem tj_L_law_J2385 {E : tj_E} {X : tj_X} {n0 s0 : Nat} (d : Nat) {b28 : Option Nat → Option Nat → Option Nat → Option Nat → Option Nat → Int32 → mx_M Int32} (h28 : ∀ (l0 : Option Nat) (l1 : Option Nat) (l2 : Option Nat) (l3 : Option Nat) (l4 : Option Nat) (l5 : Int32) (σ : hp_S), tj_T E X RX0 "law" code 9 (some .boolean) (d + 1) [] n0 s0 em_i σ 28 [some (va_rf l0), some (va_rf l1), some (va_rf l2), some (va_rf l3), some (va_rf l4), some (.int l5), none, none, none] [] (b28 l0 l1 l2 l3 l4 l5)) (l0 : Option Nat) (l1 : Option Nat) (l2 : Option Nat) (l3 : Option Nat) (l4 : Option Nat) (l5 : Int32) (σ : hp_S) : tj_T E X RX0 "law" code 9 (some .boolean) (d + 1) [] n0 s0 em_i σ 2385 [some (va_rf l0), some (va_rf l1), some (va_rf l2), some (va_rf l3), some (va_rf l4), some (.int l5), none, none, none] [] (fn_L_law_J2385 d b28 l0 l1 l2 l3 l4 l5) := by
  unfold fn_L_law_J2385
  refine tj_goto 2489 dL_law_2385 rfl ?_
  exact tj_L_law_J2489 d h28 l0 l1 l2 l3 l4 l5 _
theorem tj_L_law_J2429 {E : tj_E} {X : tj_X} {n0 s0 : Nat} (d : Nat) {b28 : Option Nat → Option Nat → Option Nat → Option Nat → Option Nat → Int32 → mx_M Int32} (h28 : ∀ (l0 : Option Nat) (l1 : Option Nat) (l2 : Option Nat) (l3 : Option Nat) (l4 : Option Nat) (l5 : Int32) (σ : hp_S), tj_T E X RX0 "law" code 9 (some .boolean) (d + 1) [] n0 s0 em_i σ 28 [some (va_rf l0), some (va_rf l1), some (va_rf l2), some (va_rf l3), some (va_rf l4), some (.int l5), none, none, none] [] (b28 l0 l1 l2 l3 l4 l5)) (l0 : Option Nat) (l1 : Option Nat) (l2 : Option Nat) (l3 : Option Nat) (l4 : Option Nat) (l5 : Int32) (σ : hp_S) : tj_T E X RX0 "law" code 9 (some .boolean) (d + 1) [] n0 s0 em_i σ 2429 [some (va_rf l0), some (va_rf l1), some (va_rf l2), some (va_rf l3), some (va_rf l4), some (.int l5), none, none, none] [] (fn_L_law_J2429 d b28 l0 l1 l2 l3 l4 l5) := by
  unfold fn_L_law_J2429
  refine tj_goto 2489 dL_law_2429 rfl ?_
  exact tj_L_law_J2489 d h28 l0 l1 l2 l3 l4 l5 _
theorem tj_L_law_J2486 {E : tj_E} {X : tj_X} {n0 s0 : Nat} (d : Nat) {b28 : Option Nat → Option Nat → Option Nat → Option Nat → Option Nat → Int32 → mx_M Int32} (h28 : ∀ (l0 : Option Nat) (l1 : Option Nat) (l2 : Option Nat) (l3 : Option Nat) (l4 : Option Nat) (l5 : Int32) (σ : hp_S), tj_T E X RX0 "law" code 9 (some .boolean) (d + 1) [] n0 s0 em_i σ 28 [some (va_rf l0), some (va_rf l1), some (va_rf l2), some (va_rf l3), some (va_rf l4), some (.int l5), none, none, none] [] (b28 l0 l1 l2 l3 l4 l5)) (l0 : Option Nat) (l1 : Option Nat) (l2 : Option Nat) (l3 : Option Nat) (l4 : Option Nat) (l5 : Int32) (σ : hp_S) : tj_T E X RX0 "law" code 9 (some .boolean) (d + 1) [] n0 s0 em_i σ 2486 [some (va_rf l0), some (va_rf l1), some (va_rf l2), some (va_rf l3), some (va_rf l4), some (.int l5), none, none, none] [] (fn_L_law_J2486 d b28 l0 l1 l2 l3 l4 l5) := by
  unfold fn_L_law_J2486
  refine tj_goto 2489 dL_law_2486 rfl ?_
  exact tj_L_law_J2489 d h28 l0 l1 l2 l3 l4 l5 _
theorem tj_L_law_L28_b {E : tj_E} {X : tj_X} {n0 s0 : Nat} (d : Nat) {b28 : Option Nat → Option Nat → Option Nat → Option Nat → Option Nat → Int32 → mx_M Int32} (h28 : ∀ (l0 : Option Nat) (l1 : Option Nat) (l2 : Option Nat) (l3 : Option Nat) (l4 : Option Nat) (l5 : Int32) (σ : hp_S), tj_T E X RX0 "law" code 9 (some .boolean) (d + 1) [] n0 s0 em_i σ 28 [some (va_rf l0), some (va_rf l1), some (va_rf l2), some (va_rf l3), some (va_rf l4), some (.int l5), none, none, none] [] (b28 l0 l1 l2 l3 l4 l5)) (l0 : Option Nat) (l1 : Option Nat) (l2 : Option Nat) (l3 : Option Nat) (l4 : Option Nat) (l5 : Int32) (σ : hp_S) : tj_T E X RX0 "law" code 9 (some .boolean) (d + 1) [] n0 s0 em_i σ 28 [some (va_rf l0), some (va_rf l1), some (va_rf l2), some (va_rf l3), some (va_rf l4), some (.int l5), none, none, none] [] (fn_L_law_L28_b d b28 l0 l1 l2 l3 l4 l5) := by
  unfold fn_L_law_L28_b
  refine tj_iload dL_law_28 rfl ?_
  refine tj_aload_n dL_law_30 rfl ?_
  refine tj_alen dL_law_31 (fun v101 => ?_)
  refine tj_iconst (4 : Int32) dL_law_32 rfl ?_
  refine tj_isub dL_law_33 ?_
  refine tj_icmp_gt 2495 dL_law_34 rfl (fun _ => ?_) (fun _ => ?_)
  · refine tj_iconst (1 : Int32) dL_law_2495 rfl ?_
    exact tj_zpure rfl dL_law_2496
  · refine tj_aload_n dL_law_37 rfl ?_
    refine tj_iload dL_law_38 rfl ?_
    refine tj_iald dL_law_40 (fun v102 => ?_)
    refine tj_bipush (63 : Int32) dL_law_41 (by decide) ?_
    refine tj_iand dL_law_43 ?_
    refine tj_table [((0 : Int32), 272), ((1 : Int32), 352), ((2 : Int32), 420), ((3 : Int32), 488), ((4 : Int32), 544), ((5 : Int32), 588), ((6 : Int32), 601), ((7 : Int32), 669), ((8 : Int32), 725), ((9 : Int32), 781), ((10 : Int32), 794), ((11 : Int32), 850), ((12 : Int32), 906), ((13 : Int32), 962), ((14 : Int32), 1018), ((15 : Int32), 1074), ((16 : Int32), 1118), ((17 : Int32), 1162), ((18 : Int32), 1218), ((19 : Int32), 1231), ((20 : Int32), 1244), ((21 : Int32), 1300), ((22 : Int32), 1363), ((23 : Int32), 1376), ((24 : Int32), 1389), ((25 : Int32), 1402), ((26 : Int32), 1415), ((27 : Int32), 1471), ((28 : Int32), 1527), ((29 : Int32), 1583), ((30 : Int32), 1658), ((31 : Int32), 1726), ((32 : Int32), 1794), ((33 : Int32), 1807), ((34 : Int32), 1820), ((35 : Int32), 1833), ((36 : Int32), 1846), ((37 : Int32), 1859), ((38 : Int32), 1872), ((39 : Int32), 1885), ((40 : Int32), 1950), ((41 : Int32), 2016), ((42 : Int32), 2029), ((43 : Int32), 2085), ((44 : Int32), 2098), ((45 : Int32), 2154), ((46 : Int32), 2212), ((47 : Int32), 2256), ((48 : Int32), 2300), ((49 : Int32), 2344), ((50 : Int32), 2388), ((51 : Int32), 2432), ((52 : Int32), 2445)] 2489 dL_law_44 rfl rfl rfl rfl rfl ?_ ?_
    · intro i t key A h1 h2
      match i, h1, h2 with
      | 0, h1, h2 =>
        cases h1; cases h2
        refine tj_aload_n dL_law_272 rfl ?_
        refine tj_aload_n dL_law_273 rfl ?_
        refine tj_iload dL_law_274 rfl ?_
        refine tj_iconst (1 : Int32) dL_law_276 rfl ?_
        refine tj_iadd dL_law_277 ?_
        refine tj_iald dL_law_278 (fun v103 => ?_)
        refine tj_aload_n dL_law_279 rfl ?_
        refine tj_iload dL_law_280 rfl ?_
        refine tj_iconst (2 : Int32) dL_law_282 rfl ?_
        refine tj_iadd dL_law_283 ?_
        refine tj_iald dL_law_284 (fun v104 => ?_)
        refine tj_aload_n dL_law_285 rfl ?_
        refine tj_iload dL_law_286 rfl ?_
        refine tj_iconst (3 : Int32) dL_law_288 rfl ?_
        refine tj_iadd dL_law_289 ?_
        refine tj_iald dL_law_290 (fun v105 => ?_)
        refine tj_aload_n dL_law_291 rfl ?_
        refine tj_callSX (as := [va_rf l1, .int v103, .int v104, .int v105, va_rf l3]) (rest := []) (st' := (fun r => [.int r])) (ct_X0_addLion d l1 v103 v104 v105 l3) q3042 q3043 q95 q3044 md_X0_addLion rfl (by decide) rfl (by decide) dL_law_292 (fun _ => rfl) (fun r106 σ => ?_) (by decide)
        refine tj_istore dL_law_295 (by decide) rfl [some (va_rf l0), some (va_rf l1), some (va_rf l2), some (va_rf l3), some (va_rf l4), some (.int l5), some (.int r106), none, none] rfl ?_
        refine tj_aload_n dL_law_297 rfl ?_
        refine tj_aload_n dL_law_298 rfl ?_
        refine tj_iload dL_law_299 rfl ?_
        refine tj_iconst (1 : Int32) dL_law_301 rfl ?_
        refine tj_iadd dL_law_302 ?_
        refine tj_iald dL_law_303 (fun v107 => ?_)
        refine tj_aload_n dL_law_304 rfl ?_
        refine tj_iload dL_law_305 rfl ?_
        refine tj_iconst (2 : Int32) dL_law_307 rfl ?_
        refine tj_iadd dL_law_308 ?_
        refine tj_iald dL_law_309 (fun v108 => ?_)
        refine tj_aload_n dL_law_310 rfl ?_
        refine tj_iload dL_law_311 rfl ?_
        refine tj_iconst (3 : Int32) dL_law_313 rfl ?_
        refine tj_iadd dL_law_314 ?_
        refine tj_iald dL_law_315 (fun v109 => ?_)
        refine tj_callV (as := [.int v107, .int v108, .int v109]) (rest := []) (st' := (fun r => [.int r])) (t := 1) (fun a e => by cases e; exact ct_X4_addLion d _ _ _ _) (by decide) rfl q3956 q3957 q3958 q110 q3959 rfl md_X4_addLion rfl (by decide) rfl (by decide) dL_law_316 (fun _ => rfl) (fun r110 σ => ?_) (by decide)
        refine tj_istore dL_law_319 (by decide) rfl [some (va_rf l0), some (va_rf l1), some (va_rf l2), some (va_rf l3), some (va_rf l4), some (.int l5), some (.int r106), some (.int r110), none] rfl ?_
        refine tj_aload_n dL_law_321 rfl ?_
        refine tj_callV (as := []) (rest := []) (st' := (fun r => [.int r])) (t := 1) (fun a e => by cases e; exact ct_X4_thrown d _) (by decide) rfl q3952 q3953 q3954 q110 q3955 rfl md_X4_thrown rfl (by decide) rfl (by decide) dL_law_322 (fun _ => rfl) (fun r111 σ => ?_) (by decide)
        refine tj_iload dL_law_325 rfl ?_
        refine tj_icmp_eq 332 dL_law_327 rfl (fun _ => ?_) (fun _ => ?_)
        · refine tj_iload dL_law_332 rfl ?_
          refine tj_if_ne 349 dL_law_334 rfl (fun _ => ?_) (fun _ => ?_)
          · refine tj_aload_n dL_law_337 rfl ?_
            refine tj_iconst (0 : Int32) dL_law_338 rfl ?_
            refine tj_lald dL_law_339 (fun v112 => ?_)
            refine tj_iload dL_law_340 rfl ?_
            refine tj_i2l dL_law_342 ?_
            refine tj_lcmp dL_law_343 ?_
            refine tj_if_eq 349 dL_law_344 rfl (fun _ => ?_) (fun _ => ?_)
            · refine tj_wk (L' := [some (va_rf l0), some (va_rf l1), some (va_rf l2), some (va_rf l3), some (va_rf l4), some (.int l5), none, none, none]) ⟨rfl, rfl, rfl, rfl, rfl, rfl, trivial⟩ ?_
              exact tj_L_law_J349 d h28 l0 l1 l2 l3 l4 l5 _
            · refine tj_iconst (0 : Int32) dL_law_347 rfl ?_
              exact tj_zpure rfl dL_law_348
          · refine tj_wk (L' := [some (va_rf l0), some (va_rf l1), some (va_rf l2), some (va_rf l3), some (va_rf l4), some (.int l5), none, none, none]) ⟨rfl, rfl, rfl, rfl, rfl, rfl, trivial⟩ ?_
            exact tj_L_law_J349 d h28 l0 l1 l2 l3 l4 l5 _
        · refine tj_iconst (0 : Int32) dL_law_330 rfl ?_
          exact tj_zpure rfl dL_law_331
      | 1, h1, h2 =>
        cases h1; cases h2
        refine tj_aload_n dL_law_352 rfl ?_
        refine tj_aload_n dL_law_353 rfl ?_
        refine tj_iload dL_law_354 rfl ?_
        refine tj_iconst (1 : Int32) dL_law_356 rfl ?_
        refine tj_iadd dL_law_357 ?_
        refine tj_iald dL_law_358 (fun v113 => ?_)
        refine tj_aload_n dL_law_359 rfl ?_
        refine tj_iload dL_law_360 rfl ?_
        refine tj_iconst (2 : Int32) dL_law_362 rfl ?_
        refine tj_iadd dL_law_363 ?_
        refine tj_iald dL_law_364 (fun v114 => ?_)
        refine tj_aload_n dL_law_365 rfl ?_
        refine tj_callSX (as := [va_rf l1, .int v113, .int v114, va_rf l3]) (rest := []) (st' := (fun r => [.int r])) (ct_X0_roar d l1 v113 v114 l3) q3052 q3053 q95 q3054 md_X0_roar rfl (by decide) rfl (by decide) dL_law_366 (fun _ => rfl) (fun r115 σ => ?_) (by decide)
        refine tj_istore dL_law_369 (by decide) rfl [some (va_rf l0), some (va_rf l1), some (va_rf l2), some (va_rf l3), some (va_rf l4), some (.int l5), some (.int r115), none, none] rfl ?_
        refine tj_aload_n dL_law_371 rfl ?_
        refine tj_aload_n dL_law_372 rfl ?_
        refine tj_iload dL_law_373 rfl ?_
        refine tj_iconst (1 : Int32) dL_law_375 rfl ?_
        refine tj_iadd dL_law_376 ?_
        refine tj_iald dL_law_377 (fun v116 => ?_)
        refine tj_aload_n dL_law_378 rfl ?_
        refine tj_iload dL_law_379 rfl ?_
        refine tj_iconst (2 : Int32) dL_law_381 rfl ?_
        refine tj_iadd dL_law_382 ?_
        refine tj_iald dL_law_383 (fun v117 => ?_)
        refine tj_callV (as := [.int v116, .int v117]) (rest := []) (st' := (fun r => [.int r])) (t := 1) (fun a e => by cases e; exact ct_X4_roar d _ _ _) (by decide) rfl q4004 q4005 q4006 q110 q4007 rfl md_X4_roar rfl (by decide) rfl (by decide) dL_law_384 (fun _ => rfl) (fun r118 σ => ?_) (by decide)
        refine tj_istore dL_law_387 (by decide) rfl [some (va_rf l0), some (va_rf l1), some (va_rf l2), some (va_rf l3), some (va_rf l4), some (.int l5), some (.int r115), some (.int r118), none] rfl ?_
        refine tj_aload_n dL_law_389 rfl ?_
        refine tj_callV (as := []) (rest := []) (st' := (fun r => [.int r])) (t := 1) (fun a e => by cases e; exact ct_X4_thrown d _) (by decide) rfl q3952 q3953 q3954 q110 q3955 rfl md_X4_thrown rfl (by decide) rfl (by decide) dL_law_390 (fun _ => rfl) (fun r119 σ => ?_) (by decide)
        refine tj_iload dL_law_393 rfl ?_
        refine tj_icmp_eq 400 dL_law_395 rfl (fun _ => ?_) (fun _ => ?_)
        · refine tj_iload dL_law_400 rfl ?_
          refine tj_if_ne 417 dL_law_402 rfl (fun _ => ?_) (fun _ => ?_)
          · refine tj_aload_n dL_law_405 rfl ?_
            refine tj_iconst (0 : Int32) dL_law_406 rfl ?_
            refine tj_lald dL_law_407 (fun v120 => ?_)
            refine tj_iload dL_law_408 rfl ?_
            refine tj_i2l dL_law_410 ?_
            refine tj_lcmp dL_law_411 ?_
            refine tj_if_eq 417 dL_law_412 rfl (fun _ => ?_) (fun _ => ?_)
            · refine tj_wk (L' := [some (va_rf l0), some (va_rf l1), some (va_rf l2), some (va_rf l3), some (va_rf l4), some (.int l5), none, none, none]) ⟨rfl, rfl, rfl, rfl, rfl, rfl, trivial⟩ ?_
              exact tj_L_law_J417 d h28 l0 l1 l2 l3 l4 l5 _
            · refine tj_iconst (0 : Int32) dL_law_415 rfl ?_
              exact tj_zpure rfl dL_law_416
          · refine tj_wk (L' := [some (va_rf l0), some (va_rf l1), some (va_rf l2), some (va_rf l3), some (va_rf l4), some (.int l5), none, none, none]) ⟨rfl, rfl, rfl, rfl, rfl, rfl, trivial⟩ ?_
            exact tj_L_law_J417 d h28 l0 l1 l2 l3 l4 l5 _
        · refine tj_iconst (0 : Int32) dL_law_398 rfl ?_
          exact tj_zpure rfl dL_law_399
      | 2, h1, h2 =>
        cases h1; cases h2
        refine tj_aload_n dL_law_420 rfl ?_
        refine tj_aload_n dL_law_421 rfl ?_
        refine tj_iload dL_law_422 rfl ?_
        refine tj_iconst (1 : Int32) dL_law_424 rfl ?_
        refine tj_iadd dL_law_425 ?_
        refine tj_iald dL_law_426 (fun v121 => ?_)
        refine tj_aload_n dL_law_427 rfl ?_
        refine tj_iload dL_law_428 rfl ?_
        refine tj_iconst (2 : Int32) dL_law_430 rfl ?_
        refine tj_iadd dL_law_431 ?_
        refine tj_iald dL_law_432 (fun v122 => ?_)
        refine tj_aload_n dL_law_433 rfl ?_
        refine tj_callSX (as := [va_rf l1, .int v121, .int v122, va_rf l3]) (rest := []) (st' := (fun r => [.int r])) (ct_X0_yawn d l1 v121 v122 l3) q3061 q3062 q95 q3063 md_X0_yawn rfl (by decide) rfl (by decide) dL_law_434 (fun _ => rfl) (fun r123 σ => ?_) (by decide)
        refine tj_istore dL_law_437 (by decide) rfl [some (va_rf l0), some (va_rf l1), some (va_rf l2), some (va_rf l3), some (va_rf l4), some (.int l5), some (.int r123), none, none] rfl ?_
        refine tj_aload_n dL_law_439 rfl ?_
        refine tj_aload_n dL_law_440 rfl ?_
        refine tj_iload dL_law_441 rfl ?_
        refine tj_iconst (1 : Int32) dL_law_443 rfl ?_
        refine tj_iadd dL_law_444 ?_
        refine tj_iald dL_law_445 (fun v124 => ?_)
        refine tj_aload_n dL_law_446 rfl ?_
        refine tj_iload dL_law_447 rfl ?_
        refine tj_iconst (2 : Int32) dL_law_449 rfl ?_
        refine tj_iadd dL_law_450 ?_
        refine tj_iald dL_law_451 (fun v125 => ?_)
        refine tj_callV (as := [.int v124, .int v125]) (rest := []) (st' := (fun r => [.int r])) (t := 1) (fun a e => by cases e; exact ct_X4_yawn d _ _ _) (by decide) rfl q4020 q4021 q4022 q110 q4023 rfl md_X4_yawn rfl (by decide) rfl (by decide) dL_law_452 (fun _ => rfl) (fun r126 σ => ?_) (by decide)
        refine tj_istore dL_law_455 (by decide) rfl [some (va_rf l0), some (va_rf l1), some (va_rf l2), some (va_rf l3), some (va_rf l4), some (.int l5), some (.int r123), some (.int r126), none] rfl ?_
        refine tj_aload_n dL_law_457 rfl ?_
        refine tj_callV (as := []) (rest := []) (st' := (fun r => [.int r])) (t := 1) (fun a e => by cases e; exact ct_X4_thrown d _) (by decide) rfl q3952 q3953 q3954 q110 q3955 rfl md_X4_thrown rfl (by decide) rfl (by decide) dL_law_458 (fun _ => rfl) (fun r127 σ => ?_) (by decide)
        refine tj_iload dL_law_461 rfl ?_
        refine tj_icmp_eq 468 dL_law_463 rfl (fun _ => ?_) (fun _ => ?_)
        · refine tj_iload dL_law_468 rfl ?_
          refine tj_if_ne 485 dL_law_470 rfl (fun _ => ?_) (fun _ => ?_)
          · refine tj_aload_n dL_law_473 rfl ?_
            refine tj_iconst (0 : Int32) dL_law_474 rfl ?_
            refine tj_lald dL_law_475 (fun v128 => ?_)
            refine tj_iload dL_law_476 rfl ?_
            refine tj_i2l dL_law_478 ?_
            refine tj_lcmp dL_law_479 ?_
            refine tj_if_eq 485 dL_law_480 rfl (fun _ => ?_) (fun _ => ?_)
            · refine tj_wk (L' := [some (va_rf l0), some (va_rf l1), some (va_rf l2), some (va_rf l3), some (va_rf l4), some (.int l5), none, none, none]) ⟨rfl, rfl, rfl, rfl, rfl, rfl, trivial⟩ ?_
              exact tj_L_law_J485 d h28 l0 l1 l2 l3 l4 l5 _
            · refine tj_iconst (0 : Int32) dL_law_483 rfl ?_
              exact tj_zpure rfl dL_law_484
          · refine tj_wk (L' := [some (va_rf l0), some (va_rf l1), some (va_rf l2), some (va_rf l3), some (va_rf l4), some (.int l5), none, none, none]) ⟨rfl, rfl, rfl, rfl, rfl, rfl, trivial⟩ ?_
            exact tj_L_law_J485 d h28 l0 l1 l2 l3 l4 l5 _
        · refine tj_iconst (0 : Int32) dL_law_466 rfl ?_
          exact tj_zpure rfl dL_law_467
      | 3, h1, h2 =>
        cases h1; cases h2
        refine tj_aload_n dL_law_488 rfl ?_
        refine tj_aload_n dL_law_489 rfl ?_
        refine tj_iload dL_law_490 rfl ?_
        refine tj_iconst (1 : Int32) dL_law_492 rfl ?_
        refine tj_iadd dL_law_493 ?_
        refine tj_iald dL_law_494 (fun v129 => ?_)
        refine tj_aload_n dL_law_495 rfl ?_
        refine tj_callSX (as := [va_rf l1, .int v129, va_rf l3]) (rest := []) (st' := (fun r => [.int r])) (ct_X0_leave d l1 v129 l3) q3069 q3070 q95 q3071 md_X0_leave rfl (by decide) rfl (by decide) dL_law_496 (fun _ => rfl) (fun r130 σ => ?_) (by decide)
        refine tj_istore dL_law_499 (by decide) rfl [some (va_rf l0), some (va_rf l1), some (va_rf l2), some (va_rf l3), some (va_rf l4), some (.int l5), some (.int r130), none, none] rfl ?_
        refine tj_aload_n dL_law_501 rfl ?_
        refine tj_aload_n dL_law_502 rfl ?_
        refine tj_iload dL_law_503 rfl ?_
        refine tj_iconst (1 : Int32) dL_law_505 rfl ?_
        refine tj_iadd dL_law_506 ?_
        refine tj_iald dL_law_507 (fun v131 => ?_)
        refine tj_callV (as := [.int v131]) (rest := []) (st' := (fun r => [.int r])) (t := 1) (fun a e => by cases e; exact ct_X4_leave d _ _) (by decide) rfl q4024 q4025 q4026 q110 q4027 rfl md_X4_leave rfl (by decide) rfl (by decide) dL_law_508 (fun _ => rfl) (fun r132 σ => ?_) (by decide)
        refine tj_istore dL_law_511 (by decide) rfl [some (va_rf l0), some (va_rf l1), some (va_rf l2), some (va_rf l3), some (va_rf l4), some (.int l5), some (.int r130), some (.int r132), none] rfl ?_
        refine tj_aload_n dL_law_513 rfl ?_
        refine tj_callV (as := []) (rest := []) (st' := (fun r => [.int r])) (t := 1) (fun a e => by cases e; exact ct_X4_thrown d _) (by decide) rfl q3952 q3953 q3954 q110 q3955 rfl md_X4_thrown rfl (by decide) rfl (by decide) dL_law_514 (fun _ => rfl) (fun r133 σ => ?_) (by decide)
        refine tj_iload dL_law_517 rfl ?_
        refine tj_icmp_eq 524 dL_law_519 rfl (fun _ => ?_) (fun _ => ?_)
        · refine tj_iload dL_law_524 rfl ?_
          refine tj_if_ne 541 dL_law_526 rfl (fun _ => ?_) (fun _ => ?_)
          · refine tj_aload_n dL_law_529 rfl ?_
            refine tj_iconst (0 : Int32) dL_law_530 rfl ?_
            refine tj_lald dL_law_531 (fun v134 => ?_)
            refine tj_iload dL_law_532 rfl ?_
            refine tj_i2l dL_law_534 ?_
            refine tj_lcmp dL_law_535 ?_
            refine tj_if_eq 541 dL_law_536 rfl (fun _ => ?_) (fun _ => ?_)
            · refine tj_wk (L' := [some (va_rf l0), some (va_rf l1), some (va_rf l2), some (va_rf l3), some (va_rf l4), some (.int l5), none, none, none]) ⟨rfl, rfl, rfl, rfl, rfl, rfl, trivial⟩ ?_
              exact tj_L_law_J541 d h28 l0 l1 l2 l3 l4 l5 _
            · refine tj_iconst (0 : Int32) dL_law_539 rfl ?_
              exact tj_zpure rfl dL_law_540
          · refine tj_wk (L' := [some (va_rf l0), some (va_rf l1), some (va_rf l2), some (va_rf l3), some (va_rf l4), some (.int l5), none, none, none]) ⟨rfl, rfl, rfl, rfl, rfl, rfl, trivial⟩ ?_
            exact tj_L_law_J541 d h28 l0 l1 l2 l3 l4 l5 _
        · refine tj_iconst (0 : Int32) dL_law_522 rfl ?_
          exact tj_zpure rfl dL_law_523
      | 4, h1, h2 =>
        cases h1; cases h2
        refine tj_aload_n dL_law_544 rfl ?_
        refine tj_aload_n dL_law_545 rfl ?_
        refine tj_callSX (as := [va_rf l1, va_rf l3]) (rest := []) (st' := (fun r => [.int r])) (ct_X0_serve d l1 l3) q3077 q3078 q95 q3079 md_X0_serve rfl (by decide) rfl (by decide) dL_law_546 (fun _ => rfl) (fun r135 σ => ?_) (by decide)
        refine tj_istore dL_law_549 (by decide) rfl [some (va_rf l0), some (va_rf l1), some (va_rf l2), some (va_rf l3), some (va_rf l4), some (.int l5), some (.int r135), none, none] rfl ?_
        refine tj_aload_n dL_law_551 rfl ?_
        refine tj_callV (as := []) (rest := []) (st' := (fun r => [.int r])) (t := 1) (fun a e => by cases e; exact ct_X4_serve d _) (by decide) rfl q4036 q4037 q4038 q110 q4039 rfl md_X4_serve rfl (by decide) rfl (by decide) dL_law_552 (fun _ => rfl) (fun r136 σ => ?_) (by decide)
        refine tj_istore dL_law_555 (by decide) rfl [some (va_rf l0), some (va_rf l1), some (va_rf l2), some (va_rf l3), some (va_rf l4), some (.int l5), some (.int r135), some (.int r136), none] rfl ?_
        refine tj_aload_n dL_law_557 rfl ?_
        refine tj_callV (as := []) (rest := []) (st' := (fun r => [.int r])) (t := 1) (fun a e => by cases e; exact ct_X4_thrown d _) (by decide) rfl q3952 q3953 q3954 q110 q3955 rfl md_X4_thrown rfl (by decide) rfl (by decide) dL_law_558 (fun _ => rfl) (fun r137 σ => ?_) (by decide)
        refine tj_iload dL_law_561 rfl ?_
        refine tj_icmp_eq 568 dL_law_563 rfl (fun _ => ?_) (fun _ => ?_)
        · refine tj_iload dL_law_568 rfl ?_
          refine tj_if_ne 585 dL_law_570 rfl (fun _ => ?_) (fun _ => ?_)
          · refine tj_aload_n dL_law_573 rfl ?_
            refine tj_iconst (0 : Int32) dL_law_574 rfl ?_
            refine tj_lald dL_law_575 (fun v138 => ?_)
            refine tj_iload dL_law_576 rfl ?_
            refine tj_i2l dL_law_578 ?_
            refine tj_lcmp dL_law_579 ?_
            refine tj_if_eq 585 dL_law_580 rfl (fun _ => ?_) (fun _ => ?_)
            · refine tj_wk (L' := [some (va_rf l0), some (va_rf l1), some (va_rf l2), some (va_rf l3), some (va_rf l4), some (.int l5), none, none, none]) ⟨rfl, rfl, rfl, rfl, rfl, rfl, trivial⟩ ?_
              exact tj_L_law_J585 d h28 l0 l1 l2 l3 l4 l5 _
            · refine tj_iconst (0 : Int32) dL_law_583 rfl ?_
              exact tj_zpure rfl dL_law_584
          · refine tj_wk (L' := [some (va_rf l0), some (va_rf l1), some (va_rf l2), some (va_rf l3), some (va_rf l4), some (.int l5), none, none, none]) ⟨rfl, rfl, rfl, rfl, rfl, rfl, trivial⟩ ?_
            exact tj_L_law_J585 d h28 l0 l1 l2 l3 l4 l5 _
        · refine tj_iconst (0 : Int32) dL_law_566 rfl ?_
          exact tj_zpure rfl dL_law_567
      | 5, h1, h2 =>
        cases h1; cases h2
        refine tj_aload_n dL_law_588 rfl ?_
        refine tj_callV (as := []) (rest := []) (st' := (fun r => [.int r])) (t := 0) (fun a e => by cases e; exact ct_X1_purge d _) (by decide) rfl q396 q397 q398 q96 q399 rfl md_X1_purge rfl (by decide) rfl (by decide) dL_law_589 (fun _ => rfl) (fun r139 σ => ?_) (by decide)
        refine tj_aload_n dL_law_592 rfl ?_
        refine tj_callV (as := []) (rest := [.int r139]) (st' := (fun r => [.int r, .int r139])) (t := 1) (fun a e => by cases e; exact ct_X4_purge d _) (by decide) rfl q4048 q4049 q4050 q110 q4051 rfl md_X4_purge rfl (by decide) rfl (by simp [rf_cat, cat_i, cat_l, cat_f, cat_d]) dL_law_593 (fun _ => rfl) (fun r140 σ => ?_) (by decide)
        refine tj_icmp_eq 2489 dL_law_596 rfl (fun _ => ?_) (fun _ => ?_)
        · exact tj_L_law_J2489 d h28 l0 l1 l2 l3 l4 l5 _
        · refine tj_iconst (0 : Int32) dL_law_599 rfl ?_
          exact tj_zpure rfl dL_law_600
      | 6, h1, h2 =>
        cases h1; cases h2
        refine tj_aload_n dL_law_601 rfl ?_
        refine tj_aload_n dL_law_602 rfl ?_
        refine tj_iload dL_law_603 rfl ?_
        refine tj_iconst (1 : Int32) dL_law_605 rfl ?_
        refine tj_iadd dL_law_606 ?_
        refine tj_iald dL_law_607 (fun v141 => ?_)
        refine tj_aload_n dL_law_608 rfl ?_
        refine tj_iload dL_law_609 rfl ?_
        refine tj_iconst (2 : Int32) dL_law_611 rfl ?_
        refine tj_iadd dL_law_612 ?_
        refine tj_iald dL_law_613 (fun v142 => ?_)
        refine tj_aload_n dL_law_614 rfl ?_
        refine tj_callSX (as := [va_rf l1, .int v141, .int v142, va_rf l3]) (rest := []) (st' := (fun r => [.int r])) (ct_X0_hireKeeper d l1 v141 v142 l3) q3086 q3087 q95 q3088 md_X0_hireKeeper rfl (by decide) rfl (by decide) dL_law_615 (fun _ => rfl) (fun r143 σ => ?_) (by decide)
        refine tj_istore dL_law_618 (by decide) rfl [some (va_rf l0), some (va_rf l1), some (va_rf l2), some (va_rf l3), some (va_rf l4), some (.int l5), some (.int r143), none, none] rfl ?_
        refine tj_aload_n dL_law_620 rfl ?_
        refine tj_aload_n dL_law_621 rfl ?_
        refine tj_iload dL_law_622 rfl ?_
        refine tj_iconst (1 : Int32) dL_law_624 rfl ?_
        refine tj_iadd dL_law_625 ?_
        refine tj_iald dL_law_626 (fun v144 => ?_)
        refine tj_aload_n dL_law_627 rfl ?_
        refine tj_iload dL_law_628 rfl ?_
        refine tj_iconst (2 : Int32) dL_law_630 rfl ?_
        refine tj_iadd dL_law_631 ?_
        refine tj_iald dL_law_632 (fun v145 => ?_)
        refine tj_callV (as := [.int v144, .int v145]) (rest := []) (st' := (fun r => [.int r])) (t := 1) (fun a e => by cases e; exact ct_X4_hireKeeper d _ _ _) (by decide) rfl q4052 q4053 q4054 q110 q4055 rfl md_X4_hireKeeper rfl (by decide) rfl (by decide) dL_law_633 (fun _ => rfl) (fun r146 σ => ?_) (by decide)
        refine tj_istore dL_law_636 (by decide) rfl [some (va_rf l0), some (va_rf l1), some (va_rf l2), some (va_rf l3), some (va_rf l4), some (.int l5), some (.int r143), some (.int r146), none] rfl ?_
        refine tj_aload_n dL_law_638 rfl ?_
        refine tj_callV (as := []) (rest := []) (st' := (fun r => [.int r])) (t := 1) (fun a e => by cases e; exact ct_X4_thrown d _) (by decide) rfl q3952 q3953 q3954 q110 q3955 rfl md_X4_thrown rfl (by decide) rfl (by decide) dL_law_639 (fun _ => rfl) (fun r147 σ => ?_) (by decide)
        refine tj_iload dL_law_642 rfl ?_
        refine tj_icmp_eq 649 dL_law_644 rfl (fun _ => ?_) (fun _ => ?_)
        · refine tj_iload dL_law_649 rfl ?_
          refine tj_if_ne 666 dL_law_651 rfl (fun _ => ?_) (fun _ => ?_)
          · refine tj_aload_n dL_law_654 rfl ?_
            refine tj_iconst (0 : Int32) dL_law_655 rfl ?_
            refine tj_lald dL_law_656 (fun v148 => ?_)
            refine tj_iload dL_law_657 rfl ?_
            refine tj_i2l dL_law_659 ?_
            refine tj_lcmp dL_law_660 ?_
            refine tj_if_eq 666 dL_law_661 rfl (fun _ => ?_) (fun _ => ?_)
            · refine tj_wk (L' := [some (va_rf l0), some (va_rf l1), some (va_rf l2), some (va_rf l3), some (va_rf l4), some (.int l5), none, none, none]) ⟨rfl, rfl, rfl, rfl, rfl, rfl, trivial⟩ ?_
              exact tj_L_law_J666 d h28 l0 l1 l2 l3 l4 l5 _
            · refine tj_iconst (0 : Int32) dL_law_664 rfl ?_
              exact tj_zpure rfl dL_law_665
          · refine tj_wk (L' := [some (va_rf l0), some (va_rf l1), some (va_rf l2), some (va_rf l3), some (va_rf l4), some (.int l5), none, none, none]) ⟨rfl, rfl, rfl, rfl, rfl, rfl, trivial⟩ ?_
            exact tj_L_law_J666 d h28 l0 l1 l2 l3 l4 l5 _
        · refine tj_iconst (0 : Int32) dL_law_647 rfl ?_
          exact tj_zpure rfl dL_law_648
      | 7, h1, h2 =>
        cases h1; cases h2
        refine tj_aload_n dL_law_669 rfl ?_
        refine tj_aload_n dL_law_670 rfl ?_
        refine tj_iload dL_law_671 rfl ?_
        refine tj_iconst (1 : Int32) dL_law_673 rfl ?_
        refine tj_iadd dL_law_674 ?_
        refine tj_iald dL_law_675 (fun v149 => ?_)
        refine tj_aload_n dL_law_676 rfl ?_
        refine tj_callSX (as := [va_rf l1, .int v149, va_rf l3]) (rest := []) (st' := (fun r => [.int r])) (ct_X0_dismissKeeper d l1 v149 l3) q3094 q3095 q95 q3096 md_X0_dismissKeeper rfl (by decide) rfl (by decide) dL_law_677 (fun _ => rfl) (fun r150 σ => ?_) (by decide)
        refine tj_istore dL_law_680 (by decide) rfl [some (va_rf l0), some (va_rf l1), some (va_rf l2), some (va_rf l3), some (va_rf l4), some (.int l5), some (.int r150), none, none] rfl ?_
        refine tj_aload_n dL_law_682 rfl ?_
        refine tj_aload_n dL_law_683 rfl ?_
        refine tj_iload dL_law_684 rfl ?_
        refine tj_iconst (1 : Int32) dL_law_686 rfl ?_
        refine tj_iadd dL_law_687 ?_
        refine tj_iald dL_law_688 (fun v151 => ?_)
        refine tj_callV (as := [.int v151]) (rest := []) (st' := (fun r => [.int r])) (t := 1) (fun a e => by cases e; exact ct_X4_dismissKeeper d _ _) (by decide) rfl q4060 q4061 q4062 q110 q4063 rfl md_X4_dismissKeeper rfl (by decide) rfl (by decide) dL_law_689 (fun _ => rfl) (fun r152 σ => ?_) (by decide)
        refine tj_istore dL_law_692 (by decide) rfl [some (va_rf l0), some (va_rf l1), some (va_rf l2), some (va_rf l3), some (va_rf l4), some (.int l5), some (.int r150), some (.int r152), none] rfl ?_
        refine tj_aload_n dL_law_694 rfl ?_
        refine tj_callV (as := []) (rest := []) (st' := (fun r => [.int r])) (t := 1) (fun a e => by cases e; exact ct_X4_thrown d _) (by decide) rfl q3952 q3953 q3954 q110 q3955 rfl md_X4_thrown rfl (by decide) rfl (by decide) dL_law_695 (fun _ => rfl) (fun r153 σ => ?_) (by decide)
        refine tj_iload dL_law_698 rfl ?_
        refine tj_icmp_eq 705 dL_law_700 rfl (fun _ => ?_) (fun _ => ?_)
        · refine tj_iload dL_law_705 rfl ?_
          refine tj_if_ne 722 dL_law_707 rfl (fun _ => ?_) (fun _ => ?_)
          · refine tj_aload_n dL_law_710 rfl ?_
            refine tj_iconst (0 : Int32) dL_law_711 rfl ?_
            refine tj_lald dL_law_712 (fun v154 => ?_)
            refine tj_iload dL_law_713 rfl ?_
            refine tj_i2l dL_law_715 ?_
            refine tj_lcmp dL_law_716 ?_
            refine tj_if_eq 722 dL_law_717 rfl (fun _ => ?_) (fun _ => ?_)
            · refine tj_wk (L' := [some (va_rf l0), some (va_rf l1), some (va_rf l2), some (va_rf l3), some (va_rf l4), some (.int l5), none, none, none]) ⟨rfl, rfl, rfl, rfl, rfl, rfl, trivial⟩ ?_
              exact tj_L_law_J722 d h28 l0 l1 l2 l3 l4 l5 _
            · refine tj_iconst (0 : Int32) dL_law_720 rfl ?_
              exact tj_zpure rfl dL_law_721
          · refine tj_wk (L' := [some (va_rf l0), some (va_rf l1), some (va_rf l2), some (va_rf l3), some (va_rf l4), some (.int l5), none, none, none]) ⟨rfl, rfl, rfl, rfl, rfl, rfl, trivial⟩ ?_
            exact tj_L_law_J722 d h28 l0 l1 l2 l3 l4 l5 _
        · refine tj_iconst (0 : Int32) dL_law_703 rfl ?_
          exact tj_zpure rfl dL_law_704
      | 8, h1, h2 =>
        cases h1; cases h2
        refine tj_aload_n dL_law_725 rfl ?_
        refine tj_aload_n dL_law_726 rfl ?_
        refine tj_iload dL_law_727 rfl ?_
        refine tj_iconst (1 : Int32) dL_law_729 rfl ?_
        refine tj_iadd dL_law_730 ?_
        refine tj_iald dL_law_731 (fun v155 => ?_)
        refine tj_aload_n dL_law_732 rfl ?_
        refine tj_callSX (as := [va_rf l1, .int v155, va_rf l3]) (rest := []) (st' := (fun r => [.int r])) (ct_X0_passHours d l1 v155 l3) q3118 q3119 q95 q3120 md_X0_passHours rfl (by decide) rfl (by decide) dL_law_733 (fun _ => rfl) (fun r156 σ => ?_) (by decide)
        refine tj_istore dL_law_736 (by decide) rfl [some (va_rf l0), some (va_rf l1), some (va_rf l2), some (va_rf l3), some (va_rf l4), some (.int l5), some (.int r156), none, none] rfl ?_
        refine tj_aload_n dL_law_738 rfl ?_
        refine tj_aload_n dL_law_739 rfl ?_
        refine tj_iload dL_law_740 rfl ?_
        refine tj_iconst (1 : Int32) dL_law_742 rfl ?_
        refine tj_iadd dL_law_743 ?_
        refine tj_iald dL_law_744 (fun v157 => ?_)
        refine tj_callV (as := [.int v157]) (rest := []) (st' := (fun r => [.int r])) (t := 1) (fun a e => by cases e; exact ct_X4_passHours d _ _) (by decide) rfl q4068 q4069 q4070 q110 q4071 rfl md_X4_passHours rfl (by decide) rfl (by decide) dL_law_745 (fun _ => rfl) (fun r158 σ => ?_) (by decide)
        refine tj_istore dL_law_748 (by decide) rfl [some (va_rf l0), some (va_rf l1), some (va_rf l2), some (va_rf l3), some (va_rf l4), some (.int l5), some (.int r156), some (.int r158), none] rfl ?_
        refine tj_aload_n dL_law_750 rfl ?_
        refine tj_callV (as := []) (rest := []) (st' := (fun r => [.int r])) (t := 1) (fun a e => by cases e; exact ct_X4_thrown d _) (by decide) rfl q3952 q3953 q3954 q110 q3955 rfl md_X4_thrown rfl (by decide) rfl (by decide) dL_law_751 (fun _ => rfl) (fun r159 σ => ?_) (by decide)
        refine tj_iload dL_law_754 rfl ?_
        refine tj_icmp_eq 761 dL_law_756 rfl (fun _ => ?_) (fun _ => ?_)
        · refine tj_iload dL_law_761 rfl ?_
          refine tj_if_ne 778 dL_law_763 rfl (fun _ => ?_) (fun _ => ?_)
          · refine tj_aload_n dL_law_766 rfl ?_
            refine tj_iconst (0 : Int32) dL_law_767 rfl ?_
            refine tj_lald dL_law_768 (fun v160 => ?_)
            refine tj_iload dL_law_769 rfl ?_
            refine tj_i2l dL_law_771 ?_
            refine tj_lcmp dL_law_772 ?_
            refine tj_if_eq 778 dL_law_773 rfl (fun _ => ?_) (fun _ => ?_)
            · refine tj_wk (L' := [some (va_rf l0), some (va_rf l1), some (va_rf l2), some (va_rf l3), some (va_rf l4), some (.int l5), none, none, none]) ⟨rfl, rfl, rfl, rfl, rfl, rfl, trivial⟩ ?_
              exact tj_L_law_J778 d h28 l0 l1 l2 l3 l4 l5 _
            · refine tj_iconst (0 : Int32) dL_law_776 rfl ?_
              exact tj_zpure rfl dL_law_777
          · refine tj_wk (L' := [some (va_rf l0), some (va_rf l1), some (va_rf l2), some (va_rf l3), some (va_rf l4), some (.int l5), none, none, none]) ⟨rfl, rfl, rfl, rfl, rfl, rfl, trivial⟩ ?_
            exact tj_L_law_J778 d h28 l0 l1 l2 l3 l4 l5 _
        · refine tj_iconst (0 : Int32) dL_law_759 rfl ?_
          exact tj_zpure rfl dL_law_760
      | 9, h1, h2 =>
        cases h1; cases h2
        refine tj_aload_n dL_law_781 rfl ?_
        refine tj_callV (as := []) (rest := []) (st' := (fun r => [.int r])) (t := 0) (fun a e => by cases e; exact ct_X1_lionCount d _) (by decide) rfl q2694 q2695 q2696 q96 q2697 rfl md_X1_lionCount rfl (by decide) rfl (by decide) dL_law_782 (fun _ => rfl) (fun r161 σ => ?_) (by decide)
        refine tj_aload_n dL_law_785 rfl ?_
        refine tj_callV (as := []) (rest := [.int r161]) (st' := (fun r => [.int r, .int r161])) (t := 1) (fun a e => by cases e; exact ct_X4_lionCount d _) (by decide) rfl q4076 q4077 q4078 q110 q4079 rfl md_X4_lionCount rfl (by decide) rfl (by simp [rf_cat, cat_i, cat_l, cat_f, cat_d]) dL_law_786 (fun _ => rfl) (fun r162 σ => ?_) (by decide)
        refine tj_icmp_eq 2489 dL_law_789 rfl (fun _ => ?_) (fun _ => ?_)
        · exact tj_L_law_J2489 d h28 l0 l1 l2 l3 l4 l5 _
        · refine tj_iconst (0 : Int32) dL_law_792 rfl ?_
          exact tj_zpure rfl dL_law_793
      | 10, h1, h2 =>
        cases h1; cases h2
        refine tj_aload_n dL_law_794 rfl ?_
        refine tj_aload_n dL_law_795 rfl ?_
        refine tj_iload dL_law_796 rfl ?_
        refine tj_iconst (1 : Int32) dL_law_798 rfl ?_
        refine tj_iadd dL_law_799 ?_
        refine tj_iald dL_law_800 (fun v163 => ?_)
        refine tj_aload_n dL_law_801 rfl ?_
        refine tj_callSX (as := [va_rf l1, .int v163, va_rf l3]) (rest := []) (st' := (fun r => [.int r])) (ct_X0_lionAt d l1 v163 l3) q3126 q3127 q95 q3128 md_X0_lionAt rfl (by decide) rfl (by decide) dL_law_802 (fun _ => rfl) (fun r164 σ => ?_) (by decide)
        refine tj_istore dL_law_805 (by decide) rfl [some (va_rf l0), some (va_rf l1), some (va_rf l2), some (va_rf l3), some (va_rf l4), some (.int l5), some (.int r164), none, none] rfl ?_
        refine tj_aload_n dL_law_807 rfl ?_
        refine tj_aload_n dL_law_808 rfl ?_
        refine tj_iload dL_law_809 rfl ?_
        refine tj_iconst (1 : Int32) dL_law_811 rfl ?_
        refine tj_iadd dL_law_812 ?_
        refine tj_iald dL_law_813 (fun v165 => ?_)
        refine tj_callV (as := [.int v165]) (rest := []) (st' := (fun r => [.int r])) (t := 1) (fun a e => by cases e; exact ct_X4_lionAt d _ _) (by decide) rfl q4084 q4085 q4086 q110 q4087 rfl md_X4_lionAt rfl (by decide) rfl (by decide) dL_law_814 (fun _ => rfl) (fun r166 σ => ?_) (by decide)
        refine tj_istore dL_law_817 (by decide) rfl [some (va_rf l0), some (va_rf l1), some (va_rf l2), some (va_rf l3), some (va_rf l4), some (.int l5), some (.int r164), some (.int r166), none] rfl ?_
        refine tj_aload_n dL_law_819 rfl ?_
        refine tj_callV (as := []) (rest := []) (st' := (fun r => [.int r])) (t := 1) (fun a e => by cases e; exact ct_X4_thrown d _) (by decide) rfl q3952 q3953 q3954 q110 q3955 rfl md_X4_thrown rfl (by decide) rfl (by decide) dL_law_820 (fun _ => rfl) (fun r167 σ => ?_) (by decide)
        refine tj_iload dL_law_823 rfl ?_
        refine tj_icmp_eq 830 dL_law_825 rfl (fun _ => ?_) (fun _ => ?_)
        · refine tj_iload dL_law_830 rfl ?_
          refine tj_if_ne 847 dL_law_832 rfl (fun _ => ?_) (fun _ => ?_)
          · refine tj_aload_n dL_law_835 rfl ?_
            refine tj_iconst (0 : Int32) dL_law_836 rfl ?_
            refine tj_lald dL_law_837 (fun v168 => ?_)
            refine tj_iload dL_law_838 rfl ?_
            refine tj_i2l dL_law_840 ?_
            refine tj_lcmp dL_law_841 ?_
            refine tj_if_eq 847 dL_law_842 rfl (fun _ => ?_) (fun _ => ?_)
            · refine tj_wk (L' := [some (va_rf l0), some (va_rf l1), some (va_rf l2), some (va_rf l3), some (va_rf l4), some (.int l5), none, none, none]) ⟨rfl, rfl, rfl, rfl, rfl, rfl, trivial⟩ ?_
              exact tj_L_law_J847 d h28 l0 l1 l2 l3 l4 l5 _
            · refine tj_iconst (0 : Int32) dL_law_845 rfl ?_
              exact tj_zpure rfl dL_law_846
          · refine tj_wk (L' := [some (va_rf l0), some (va_rf l1), some (va_rf l2), some (va_rf l3), some (va_rf l4), some (.int l5), none, none, none]) ⟨rfl, rfl, rfl, rfl, rfl, rfl, trivial⟩ ?_
            exact tj_L_law_J847 d h28 l0 l1 l2 l3 l4 l5 _
        · refine tj_iconst (0 : Int32) dL_law_828 rfl ?_
          exact tj_zpure rfl dL_law_829
      | 11, h1, h2 =>
        cases h1; cases h2
        refine tj_aload_n dL_law_850 rfl ?_
        refine tj_aload_n dL_law_851 rfl ?_
        refine tj_iload dL_law_852 rfl ?_
        refine tj_iconst (1 : Int32) dL_law_854 rfl ?_
        refine tj_iadd dL_law_855 ?_
        refine tj_iald dL_law_856 (fun v169 => ?_)
        refine tj_aload_n dL_law_857 rfl ?_
        refine tj_callSX (as := [va_rf l1, .int v169, va_rf l3]) (rest := []) (st' := (fun r => [.int r])) (ct_X0_hungerOf d l1 v169 l3) q3167 q3168 q95 q3169 md_X0_hungerOf rfl (by decide) rfl (by decide) dL_law_858 (fun _ => rfl) (fun r170 σ => ?_) (by decide)
        refine tj_istore dL_law_861 (by decide) rfl [some (va_rf l0), some (va_rf l1), some (va_rf l2), some (va_rf l3), some (va_rf l4), some (.int l5), some (.int r170), none, none] rfl ?_
        refine tj_aload_n dL_law_863 rfl ?_
        refine tj_aload_n dL_law_864 rfl ?_
        refine tj_iload dL_law_865 rfl ?_
        refine tj_iconst (1 : Int32) dL_law_867 rfl ?_
        refine tj_iadd dL_law_868 ?_
        refine tj_iald dL_law_869 (fun v171 => ?_)
        refine tj_callV (as := [.int v171]) (rest := []) (st' := (fun r => [.int r])) (t := 1) (fun a e => by cases e; exact ct_X4_hungerOf d _ _) (by decide) rfl q4088 q4089 q4090 q110 q4091 rfl md_X4_hungerOf rfl (by decide) rfl (by decide) dL_law_870 (fun _ => rfl) (fun r172 σ => ?_) (by decide)
        refine tj_istore dL_law_873 (by decide) rfl [some (va_rf l0), some (va_rf l1), some (va_rf l2), some (va_rf l3), some (va_rf l4), some (.int l5), some (.int r170), some (.int r172), none] rfl ?_
        refine tj_aload_n dL_law_875 rfl ?_
        refine tj_callV (as := []) (rest := []) (st' := (fun r => [.int r])) (t := 1) (fun a e => by cases e; exact ct_X4_thrown d _) (by decide) rfl q3952 q3953 q3954 q110 q3955 rfl md_X4_thrown rfl (by decide) rfl (by decide) dL_law_876 (fun _ => rfl) (fun r173 σ => ?_) (by decide)
        refine tj_iload dL_law_879 rfl ?_
        refine tj_icmp_eq 886 dL_law_881 rfl (fun _ => ?_) (fun _ => ?_)
        · refine tj_iload dL_law_886 rfl ?_
          refine tj_if_ne 903 dL_law_888 rfl (fun _ => ?_) (fun _ => ?_)
          · refine tj_aload_n dL_law_891 rfl ?_
            refine tj_iconst (0 : Int32) dL_law_892 rfl ?_
            refine tj_lald dL_law_893 (fun v174 => ?_)
            refine tj_iload dL_law_894 rfl ?_
            refine tj_i2l dL_law_896 ?_
            refine tj_lcmp dL_law_897 ?_
            refine tj_if_eq 903 dL_law_898 rfl (fun _ => ?_) (fun _ => ?_)
            · refine tj_wk (L' := [some (va_rf l0), some (va_rf l1), some (va_rf l2), some (va_rf l3), some (va_rf l4), some (.int l5), none, none, none]) ⟨rfl, rfl, rfl, rfl, rfl, rfl, trivial⟩ ?_
              exact tj_L_law_J903 d h28 l0 l1 l2 l3 l4 l5 _
            · refine tj_iconst (0 : Int32) dL_law_901 rfl ?_
              exact tj_zpure rfl dL_law_902
          · refine tj_wk (L' := [some (va_rf l0), some (va_rf l1), some (va_rf l2), some (va_rf l3), some (va_rf l4), some (.int l5), none, none, none]) ⟨rfl, rfl, rfl, rfl, rfl, rfl, trivial⟩ ?_
            exact tj_L_law_J903 d h28 l0 l1 l2 l3 l4 l5 _
        · refine tj_iconst (0 : Int32) dL_law_884 rfl ?_
          exact tj_zpure rfl dL_law_885
      | 12, h1, h2 =>
        cases h1; cases h2
        refine tj_aload_n dL_law_906 rfl ?_
        refine tj_aload_n dL_law_907 rfl ?_
        refine tj_iload dL_law_908 rfl ?_
        refine tj_iconst (1 : Int32) dL_law_910 rfl ?_
        refine tj_iadd dL_law_911 ?_
        refine tj_iald dL_law_912 (fun v175 => ?_)
        refine tj_aload_n dL_law_913 rfl ?_
        refine tj_callSX (as := [va_rf l1, .int v175, va_rf l3]) (rest := []) (st' := (fun r => [.int r])) (ct_X0_portionOf d l1 v175 l3) q3183 q3184 q95 q3185 md_X0_portionOf rfl (by decide) rfl (by decide) dL_law_914 (fun _ => rfl) (fun r176 σ => ?_) (by decide)
        refine tj_istore dL_law_917 (by decide) rfl [some (va_rf l0), some (va_rf l1), some (va_rf l2), some (va_rf l3), some (va_rf l4), some (.int l5), some (.int r176), none, none] rfl ?_
        refine tj_aload_n dL_law_919 rfl ?_
        refine tj_aload_n dL_law_920 rfl ?_
        refine tj_iload dL_law_921 rfl ?_
        refine tj_iconst (1 : Int32) dL_law_923 rfl ?_
        refine tj_iadd dL_law_924 ?_
        refine tj_iald dL_law_925 (fun v177 => ?_)
        refine tj_callV (as := [.int v177]) (rest := []) (st' := (fun r => [.int r])) (t := 1) (fun a e => by cases e; exact ct_X4_portionOf d _ _) (by decide) rfl q4096 q4097 q4098 q110 q4099 rfl md_X4_portionOf rfl (by decide) rfl (by decide) dL_law_926 (fun _ => rfl) (fun r178 σ => ?_) (by decide)
        refine tj_istore dL_law_929 (by decide) rfl [some (va_rf l0), some (va_rf l1), some (va_rf l2), some (va_rf l3), some (va_rf l4), some (.int l5), some (.int r176), some (.int r178), none] rfl ?_
        refine tj_aload_n dL_law_931 rfl ?_
        refine tj_callV (as := []) (rest := []) (st' := (fun r => [.int r])) (t := 1) (fun a e => by cases e; exact ct_X4_thrown d _) (by decide) rfl q3952 q3953 q3954 q110 q3955 rfl md_X4_thrown rfl (by decide) rfl (by decide) dL_law_932 (fun _ => rfl) (fun r179 σ => ?_) (by decide)
        refine tj_iload dL_law_935 rfl ?_
        refine tj_icmp_eq 942 dL_law_937 rfl (fun _ => ?_) (fun _ => ?_)
        · refine tj_iload dL_law_942 rfl ?_
          refine tj_if_ne 959 dL_law_944 rfl (fun _ => ?_) (fun _ => ?_)
          · refine tj_aload_n dL_law_947 rfl ?_
            refine tj_iconst (0 : Int32) dL_law_948 rfl ?_
            refine tj_lald dL_law_949 (fun v180 => ?_)
            refine tj_iload dL_law_950 rfl ?_
            refine tj_i2l dL_law_952 ?_
            refine tj_lcmp dL_law_953 ?_
            refine tj_if_eq 959 dL_law_954 rfl (fun _ => ?_) (fun _ => ?_)
            · refine tj_wk (L' := [some (va_rf l0), some (va_rf l1), some (va_rf l2), some (va_rf l3), some (va_rf l4), some (.int l5), none, none, none]) ⟨rfl, rfl, rfl, rfl, rfl, rfl, trivial⟩ ?_
              exact tj_L_law_J959 d h28 l0 l1 l2 l3 l4 l5 _
            · refine tj_iconst (0 : Int32) dL_law_957 rfl ?_
              exact tj_zpure rfl dL_law_958
          · refine tj_wk (L' := [some (va_rf l0), some (va_rf l1), some (va_rf l2), some (va_rf l3), some (va_rf l4), some (.int l5), none, none, none]) ⟨rfl, rfl, rfl, rfl, rfl, rfl, trivial⟩ ?_
            exact tj_L_law_J959 d h28 l0 l1 l2 l3 l4 l5 _
        · refine tj_iconst (0 : Int32) dL_law_940 rfl ?_
          exact tj_zpure rfl dL_law_941
      | 13, h1, h2 =>
        cases h1; cases h2
        refine tj_aload_n dL_law_962 rfl ?_
        refine tj_aload_n dL_law_963 rfl ?_
        refine tj_iload dL_law_964 rfl ?_
        refine tj_iconst (1 : Int32) dL_law_966 rfl ?_
        refine tj_iadd dL_law_967 ?_
        refine tj_iald dL_law_968 (fun v181 => ?_)
        refine tj_aload_n dL_law_969 rfl ?_
        refine tj_callSX (as := [va_rf l1, .int v181, va_rf l3]) (rest := []) (st' := (fun r => [.int r])) (ct_X0_deadlineOf d l1 v181 l3) q3190 q3191 q95 q3192 md_X0_deadlineOf rfl (by decide) rfl (by decide) dL_law_970 (fun _ => rfl) (fun r182 σ => ?_) (by decide)
        refine tj_istore dL_law_973 (by decide) rfl [some (va_rf l0), some (va_rf l1), some (va_rf l2), some (va_rf l3), some (va_rf l4), some (.int l5), some (.int r182), none, none] rfl ?_
        refine tj_aload_n dL_law_975 rfl ?_
        refine tj_aload_n dL_law_976 rfl ?_
        refine tj_iload dL_law_977 rfl ?_
        refine tj_iconst (1 : Int32) dL_law_979 rfl ?_
        refine tj_iadd dL_law_980 ?_
        refine tj_iald dL_law_981 (fun v183 => ?_)
        refine tj_callV (as := [.int v183]) (rest := []) (st' := (fun r => [.int r])) (t := 1) (fun a e => by cases e; exact ct_X4_deadlineOf d _ _) (by decide) rfl q4100 q4101 q4102 q110 q4103 rfl md_X4_deadlineOf rfl (by decide) rfl (by decide) dL_law_982 (fun _ => rfl) (fun r184 σ => ?_) (by decide)
        refine tj_istore dL_law_985 (by decide) rfl [some (va_rf l0), some (va_rf l1), some (va_rf l2), some (va_rf l3), some (va_rf l4), some (.int l5), some (.int r182), some (.int r184), none] rfl ?_
        refine tj_aload_n dL_law_987 rfl ?_
        refine tj_callV (as := []) (rest := []) (st' := (fun r => [.int r])) (t := 1) (fun a e => by cases e; exact ct_X4_thrown d _) (by decide) rfl q3952 q3953 q3954 q110 q3955 rfl md_X4_thrown rfl (by decide) rfl (by decide) dL_law_988 (fun _ => rfl) (fun r185 σ => ?_) (by decide)
        refine tj_iload dL_law_991 rfl ?_
        refine tj_icmp_eq 998 dL_law_993 rfl (fun _ => ?_) (fun _ => ?_)
        · refine tj_iload dL_law_998 rfl ?_
          refine tj_if_ne 1015 dL_law_1000 rfl (fun _ => ?_) (fun _ => ?_)
          · refine tj_aload_n dL_law_1003 rfl ?_
            refine tj_iconst (0 : Int32) dL_law_1004 rfl ?_
            refine tj_lald dL_law_1005 (fun v186 => ?_)
            refine tj_iload dL_law_1006 rfl ?_
            refine tj_i2l dL_law_1008 ?_
            refine tj_lcmp dL_law_1009 ?_
            refine tj_if_eq 1015 dL_law_1010 rfl (fun _ => ?_) (fun _ => ?_)
            · refine tj_wk (L' := [some (va_rf l0), some (va_rf l1), some (va_rf l2), some (va_rf l3), some (va_rf l4), some (.int l5), none, none, none]) ⟨rfl, rfl, rfl, rfl, rfl, rfl, trivial⟩ ?_
              exact tj_L_law_J1015 d h28 l0 l1 l2 l3 l4 l5 _
            · refine tj_iconst (0 : Int32) dL_law_1013 rfl ?_
              exact tj_zpure rfl dL_law_1014
          · refine tj_wk (L' := [some (va_rf l0), some (va_rf l1), some (va_rf l2), some (va_rf l3), some (va_rf l4), some (.int l5), none, none, none]) ⟨rfl, rfl, rfl, rfl, rfl, rfl, trivial⟩ ?_
            exact tj_L_law_J1015 d h28 l0 l1 l2 l3 l4 l5 _
        · refine tj_iconst (0 : Int32) dL_law_996 rfl ?_
          exact tj_zpure rfl dL_law_997
      | 14, h1, h2 =>
        cases h1; cases h2
        refine tj_aload_n dL_law_1018 rfl ?_
        refine tj_aload_n dL_law_1019 rfl ?_
        refine tj_iload dL_law_1020 rfl ?_
        refine tj_iconst (1 : Int32) dL_law_1022 rfl ?_
        refine tj_iadd dL_law_1023 ?_
        refine tj_iald dL_law_1024 (fun v187 => ?_)
        refine tj_aload_n dL_law_1025 rfl ?_
        refine tj_callSX (as := [va_rf l1, .int v187, va_rf l3]) (rest := []) (st' := (fun r => [.int r])) (ct_X0_ticketOf d l1 v187 l3) q3197 q3198 q95 q3199 md_X0_ticketOf rfl (by decide) rfl (by decide) dL_law_1026 (fun _ => rfl) (fun r188 σ => ?_) (by decide)
        refine tj_istore dL_law_1029 (by decide) rfl [some (va_rf l0), some (va_rf l1), some (va_rf l2), some (va_rf l3), some (va_rf l4), some (.int l5), some (.int r188), none, none] rfl ?_
        refine tj_aload_n dL_law_1031 rfl ?_
        refine tj_aload_n dL_law_1032 rfl ?_
        refine tj_iload dL_law_1033 rfl ?_
        refine tj_iconst (1 : Int32) dL_law_1035 rfl ?_
        refine tj_iadd dL_law_1036 ?_
        refine tj_iald dL_law_1037 (fun v189 => ?_)
        refine tj_callV (as := [.int v189]) (rest := []) (st' := (fun r => [.int r])) (t := 1) (fun a e => by cases e; exact ct_X4_ticketOf d _ _) (by decide) rfl q4104 q4105 q4106 q110 q4107 rfl md_X4_ticketOf rfl (by decide) rfl (by decide) dL_law_1038 (fun _ => rfl) (fun r190 σ => ?_) (by decide)
        refine tj_istore dL_law_1041 (by decide) rfl [some (va_rf l0), some (va_rf l1), some (va_rf l2), some (va_rf l3), some (va_rf l4), some (.int l5), some (.int r188), some (.int r190), none] rfl ?_
        refine tj_aload_n dL_law_1043 rfl ?_
        refine tj_callV (as := []) (rest := []) (st' := (fun r => [.int r])) (t := 1) (fun a e => by cases e; exact ct_X4_thrown d _) (by decide) rfl q3952 q3953 q3954 q110 q3955 rfl md_X4_thrown rfl (by decide) rfl (by decide) dL_law_1044 (fun _ => rfl) (fun r191 σ => ?_) (by decide)
        refine tj_iload dL_law_1047 rfl ?_
        refine tj_icmp_eq 1054 dL_law_1049 rfl (fun _ => ?_) (fun _ => ?_)
        · refine tj_iload dL_law_1054 rfl ?_
          refine tj_if_ne 1071 dL_law_1056 rfl (fun _ => ?_) (fun _ => ?_)
          · refine tj_aload_n dL_law_1059 rfl ?_
            refine tj_iconst (0 : Int32) dL_law_1060 rfl ?_
            refine tj_lald dL_law_1061 (fun v192 => ?_)
            refine tj_iload dL_law_1062 rfl ?_
            refine tj_i2l dL_law_1064 ?_
            refine tj_lcmp dL_law_1065 ?_
            refine tj_if_eq 1071 dL_law_1066 rfl (fun _ => ?_) (fun _ => ?_)
            · refine tj_wk (L' := [some (va_rf l0), some (va_rf l1), some (va_rf l2), some (va_rf l3), some (va_rf l4), some (.int l5), none, none, none]) ⟨rfl, rfl, rfl, rfl, rfl, rfl, trivial⟩ ?_
              exact tj_L_law_J1071 d h28 l0 l1 l2 l3 l4 l5 _
            · refine tj_iconst (0 : Int32) dL_law_1069 rfl ?_
              exact tj_zpure rfl dL_law_1070
          · refine tj_wk (L' := [some (va_rf l0), some (va_rf l1), some (va_rf l2), some (va_rf l3), some (va_rf l4), some (.int l5), none, none, none]) ⟨rfl, rfl, rfl, rfl, rfl, rfl, trivial⟩ ?_
            exact tj_L_law_J1071 d h28 l0 l1 l2 l3 l4 l5 _
        · refine tj_iconst (0 : Int32) dL_law_1052 rfl ?_
          exact tj_zpure rfl dL_law_1053
      | 15, h1, h2 =>
        cases h1; cases h2
        refine tj_aload_n dL_law_1074 rfl ?_
        refine tj_aload_n dL_law_1075 rfl ?_
        refine tj_callSX (as := [va_rf l1, va_rf l3]) (rest := []) (st' := (fun r => [.int r])) (ct_X0_hungriest d l1 l3) q3204 q3205 q95 q3206 md_X0_hungriest rfl (by decide) rfl (by decide) dL_law_1076 (fun _ => rfl) (fun r193 σ => ?_) (by decide)
        refine tj_istore dL_law_1079 (by decide) rfl [some (va_rf l0), some (va_rf l1), some (va_rf l2), some (va_rf l3), some (va_rf l4), some (.int l5), some (.int r193), none, none] rfl ?_
        refine tj_aload_n dL_law_1081 rfl ?_
        refine tj_callV (as := []) (rest := []) (st' := (fun r => [.int r])) (t := 1) (fun a e => by cases e; exact ct_X4_hungriest d _) (by decide) rfl q4112 q4113 q4114 q110 q4115 rfl md_X4_hungriest rfl (by decide) rfl (by decide) dL_law_1082 (fun _ => rfl) (fun r194 σ => ?_) (by decide)
        refine tj_istore dL_law_1085 (by decide) rfl [some (va_rf l0), some (va_rf l1), some (va_rf l2), some (va_rf l3), some (va_rf l4), some (.int l5), some (.int r193), some (.int r194), none] rfl ?_
        refine tj_aload_n dL_law_1087 rfl ?_
        refine tj_callV (as := []) (rest := []) (st' := (fun r => [.int r])) (t := 1) (fun a e => by cases e; exact ct_X4_thrown d _) (by decide) rfl q3952 q3953 q3954 q110 q3955 rfl md_X4_thrown rfl (by decide) rfl (by decide) dL_law_1088 (fun _ => rfl) (fun r195 σ => ?_) (by decide)
        refine tj_iload dL_law_1091 rfl ?_
        refine tj_icmp_eq 1098 dL_law_1093 rfl (fun _ => ?_) (fun _ => ?_)
        · refine tj_iload dL_law_1098 rfl ?_
          refine tj_if_ne 1115 dL_law_1100 rfl (fun _ => ?_) (fun _ => ?_)
          · refine tj_aload_n dL_law_1103 rfl ?_
            refine tj_iconst (0 : Int32) dL_law_1104 rfl ?_
            refine tj_lald dL_law_1105 (fun v196 => ?_)
            refine tj_iload dL_law_1106 rfl ?_
            refine tj_i2l dL_law_1108 ?_
            refine tj_lcmp dL_law_1109 ?_
            refine tj_if_eq 1115 dL_law_1110 rfl (fun _ => ?_) (fun _ => ?_)
            · refine tj_wk (L' := [some (va_rf l0), some (va_rf l1), some (va_rf l2), some (va_rf l3), some (va_rf l4), some (.int l5), none, none, none]) ⟨rfl, rfl, rfl, rfl, rfl, rfl, trivial⟩ ?_
              exact tj_L_law_J1115 d h28 l0 l1 l2 l3 l4 l5 _
            · refine tj_iconst (0 : Int32) dL_law_1113 rfl ?_
              exact tj_zpure rfl dL_law_1114
          · refine tj_wk (L' := [some (va_rf l0), some (va_rf l1), some (va_rf l2), some (va_rf l3), some (va_rf l4), some (.int l5), none, none, none]) ⟨rfl, rfl, rfl, rfl, rfl, rfl, trivial⟩ ?_
            exact tj_L_law_J1115 d h28 l0 l1 l2 l3 l4 l5 _
        · refine tj_iconst (0 : Int32) dL_law_1096 rfl ?_
          exact tj_zpure rfl dL_law_1097
      | 16, h1, h2 =>
        cases h1; cases h2
        refine tj_aload_n dL_law_1118 rfl ?_
        refine tj_aload_n dL_law_1119 rfl ?_
        refine tj_callSX (as := [va_rf l1, va_rf l3]) (rest := []) (st' := (fun r => [.int r])) (ct_X0_hungriestByLooking d l1 l3) q3215 q3216 q95 q3217 md_X0_hungriestByLooking rfl (by decide) rfl (by decide) dL_law_1120 (fun _ => rfl) (fun r197 σ => ?_) (by decide)
        refine tj_istore dL_law_1123 (by decide) rfl [some (va_rf l0), some (va_rf l1), some (va_rf l2), some (va_rf l3), some (va_rf l4), some (.int l5), some (.int r197), none, none] rfl ?_
        refine tj_aload_n dL_law_1125 rfl ?_
        refine tj_callV (as := []) (rest := []) (st' := (fun r => [.int r])) (t := 1) (fun a e => by cases e; exact ct_X4_hungriestByLooking d _) (by decide) rfl q4117 q4118 q4119 q110 q4120 rfl md_X4_hungriestByLooking rfl (by decide) rfl (by decide) dL_law_1126 (fun _ => rfl) (fun r198 σ => ?_) (by decide)
        refine tj_istore dL_law_1129 (by decide) rfl [some (va_rf l0), some (va_rf l1), some (va_rf l2), some (va_rf l3), some (va_rf l4), some (.int l5), some (.int r197), some (.int r198), none] rfl ?_
        refine tj_aload_n dL_law_1131 rfl ?_
        refine tj_callV (as := []) (rest := []) (st' := (fun r => [.int r])) (t := 1) (fun a e => by cases e; exact ct_X4_thrown d _) (by decide) rfl q3952 q3953 q3954 q110 q3955 rfl md_X4_thrown rfl (by decide) rfl (by decide) dL_law_1132 (fun _ => rfl) (fun r199 σ => ?_) (by decide)
        refine tj_iload dL_law_1135 rfl ?_
        refine tj_icmp_eq 1142 dL_law_1137 rfl (fun _ => ?_) (fun _ => ?_)
        · refine tj_iload dL_law_1142 rfl ?_
          refine tj_if_ne 1159 dL_law_1144 rfl (fun _ => ?_) (fun _ => ?_)
          · refine tj_aload_n dL_law_1147 rfl ?_
            refine tj_iconst (0 : Int32) dL_law_1148 rfl ?_
            refine tj_lald dL_law_1149 (fun v200 => ?_)
            refine tj_iload dL_law_1150 rfl ?_
            refine tj_i2l dL_law_1152 ?_
            refine tj_lcmp dL_law_1153 ?_
            refine tj_if_eq 1159 dL_law_1154 rfl (fun _ => ?_) (fun _ => ?_)
            · refine tj_wk (L' := [some (va_rf l0), some (va_rf l1), some (va_rf l2), some (va_rf l3), some (va_rf l4), some (.int l5), none, none, none]) ⟨rfl, rfl, rfl, rfl, rfl, rfl, trivial⟩ ?_
              exact tj_L_law_J1159 d h28 l0 l1 l2 l3 l4 l5 _
            · refine tj_iconst (0 : Int32) dL_law_1157 rfl ?_
              exact tj_zpure rfl dL_law_1158
          · refine tj_wk (L' := [some (va_rf l0), some (va_rf l1), some (va_rf l2), some (va_rf l3), some (va_rf l4), some (.int l5), none, none, none]) ⟨rfl, rfl, rfl, rfl, rfl, rfl, trivial⟩ ?_
            exact tj_L_law_J1159 d h28 l0 l1 l2 l3 l4 l5 _
        · refine tj_iconst (0 : Int32) dL_law_1140 rfl ?_
          exact tj_zpure rfl dL_law_1141
      | 17, h1, h2 =>
        cases h1; cases h2
        refine tj_aload_n dL_law_1162 rfl ?_
        refine tj_aload_n dL_law_1163 rfl ?_
        refine tj_iload dL_law_1164 rfl ?_
        refine tj_iconst (1 : Int32) dL_law_1166 rfl ?_
        refine tj_iadd dL_law_1167 ?_
        refine tj_iald dL_law_1168 (fun v201 => ?_)
        refine tj_aload_n dL_law_1169 rfl ?_
        refine tj_callSX (as := [va_rf l1, .int v201, va_rf l3]) (rest := []) (st' := (fun r => [.int r])) (ct_X0_lionAtRank d l1 v201 l3) q3223 q3224 q95 q3225 md_X0_lionAtRank rfl (by decide) rfl (by decide) dL_law_1170 (fun _ => rfl) (fun r202 σ => ?_) (by decide)
        refine tj_istore dL_law_1173 (by decide) rfl [some (va_rf l0), some (va_rf l1), some (va_rf l2), some (va_rf l3), some (va_rf l4), some (.int l5), some (.int r202), none, none] rfl ?_
        refine tj_aload_n dL_law_1175 rfl ?_
        refine tj_aload_n dL_law_1176 rfl ?_
        refine tj_iload dL_law_1177 rfl ?_
        refine tj_iconst (1 : Int32) dL_law_1179 rfl ?_
        refine tj_iadd dL_law_1180 ?_
        refine tj_iald dL_law_1181 (fun v203 => ?_)
        refine tj_callV (as := [.int v203]) (rest := []) (st' := (fun r => [.int r])) (t := 1) (fun a e => by cases e; exact ct_X4_lionAtRank d _ _) (by decide) rfl q4108 q4109 q4110 q110 q4111 rfl md_X4_lionAtRank rfl (by decide) rfl (by decide) dL_law_1182 (fun _ => rfl) (fun r204 σ => ?_) (by decide)
        refine tj_istore dL_law_1185 (by decide) rfl [some (va_rf l0), some (va_rf l1), some (va_rf l2), some (va_rf l3), some (va_rf l4), some (.int l5), some (.int r202), some (.int r204), none] rfl ?_
        refine tj_aload_n dL_law_1187 rfl ?_
        refine tj_callV (as := []) (rest := []) (st' := (fun r => [.int r])) (t := 1) (fun a e => by cases e; exact ct_X4_thrown d _) (by decide) rfl q3952 q3953 q3954 q110 q3955 rfl md_X4_thrown rfl (by decide) rfl (by decide) dL_law_1188 (fun _ => rfl) (fun r205 σ => ?_) (by decide)
        refine tj_iload dL_law_1191 rfl ?_
        refine tj_icmp_eq 1198 dL_law_1193 rfl (fun _ => ?_) (fun _ => ?_)
        · refine tj_iload dL_law_1198 rfl ?_
          refine tj_if_ne 1215 dL_law_1200 rfl (fun _ => ?_) (fun _ => ?_)
          · refine tj_aload_n dL_law_1203 rfl ?_
            refine tj_iconst (0 : Int32) dL_law_1204 rfl ?_
            refine tj_lald dL_law_1205 (fun v206 => ?_)
            refine tj_iload dL_law_1206 rfl ?_
            refine tj_i2l dL_law_1208 ?_
            refine tj_lcmp dL_law_1209 ?_
            refine tj_if_eq 1215 dL_law_1210 rfl (fun _ => ?_) (fun _ => ?_)
            · refine tj_wk (L' := [some (va_rf l0), some (va_rf l1), some (va_rf l2), some (va_rf l3), some (va_rf l4), some (.int l5), none, none, none]) ⟨rfl, rfl, rfl, rfl, rfl, rfl, trivial⟩ ?_
              exact tj_L_law_J1215 d h28 l0 l1 l2 l3 l4 l5 _
            · refine tj_iconst (0 : Int32) dL_law_1213 rfl ?_
              exact tj_zpure rfl dL_law_1214
          · refine tj_wk (L' := [some (va_rf l0), some (va_rf l1), some (va_rf l2), some (va_rf l3), some (va_rf l4), some (.int l5), none, none, none]) ⟨rfl, rfl, rfl, rfl, rfl, rfl, trivial⟩ ?_
            exact tj_L_law_J1215 d h28 l0 l1 l2 l3 l4 l5 _
        · refine tj_iconst (0 : Int32) dL_law_1196 rfl ?_
          exact tj_zpure rfl dL_law_1197
      | 18, h1, h2 =>
        cases h1; cases h2
        refine tj_aload_n dL_law_1218 rfl ?_
        refine tj_callV (as := []) (rest := []) (st' := (fun r => [.int r])) (t := 0) (fun a e => by cases e; exact ct_X1_ticketCount d _) (by decide) rfl q2699 q2700 q2701 q96 q2702 rfl md_X1_ticketCount rfl (by decide) rfl (by decide) dL_law_1219 (fun _ => rfl) (fun r207 σ => ?_) (by decide)
        refine tj_aload_n dL_law_1222 rfl ?_
        refine tj_callV (as := []) (rest := [.int r207]) (st' := (fun r => [.int r, .int r207])) (t := 1) (fun a e => by cases e; exact ct_X4_ticketCount d _) (by decide) rfl q4121 q4122 q4123 q110 q4124 rfl md_X4_ticketCount rfl (by decide) rfl (by simp [rf_cat, cat_i, cat_l, cat_f, cat_d]) dL_law_1223 (fun _ => rfl) (fun r208 σ => ?_) (by decide)
        refine tj_icmp_eq 2489 dL_law_1226 rfl (fun _ => ?_) (fun _ => ?_)
        · exact tj_L_law_J2489 d h28 l0 l1 l2 l3 l4 l5 _
        · refine tj_iconst (0 : Int32) dL_law_1229 rfl ?_
          exact tj_zpure rfl dL_law_1230
      | 19, h1, h2 =>
        cases h1; cases h2
        refine tj_aload_n dL_law_1231 rfl ?_
        refine tj_callV (as := []) (rest := []) (st' := (fun r => [.int r])) (t := 0) (fun a e => by cases e; exact ct_X1_staleCount d _) (by decide) rfl q2703 q2704 q2705 q96 q2706 rfl md_X1_staleCount rfl (by decide) rfl (by decide) dL_law_1232 (fun _ => rfl) (fun r209 σ => ?_) (by decide)
        refine tj_aload_n dL_law_1235 rfl ?_
        refine tj_callV (as := []) (rest := [.int r209]) (st' := (fun r => [.int r, .int r209])) (t := 1) (fun a e => by cases e; exact ct_X4_staleCount d _) (by decide) rfl q4125 q4126 q4127 q110 q4128 rfl md_X4_staleCount rfl (by decide) rfl (by simp [rf_cat, cat_i, cat_l, cat_f, cat_d]) dL_law_1236 (fun _ => rfl) (fun r210 σ => ?_) (by decide)
        refine tj_icmp_eq 2489 dL_law_1239 rfl (fun _ => ?_) (fun _ => ?_)
        · exact tj_L_law_J2489 d h28 l0 l1 l2 l3 l4 l5 _
        · refine tj_iconst (0 : Int32) dL_law_1242 rfl ?_
          exact tj_zpure rfl dL_law_1243
      | 20, h1, h2 =>
        cases h1; cases h2
        refine tj_aload_n dL_law_1244 rfl ?_
        refine tj_aload_n dL_law_1245 rfl ?_
        refine tj_iload dL_law_1246 rfl ?_
        refine tj_iconst (1 : Int32) dL_law_1248 rfl ?_
        refine tj_iadd dL_law_1249 ?_
        refine tj_iald dL_law_1250 (fun v211 => ?_)
        refine tj_aload_n dL_law_1251 rfl ?_
        refine tj_callSX (as := [va_rf l1, .int v211, va_rf l3]) (rest := []) (st' := (fun r => [.int r])) (ct_X0_ticketAtRank d l1 v211 l3) q3234 q3235 q95 q3236 md_X0_ticketAtRank rfl (by decide) rfl (by decide) dL_law_1252 (fun _ => rfl) (fun r212 σ => ?_) (by decide)
        refine tj_istore dL_law_1255 (by decide) rfl [some (va_rf l0), some (va_rf l1), some (va_rf l2), some (va_rf l3), some (va_rf l4), some (.int l5), some (.int r212), none, none] rfl ?_
        refine tj_aload_n dL_law_1257 rfl ?_
        refine tj_aload_n dL_law_1258 rfl ?_
        refine tj_iload dL_law_1259 rfl ?_
        refine tj_iconst (1 : Int32) dL_law_1261 rfl ?_
        refine tj_iadd dL_law_1262 ?_
        refine tj_iald dL_law_1263 (fun v213 => ?_)
        refine tj_callV (as := [.int v213]) (rest := []) (st' := (fun r => [.int r])) (t := 1) (fun a e => by cases e; exact ct_X4_ticketAtRank d _ _) (by decide) rfl q4129 q4130 q4131 q110 q4132 rfl md_X4_ticketAtRank rfl (by decide) rfl (by decide) dL_law_1264 (fun _ => rfl) (fun r214 σ => ?_) (by decide)
        refine tj_istore dL_law_1267 (by decide) rfl [some (va_rf l0), some (va_rf l1), some (va_rf l2), some (va_rf l3), some (va_rf l4), some (.int l5), some (.int r212), some (.int r214), none] rfl ?_
        refine tj_aload_n dL_law_1269 rfl ?_
        refine tj_callV (as := []) (rest := []) (st' := (fun r => [.int r])) (t := 1) (fun a e => by cases e; exact ct_X4_thrown d _) (by decide) rfl q3952 q3953 q3954 q110 q3955 rfl md_X4_thrown rfl (by decide) rfl (by decide) dL_law_1270 (fun _ => rfl) (fun r215 σ => ?_) (by decide)
        refine tj_iload dL_law_1273 rfl ?_
        refine tj_icmp_eq 1280 dL_law_1275 rfl (fun _ => ?_) (fun _ => ?_)
        · refine tj_iload dL_law_1280 rfl ?_
          refine tj_if_ne 1297 dL_law_1282 rfl (fun _ => ?_) (fun _ => ?_)
          · refine tj_aload_n dL_law_1285 rfl ?_
            refine tj_iconst (0 : Int32) dL_law_1286 rfl ?_
            refine tj_lald dL_law_1287 (fun v216 => ?_)
            refine tj_iload dL_law_1288 rfl ?_
            refine tj_i2l dL_law_1290 ?_
            refine tj_lcmp dL_law_1291 ?_
            refine tj_if_eq 1297 dL_law_1292 rfl (fun _ => ?_) (fun _ => ?_)
            · refine tj_wk (L' := [some (va_rf l0), some (va_rf l1), some (va_rf l2), some (va_rf l3), some (va_rf l4), some (.int l5), none, none, none]) ⟨rfl, rfl, rfl, rfl, rfl, rfl, trivial⟩ ?_
              exact tj_L_law_J1297 d h28 l0 l1 l2 l3 l4 l5 _
            · refine tj_iconst (0 : Int32) dL_law_1295 rfl ?_
              exact tj_zpure rfl dL_law_1296
          · refine tj_wk (L' := [some (va_rf l0), some (va_rf l1), some (va_rf l2), some (va_rf l3), some (va_rf l4), some (.int l5), none, none, none]) ⟨rfl, rfl, rfl, rfl, rfl, rfl, trivial⟩ ?_
            exact tj_L_law_J1297 d h28 l0 l1 l2 l3 l4 l5 _
        · refine tj_iconst (0 : Int32) dL_law_1278 rfl ?_
          exact tj_zpure rfl dL_law_1279
      | 21, h1, h2 =>
        cases h1; cases h2
        refine tj_aload_n dL_law_1300 rfl ?_
        refine tj_aload_n dL_law_1301 rfl ?_
        refine tj_iload dL_law_1302 rfl ?_
        refine tj_iconst (1 : Int32) dL_law_1304 rfl ?_
        refine tj_iadd dL_law_1305 ?_
        refine tj_iald dL_law_1306 (fun v217 => ?_)
        refine tj_aload_n dL_law_1307 rfl ?_
        refine tj_callSX (as := [va_rf l1, .int v217, va_rf l3]) (rest := []) (st' := (fun r => [.int r])) (ct_X0_isStaleAtRank d l1 v217 l3) q3246 q3247 q95 q3248 md_X0_isStaleAtRank rfl (by decide) rfl (by decide) dL_law_1308 (fun _ => rfl) (fun r218 σ => ?_) (by decide)
        refine tj_istore dL_law_1311 (by decide) rfl [some (va_rf l0), some (va_rf l1), some (va_rf l2), some (va_rf l3), some (va_rf l4), some (.int l5), some (.int r218), none, none] rfl ?_
        refine tj_aload_n dL_law_1313 rfl ?_
        refine tj_aload_n dL_law_1314 rfl ?_
        refine tj_iload dL_law_1315 rfl ?_
        refine tj_iconst (1 : Int32) dL_law_1317 rfl ?_
        refine tj_iadd dL_law_1318 ?_
        refine tj_iald dL_law_1319 (fun v219 => ?_)
        refine tj_callV (as := [.int v219]) (rest := []) (st' := (fun r => [.int r])) (t := 1) (fun a e => by cases e; exact ct_X4_isStaleAtRank d _ _) (by decide) rfl q4133 q4134 q4135 q110 q4136 rfl md_X4_isStaleAtRank rfl (by decide) rfl (by decide) dL_law_1320 (fun _ => rfl) (fun r220 σ => ?_) (by decide)
        refine tj_istore dL_law_1323 (by decide) rfl [some (va_rf l0), some (va_rf l1), some (va_rf l2), some (va_rf l3), some (va_rf l4), some (.int l5), some (.int r218), some (.int r220), none] rfl ?_
        refine tj_aload_n dL_law_1325 rfl ?_
        refine tj_callV (as := []) (rest := []) (st' := (fun r => [.int r])) (t := 1) (fun a e => by cases e; exact ct_X4_thrown d _) (by decide) rfl q3952 q3953 q3954 q110 q3955 rfl md_X4_thrown rfl (by decide) rfl (by decide) dL_law_1326 (fun _ => rfl) (fun r221 σ => ?_) (by decide)
        refine tj_iload dL_law_1329 rfl ?_
        refine tj_icmp_eq 1336 dL_law_1331 rfl (fun _ => ?_) (fun _ => ?_)
        · refine tj_iload dL_law_1336 rfl ?_
          refine tj_if_ne 1360 dL_law_1338 rfl (fun _ => ?_) (fun _ => ?_)
          · refine tj_aload_n dL_law_1341 rfl ?_
            refine tj_iconst (0 : Int32) dL_law_1342 rfl ?_
            refine tj_lald dL_law_1343 (fun v222 => ?_)
            refine tj_iload dL_law_1344 rfl ?_
            refine tj_if_eq 1353 dL_law_1346 rfl (fun _ => ?_) (fun _ => ?_)
            · refine tj_lconst (0 : Int64) dL_law_1353 rfl ?_
              refine tj_wk (L' := [some (va_rf l0), some (va_rf l1), some (va_rf l2), some (va_rf l3), some (va_rf l4), some (.int l5), none, none, none]) ⟨rfl, rfl, rfl, rfl, rfl, rfl, trivial⟩ ?_
              exact tj_L_law_J1354 d h28 l0 l1 l2 l3 l4 l5 v222 (0 : Int64) _
            · refine tj_lconst (1 : Int64) dL_law_1349 rfl ?_
              refine tj_goto 1354 dL_law_1350 rfl ?_
              refine tj_wk (L' := [some (va_rf l0), some (va_rf l1), some (va_rf l2), some (va_rf l3), some (va_rf l4), some (.int l5), none, none, none]) ⟨rfl, rfl, rfl, rfl, rfl, rfl, trivial⟩ ?_
              exact tj_L_law_J1354 d h28 l0 l1 l2 l3 l4 l5 v222 (1 : Int64) _
          · refine tj_wk (L' := [some (va_rf l0), some (va_rf l1), some (va_rf l2), some (va_rf l3), some (va_rf l4), some (.int l5), none, none, none]) ⟨rfl, rfl, rfl, rfl, rfl, rfl, trivial⟩ ?_
            exact tj_L_law_J1360 d h28 l0 l1 l2 l3 l4 l5 _
        · refine tj_iconst (0 : Int32) dL_law_1334 rfl ?_
          exact tj_zpure rfl dL_law_1335
      | 22, h1, h2 =>
        cases h1; cases h2
        refine tj_aload_n dL_law_1363 rfl ?_
        refine tj_callV (as := []) (rest := []) (st' := (fun r => [.int r])) (t := 0) (fun a e => by cases e; exact ct_X1_areAllInTime d _) (by decide) rfl q2711 q2712 q2713 q96 q2714 rfl md_X1_areAllInTime rfl (by decide) rfl (by decide) dL_law_1364 (fun _ => rfl) (fun r223 σ => ?_) (by decide)
        refine tj_aload_n dL_law_1367 rfl ?_
        refine tj_callV (as := []) (rest := [.int r223]) (st' := (fun r => [.int r, .int r223])) (t := 1) (fun a e => by cases e; exact ct_X4_areAllInTime d _) (by decide) rfl q4137 q4138 q4139 q110 q4140 rfl md_X4_areAllInTime rfl (by decide) rfl (by simp [rf_cat, cat_i, cat_l, cat_f, cat_d]) dL_law_1368 (fun _ => rfl) (fun r224 σ => ?_) (by decide)
        refine tj_icmp_eq 2489 dL_law_1371 rfl (fun _ => ?_) (fun _ => ?_)
        · exact tj_L_law_J2489 d h28 l0 l1 l2 l3 l4 l5 _
        · refine tj_iconst (0 : Int32) dL_law_1374 rfl ?_
          exact tj_zpure rfl dL_law_1375
      | 23, h1, h2 =>
        cases h1; cases h2
        refine tj_aload_n dL_law_1376 rfl ?_
        refine tj_callV (as := []) (rest := []) (st' := (fun r => [.int r])) (t := 0) (fun a e => by cases e; exact ct_X1_mostInTime d _) (by decide) rfl q2783 q2784 q2785 q96 q2786 rfl md_X1_mostInTime rfl (by decide) rfl (by decide) dL_law_1377 (fun _ => rfl) (fun r225 σ => ?_) (by decide)
        refine tj_aload_n dL_law_1380 rfl ?_
        refine tj_callV (as := []) (rest := [.int r225]) (st' := (fun r => [.int r, .int r225])) (t := 1) (fun a e => by cases e; exact ct_X4_mostInTime d _) (by decide) rfl q4149 q4150 q4151 q110 q4152 rfl md_X4_mostInTime rfl (by decide) rfl (by simp [rf_cat, cat_i, cat_l, cat_f, cat_d]) dL_law_1381 (fun _ => rfl) (fun r226 σ => ?_) (by decide)
        refine tj_icmp_eq 2489 dL_law_1384 rfl (fun _ => ?_) (fun _ => ?_)
        · exact tj_L_law_J2489 d h28 l0 l1 l2 l3 l4 l5 _
        · refine tj_iconst (0 : Int32) dL_law_1387 rfl ?_
          exact tj_zpure rfl dL_law_1388
      | 24, h1, h2 =>
        cases h1; cases h2
        refine tj_aload_n dL_law_1389 rfl ?_
        refine tj_callV (as := []) (rest := []) (st' := (fun r => [.int r])) (t := 0) (fun a e => by cases e; exact ct_X1_mostInTimeBySets d _) (by decide) rfl q2848 q2849 q2850 q96 q2851 rfl md_X1_mostInTimeBySets rfl (by decide) rfl (by decide) dL_law_1390 (fun _ => rfl) (fun r227 σ => ?_) (by decide)
        refine tj_aload_n dL_law_1393 rfl ?_
        refine tj_callV (as := []) (rest := [.int r227]) (st' := (fun r => [.int r, .int r227])) (t := 1) (fun a e => by cases e; exact ct_X4_mostInTimeBySets d _) (by decide) rfl q4156 q4157 q4158 q110 q4159 rfl md_X4_mostInTimeBySets rfl (by decide) rfl (by simp [rf_cat, cat_i, cat_l, cat_f, cat_d]) dL_law_1394 (fun _ => rfl) (fun r228 σ => ?_) (by decide)
        refine tj_icmp_eq 2489 dL_law_1397 rfl (fun _ => ?_) (fun _ => ?_)
        · exact tj_L_law_J2489 d h28 l0 l1 l2 l3 l4 l5 _
        · refine tj_iconst (0 : Int32) dL_law_1400 rfl ?_
          exact tj_zpure rfl dL_law_1401
      | 25, h1, h2 =>
        cases h1; cases h2
        refine tj_aload_n dL_law_1402 rfl ?_
        refine tj_callV (as := []) (rest := []) (st' := (fun r => [.int r])) (t := 0) (fun a e => by cases e; exact ct_X1_keeperCount d _) (by decide) rfl q2862 q2863 q2864 q96 q2865 rfl md_X1_keeperCount rfl (by decide) rfl (by decide) dL_law_1403 (fun _ => rfl) (fun r229 σ => ?_) (by decide)
        refine tj_aload_n dL_law_1406 rfl ?_
        refine tj_callV (as := []) (rest := [.int r229]) (st' := (fun r => [.int r, .int r229])) (t := 1) (fun a e => by cases e; exact ct_X4_keeperCount d _) (by decide) rfl q4161 q4162 q4163 q110 q4164 rfl md_X4_keeperCount rfl (by decide) rfl (by simp [rf_cat, cat_i, cat_l, cat_f, cat_d]) dL_law_1407 (fun _ => rfl) (fun r230 σ => ?_) (by decide)
        refine tj_icmp_eq 2489 dL_law_1410 rfl (fun _ => ?_) (fun _ => ?_)
        · exact tj_L_law_J2489 d h28 l0 l1 l2 l3 l4 l5 _
        · refine tj_iconst (0 : Int32) dL_law_1413 rfl ?_
          exact tj_zpure rfl dL_law_1414
      | 26, h1, h2 =>
        cases h1; cases h2
        refine tj_aload_n dL_law_1415 rfl ?_
        refine tj_aload_n dL_law_1416 rfl ?_
        refine tj_iload dL_law_1417 rfl ?_
        refine tj_iconst (1 : Int32) dL_law_1419 rfl ?_
        refine tj_iadd dL_law_1420 ?_
        refine tj_iald dL_law_1421 (fun v231 => ?_)
        refine tj_aload_n dL_law_1422 rfl ?_
        refine tj_callSX (as := [va_rf l1, .int v231, va_rf l3]) (rest := []) (st' := (fun r => [.int r])) (ct_X0_startOf d l1 v231 l3) q3254 q3255 q95 q3256 md_X0_startOf rfl (by decide) rfl (by decide) dL_law_1423 (fun _ => rfl) (fun r232 σ => ?_) (by decide)
        refine tj_istore dL_law_1426 (by decide) rfl [some (va_rf l0), some (va_rf l1), some (va_rf l2), some (va_rf l3), some (va_rf l4), some (.int l5), some (.int r232), none, none] rfl ?_
        refine tj_aload_n dL_law_1428 rfl ?_
        refine tj_aload_n dL_law_1429 rfl ?_
        refine tj_iload dL_law_1430 rfl ?_
        refine tj_iconst (1 : Int32) dL_law_1432 rfl ?_
        refine tj_iadd dL_law_1433 ?_
        refine tj_iald dL_law_1434 (fun v233 => ?_)
        refine tj_callV (as := [.int v233]) (rest := []) (st' := (fun r => [.int r])) (t := 1) (fun a e => by cases e; exact ct_X4_startOf d _ _) (by decide) rfl q4165 q4166 q4167 q110 q4168 rfl md_X4_startOf rfl (by decide) rfl (by decide) dL_law_1435 (fun _ => rfl) (fun r234 σ => ?_) (by decide)
        refine tj_istore dL_law_1438 (by decide) rfl [some (va_rf l0), some (va_rf l1), some (va_rf l2), some (va_rf l3), some (va_rf l4), some (.int l5), some (.int r232), some (.int r234), none] rfl ?_
        refine tj_aload_n dL_law_1440 rfl ?_
        refine tj_callV (as := []) (rest := []) (st' := (fun r => [.int r])) (t := 1) (fun a e => by cases e; exact ct_X4_thrown d _) (by decide) rfl q3952 q3953 q3954 q110 q3955 rfl md_X4_thrown rfl (by decide) rfl (by decide) dL_law_1441 (fun _ => rfl) (fun r235 σ => ?_) (by decide)
        refine tj_iload dL_law_1444 rfl ?_
        refine tj_icmp_eq 1451 dL_law_1446 rfl (fun _ => ?_) (fun _ => ?_)
        · refine tj_iload dL_law_1451 rfl ?_
          refine tj_if_ne 1468 dL_law_1453 rfl (fun _ => ?_) (fun _ => ?_)
          · refine tj_aload_n dL_law_1456 rfl ?_
            refine tj_iconst (0 : Int32) dL_law_1457 rfl ?_
            refine tj_lald dL_law_1458 (fun v236 => ?_)
            refine tj_iload dL_law_1459 rfl ?_
            refine tj_i2l dL_law_1461 ?_
            refine tj_lcmp dL_law_1462 ?_
            refine tj_if_eq 1468 dL_law_1463 rfl (fun _ => ?_) (fun _ => ?_)
            · refine tj_wk (L' := [some (va_rf l0), some (va_rf l1), some (va_rf l2), some (va_rf l3), some (va_rf l4), some (.int l5), none, none, none]) ⟨rfl, rfl, rfl, rfl, rfl, rfl, trivial⟩ ?_
              exact tj_L_law_J1468 d h28 l0 l1 l2 l3 l4 l5 _
            · refine tj_iconst (0 : Int32) dL_law_1466 rfl ?_
              exact tj_zpure rfl dL_law_1467
          · refine tj_wk (L' := [some (va_rf l0), some (va_rf l1), some (va_rf l2), some (va_rf l3), some (va_rf l4), some (.int l5), none, none, none]) ⟨rfl, rfl, rfl, rfl, rfl, rfl, trivial⟩ ?_
            exact tj_L_law_J1468 d h28 l0 l1 l2 l3 l4 l5 _
        · refine tj_iconst (0 : Int32) dL_law_1449 rfl ?_
          exact tj_zpure rfl dL_law_1450
      | 27, h1, h2 =>
        cases h1; cases h2
        refine tj_aload_n dL_law_1471 rfl ?_
        refine tj_aload_n dL_law_1472 rfl ?_
        refine tj_iload dL_law_1473 rfl ?_
        refine tj_iconst (1 : Int32) dL_law_1475 rfl ?_
        refine tj_iadd dL_law_1476 ?_
        refine tj_iald dL_law_1477 (fun v237 => ?_)
        refine tj_aload_n dL_law_1478 rfl ?_
        refine tj_callSX (as := [va_rf l1, .int v237, va_rf l3]) (rest := []) (st' := (fun r => [.int r])) (ct_X0_endOf d l1 v237 l3) q3275 q3276 q95 q3277 md_X0_endOf rfl (by decide) rfl (by decide) dL_law_1479 (fun _ => rfl) (fun r238 σ => ?_) (by decide)
        refine tj_istore dL_law_1482 (by decide) rfl [some (va_rf l0), some (va_rf l1), some (va_rf l2), some (va_rf l3), some (va_rf l4), some (.int l5), some (.int r238), none, none] rfl ?_
        refine tj_aload_n dL_law_1484 rfl ?_
        refine tj_aload_n dL_law_1485 rfl ?_
        refine tj_iload dL_law_1486 rfl ?_
        refine tj_iconst (1 : Int32) dL_law_1488 rfl ?_
        refine tj_iadd dL_law_1489 ?_
        refine tj_iald dL_law_1490 (fun v239 => ?_)
        refine tj_callV (as := [.int v239]) (rest := []) (st' := (fun r => [.int r])) (t := 1) (fun a e => by cases e; exact ct_X4_endOf d _ _) (by decide) rfl q4173 q4174 q4175 q110 q4176 rfl md_X4_endOf rfl (by decide) rfl (by decide) dL_law_1491 (fun _ => rfl) (fun r240 σ => ?_) (by decide)
        refine tj_istore dL_law_1494 (by decide) rfl [some (va_rf l0), some (va_rf l1), some (va_rf l2), some (va_rf l3), some (va_rf l4), some (.int l5), some (.int r238), some (.int r240), none] rfl ?_
        refine tj_aload_n dL_law_1496 rfl ?_
        refine tj_callV (as := []) (rest := []) (st' := (fun r => [.int r])) (t := 1) (fun a e => by cases e; exact ct_X4_thrown d _) (by decide) rfl q3952 q3953 q3954 q110 q3955 rfl md_X4_thrown rfl (by decide) rfl (by decide) dL_law_1497 (fun _ => rfl) (fun r241 σ => ?_) (by decide)
        refine tj_iload dL_law_1500 rfl ?_
        refine tj_icmp_eq 1507 dL_law_1502 rfl (fun _ => ?_) (fun _ => ?_)
        · refine tj_iload dL_law_1507 rfl ?_
          refine tj_if_ne 1524 dL_law_1509 rfl (fun _ => ?_) (fun _ => ?_)
          · refine tj_aload_n dL_law_1512 rfl ?_
            refine tj_iconst (0 : Int32) dL_law_1513 rfl ?_
            refine tj_lald dL_law_1514 (fun v242 => ?_)
            refine tj_iload dL_law_1515 rfl ?_
            refine tj_i2l dL_law_1517 ?_
            refine tj_lcmp dL_law_1518 ?_
            refine tj_if_eq 1524 dL_law_1519 rfl (fun _ => ?_) (fun _ => ?_)
            · refine tj_wk (L' := [some (va_rf l0), some (va_rf l1), some (va_rf l2), some (va_rf l3), some (va_rf l4), some (.int l5), none, none, none]) ⟨rfl, rfl, rfl, rfl, rfl, rfl, trivial⟩ ?_
              exact tj_L_law_J1524 d h28 l0 l1 l2 l3 l4 l5 _
            · refine tj_iconst (0 : Int32) dL_law_1522 rfl ?_
              exact tj_zpure rfl dL_law_1523
          · refine tj_wk (L' := [some (va_rf l0), some (va_rf l1), some (va_rf l2), some (va_rf l3), some (va_rf l4), some (.int l5), none, none, none]) ⟨rfl, rfl, rfl, rfl, rfl, rfl, trivial⟩ ?_
            exact tj_L_law_J1524 d h28 l0 l1 l2 l3 l4 l5 _
        · refine tj_iconst (0 : Int32) dL_law_1505 rfl ?_
          exact tj_zpure rfl dL_law_1506
      | 28, h1, h2 =>
        cases h1; cases h2
        refine tj_aload_n dL_law_1527 rfl ?_
        refine tj_aload_n dL_law_1528 rfl ?_
        refine tj_iload dL_law_1529 rfl ?_
        refine tj_iconst (1 : Int32) dL_law_1531 rfl ?_
        refine tj_iadd dL_law_1532 ?_
        refine tj_iald dL_law_1533 (fun v243 => ?_)
        refine tj_aload_n dL_law_1534 rfl ?_
        refine tj_callSX (as := [va_rf l1, .int v243, va_rf l3]) (rest := []) (st' := (fun r => [.int r])) (ct_X0_onDuty d l1 v243 l3) q3282 q3283 q95 q3284 md_X0_onDuty rfl (by decide) rfl (by decide) dL_law_1535 (fun _ => rfl) (fun r244 σ => ?_) (by decide)
        refine tj_istore dL_law_1538 (by decide) rfl [some (va_rf l0), some (va_rf l1), some (va_rf l2), some (va_rf l3), some (va_rf l4), some (.int l5), some (.int r244), none, none] rfl ?_
        refine tj_aload_n dL_law_1540 rfl ?_
        refine tj_aload_n dL_law_1541 rfl ?_
        refine tj_iload dL_law_1542 rfl ?_
        refine tj_iconst (1 : Int32) dL_law_1544 rfl ?_
        refine tj_iadd dL_law_1545 ?_
        refine tj_iald dL_law_1546 (fun v245 => ?_)
        refine tj_callV (as := [.int v245]) (rest := []) (st' := (fun r => [.int r])) (t := 1) (fun a e => by cases e; exact ct_X4_onDuty d _ _) (by decide) rfl q4177 q4178 q4179 q110 q4180 rfl md_X4_onDuty rfl (by decide) rfl (by decide) dL_law_1547 (fun _ => rfl) (fun r246 σ => ?_) (by decide)
        refine tj_istore dL_law_1550 (by decide) rfl [some (va_rf l0), some (va_rf l1), some (va_rf l2), some (va_rf l3), some (va_rf l4), some (.int l5), some (.int r244), some (.int r246), none] rfl ?_
        refine tj_aload_n dL_law_1552 rfl ?_
        refine tj_callV (as := []) (rest := []) (st' := (fun r => [.int r])) (t := 1) (fun a e => by cases e; exact ct_X4_thrown d _) (by decide) rfl q3952 q3953 q3954 q110 q3955 rfl md_X4_thrown rfl (by decide) rfl (by decide) dL_law_1553 (fun _ => rfl) (fun r247 σ => ?_) (by decide)
        refine tj_iload dL_law_1556 rfl ?_
        refine tj_icmp_eq 1563 dL_law_1558 rfl (fun _ => ?_) (fun _ => ?_)
        · refine tj_iload dL_law_1563 rfl ?_
          refine tj_if_ne 1580 dL_law_1565 rfl (fun _ => ?_) (fun _ => ?_)
          · refine tj_aload_n dL_law_1568 rfl ?_
            refine tj_iconst (0 : Int32) dL_law_1569 rfl ?_
            refine tj_lald dL_law_1570 (fun v248 => ?_)
            refine tj_iload dL_law_1571 rfl ?_
            refine tj_i2l dL_law_1573 ?_
            refine tj_lcmp dL_law_1574 ?_
            refine tj_if_eq 1580 dL_law_1575 rfl (fun _ => ?_) (fun _ => ?_)
            · refine tj_wk (L' := [some (va_rf l0), some (va_rf l1), some (va_rf l2), some (va_rf l3), some (va_rf l4), some (.int l5), none, none, none]) ⟨rfl, rfl, rfl, rfl, rfl, rfl, trivial⟩ ?_
              exact tj_L_law_J1580 d h28 l0 l1 l2 l3 l4 l5 _
            · refine tj_iconst (0 : Int32) dL_law_1578 rfl ?_
              exact tj_zpure rfl dL_law_1579
          · refine tj_wk (L' := [some (va_rf l0), some (va_rf l1), some (va_rf l2), some (va_rf l3), some (va_rf l4), some (.int l5), none, none, none]) ⟨rfl, rfl, rfl, rfl, rfl, rfl, trivial⟩ ?_
            exact tj_L_law_J1580 d h28 l0 l1 l2 l3 l4 l5 _
        · refine tj_iconst (0 : Int32) dL_law_1561 rfl ?_
          exact tj_zpure rfl dL_law_1562
      | 29, h1, h2 =>
        cases h1; cases h2
        refine tj_aload_n dL_law_1583 rfl ?_
        refine tj_aload_n dL_law_1584 rfl ?_
        refine tj_iload dL_law_1585 rfl ?_
        refine tj_iconst (1 : Int32) dL_law_1587 rfl ?_
        refine tj_iadd dL_law_1588 ?_
        refine tj_iald dL_law_1589 (fun v249 => ?_)
        refine tj_aload_n dL_law_1590 rfl ?_
        refine tj_iload dL_law_1591 rfl ?_
        refine tj_iconst (2 : Int32) dL_law_1593 rfl ?_
        refine tj_iadd dL_law_1594 ?_
        refine tj_iald dL_law_1595 (fun v250 => ?_)
        refine tj_aload_n dL_law_1596 rfl ?_
        refine tj_callSX (as := [va_rf l1, .int v249, .int v250, va_rf l3]) (rest := []) (st' := (fun r => [.int r])) (ct_X0_isCovered d l1 v249 v250 l3) q3295 q3296 q95 q3297 md_X0_isCovered rfl (by decide) rfl (by decide) dL_law_1597 (fun _ => rfl) (fun r251 σ => ?_) (by decide)
        refine tj_istore dL_law_1600 (by decide) rfl [some (va_rf l0), some (va_rf l1), some (va_rf l2), some (va_rf l3), some (va_rf l4), some (.int l5), some (.int r251), none, none] rfl ?_
        refine tj_aload_n dL_law_1602 rfl ?_
        refine tj_aload_n dL_law_1603 rfl ?_
        refine tj_iload dL_law_1604 rfl ?_
        refine tj_iconst (1 : Int32) dL_law_1606 rfl ?_
        refine tj_iadd dL_law_1607 ?_
        refine tj_iald dL_law_1608 (fun v252 => ?_)
        refine tj_aload_n dL_law_1609 rfl ?_
        refine tj_iload dL_law_1610 rfl ?_
        refine tj_iconst (2 : Int32) dL_law_1612 rfl ?_
        refine tj_iadd dL_law_1613 ?_
        refine tj_iald dL_law_1614 (fun v253 => ?_)
        refine tj_callV (as := [.int v252, .int v253]) (rest := []) (st' := (fun r => [.int r])) (t := 1) (fun a e => by cases e; exact ct_X4_isCovered d _ _ _) (by decide) rfl q4181 q4182 q4183 q110 q4184 rfl md_X4_isCovered rfl (by decide) rfl (by decide) dL_law_1615 (fun _ => rfl) (fun r254 σ => ?_) (by decide)
        refine tj_istore dL_law_1618 (by decide) rfl [some (va_rf l0), some (va_rf l1), some (va_rf l2), some (va_rf l3), some (va_rf l4), some (.int l5), some (.int r251), some (.int r254), none] rfl ?_
        refine tj_aload_n dL_law_1620 rfl ?_
        refine tj_callV (as := []) (rest := []) (st' := (fun r => [.int r])) (t := 1) (fun a e => by cases e; exact ct_X4_thrown d _) (by decide) rfl q3952 q3953 q3954 q110 q3955 rfl md_X4_thrown rfl (by decide) rfl (by decide) dL_law_1621 (fun _ => rfl) (fun r255 σ => ?_) (by decide)
        refine tj_iload dL_law_1624 rfl ?_
        refine tj_icmp_eq 1631 dL_law_1626 rfl (fun _ => ?_) (fun _ => ?_)
        · refine tj_iload dL_law_1631 rfl ?_
          refine tj_if_ne 1655 dL_law_1633 rfl (fun _ => ?_) (fun _ => ?_)
          · refine tj_aload_n dL_law_1636 rfl ?_
            refine tj_iconst (0 : Int32) dL_law_1637 rfl ?_
            refine tj_lald dL_law_1638 (fun v256 => ?_)
            refine tj_iload dL_law_1639 rfl ?_
            refine tj_if_eq 1648 dL_law_1641 rfl (fun _ => ?_) (fun _ => ?_)
            · refine tj_lconst (0 : Int64) dL_law_1648 rfl ?_
              refine tj_wk (L' := [some (va_rf l0), some (va_rf l1), some (va_rf l2), some (va_rf l3), some (va_rf l4), some (.int l5), none, none, none]) ⟨rfl, rfl, rfl, rfl, rfl, rfl, trivial⟩ ?_
              exact tj_L_law_J1649 d h28 l0 l1 l2 l3 l4 l5 v256 (0 : Int64) _
            · refine tj_lconst (1 : Int64) dL_law_1644 rfl ?_
              refine tj_goto 1649 dL_law_1645 rfl ?_
              refine tj_wk (L' := [some (va_rf l0), some (va_rf l1), some (va_rf l2), some (va_rf l3), some (va_rf l4), some (.int l5), none, none, none]) ⟨rfl, rfl, rfl, rfl, rfl, rfl, trivial⟩ ?_
              exact tj_L_law_J1649 d h28 l0 l1 l2 l3 l4 l5 v256 (1 : Int64) _
          · refine tj_wk (L' := [some (va_rf l0), some (va_rf l1), some (va_rf l2), some (va_rf l3), some (va_rf l4), some (.int l5), none, none, none]) ⟨rfl, rfl, rfl, rfl, rfl, rfl, trivial⟩ ?_
            exact tj_L_law_J1655 d h28 l0 l1 l2 l3 l4 l5 _
        · refine tj_iconst (0 : Int32) dL_law_1629 rfl ?_
          exact tj_zpure rfl dL_law_1630
      | 30, h1, h2 =>
        cases h1; cases h2
        refine tj_aload_n dL_law_1658 rfl ?_
        refine tj_aload_n dL_law_1659 rfl ?_
        refine tj_iload dL_law_1660 rfl ?_
        refine tj_iconst (1 : Int32) dL_law_1662 rfl ?_
        refine tj_iadd dL_law_1663 ?_
        refine tj_iald dL_law_1664 (fun v257 => ?_)
        refine tj_aload_n dL_law_1665 rfl ?_
        refine tj_iload dL_law_1666 rfl ?_
        refine tj_iconst (2 : Int32) dL_law_1668 rfl ?_
        refine tj_iadd dL_law_1669 ?_
        refine tj_iald dL_law_1670 (fun v258 => ?_)
        refine tj_aload_n dL_law_1671 rfl ?_
        refine tj_callSX (as := [va_rf l1, .int v257, .int v258, va_rf l3]) (rest := []) (st' := (fun r => [.int r])) (ct_X0_fewestKeepers d l1 v257 v258 l3) q3307 q3308 q95 q3309 md_X0_fewestKeepers rfl (by decide) rfl (by decide) dL_law_1672 (fun _ => rfl) (fun r259 σ => ?_) (by decide)
        refine tj_istore dL_law_1675 (by decide) rfl [some (va_rf l0), some (va_rf l1), some (va_rf l2), some (va_rf l3), some (va_rf l4), some (.int l5), some (.int r259), none, none] rfl ?_
        refine tj_aload_n dL_law_1677 rfl ?_
        refine tj_aload_n dL_law_1678 rfl ?_
        refine tj_iload dL_law_1679 rfl ?_
        refine tj_iconst (1 : Int32) dL_law_1681 rfl ?_
        refine tj_iadd dL_law_1682 ?_
        refine tj_iald dL_law_1683 (fun v260 => ?_)
        refine tj_aload_n dL_law_1684 rfl ?_
        refine tj_iload dL_law_1685 rfl ?_
        refine tj_iconst (2 : Int32) dL_law_1687 rfl ?_
        refine tj_iadd dL_law_1688 ?_
        refine tj_iald dL_law_1689 (fun v261 => ?_)
        refine tj_callV (as := [.int v260, .int v261]) (rest := []) (st' := (fun r => [.int r])) (t := 1) (fun a e => by cases e; exact ct_X4_fewestKeepers d _ _ _) (by decide) rfl q4189 q4190 q4191 q110 q4192 rfl md_X4_fewestKeepers rfl (by decide) rfl (by decide) dL_law_1690 (fun _ => rfl) (fun r262 σ => ?_) (by decide)
        refine tj_istore dL_law_1693 (by decide) rfl [some (va_rf l0), some (va_rf l1), some (va_rf l2), some (va_rf l3), some (va_rf l4), some (.int l5), some (.int r259), some (.int r262), none] rfl ?_
        refine tj_aload_n dL_law_1695 rfl ?_
        refine tj_callV (as := []) (rest := []) (st' := (fun r => [.int r])) (t := 1) (fun a e => by cases e; exact ct_X4_thrown d _) (by decide) rfl q3952 q3953 q3954 q110 q3955 rfl md_X4_thrown rfl (by decide) rfl (by decide) dL_law_1696 (fun _ => rfl) (fun r263 σ => ?_) (by decide)
        refine tj_iload dL_law_1699 rfl ?_
        refine tj_icmp_eq 1706 dL_law_1701 rfl (fun _ => ?_) (fun _ => ?_)
        · refine tj_iload dL_law_1706 rfl ?_
          refine tj_if_ne 1723 dL_law_1708 rfl (fun _ => ?_) (fun _ => ?_)
          · refine tj_aload_n dL_law_1711 rfl ?_
            refine tj_iconst (0 : Int32) dL_law_1712 rfl ?_
            refine tj_lald dL_law_1713 (fun v264 => ?_)
            refine tj_iload dL_law_1714 rfl ?_
            refine tj_i2l dL_law_1716 ?_
            refine tj_lcmp dL_law_1717 ?_
            refine tj_if_eq 1723 dL_law_1718 rfl (fun _ => ?_) (fun _ => ?_)
            · refine tj_wk (L' := [some (va_rf l0), some (va_rf l1), some (va_rf l2), some (va_rf l3), some (va_rf l4), some (.int l5), none, none, none]) ⟨rfl, rfl, rfl, rfl, rfl, rfl, trivial⟩ ?_
              exact tj_L_law_J1723 d h28 l0 l1 l2 l3 l4 l5 _
            · refine tj_iconst (0 : Int32) dL_law_1721 rfl ?_
              exact tj_zpure rfl dL_law_1722
          · refine tj_wk (L' := [some (va_rf l0), some (va_rf l1), some (va_rf l2), some (va_rf l3), some (va_rf l4), some (.int l5), none, none, none]) ⟨rfl, rfl, rfl, rfl, rfl, rfl, trivial⟩ ?_
            exact tj_L_law_J1723 d h28 l0 l1 l2 l3 l4 l5 _
        · refine tj_iconst (0 : Int32) dL_law_1704 rfl ?_
          exact tj_zpure rfl dL_law_1705
      | 31, h1, h2 =>
        cases h1; cases h2
        refine tj_aload_n dL_law_1726 rfl ?_
        refine tj_aload_n dL_law_1727 rfl ?_
        refine tj_iload dL_law_1728 rfl ?_
        refine tj_iconst (1 : Int32) dL_law_1730 rfl ?_
        refine tj_iadd dL_law_1731 ?_
        refine tj_iald dL_law_1732 (fun v265 => ?_)
        refine tj_aload_n dL_law_1733 rfl ?_
        refine tj_iload dL_law_1734 rfl ?_
        refine tj_iconst (2 : Int32) dL_law_1736 rfl ?_
        refine tj_iadd dL_law_1737 ?_
        refine tj_iald dL_law_1738 (fun v266 => ?_)
        refine tj_aload_n dL_law_1739 rfl ?_
        refine tj_callSX (as := [va_rf l1, .int v265, .int v266, va_rf l3]) (rest := []) (st' := (fun r => [.int r])) (ct_X0_fewestKeepersBySets d l1 v265 v266 l3) q3321 q3322 q95 q3323 md_X0_fewestKeepersBySets rfl (by decide) rfl (by decide) dL_law_1740 (fun _ => rfl) (fun r267 σ => ?_) (by decide)
        refine tj_istore dL_law_1743 (by decide) rfl [some (va_rf l0), some (va_rf l1), some (va_rf l2), some (va_rf l3), some (va_rf l4), some (.int l5), some (.int r267), none, none] rfl ?_
        refine tj_aload_n dL_law_1745 rfl ?_
        refine tj_aload_n dL_law_1746 rfl ?_
        refine tj_iload dL_law_1747 rfl ?_
        refine tj_iconst (1 : Int32) dL_law_1749 rfl ?_
        refine tj_iadd dL_law_1750 ?_
        refine tj_iald dL_law_1751 (fun v268 => ?_)
        refine tj_aload_n dL_law_1752 rfl ?_
        refine tj_iload dL_law_1753 rfl ?_
        refine tj_iconst (2 : Int32) dL_law_1755 rfl ?_
        refine tj_iadd dL_law_1756 ?_
        refine tj_iald dL_law_1757 (fun v269 => ?_)
        refine tj_callV (as := [.int v268, .int v269]) (rest := []) (st' := (fun r => [.int r])) (t := 1) (fun a e => by cases e; exact ct_X4_fewestKeepersBySets d _ _ _) (by decide) rfl q4194 q4195 q4196 q110 q4197 rfl md_X4_fewestKeepersBySets rfl (by decide) rfl (by decide) dL_law_1758 (fun _ => rfl) (fun r270 σ => ?_) (by decide)
        refine tj_istore dL_law_1761 (by decide) rfl [some (va_rf l0), some (va_rf l1), some (va_rf l2), some (va_rf l3), some (va_rf l4), some (.int l5), some (.int r267), some (.int r270), none] rfl ?_
        refine tj_aload_n dL_law_1763 rfl ?_
        refine tj_callV (as := []) (rest := []) (st' := (fun r => [.int r])) (t := 1) (fun a e => by cases e; exact ct_X4_thrown d _) (by decide) rfl q3952 q3953 q3954 q110 q3955 rfl md_X4_thrown rfl (by decide) rfl (by decide) dL_law_1764 (fun _ => rfl) (fun r271 σ => ?_) (by decide)
        refine tj_iload dL_law_1767 rfl ?_
        refine tj_icmp_eq 1774 dL_law_1769 rfl (fun _ => ?_) (fun _ => ?_)
        · refine tj_iload dL_law_1774 rfl ?_
          refine tj_if_ne 1791 dL_law_1776 rfl (fun _ => ?_) (fun _ => ?_)
          · refine tj_aload_n dL_law_1779 rfl ?_
            refine tj_iconst (0 : Int32) dL_law_1780 rfl ?_
            refine tj_lald dL_law_1781 (fun v272 => ?_)
            refine tj_iload dL_law_1782 rfl ?_
            refine tj_i2l dL_law_1784 ?_
            refine tj_lcmp dL_law_1785 ?_
            refine tj_if_eq 1791 dL_law_1786 rfl (fun _ => ?_) (fun _ => ?_)
            · refine tj_wk (L' := [some (va_rf l0), some (va_rf l1), some (va_rf l2), some (va_rf l3), some (va_rf l4), some (.int l5), none, none, none]) ⟨rfl, rfl, rfl, rfl, rfl, rfl, trivial⟩ ?_
              exact tj_L_law_J1791 d h28 l0 l1 l2 l3 l4 l5 _
            · refine tj_iconst (0 : Int32) dL_law_1789 rfl ?_
              exact tj_zpure rfl dL_law_1790
          · refine tj_wk (L' := [some (va_rf l0), some (va_rf l1), some (va_rf l2), some (va_rf l3), some (va_rf l4), some (.int l5), none, none, none]) ⟨rfl, rfl, rfl, rfl, rfl, rfl, trivial⟩ ?_
            exact tj_L_law_J1791 d h28 l0 l1 l2 l3 l4 l5 _
        · refine tj_iconst (0 : Int32) dL_law_1772 rfl ?_
          exact tj_zpure rfl dL_law_1773
      | 32, h1, h2 =>
        cases h1; cases h2
        refine tj_aload_n dL_law_1794 rfl ?_
        refine tj_callV (as := []) (rest := []) (st' := (fun r => [.int r])) (t := 0) (fun a e => by cases e; exact ct_X1_hour d _) (by decide) rfl q2867 q2868 q2869 q96 q2870 rfl md_X1_hour rfl (by decide) rfl (by decide) dL_law_1795 (fun _ => rfl) (fun r273 σ => ?_) (by decide)
        refine tj_aload_n dL_law_1798 rfl ?_
        refine tj_callV (as := []) (rest := [.int r273]) (st' := (fun r => [.int r, .int r273])) (t := 1) (fun a e => by cases e; exact ct_X4_hour d _) (by decide) rfl q4199 q4200 q4201 q110 q4202 rfl md_X4_hour rfl (by decide) rfl (by simp [rf_cat, cat_i, cat_l, cat_f, cat_d]) dL_law_1799 (fun _ => rfl) (fun r274 σ => ?_) (by decide)
        refine tj_icmp_eq 2489 dL_law_1802 rfl (fun _ => ?_) (fun _ => ?_)
        · exact tj_L_law_J2489 d h28 l0 l1 l2 l3 l4 l5 _
        · refine tj_iconst (0 : Int32) dL_law_1805 rfl ?_
          exact tj_zpure rfl dL_law_1806
      | 33, h1, h2 =>
        cases h1; cases h2
        refine tj_aload_n dL_law_1807 rfl ?_
        refine tj_callV (as := []) (rest := []) (st' := (fun r => [.int r])) (t := 0) (fun a e => by cases e; exact ct_X1_servedTotal d _) (by decide) rfl q2871 q2872 q2873 q96 q2874 rfl md_X1_servedTotal rfl (by decide) rfl (by decide) dL_law_1808 (fun _ => rfl) (fun r275 σ => ?_) (by decide)
        refine tj_aload_n dL_law_1811 rfl ?_
        refine tj_callV (as := []) (rest := [.int r275]) (st' := (fun r => [.int r, .int r275])) (t := 1) (fun a e => by cases e; exact ct_X4_servedTotal d _) (by decide) rfl q4203 q4204 q4205 q110 q4206 rfl md_X4_servedTotal rfl (by decide) rfl (by simp [rf_cat, cat_i, cat_l, cat_f, cat_d]) dL_law_1812 (fun _ => rfl) (fun r276 σ => ?_) (by decide)
        refine tj_icmp_eq 2489 dL_law_1815 rfl (fun _ => ?_) (fun _ => ?_)
        · exact tj_L_law_J2489 d h28 l0 l1 l2 l3 l4 l5 _
        · refine tj_iconst (0 : Int32) dL_law_1818 rfl ?_
          exact tj_zpure rfl dL_law_1819
      | 34, h1, h2 =>
        cases h1; cases h2
        refine tj_aload_n dL_law_1820 rfl ?_
        refine tj_callV (as := []) (rest := []) (st' := (fun r => [.int r])) (t := 0) (fun a e => by cases e; exact ct_X1_lateTotal d _) (by decide) rfl q2875 q2876 q2877 q96 q2878 rfl md_X1_lateTotal rfl (by decide) rfl (by decide) dL_law_1821 (fun _ => rfl) (fun r277 σ => ?_) (by decide)
        refine tj_aload_n dL_law_1824 rfl ?_
        refine tj_callV (as := []) (rest := [.int r277]) (st' := (fun r => [.int r, .int r277])) (t := 1) (fun a e => by cases e; exact ct_X4_lateTotal d _) (by decide) rfl q4207 q4208 q4209 q110 q4210 rfl md_X4_lateTotal rfl (by decide) rfl (by simp [rf_cat, cat_i, cat_l, cat_f, cat_d]) dL_law_1825 (fun _ => rfl) (fun r278 σ => ?_) (by decide)
        refine tj_icmp_eq 2489 dL_law_1828 rfl (fun _ => ?_) (fun _ => ?_)
        · exact tj_L_law_J2489 d h28 l0 l1 l2 l3 l4 l5 _
        · refine tj_iconst (0 : Int32) dL_law_1831 rfl ?_
          exact tj_zpure rfl dL_law_1832
      | 35, h1, h2 =>
        cases h1; cases h2
        refine tj_aload_n dL_law_1833 rfl ?_
        refine tj_callV (as := []) (rest := []) (st' := (fun r => [.int r])) (t := 0) (fun a e => by cases e; exact ct_X1_portionTotal d _) (by decide) rfl q2879 q2880 q2881 q96 q2882 rfl md_X1_portionTotal rfl (by decide) rfl (by decide) dL_law_1834 (fun _ => rfl) (fun r279 σ => ?_) (by decide)
        refine tj_aload_n dL_law_1837 rfl ?_
        refine tj_callV (as := []) (rest := [.int r279]) (st' := (fun r => [.int r, .int r279])) (t := 1) (fun a e => by cases e; exact ct_X4_portionTotal d _) (by decide) rfl q4211 q4212 q4213 q110 q4214 rfl md_X4_portionTotal rfl (by decide) rfl (by simp [rf_cat, cat_i, cat_l, cat_f, cat_d]) dL_law_1838 (fun _ => rfl) (fun r280 σ => ?_) (by decide)
        refine tj_icmp_eq 2489 dL_law_1841 rfl (fun _ => ?_) (fun _ => ?_)
        · exact tj_L_law_J2489 d h28 l0 l1 l2 l3 l4 l5 _
        · refine tj_iconst (0 : Int32) dL_law_1844 rfl ?_
          exact tj_zpure rfl dL_law_1845
      | 36, h1, h2 =>
        cases h1; cases h2
        refine tj_aload_n dL_law_1846 rfl ?_
        refine tj_callV (as := []) (rest := []) (st' := (fun r => [.int r])) (t := 0) (fun a e => by cases e; exact ct_X1_drawnTotal d _) (by decide) rfl q2883 q2884 q2885 q96 q2886 rfl md_X1_drawnTotal rfl (by decide) rfl (by decide) dL_law_1847 (fun _ => rfl) (fun r281 σ => ?_) (by decide)
        refine tj_aload_n dL_law_1850 rfl ?_
        refine tj_callV (as := []) (rest := [.int r281]) (st' := (fun r => [.int r, .int r281])) (t := 1) (fun a e => by cases e; exact ct_X4_drawnTotal d _) (by decide) rfl q4215 q4216 q4217 q110 q4218 rfl md_X4_drawnTotal rfl (by decide) rfl (by simp [rf_cat, cat_i, cat_l, cat_f, cat_d]) dL_law_1851 (fun _ => rfl) (fun r282 σ => ?_) (by decide)
        refine tj_icmp_eq 2489 dL_law_1854 rfl (fun _ => ?_) (fun _ => ?_)
        · exact tj_L_law_J2489 d h28 l0 l1 l2 l3 l4 l5 _
        · refine tj_iconst (0 : Int32) dL_law_1857 rfl ?_
          exact tj_zpure rfl dL_law_1858
      | 37, h1, h2 =>
        cases h1; cases h2
        refine tj_aload_n dL_law_1859 rfl ?_
        refine tj_callV (as := []) (rest := []) (st' := (fun r => [.int r])) (t := 0) (fun a e => by cases e; exact ct_X1_thrownTotal d _) (by decide) rfl q2887 q2888 q2889 q96 q2890 rfl md_X1_thrownTotal rfl (by decide) rfl (by decide) dL_law_1860 (fun _ => rfl) (fun r283 σ => ?_) (by decide)
        refine tj_aload_n dL_law_1863 rfl ?_
        refine tj_callV (as := []) (rest := [.int r283]) (st' := (fun r => [.int r, .int r283])) (t := 1) (fun a e => by cases e; exact ct_X4_thrownTotal d _) (by decide) rfl q4219 q4220 q4221 q110 q4222 rfl md_X4_thrownTotal rfl (by decide) rfl (by simp [rf_cat, cat_i, cat_l, cat_f, cat_d]) dL_law_1864 (fun _ => rfl) (fun r284 σ => ?_) (by decide)
        refine tj_icmp_eq 2489 dL_law_1867 rfl (fun _ => ?_) (fun _ => ?_)
        · exact tj_L_law_J2489 d h28 l0 l1 l2 l3 l4 l5 _
        · refine tj_iconst (0 : Int32) dL_law_1870 rfl ?_
          exact tj_zpure rfl dL_law_1871
      | 38, h1, h2 =>
        cases h1; cases h2
        refine tj_aload_n dL_law_1872 rfl ?_
        refine tj_callV (as := []) (rest := []) (st' := (fun r => [.int r])) (t := 0) (fun a e => by cases e; exact ct_X1_ticketsByAccounts d _) (by decide) rfl q2891 q2892 q2893 q96 q2894 rfl md_X1_ticketsByAccounts rfl (by decide) rfl (by decide) dL_law_1873 (fun _ => rfl) (fun r285 σ => ?_) (by decide)
        refine tj_aload_n dL_law_1876 rfl ?_
        refine tj_callV (as := []) (rest := [.int r285]) (st' := (fun r => [.int r, .int r285])) (t := 1) (fun a e => by cases e; exact ct_X4_ticketsByAccounts d _) (by decide) rfl q4223 q4224 q4225 q110 q4226 rfl md_X4_ticketsByAccounts rfl (by decide) rfl (by simp [rf_cat, cat_i, cat_l, cat_f, cat_d]) dL_law_1877 (fun _ => rfl) (fun r286 σ => ?_) (by decide)
        refine tj_icmp_eq 2489 dL_law_1880 rfl (fun _ => ?_) (fun _ => ?_)
        · exact tj_L_law_J2489 d h28 l0 l1 l2 l3 l4 l5 _
        · refine tj_iconst (0 : Int32) dL_law_1883 rfl ?_
          exact tj_zpure rfl dL_law_1884
      | 39, h1, h2 =>
        cases h1; cases h2
        refine tj_aload_n dL_law_1885 rfl ?_
        refine tj_aload dL_law_1886 rfl ?_
        refine tj_callSX (as := [va_rf l1, va_rf l4]) (rest := []) (st' := (fun r => [.int r])) (ct_X0_meanHunger d l1 l4) q3329 q3330 q95 q3331 md_X0_meanHunger rfl (by decide) rfl (by decide) dL_law_1888 (fun _ => rfl) (fun r287 σ => ?_) (by decide)
        refine tj_istore dL_law_1891 (by decide) rfl [some (va_rf l0), some (va_rf l1), some (va_rf l2), some (va_rf l3), some (va_rf l4), some (.int l5), some (.int r287), none, none] rfl ?_
        refine tj_aload_n dL_law_1893 rfl ?_
        refine tj_callV (as := []) (rest := []) (st' := (fun r => [.double r])) (t := 1) (fun a e => by cases e; exact ct_X4_meanHunger d _) (by decide) rfl q4227 q4228 q4229 q110 q4230 rfl md_X4_meanHunger rfl (by decide) rfl (by decide) dL_law_1894 (fun _ => rfl) (fun r288 σ => ?_) (by decide)
        refine tj_dstore dL_law_1897 (by decide) rfl rfl [some (va_rf l0), some (va_rf l1), some (va_rf l2), some (va_rf l3), some (va_rf l4), some (.int l5), some (.int r287), some (.double r288), none] rfl ?_
        refine tj_aload_n dL_law_1899 rfl ?_
        refine tj_callV (as := []) (rest := []) (st' := (fun r => [.int r])) (t := 1) (fun a e => by cases e; exact ct_X4_thrown d _) (by decide) rfl q3952 q3953 q3954 q110 q3955 rfl md_X4_thrown rfl (by decide) rfl (by decide) dL_law_1900 (fun _ => rfl) (fun r289 σ => ?_) (by decide)
        refine tj_iload dL_law_1903 rfl ?_
        refine tj_icmp_eq 1910 dL_law_1905 rfl (fun _ => ?_) (fun _ => ?_)
        · refine tj_iload dL_law_1910 rfl ?_
          refine tj_if_ne 1947 dL_law_1912 rfl (fun _ => ?_) (fun _ => ?_)
          · refine tj_aload dL_law_1915 rfl ?_
            refine tj_iconst (0 : Int32) dL_law_1917 rfl ?_
            refine tj_dald dL_law_1918 (fun v290 => ?_)
            refine tj_dload dL_law_1919 rfl ?_
            refine tj_dcmp dL_law_1921 ?_
            refine tj_if_eq 1947 dL_law_1922 rfl (fun _ => ?_) (fun _ => ?_)
            · refine tj_wk (L' := [some (va_rf l0), some (va_rf l1), some (va_rf l2), some (va_rf l3), some (va_rf l4), some (.int l5), none, none, none]) ⟨rfl, rfl, rfl, rfl, rfl, rfl, trivial⟩ ?_
              exact tj_L_law_J1947 d h28 l0 l1 l2 l3 l4 l5 _
            · refine tj_aload dL_law_1925 rfl ?_
              refine tj_iconst (0 : Int32) dL_law_1927 rfl ?_
              refine tj_dald dL_law_1928 (fun v291 => ?_)
              refine tj_aload dL_law_1929 rfl ?_
              refine tj_iconst (0 : Int32) dL_law_1931 rfl ?_
              refine tj_dald dL_law_1932 (fun v292 => ?_)
              refine tj_dcmp dL_law_1933 ?_
              refine tj_if_eq 1945 dL_law_1934 rfl (fun _ => ?_) (fun _ => ?_)
              · refine tj_iconst (0 : Int32) dL_law_1945 rfl ?_
                exact tj_zpure rfl dL_law_1946
              · refine tj_dload dL_law_1937 rfl ?_
                refine tj_dload dL_law_1939 rfl ?_
                refine tj_dcmp dL_law_1941 ?_
                refine tj_if_ne 1947 dL_law_1942 rfl (fun _ => ?_) (fun _ => ?_)
                · refine tj_iconst (0 : Int32) dL_law_1945 rfl ?_
                  exact tj_zpure rfl dL_law_1946
                · refine tj_wk (L' := [some (va_rf l0), some (va_rf l1), some (va_rf l2), some (va_rf l3), some (va_rf l4), some (.int l5), none, none, none]) ⟨rfl, rfl, rfl, rfl, rfl, rfl, trivial⟩ ?_
                  exact tj_L_law_J1947 d h28 l0 l1 l2 l3 l4 l5 _
          · refine tj_wk (L' := [some (va_rf l0), some (va_rf l1), some (va_rf l2), some (va_rf l3), some (va_rf l4), some (.int l5), none, none, none]) ⟨rfl, rfl, rfl, rfl, rfl, rfl, trivial⟩ ?_
            exact tj_L_law_J1947 d h28 l0 l1 l2 l3 l4 l5 _
        · refine tj_iconst (0 : Int32) dL_law_1908 rfl ?_
          exact tj_zpure rfl dL_law_1909
      | 40, h1, h2 =>
        cases h1; cases h2
        refine tj_aload_n dL_law_1950 rfl ?_
        refine tj_aload dL_law_1951 rfl ?_
        refine tj_callSX (as := [va_rf l1, va_rf l4]) (rest := []) (st' := (fun r => [.int r])) (ct_X0_lateShare d l1 l4) q3362 q3363 q95 q3364 md_X0_lateShare rfl (by decide) rfl (by decide) dL_law_1953 (fun _ => rfl) (fun r293 σ => ?_) (by decide)
        refine tj_istore dL_law_1956 (by decide) rfl [some (va_rf l0), some (va_rf l1), some (va_rf l2), some (va_rf l3), some (va_rf l4), some (.int l5), some (.int r293), none, none] rfl ?_
        refine tj_aload_n dL_law_1958 rfl ?_
        refine tj_callV (as := []) (rest := []) (st' := (fun r => [.float r])) (t := 1) (fun a e => by cases e; exact ct_X4_lateShare d _) (by decide) rfl q4231 q4232 q4233 q110 q4234 rfl md_X4_lateShare rfl (by decide) rfl (by decide) dL_law_1959 (fun _ => rfl) (fun r294 σ => ?_) (by decide)
        refine tj_fstore dL_law_1962 (by decide) rfl [some (va_rf l0), some (va_rf l1), some (va_rf l2), some (va_rf l3), some (va_rf l4), some (.int l5), some (.int r293), some (.float r294), none] rfl ?_
        refine tj_aload_n dL_law_1964 rfl ?_
        refine tj_callV (as := []) (rest := []) (st' := (fun r => [.int r])) (t := 1) (fun a e => by cases e; exact ct_X4_thrown d _) (by decide) rfl q3952 q3953 q3954 q110 q3955 rfl md_X4_thrown rfl (by decide) rfl (by decide) dL_law_1965 (fun _ => rfl) (fun r295 σ => ?_) (by decide)
        refine tj_iload dL_law_1968 rfl ?_
        refine tj_icmp_eq 1975 dL_law_1970 rfl (fun _ => ?_) (fun _ => ?_)
        · refine tj_iload dL_law_1975 rfl ?_
          refine tj_if_ne 2013 dL_law_1977 rfl (fun _ => ?_) (fun _ => ?_)
          · refine tj_aload dL_law_1980 rfl ?_
            refine tj_iconst (0 : Int32) dL_law_1982 rfl ?_
            refine tj_dald dL_law_1983 (fun v296 => ?_)
            refine tj_fload dL_law_1984 rfl ?_
            refine tj_f2d dL_law_1986 (fun v297 => ?_)
            refine tj_dcmp dL_law_1987 ?_
            refine tj_if_eq 2013 dL_law_1988 rfl (fun _ => ?_) (fun _ => ?_)
            · refine tj_wk (L' := [some (va_rf l0), some (va_rf l1), some (va_rf l2), some (va_rf l3), some (va_rf l4), some (.int l5), none, none, none]) ⟨rfl, rfl, rfl, rfl, rfl, rfl, trivial⟩ ?_
              exact tj_L_law_J2013 d h28 l0 l1 l2 l3 l4 l5 _
            · refine tj_aload dL_law_1991 rfl ?_
              refine tj_iconst (0 : Int32) dL_law_1993 rfl ?_
              refine tj_dald dL_law_1994 (fun v298 => ?_)
              refine tj_aload dL_law_1995 rfl ?_
              refine tj_iconst (0 : Int32) dL_law_1997 rfl ?_
              refine tj_dald dL_law_1998 (fun v299 => ?_)
              refine tj_dcmp dL_law_1999 ?_
              refine tj_if_eq 2011 dL_law_2000 rfl (fun _ => ?_) (fun _ => ?_)
              · refine tj_iconst (0 : Int32) dL_law_2011 rfl ?_
                exact tj_zpure rfl dL_law_2012
              · refine tj_fload dL_law_2003 rfl ?_
                refine tj_fload dL_law_2005 rfl ?_
                refine tj_fcmp dL_law_2007 ?_
                refine tj_if_ne 2013 dL_law_2008 rfl (fun _ => ?_) (fun _ => ?_)
                · refine tj_iconst (0 : Int32) dL_law_2011 rfl ?_
                  exact tj_zpure rfl dL_law_2012
                · refine tj_wk (L' := [some (va_rf l0), some (va_rf l1), some (va_rf l2), some (va_rf l3), some (va_rf l4), some (.int l5), none, none, none]) ⟨rfl, rfl, rfl, rfl, rfl, rfl, trivial⟩ ?_
                  exact tj_L_law_J2013 d h28 l0 l1 l2 l3 l4 l5 _
          · refine tj_wk (L' := [some (va_rf l0), some (va_rf l1), some (va_rf l2), some (va_rf l3), some (va_rf l4), some (.int l5), none, none, none]) ⟨rfl, rfl, rfl, rfl, rfl, rfl, trivial⟩ ?_
            exact tj_L_law_J2013 d h28 l0 l1 l2 l3 l4 l5 _
        · refine tj_iconst (0 : Int32) dL_law_1973 rfl ?_
          exact tj_zpure rfl dL_law_1974
      | 41, h1, h2 =>
        cases h1; cases h2
        refine tj_aload_n dL_law_2016 rfl ?_
        refine tj_callV (as := []) (rest := []) (st' := (fun r => [.int r])) (t := 0) (fun a e => by cases e; exact ct_X1_isConsistent d _) (by decide) rfl q2899 q2900 q2901 q96 q2902 rfl md_X1_isConsistent rfl (by decide) rfl (by decide) dL_law_2017 (fun _ => rfl) (fun r300 σ => ?_) (by decide)
        refine tj_aload_n dL_law_2020 rfl ?_
        refine tj_callV (as := []) (rest := [.int r300]) (st' := (fun r => [.int r, .int r300])) (t := 1) (fun a e => by cases e; exact ct_X4_isConsistent d _) (by decide) rfl q4235 q4236 q4237 q110 q4238 rfl md_X4_isConsistent rfl (by decide) rfl (by simp [rf_cat, cat_i, cat_l, cat_f, cat_d]) dL_law_2021 (fun _ => rfl) (fun r301 σ => ?_) (by decide)
        refine tj_icmp_eq 2489 dL_law_2024 rfl (fun _ => ?_) (fun _ => ?_)
        · exact tj_L_law_J2489 d h28 l0 l1 l2 l3 l4 l5 _
        · refine tj_iconst (0 : Int32) dL_law_2027 rfl ?_
          exact tj_zpure rfl dL_law_2028
      | 42, h1, h2 =>
        cases h1; cases h2
        refine tj_aload_n dL_law_2029 rfl ?_
        refine tj_aload_n dL_law_2030 rfl ?_
        refine tj_iload dL_law_2031 rfl ?_
        refine tj_iconst (1 : Int32) dL_law_2033 rfl ?_
        refine tj_iadd dL_law_2034 ?_
        refine tj_iald dL_law_2035 (fun v302 => ?_)
        refine tj_aload_n dL_law_2036 rfl ?_
        refine tj_callSX (as := [va_rf l1, .int v302, va_rf l3]) (rest := []) (st' := (fun r => [.int r])) (ct_X0_renderLion d l1 v302 l3) q3369 q3370 q95 q3371 md_X0_renderLion rfl (by decide) rfl (by decide) dL_law_2037 (fun _ => rfl) (fun r303 σ => ?_) (by decide)
        refine tj_istore dL_law_2040 (by decide) rfl [some (va_rf l0), some (va_rf l1), some (va_rf l2), some (va_rf l3), some (va_rf l4), some (.int l5), some (.int r303), none, none] rfl ?_
        refine tj_aload_n dL_law_2042 rfl ?_
        refine tj_aload_n dL_law_2043 rfl ?_
        refine tj_iload dL_law_2044 rfl ?_
        refine tj_iconst (1 : Int32) dL_law_2046 rfl ?_
        refine tj_iadd dL_law_2047 ?_
        refine tj_iald dL_law_2048 (fun v304 => ?_)
        refine tj_callV (as := [.int v304]) (rest := []) (st' := (fun r => [.int r])) (t := 1) (fun a e => by cases e; exact ct_X4_renderLion d _ _) (by decide) rfl q4239 q4240 q4241 q110 q4242 rfl md_X4_renderLion rfl (by decide) rfl (by decide) dL_law_2049 (fun _ => rfl) (fun r305 σ => ?_) (by decide)
        refine tj_istore dL_law_2052 (by decide) rfl [some (va_rf l0), some (va_rf l1), some (va_rf l2), some (va_rf l3), some (va_rf l4), some (.int l5), some (.int r303), some (.int r305), none] rfl ?_
        refine tj_aload_n dL_law_2054 rfl ?_
        refine tj_callV (as := []) (rest := []) (st' := (fun r => [.int r])) (t := 1) (fun a e => by cases e; exact ct_X4_thrown d _) (by decide) rfl q3952 q3953 q3954 q110 q3955 rfl md_X4_thrown rfl (by decide) rfl (by decide) dL_law_2055 (fun _ => rfl) (fun r306 σ => ?_) (by decide)
        refine tj_iload dL_law_2058 rfl ?_
        refine tj_icmp_eq 2065 dL_law_2060 rfl (fun _ => ?_) (fun _ => ?_)
        · refine tj_iload dL_law_2065 rfl ?_
          refine tj_if_ne 2082 dL_law_2067 rfl (fun _ => ?_) (fun _ => ?_)
          · refine tj_aload_n dL_law_2070 rfl ?_
            refine tj_iconst (0 : Int32) dL_law_2071 rfl ?_
            refine tj_lald dL_law_2072 (fun v307 => ?_)
            refine tj_iload dL_law_2073 rfl ?_
            refine tj_i2l dL_law_2075 ?_
            refine tj_lcmp dL_law_2076 ?_
            refine tj_if_eq 2082 dL_law_2077 rfl (fun _ => ?_) (fun _ => ?_)
            · refine tj_wk (L' := [some (va_rf l0), some (va_rf l1), some (va_rf l2), some (va_rf l3), some (va_rf l4), some (.int l5), none, none, none]) ⟨rfl, rfl, rfl, rfl, rfl, rfl, trivial⟩ ?_
              exact tj_L_law_J2082 d h28 l0 l1 l2 l3 l4 l5 _
            · refine tj_iconst (0 : Int32) dL_law_2080 rfl ?_
              exact tj_zpure rfl dL_law_2081
          · refine tj_wk (L' := [some (va_rf l0), some (va_rf l1), some (va_rf l2), some (va_rf l3), some (va_rf l4), some (.int l5), none, none, none]) ⟨rfl, rfl, rfl, rfl, rfl, rfl, trivial⟩ ?_
            exact tj_L_law_J2082 d h28 l0 l1 l2 l3 l4 l5 _
        · refine tj_iconst (0 : Int32) dL_law_2063 rfl ?_
          exact tj_zpure rfl dL_law_2064
      | 43, h1, h2 =>
        cases h1; cases h2
        refine tj_aload_n dL_law_2085 rfl ?_
        refine tj_callV (as := []) (rest := []) (st' := (fun r => [.int r])) (t := 0) (fun a e => by cases e; exact ct_X1_renderTickets d _) (by decide) rfl q3012 q3013 q3014 q96 q3015 rfl md_X1_renderTickets rfl (by decide) rfl (by decide) dL_law_2086 (fun _ => rfl) (fun r308 σ => ?_) (by decide)
        refine tj_aload_n dL_law_2089 rfl ?_
        refine tj_callV (as := []) (rest := [.int r308]) (st' := (fun r => [.int r, .int r308])) (t := 1) (fun a e => by cases e; exact ct_X4_renderTickets d _) (by decide) rfl q4255 q4256 q4257 q110 q4258 rfl md_X4_renderTickets rfl (by decide) rfl (by simp [rf_cat, cat_i, cat_l, cat_f, cat_d]) dL_law_2090 (fun _ => rfl) (fun r309 σ => ?_) (by decide)
        refine tj_icmp_eq 2489 dL_law_2093 rfl (fun _ => ?_) (fun _ => ?_)
        · exact tj_L_law_J2489 d h28 l0 l1 l2 l3 l4 l5 _
        · refine tj_iconst (0 : Int32) dL_law_2096 rfl ?_
          exact tj_zpure rfl dL_law_2097
      | 44, h1, h2 =>
        cases h1; cases h2
        refine tj_aload_n dL_law_2098 rfl ?_
        refine tj_aload_n dL_law_2099 rfl ?_
        refine tj_iload dL_law_2100 rfl ?_
        refine tj_iconst (1 : Int32) dL_law_2102 rfl ?_
        refine tj_iadd dL_law_2103 ?_
        refine tj_iald dL_law_2104 (fun v310 => ?_)
        refine tj_aload_n dL_law_2105 rfl ?_
        refine tj_callSX (as := [va_rf l1, .int v310, va_rf l3]) (rest := []) (st' := (fun r => [.int r])) (ct_X0_outputAt d l1 v310 l3) q3390 q3391 q95 q3392 md_X0_outputAt rfl (by decide) rfl (by decide) dL_law_2106 (fun _ => rfl) (fun r311 σ => ?_) (by decide)
        refine tj_istore dL_law_2109 (by decide) rfl [some (va_rf l0), some (va_rf l1), some (va_rf l2), some (va_rf l3), some (va_rf l4), some (.int l5), some (.int r311), none, none] rfl ?_
        refine tj_aload_n dL_law_2111 rfl ?_
        refine tj_aload_n dL_law_2112 rfl ?_
        refine tj_iload dL_law_2113 rfl ?_
        refine tj_iconst (1 : Int32) dL_law_2115 rfl ?_
        refine tj_iadd dL_law_2116 ?_
        refine tj_iald dL_law_2117 (fun v312 => ?_)
        refine tj_callV (as := [.int v312]) (rest := []) (st' := (fun r => [.int r])) (t := 1) (fun a e => by cases e; exact ct_X4_outputAt d _ _) (by decide) rfl q4259 q4260 q4261 q110 q4262 rfl md_X4_outputAt rfl (by decide) rfl (by decide) dL_law_2118 (fun _ => rfl) (fun r313 σ => ?_) (by decide)
        refine tj_istore dL_law_2121 (by decide) rfl [some (va_rf l0), some (va_rf l1), some (va_rf l2), some (va_rf l3), some (va_rf l4), some (.int l5), some (.int r311), some (.int r313), none] rfl ?_
        refine tj_aload_n dL_law_2123 rfl ?_
        refine tj_callV (as := []) (rest := []) (st' := (fun r => [.int r])) (t := 1) (fun a e => by cases e; exact ct_X4_thrown d _) (by decide) rfl q3952 q3953 q3954 q110 q3955 rfl md_X4_thrown rfl (by decide) rfl (by decide) dL_law_2124 (fun _ => rfl) (fun r314 σ => ?_) (by decide)
        refine tj_iload dL_law_2127 rfl ?_
        refine tj_icmp_eq 2134 dL_law_2129 rfl (fun _ => ?_) (fun _ => ?_)
        · refine tj_iload dL_law_2134 rfl ?_
          refine tj_if_ne 2151 dL_law_2136 rfl (fun _ => ?_) (fun _ => ?_)
          · refine tj_aload_n dL_law_2139 rfl ?_
            refine tj_iconst (0 : Int32) dL_law_2140 rfl ?_
            refine tj_lald dL_law_2141 (fun v315 => ?_)
            refine tj_iload dL_law_2142 rfl ?_
            refine tj_i2l dL_law_2144 ?_
            refine tj_lcmp dL_law_2145 ?_
            refine tj_if_eq 2151 dL_law_2146 rfl (fun _ => ?_) (fun _ => ?_)
            · refine tj_wk (L' := [some (va_rf l0), some (va_rf l1), some (va_rf l2), some (va_rf l3), some (va_rf l4), some (.int l5), none, none, none]) ⟨rfl, rfl, rfl, rfl, rfl, rfl, trivial⟩ ?_
              exact tj_L_law_J2151 d h28 l0 l1 l2 l3 l4 l5 _
            · refine tj_iconst (0 : Int32) dL_law_2149 rfl ?_
              exact tj_zpure rfl dL_law_2150
          · refine tj_wk (L' := [some (va_rf l0), some (va_rf l1), some (va_rf l2), some (va_rf l3), some (va_rf l4), some (.int l5), none, none, none]) ⟨rfl, rfl, rfl, rfl, rfl, rfl, trivial⟩ ?_
            exact tj_L_law_J2151 d h28 l0 l1 l2 l3 l4 l5 _
        · refine tj_iconst (0 : Int32) dL_law_2132 rfl ?_
          exact tj_zpure rfl dL_law_2133
      | 45, h1, h2 =>
        cases h1; cases h2
        refine tj_aload_n dL_law_2154 rfl ?_
        refine tj_aload_n dL_law_2155 rfl ?_
        refine tj_iload dL_law_2156 rfl ?_
        refine tj_iconst (1 : Int32) dL_law_2158 rfl ?_
        refine tj_iadd dL_law_2159 ?_
        refine tj_iald dL_law_2160 (fun v316 => ?_)
        refine tj_i2c dL_law_2161 ?_
        refine tj_aload_n dL_law_2162 rfl ?_
        refine tj_callSX (as := [va_rf l1, .int ((v316.toUInt32 % 65536).toInt32), va_rf l3]) (rest := []) (st' := (fun r => [.int r])) (ct_X0_type d l1 _ l3) q3415 q3416 q95 q3417 md_X0_type rfl (by decide) rfl (by decide) dL_law_2163 (fun _ => rfl) (fun r317 σ => ?_) (by decide)
        refine tj_istore dL_law_2166 (by decide) rfl [some (va_rf l0), some (va_rf l1), some (va_rf l2), some (va_rf l3), some (va_rf l4), some (.int l5), some (.int r317), none, none] rfl ?_
        refine tj_aload_n dL_law_2168 rfl ?_
        refine tj_aload_n dL_law_2169 rfl ?_
        refine tj_iload dL_law_2170 rfl ?_
        refine tj_iconst (1 : Int32) dL_law_2172 rfl ?_
        refine tj_iadd dL_law_2173 ?_
        refine tj_iald dL_law_2174 (fun v318 => ?_)
        refine tj_i2c dL_law_2175 ?_
        refine tj_callV (as := [.int ((v318.toUInt32 % 65536).toInt32)]) (rest := []) (st' := (fun r => [.int r])) (t := 1) (fun a e => by cases e; exact ct_X4_type d _ _) (by decide) rfl q4263 q4264 q4265 q110 q4266 rfl md_X4_type rfl (by decide) rfl (by decide) dL_law_2176 (fun _ => rfl) (fun r319 σ => ?_) (by decide)
        refine tj_istore dL_law_2179 (by decide) rfl [some (va_rf l0), some (va_rf l1), some (va_rf l2), some (va_rf l3), some (va_rf l4), some (.int l5), some (.int r317), some (.int r319), none] rfl ?_
        refine tj_aload_n dL_law_2181 rfl ?_
        refine tj_callV (as := []) (rest := []) (st' := (fun r => [.int r])) (t := 1) (fun a e => by cases e; exact ct_X4_thrown d _) (by decide) rfl q3952 q3953 q3954 q110 q3955 rfl md_X4_thrown rfl (by decide) rfl (by decide) dL_law_2182 (fun _ => rfl) (fun r320 σ => ?_) (by decide)
        refine tj_iload dL_law_2185 rfl ?_
        refine tj_icmp_eq 2192 dL_law_2187 rfl (fun _ => ?_) (fun _ => ?_)
        · refine tj_iload dL_law_2192 rfl ?_
          refine tj_if_ne 2209 dL_law_2194 rfl (fun _ => ?_) (fun _ => ?_)
          · refine tj_aload_n dL_law_2197 rfl ?_
            refine tj_iconst (0 : Int32) dL_law_2198 rfl ?_
            refine tj_lald dL_law_2199 (fun v321 => ?_)
            refine tj_iload dL_law_2200 rfl ?_
            refine tj_i2l dL_law_2202 ?_
            refine tj_lcmp dL_law_2203 ?_
            refine tj_if_eq 2209 dL_law_2204 rfl (fun _ => ?_) (fun _ => ?_)
            · refine tj_wk (L' := [some (va_rf l0), some (va_rf l1), some (va_rf l2), some (va_rf l3), some (va_rf l4), some (.int l5), none, none, none]) ⟨rfl, rfl, rfl, rfl, rfl, rfl, trivial⟩ ?_
              exact tj_L_law_J2209 d h28 l0 l1 l2 l3 l4 l5 _
            · refine tj_iconst (0 : Int32) dL_law_2207 rfl ?_
              exact tj_zpure rfl dL_law_2208
          · refine tj_wk (L' := [some (va_rf l0), some (va_rf l1), some (va_rf l2), some (va_rf l3), some (va_rf l4), some (.int l5), none, none, none]) ⟨rfl, rfl, rfl, rfl, rfl, rfl, trivial⟩ ?_
            exact tj_L_law_J2209 d h28 l0 l1 l2 l3 l4 l5 _
        · refine tj_iconst (0 : Int32) dL_law_2190 rfl ?_
          exact tj_zpure rfl dL_law_2191
      | 46, h1, h2 =>
        cases h1; cases h2
        refine tj_aload_n dL_law_2212 rfl ?_
        refine tj_aload_n dL_law_2213 rfl ?_
        refine tj_callSX (as := [va_rf l1, va_rf l3]) (rest := []) (st' := (fun r => [.int r])) (ct_X0_runScript d l1 l3) q3441 q3442 q95 q3443 md_X0_runScript rfl (by decide) rfl (by decide) dL_law_2214 (fun _ => rfl) (fun r322 σ => ?_) (by decide)
        refine tj_istore dL_law_2217 (by decide) rfl [some (va_rf l0), some (va_rf l1), some (va_rf l2), some (va_rf l3), some (va_rf l4), some (.int l5), some (.int r322), none, none] rfl ?_
        refine tj_aload_n dL_law_2219 rfl ?_
        refine tj_callV (as := []) (rest := []) (st' := (fun r => [.int r])) (t := 1) (fun a e => by cases e; exact ct_X4_runScript d _) (by decide) rfl q4267 q4268 q4269 q110 q4270 rfl md_X4_runScript rfl (by decide) rfl (by decide) dL_law_2220 (fun _ => rfl) (fun r323 σ => ?_) (by decide)
        refine tj_istore dL_law_2223 (by decide) rfl [some (va_rf l0), some (va_rf l1), some (va_rf l2), some (va_rf l3), some (va_rf l4), some (.int l5), some (.int r322), some (.int r323), none] rfl ?_
        refine tj_aload_n dL_law_2225 rfl ?_
        refine tj_callV (as := []) (rest := []) (st' := (fun r => [.int r])) (t := 1) (fun a e => by cases e; exact ct_X4_thrown d _) (by decide) rfl q3952 q3953 q3954 q110 q3955 rfl md_X4_thrown rfl (by decide) rfl (by decide) dL_law_2226 (fun _ => rfl) (fun r324 σ => ?_) (by decide)
        refine tj_iload dL_law_2229 rfl ?_
        refine tj_icmp_eq 2236 dL_law_2231 rfl (fun _ => ?_) (fun _ => ?_)
        · refine tj_iload dL_law_2236 rfl ?_
          refine tj_if_ne 2253 dL_law_2238 rfl (fun _ => ?_) (fun _ => ?_)
          · refine tj_aload_n dL_law_2241 rfl ?_
            refine tj_iconst (0 : Int32) dL_law_2242 rfl ?_
            refine tj_lald dL_law_2243 (fun v325 => ?_)
            refine tj_iload dL_law_2244 rfl ?_
            refine tj_i2l dL_law_2246 ?_
            refine tj_lcmp dL_law_2247 ?_
            refine tj_if_eq 2253 dL_law_2248 rfl (fun _ => ?_) (fun _ => ?_)
            · refine tj_wk (L' := [some (va_rf l0), some (va_rf l1), some (va_rf l2), some (va_rf l3), some (va_rf l4), some (.int l5), none, none, none]) ⟨rfl, rfl, rfl, rfl, rfl, rfl, trivial⟩ ?_
              exact tj_L_law_J2253 d h28 l0 l1 l2 l3 l4 l5 _
            · refine tj_iconst (0 : Int32) dL_law_2251 rfl ?_
              exact tj_zpure rfl dL_law_2252
          · refine tj_wk (L' := [some (va_rf l0), some (va_rf l1), some (va_rf l2), some (va_rf l3), some (va_rf l4), some (.int l5), none, none, none]) ⟨rfl, rfl, rfl, rfl, rfl, rfl, trivial⟩ ?_
            exact tj_L_law_J2253 d h28 l0 l1 l2 l3 l4 l5 _
        · refine tj_iconst (0 : Int32) dL_law_2234 rfl ?_
          exact tj_zpure rfl dL_law_2235
      | 47, h1, h2 =>
        cases h1; cases h2
        refine tj_aload_n dL_law_2256 rfl ?_
        refine tj_aload_n dL_law_2257 rfl ?_
        refine tj_callSX (as := [va_rf l1, va_rf l3]) (rest := []) (st' := (fun r => [.int r])) (ct_X0_errorPosition d l1 l3) q3820 q3821 q95 q3822 md_X0_errorPosition rfl (by decide) rfl (by decide) dL_law_2258 (fun _ => rfl) (fun r326 σ => ?_) (by decide)
        refine tj_istore dL_law_2261 (by decide) rfl [some (va_rf l0), some (va_rf l1), some (va_rf l2), some (va_rf l3), some (va_rf l4), some (.int l5), some (.int r326), none, none] rfl ?_
        refine tj_aload_n dL_law_2263 rfl ?_
        refine tj_callV (as := []) (rest := []) (st' := (fun r => [.int r])) (t := 1) (fun a e => by cases e; exact ct_X4_errorPosition d _) (by decide) rfl q4303 q4304 q4305 q110 q4306 rfl md_X4_errorPosition rfl (by decide) rfl (by decide) dL_law_2264 (fun _ => rfl) (fun r327 σ => ?_) (by decide)
        refine tj_istore dL_law_2267 (by decide) rfl [some (va_rf l0), some (va_rf l1), some (va_rf l2), some (va_rf l3), some (va_rf l4), some (.int l5), some (.int r326), some (.int r327), none] rfl ?_
        refine tj_aload_n dL_law_2269 rfl ?_
        refine tj_callV (as := []) (rest := []) (st' := (fun r => [.int r])) (t := 1) (fun a e => by cases e; exact ct_X4_thrown d _) (by decide) rfl q3952 q3953 q3954 q110 q3955 rfl md_X4_thrown rfl (by decide) rfl (by decide) dL_law_2270 (fun _ => rfl) (fun r328 σ => ?_) (by decide)
        refine tj_iload dL_law_2273 rfl ?_
        refine tj_icmp_eq 2280 dL_law_2275 rfl (fun _ => ?_) (fun _ => ?_)
        · refine tj_iload dL_law_2280 rfl ?_
          refine tj_if_ne 2297 dL_law_2282 rfl (fun _ => ?_) (fun _ => ?_)
          · refine tj_aload_n dL_law_2285 rfl ?_
            refine tj_iconst (0 : Int32) dL_law_2286 rfl ?_
            refine tj_lald dL_law_2287 (fun v329 => ?_)
            refine tj_iload dL_law_2288 rfl ?_
            refine tj_i2l dL_law_2290 ?_
            refine tj_lcmp dL_law_2291 ?_
            refine tj_if_eq 2297 dL_law_2292 rfl (fun _ => ?_) (fun _ => ?_)
            · refine tj_wk (L' := [some (va_rf l0), some (va_rf l1), some (va_rf l2), some (va_rf l3), some (va_rf l4), some (.int l5), none, none, none]) ⟨rfl, rfl, rfl, rfl, rfl, rfl, trivial⟩ ?_
              exact tj_L_law_J2297 d h28 l0 l1 l2 l3 l4 l5 _
            · refine tj_iconst (0 : Int32) dL_law_2295 rfl ?_
              exact tj_zpure rfl dL_law_2296
          · refine tj_wk (L' := [some (va_rf l0), some (va_rf l1), some (va_rf l2), some (va_rf l3), some (va_rf l4), some (.int l5), none, none, none]) ⟨rfl, rfl, rfl, rfl, rfl, rfl, trivial⟩ ?_
            exact tj_L_law_J2297 d h28 l0 l1 l2 l3 l4 l5 _
        · refine tj_iconst (0 : Int32) dL_law_2278 rfl ?_
          exact tj_zpure rfl dL_law_2279
      | 48, h1, h2 =>
        cases h1; cases h2
        refine tj_aload_n dL_law_2300 rfl ?_
        refine tj_aload_n dL_law_2301 rfl ?_
        refine tj_callSX (as := [va_rf l1, va_rf l3]) (rest := []) (st' := (fun r => [.int r])) (ct_X0_failedCommand d l1 l3) q3827 q3828 q95 q3829 md_X0_failedCommand rfl (by decide) rfl (by decide) dL_law_2302 (fun _ => rfl) (fun r330 σ => ?_) (by decide)
        refine tj_istore dL_law_2305 (by decide) rfl [some (va_rf l0), some (va_rf l1), some (va_rf l2), some (va_rf l3), some (va_rf l4), some (.int l5), some (.int r330), none, none] rfl ?_
        refine tj_aload_n dL_law_2307 rfl ?_
        refine tj_callV (as := []) (rest := []) (st' := (fun r => [.int r])) (t := 1) (fun a e => by cases e; exact ct_X4_failedCommand d _) (by decide) rfl q4307 q4308 q4309 q110 q4310 rfl md_X4_failedCommand rfl (by decide) rfl (by decide) dL_law_2308 (fun _ => rfl) (fun r331 σ => ?_) (by decide)
        refine tj_istore dL_law_2311 (by decide) rfl [some (va_rf l0), some (va_rf l1), some (va_rf l2), some (va_rf l3), some (va_rf l4), some (.int l5), some (.int r330), some (.int r331), none] rfl ?_
        refine tj_aload_n dL_law_2313 rfl ?_
        refine tj_callV (as := []) (rest := []) (st' := (fun r => [.int r])) (t := 1) (fun a e => by cases e; exact ct_X4_thrown d _) (by decide) rfl q3952 q3953 q3954 q110 q3955 rfl md_X4_thrown rfl (by decide) rfl (by decide) dL_law_2314 (fun _ => rfl) (fun r332 σ => ?_) (by decide)
        refine tj_iload dL_law_2317 rfl ?_
        refine tj_icmp_eq 2324 dL_law_2319 rfl (fun _ => ?_) (fun _ => ?_)
        · refine tj_iload dL_law_2324 rfl ?_
          refine tj_if_ne 2341 dL_law_2326 rfl (fun _ => ?_) (fun _ => ?_)
          · refine tj_aload_n dL_law_2329 rfl ?_
            refine tj_iconst (0 : Int32) dL_law_2330 rfl ?_
            refine tj_lald dL_law_2331 (fun v333 => ?_)
            refine tj_iload dL_law_2332 rfl ?_
            refine tj_i2l dL_law_2334 ?_
            refine tj_lcmp dL_law_2335 ?_
            refine tj_if_eq 2341 dL_law_2336 rfl (fun _ => ?_) (fun _ => ?_)
            · refine tj_wk (L' := [some (va_rf l0), some (va_rf l1), some (va_rf l2), some (va_rf l3), some (va_rf l4), some (.int l5), none, none, none]) ⟨rfl, rfl, rfl, rfl, rfl, rfl, trivial⟩ ?_
              exact tj_L_law_J2341 d h28 l0 l1 l2 l3 l4 l5 _
            · refine tj_iconst (0 : Int32) dL_law_2339 rfl ?_
              exact tj_zpure rfl dL_law_2340
          · refine tj_wk (L' := [some (va_rf l0), some (va_rf l1), some (va_rf l2), some (va_rf l3), some (va_rf l4), some (.int l5), none, none, none]) ⟨rfl, rfl, rfl, rfl, rfl, rfl, trivial⟩ ?_
            exact tj_L_law_J2341 d h28 l0 l1 l2 l3 l4 l5 _
        · refine tj_iconst (0 : Int32) dL_law_2322 rfl ?_
          exact tj_zpure rfl dL_law_2323
      | 49, h1, h2 =>
        cases h1; cases h2
        refine tj_aload_n dL_law_2344 rfl ?_
        refine tj_aload_n dL_law_2345 rfl ?_
        refine tj_callSX (as := [va_rf l1, va_rf l3]) (rest := []) (st' := (fun r => [.int r])) (ct_X0_failureKind d l1 l3) q3834 q3835 q95 q3836 md_X0_failureKind rfl (by decide) rfl (by decide) dL_law_2346 (fun _ => rfl) (fun r334 σ => ?_) (by decide)
        refine tj_istore dL_law_2349 (by decide) rfl [some (va_rf l0), some (va_rf l1), some (va_rf l2), some (va_rf l3), some (va_rf l4), some (.int l5), some (.int r334), none, none] rfl ?_
        refine tj_aload_n dL_law_2351 rfl ?_
        refine tj_callV (as := []) (rest := []) (st' := (fun r => [.int r])) (t := 1) (fun a e => by cases e; exact ct_X4_failureKind d _) (by decide) rfl q4311 q4312 q4313 q110 q4314 rfl md_X4_failureKind rfl (by decide) rfl (by decide) dL_law_2352 (fun _ => rfl) (fun r335 σ => ?_) (by decide)
        refine tj_istore dL_law_2355 (by decide) rfl [some (va_rf l0), some (va_rf l1), some (va_rf l2), some (va_rf l3), some (va_rf l4), some (.int l5), some (.int r334), some (.int r335), none] rfl ?_
        refine tj_aload_n dL_law_2357 rfl ?_
        refine tj_callV (as := []) (rest := []) (st' := (fun r => [.int r])) (t := 1) (fun a e => by cases e; exact ct_X4_thrown d _) (by decide) rfl q3952 q3953 q3954 q110 q3955 rfl md_X4_thrown rfl (by decide) rfl (by decide) dL_law_2358 (fun _ => rfl) (fun r336 σ => ?_) (by decide)
        refine tj_iload dL_law_2361 rfl ?_
        refine tj_icmp_eq 2368 dL_law_2363 rfl (fun _ => ?_) (fun _ => ?_)
        · refine tj_iload dL_law_2368 rfl ?_
          refine tj_if_ne 2385 dL_law_2370 rfl (fun _ => ?_) (fun _ => ?_)
          · refine tj_aload_n dL_law_2373 rfl ?_
            refine tj_iconst (0 : Int32) dL_law_2374 rfl ?_
            refine tj_lald dL_law_2375 (fun v337 => ?_)
            refine tj_iload dL_law_2376 rfl ?_
            refine tj_i2l dL_law_2378 ?_
            refine tj_lcmp dL_law_2379 ?_
            refine tj_if_eq 2385 dL_law_2380 rfl (fun _ => ?_) (fun _ => ?_)
            · refine tj_wk (L' := [some (va_rf l0), some (va_rf l1), some (va_rf l2), some (va_rf l3), some (va_rf l4), some (.int l5), none, none, none]) ⟨rfl, rfl, rfl, rfl, rfl, rfl, trivial⟩ ?_
              exact tj_L_law_J2385 d h28 l0 l1 l2 l3 l4 l5 _
            · refine tj_iconst (0 : Int32) dL_law_2383 rfl ?_
              exact tj_zpure rfl dL_law_2384
          · refine tj_wk (L' := [some (va_rf l0), some (va_rf l1), some (va_rf l2), some (va_rf l3), some (va_rf l4), some (.int l5), none, none, none]) ⟨rfl, rfl, rfl, rfl, rfl, rfl, trivial⟩ ?_
            exact tj_L_law_J2385 d h28 l0 l1 l2 l3 l4 l5 _
        · refine tj_iconst (0 : Int32) dL_law_2366 rfl ?_
          exact tj_zpure rfl dL_law_2367
      | 50, h1, h2 =>
        cases h1; cases h2
        refine tj_aload_n dL_law_2388 rfl ?_
        refine tj_aload_n dL_law_2389 rfl ?_
        refine tj_callSX (as := [va_rf l1, va_rf l3]) (rest := []) (st' := (fun r => [.int r])) (ct_X0_undo d l1 l3) q3841 q3842 q95 q3843 md_X0_undo rfl (by decide) rfl (by decide) dL_law_2390 (fun _ => rfl) (fun r338 σ => ?_) (by decide)
        refine tj_istore dL_law_2393 (by decide) rfl [some (va_rf l0), some (va_rf l1), some (va_rf l2), some (va_rf l3), some (va_rf l4), some (.int l5), some (.int r338), none, none] rfl ?_
        refine tj_aload_n dL_law_2395 rfl ?_
        refine tj_callV (as := []) (rest := []) (st' := (fun r => [.int r])) (t := 1) (fun a e => by cases e; exact ct_X4_undo d _) (by decide) rfl q4315 q4316 q4317 q110 q4318 rfl md_X4_undo rfl (by decide) rfl (by decide) dL_law_2396 (fun _ => rfl) (fun r339 σ => ?_) (by decide)
        refine tj_istore dL_law_2399 (by decide) rfl [some (va_rf l0), some (va_rf l1), some (va_rf l2), some (va_rf l3), some (va_rf l4), some (.int l5), some (.int r338), some (.int r339), none] rfl ?_
        refine tj_aload_n dL_law_2401 rfl ?_
        refine tj_callV (as := []) (rest := []) (st' := (fun r => [.int r])) (t := 1) (fun a e => by cases e; exact ct_X4_thrown d _) (by decide) rfl q3952 q3953 q3954 q110 q3955 rfl md_X4_thrown rfl (by decide) rfl (by decide) dL_law_2402 (fun _ => rfl) (fun r340 σ => ?_) (by decide)
        refine tj_iload dL_law_2405 rfl ?_
        refine tj_icmp_eq 2412 dL_law_2407 rfl (fun _ => ?_) (fun _ => ?_)
        · refine tj_iload dL_law_2412 rfl ?_
          refine tj_if_ne 2429 dL_law_2414 rfl (fun _ => ?_) (fun _ => ?_)
          · refine tj_aload_n dL_law_2417 rfl ?_
            refine tj_iconst (0 : Int32) dL_law_2418 rfl ?_
            refine tj_lald dL_law_2419 (fun v341 => ?_)
            refine tj_iload dL_law_2420 rfl ?_
            refine tj_i2l dL_law_2422 ?_
            refine tj_lcmp dL_law_2423 ?_
            refine tj_if_eq 2429 dL_law_2424 rfl (fun _ => ?_) (fun _ => ?_)
            · refine tj_wk (L' := [some (va_rf l0), some (va_rf l1), some (va_rf l2), some (va_rf l3), some (va_rf l4), some (.int l5), none, none, none]) ⟨rfl, rfl, rfl, rfl, rfl, rfl, trivial⟩ ?_
              exact tj_L_law_J2429 d h28 l0 l1 l2 l3 l4 l5 _
            · refine tj_iconst (0 : Int32) dL_law_2427 rfl ?_
              exact tj_zpure rfl dL_law_2428
          · refine tj_wk (L' := [some (va_rf l0), some (va_rf l1), some (va_rf l2), some (va_rf l3), some (va_rf l4), some (.int l5), none, none, none]) ⟨rfl, rfl, rfl, rfl, rfl, rfl, trivial⟩ ?_
            exact tj_L_law_J2429 d h28 l0 l1 l2 l3 l4 l5 _
        · refine tj_iconst (0 : Int32) dL_law_2410 rfl ?_
          exact tj_zpure rfl dL_law_2411
      | 51, h1, h2 =>
        cases h1; cases h2
        refine tj_aload_n dL_law_2432 rfl ?_
        refine tj_callV (as := []) (rest := []) (st' := (fun r => [.int r])) (t := 0) (fun a e => by cases e; exact ct_X1_save d _) (by decide) rfl q3037 q3038 q3039 q96 q3040 rfl md_X1_save rfl (by decide) rfl (by decide) dL_law_2433 (fun _ => rfl) (fun r342 σ => ?_) (by decide)
        refine tj_aload_n dL_law_2436 rfl ?_
        refine tj_callV (as := []) (rest := [.int r342]) (st' := (fun r => [.int r, .int r342])) (t := 1) (fun a e => by cases e; exact ct_X4_save d _) (by decide) rfl q4319 q4320 q4321 q110 q4322 rfl md_X4_save rfl (by decide) rfl (by simp [rf_cat, cat_i, cat_l, cat_f, cat_d]) dL_law_2437 (fun _ => rfl) (fun r343 σ => ?_) (by decide)
        refine tj_icmp_eq 2489 dL_law_2440 rfl (fun _ => ?_) (fun _ => ?_)
        · exact tj_L_law_J2489 d h28 l0 l1 l2 l3 l4 l5 _
        · refine tj_iconst (0 : Int32) dL_law_2443 rfl ?_
          exact tj_zpure rfl dL_law_2444
      | 52, h1, h2 =>
        cases h1; cases h2
        refine tj_aload_n dL_law_2445 rfl ?_
        refine tj_aload_n dL_law_2446 rfl ?_
        refine tj_callSX (as := [va_rf l1, va_rf l3]) (rest := []) (st' := (fun r => [.int r])) (ct_X0_restore d l1 l3) q3862 q3863 q95 q3864 md_X0_restore rfl (by decide) rfl (by decide) dL_law_2447 (fun _ => rfl) (fun r344 σ => ?_) (by decide)
        refine tj_istore dL_law_2450 (by decide) rfl [some (va_rf l0), some (va_rf l1), some (va_rf l2), some (va_rf l3), some (va_rf l4), some (.int l5), some (.int r344), none, none] rfl ?_
        refine tj_aload_n dL_law_2452 rfl ?_
        refine tj_callV (as := []) (rest := []) (st' := (fun r => [.int r])) (t := 1) (fun a e => by cases e; exact ct_X4_restore d _) (by decide) rfl q4323 q4324 q4325 q110 q4326 rfl md_X4_restore rfl (by decide) rfl (by decide) dL_law_2453 (fun _ => rfl) (fun r345 σ => ?_) (by decide)
        refine tj_istore dL_law_2456 (by decide) rfl [some (va_rf l0), some (va_rf l1), some (va_rf l2), some (va_rf l3), some (va_rf l4), some (.int l5), some (.int r344), some (.int r345), none] rfl ?_
        refine tj_aload_n dL_law_2458 rfl ?_
        refine tj_callV (as := []) (rest := []) (st' := (fun r => [.int r])) (t := 1) (fun a e => by cases e; exact ct_X4_thrown d _) (by decide) rfl q3952 q3953 q3954 q110 q3955 rfl md_X4_thrown rfl (by decide) rfl (by decide) dL_law_2459 (fun _ => rfl) (fun r346 σ => ?_) (by decide)
        refine tj_iload dL_law_2462 rfl ?_
        refine tj_icmp_eq 2469 dL_law_2464 rfl (fun _ => ?_) (fun _ => ?_)
        · refine tj_iload dL_law_2469 rfl ?_
          refine tj_if_ne 2486 dL_law_2471 rfl (fun _ => ?_) (fun _ => ?_)
          · refine tj_aload_n dL_law_2474 rfl ?_
            refine tj_iconst (0 : Int32) dL_law_2475 rfl ?_
            refine tj_lald dL_law_2476 (fun v347 => ?_)
            refine tj_iload dL_law_2477 rfl ?_
            refine tj_i2l dL_law_2479 ?_
            refine tj_lcmp dL_law_2480 ?_
            refine tj_if_eq 2486 dL_law_2481 rfl (fun _ => ?_) (fun _ => ?_)
            · refine tj_wk (L' := [some (va_rf l0), some (va_rf l1), some (va_rf l2), some (va_rf l3), some (va_rf l4), some (.int l5), none, none, none]) ⟨rfl, rfl, rfl, rfl, rfl, rfl, trivial⟩ ?_
              exact tj_L_law_J2486 d h28 l0 l1 l2 l3 l4 l5 _
            · refine tj_iconst (0 : Int32) dL_law_2484 rfl ?_
              exact tj_zpure rfl dL_law_2485
          · refine tj_wk (L' := [some (va_rf l0), some (va_rf l1), some (va_rf l2), some (va_rf l3), some (va_rf l4), some (.int l5), none, none, none]) ⟨rfl, rfl, rfl, rfl, rfl, rfl, trivial⟩ ?_
            exact tj_L_law_J2486 d h28 l0 l1 l2 l3 l4 l5 _
        · refine tj_iconst (0 : Int32) dL_law_2467 rfl ?_
          exact tj_zpure rfl dL_law_2468
      | _ + 53, h1, _ => simp at h1
    · exact tj_L_law_J2489 d h28 l0 l1 l2 l3 l4 l5 _
theorem tj_L_law_L28 {E : tj_E} {X : tj_X} {n0 s0 : Nat} (d : Nat) : ∀ (k : Nat) (l0 : Option Nat) (l1 : Option Nat) (l2 : Option Nat) (l3 : Option Nat) (l4 : Option Nat) (l5 : Int32) (σ : hp_S), tj_T E X RX0 "law" code 9 (some .boolean) (d + 1) [] n0 s0 em_i σ 28 [some (va_rf l0), some (va_rf l1), some (va_rf l2), some (va_rf l3), some (va_rf l4), some (.int l5), none, none, none] [] (fn_L_law_L28 d k l0 l1 l2 l3 l4 l5) := by
  intro k
  induction k with
  | zero =>
    intro l0 l1 l2 l3 l4 l5 σ
    exact tj_fail
  | succ k ih =>
    intro l0 l1 l2 l3 l4 l5 σ
    exact tj_L_law_L28_b d ih l0 l1 l2 l3 l4 l5 σ
theorem tj_L_law_B0 {E : tj_E} {X : tj_X} {n0 s0 : Nat} (d : Nat) (v0 : Option Nat) (σ : hp_S) : tj_T E X RX0 "law" code 9 (some .boolean) (d + 1) [] n0 s0 em_i σ 0 [some (va_rf v0), none, none, none, none, none, none, none, none] [] (fn_L_law_B0 d v0) := by
  unfold fn_L_law_B0
  refine tj_new nw_L_8 dL_law_0 (fun a101 σ => ?_)
  refine tj_dup dL_law_3 (rf_cat _) ?_
  refine tj_callI (as := []) (rest := [va_rf (some a101)]) (st' := (fun _ => [va_rf (some a101)])) (fun a e => by cases e; exact ct_X1_init d _) q179 q180 q96 q181 rfl md_X1_init rfl (by decide) rfl (by simp [rf_cat, cat_i, cat_l, cat_f, cat_d]) dL_law_4 (fun _ => rfl) (fun _ σ => ?_) (by decide)
  refine tj_astore_n dL_law_7 (by decide) (rf_cat _) [some (va_rf v0), some (va_rf (some a101)), none, none, none, none, none, none, none] rfl ?_
  refine tj_new nw_L_138 dL_law_8 (fun a102 σ => ?_)
  refine tj_dup dL_law_11 (rf_cat _) ?_
  refine tj_callI (as := []) (rest := [va_rf (some a102)]) (st' := (fun _ => [va_rf (some a102)])) (fun a e => by cases e; exact ct_X4_init d _) q3875 q3876 q110 q3877 rfl md_X4_init rfl (by decide) rfl (by simp [rf_cat, cat_i, cat_l, cat_f, cat_d]) dL_law_12 (fun _ => rfl) (fun _ σ => ?_) (by decide)
  refine tj_astore_n dL_law_15 (by decide) (rf_cat _) [some (va_rf v0), some (va_rf (some a101)), some (va_rf (some a102)), none, none, none, none, none, none] rfl ?_
  refine tj_iconst (1 : Int32) dL_law_16 rfl ?_
  refine tj_newL q2951 dL_law_17 (fun a103 σ => ?_)
  refine tj_astore_n dL_law_19 (by decide) (rf_cat _) [some (va_rf v0), some (va_rf (some a101)), some (va_rf (some a102)), some (va_rf (some a103)), none, none, none, none, none] rfl ?_
  refine tj_iconst (1 : Int32) dL_law_20 rfl ?_
  refine tj_newD q4327 dL_law_21 (fun a104 σ => ?_)
  refine tj_astore dL_law_23 (by decide) (rf_cat _) [some (va_rf v0), some (va_rf (some a101)), some (va_rf (some a102)), some (va_rf (some a103)), some (va_rf (some a104)), none, none, none, none] rfl ?_
  refine tj_iconst (0 : Int32) dL_law_25 rfl ?_
  refine tj_istore dL_law_26 (by decide) (rf_cat _) [some (va_rf v0), some (va_rf (some a101)), some (va_rf (some a102)), some (va_rf (some a103)), some (va_rf (some a104)), some (.int (0 : Int32)), none, none, none] rfl ?_
  exact tj_L_law_L28 d mx_K v0 (some a101) (some a102) (some a103) (some a104) (0 : Int32) _
