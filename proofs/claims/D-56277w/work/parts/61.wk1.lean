set_option maxRecDepth 100000
theorem tj_X3_latestEnd_J54 {E : tj_E} {X : tj_X} {n0 s0 : Nat} (d : Nat) {b12 : Int32 → Int32 → Option Nat → mx_M Int32} (h12 : ∀ (l1 : Int32) (l2 : Int32) (l3 : Option Nat) (σ : hp_S), tj_T E X RX3 "latestEnd" cX3_latestEnd 5 (some .int) (d + 1) [] n0 s0 em_i σ 12 [none, some (.int l1), some (.int l2), some (va_rf l3), none] [] (b12 l1 l2 l3)) (l1 : Int32) (l3 : Option Nat) (p0 : Int32) (σ : hp_S) : tj_T E X RX3 "latestEnd" cX3_latestEnd 5 (some .int) (d + 1) [] n0 s0 em_i σ 54 [none, some (.int l1), none, some (va_rf l3), none] [.int p0] (fn_X3_latestEnd_J54 d b12 l1 l3 p0) := by
  unfold fn_X3_latestEnd_J54
  refine tj_istore_n dX3_latestEnd_54 (by decide) rfl [none, some (.int l1), some (.int p0), some (va_rf l3), none] rfl ?_
  refine tj_goto 12 dX3_latestEnd_55 rfl ?_
  exact h12 l1 p0 l3 _
theorem tj_X3_latestEnd_L12_b {E : tj_E} {X : tj_X} {n0 s0 : Nat} (d : Nat) {b12 : Int32 → Int32 → Option Nat → mx_M Int32} (h12 : ∀ (l1 : Int32) (l2 : Int32) (l3 : Option Nat) (σ : hp_S), tj_T E X RX3 "latestEnd" cX3_latestEnd 5 (some .int) (d + 1) [] n0 s0 em_i σ 12 [none, some (.int l1), some (.int l2), some (va_rf l3), none] [] (b12 l1 l2 l3)) (l1 : Int32) (l2 : Int32) (l3 : Option Nat) (σ : hp_S) : tj_T E X RX3 "latestEnd" cX3_latestEnd 5 (some .int) (d + 1) [] n0 s0 em_i σ 12 [none, some (.int l1), some (.int l2), some (va_rf l3), none] [] (fn_X3_latestEnd_L12_b d b12 l1 l2 l3) := by
  unfold fn_X3_latestEnd_L12_b
  refine tj_aload_n dX3_latestEnd_12 rfl ?_
  refine tj_callF (as := []) (rest := []) (st' := (fun r => [.int r])) (t := 17) (fun a e => by cases e; exact ct_J14_hasNext d _) (by decide) rfl q1769 q1060 q1062 q114 q1064 (ev_i 1 rfl) q1063 q1061 q1059 md_i1 rfl (by decide) rfl (by decide) dX3_latestEnd_13 (fun _ => rfl) (fun r101 σ => ?_) (by decide)
  refine tj_if_eq 58 dX3_latestEnd_18 rfl (fun _ => ?_) (fun _ => ?_)
  · refine tj_iload_n dX3_latestEnd_58 rfl ?_
    exact tj_iret dX3_latestEnd_59
  · refine tj_aload_n dX3_latestEnd_21 rfl ?_
    refine tj_callF (as := []) (rest := []) (st' := (fun r => [va_rf r])) (t := 17) (fun a e => by cases e; exact ct_J14_next d _) (by decide) rfl q1771 q1299 q1301 q114 q1303 (ev_i 2 rfl) q1302 q1300 q1059 md_i2 rfl (by decide) rfl (by decide) dX3_latestEnd_22 (fun _ => rfl) (fun r102 σ => ?_) (by decide)
    refine tj_cast (nm := "LionGate$Keeper") q1772 ca_LionGate_Keeper dX3_latestEnd_27 ?_
    refine tj_astore dX3_latestEnd_30 (by decide) (rf_cat _) [none, some (.int l1), some (.int l2), some (va_rf l3), some (va_rf r102)] rfl ?_
    refine tj_aload dX3_latestEnd_32 rfl ?_
    refine tj_iload_n dX3_latestEnd_34 rfl ?_
    refine tj_callV (as := [.int l1]) (rest := []) (st' := (fun r => [.int r])) (t := 4) (fun a e => by cases e; exact ct_X11_isOnDuty d _ _) (by decide) rfl q2457 q2458 q2459 q160 q2460 rfl md_X11_isOnDuty rfl (by decide) rfl (by decide) dX3_latestEnd_35 (fun _ => rfl) (fun r103 σ => ?_) (by decide)
    refine tj_if_eq 53 dX3_latestEnd_38 rfl (fun _ => ?_) (fun _ => ?_)
    · refine tj_iload_n dX3_latestEnd_53 rfl ?_
      refine tj_wk (L' := [none, some (.int l1), none, some (va_rf l3), none]) ⟨rfl, rfl, trivial⟩ ?_
      exact tj_X3_latestEnd_J54 d h12 l1 l3 l2 _
    · refine tj_iload_n dX3_latestEnd_41 rfl ?_
      refine tj_aload dX3_latestEnd_42 rfl ?_
      refine tj_getI fl_X3_66r dX3_latestEnd_44 (fun v104 => ?_)
      refine tj_mmax q2999 (by decide) dX3_latestEnd_47 ?_
      refine tj_goto 54 dX3_latestEnd_50 rfl ?_
      refine tj_wk (L' := [none, some (.int l1), none, some (va_rf l3), none]) ⟨rfl, rfl, trivial⟩ ?_
      exact tj_X3_latestEnd_J54 d h12 l1 l3 _ _
theorem tj_X3_latestEnd_L12 {E : tj_E} {X : tj_X} {n0 s0 : Nat} (d : Nat) : ∀ (k : Nat) (l1 : Int32) (l2 : Int32) (l3 : Option Nat) (σ : hp_S), tj_T E X RX3 "latestEnd" cX3_latestEnd 5 (some .int) (d + 1) [] n0 s0 em_i σ 12 [none, some (.int l1), some (.int l2), some (va_rf l3), none] [] (fn_X3_latestEnd_L12 d k l1 l2 l3) := by
  intro k
  induction k with
  | zero =>
    intro l1 l2 l3 σ
    exact tj_fail
  | succ k ih =>
    intro l1 l2 l3 σ
    exact tj_X3_latestEnd_L12_b d ih l1 l2 l3 σ
theorem tj_X3_latestEnd_B0 {E : tj_E} {X : tj_X} {n0 s0 : Nat} (d : Nat) (v0 : Option Nat) (v1 : Int32) (σ : hp_S) : tj_T E X RX3 "latestEnd" cX3_latestEnd 5 (some .int) (d + 1) [] n0 s0 em_i σ 0 [some (va_rf v0), some (.int v1), none, none, none] [] (fn_X3_latestEnd_B0 d v0 v1) := by
  unfold fn_X3_latestEnd_B0
  refine tj_iload_n dX3_latestEnd_0 rfl ?_
  refine tj_istore_n dX3_latestEnd_1 (by decide) rfl [some (va_rf v0), some (.int v1), some (.int v1), none, none] rfl ?_
  refine tj_aload_n dX3_latestEnd_2 rfl ?_
  refine tj_getR fl_X3_12r dX3_latestEnd_3 (fun v101 => ?_)
  refine tj_callF (as := []) (rest := []) (st' := (fun r => [va_rf r])) (t := 16) (fun a e => by cases e; exact ct_J4_iterator d _) (by decide) rfl q1761 q1764 q466 q103 q468 (ev_i 6 rfl) q467 q465 q1323 md_i6 rfl (by decide) rfl (by decide) dX3_latestEnd_6 (fun _ => rfl) (fun r102 σ => ?_) (by decide)
  refine tj_astore_n dX3_latestEnd_11 (by decide) rfl [some (va_rf v0), some (.int v1), some (.int v1), some (va_rf r102), none] rfl ?_
  refine tj_wk (L' := [none, some (.int v1), some (.int v1), some (va_rf r102), none]) ⟨rfl, rfl, rfl, trivial⟩ ?_
  exact tj_X3_latestEnd_L12 d mx_K v1 v1 r102 _
theorem ct_X3_latestEnd : ∀ (d : Nat) (v0 : Option Nat) (v1 : Int32), ct_ yX3_latestEnd (ws_ yX3_latestEnd cX3_latestEnd 5 (some .int)) d em_i [va_rf v0, .int v1] (fn_X3_latestEnd d v0 v1)
  | 0, _, _ => ct_fail
  | d + 1, v0, v1 => ct_of [(false, va_rf v0), (false, .int v1)] [some (va_rf v0), some (.int v1), none, none, none] (by decide) rfl ⟨rfl, (rf_cat _), ⟨rfl, rfl, trivial⟩⟩ (fun E X n0 s0 σ => tj_X3_latestEnd_B0 d v0 v1 σ)
theorem tj_X3_fewest_L5_b {E : tj_E} {X : tj_X} {n0 s0 : Nat} (d : Nat) {b5 : Option Nat → Int32 → Int32 → Int32 → mx_M Int32} (h5 : ∀ (l0 : Option Nat) (l2 : Int32) (l3 : Int32) (l4 : Int32) (σ : hp_S), tj_T E X RX3 "fewest" cX3_fewest 5 (some .int) (d + 1) [] n0 s0 em_i σ 5 [some (va_rf l0), none, some (.int l2), some (.int l3), some (.int l4)] [] (b5 l0 l2 l3 l4)) (l0 : Option Nat) (l2 : Int32) (l3 : Int32) (l4 : Int32) (σ : hp_S) : tj_T E X RX3 "fewest" cX3_fewest 5 (some .int) (d + 1) [] n0 s0 em_i σ 5 [some (va_rf l0), none, some (.int l2), some (.int l3), some (.int l4)] [] (fn_X3_fewest_L5_b d b5 l0 l2 l3 l4) := by
  unfold fn_X3_fewest_L5_b
  refine tj_iload dX3_fewest_5 rfl ?_
  refine tj_iload_n dX3_fewest_7 rfl ?_
  refine tj_icmp_ge 25 dX3_fewest_8 rfl (fun _ => ?_) (fun _ => ?_)
  · refine tj_iload_n dX3_fewest_25 rfl ?_
    exact tj_iret dX3_fewest_26
  · refine tj_aload_n dX3_fewest_11 rfl ?_
    refine tj_iload dX3_fewest_12 rfl ?_
    refine tj_callV (as := [.int l4]) (rest := []) (st' := (fun r => [.int r])) (t := 3) (fun a e => by cases e; exact ct_X3_latestEnd d _ _) (by decide) rfl q2995 q2997 qs41 q100 q2998 rfl md_X3_latestEnd rfl (by decide) rfl (by decide) dX3_fewest_14 (fun _ => rfl) (fun r101 σ => ?_) (by decide)
    refine tj_istore dX3_fewest_17 (by decide) rfl [some (va_rf l0), none, some (.int l2), some (.int l3), some (.int r101)] rfl ?_
    refine tj_iinc (1 : Int32) dX3_fewest_19 rfl rfl (by decide) rfl [some (va_rf l0), none, some (.int l2), some (.int (l3 + (1 : Int32))), some (.int r101)] rfl ?_
    refine tj_goto 5 dX3_fewest_22 rfl ?_
    exact h5 l0 l2 _ r101 _
theorem tj_X3_fewest_L5 {E : tj_E} {X : tj_X} {n0 s0 : Nat} (d : Nat) : ∀ (k : Nat) (l0 : Option Nat) (l2 : Int32) (l3 : Int32) (l4 : Int32) (σ : hp_S), tj_T E X RX3 "fewest" cX3_fewest 5 (some .int) (d + 1) [] n0 s0 em_i σ 5 [some (va_rf l0), none, some (.int l2), some (.int l3), some (.int l4)] [] (fn_X3_fewest_L5 d k l0 l2 l3 l4) := by
  intro k
  induction k with
  | zero =>
    intro l0 l2 l3 l4 σ
    exact tj_fail
  | succ k ih =>
    intro l0 l2 l3 l4 σ
    exact tj_X3_fewest_L5_b d ih l0 l2 l3 l4 σ
theorem tj_X3_fewest_B0 {E : tj_E} {X : tj_X} {n0 s0 : Nat} (d : Nat) (v0 : Option Nat) (v1 : Int32) (v2 : Int32) (σ : hp_S) : tj_T E X RX3 "fewest" cX3_fewest 5 (some .int) (d + 1) [] n0 s0 em_i σ 0 [some (va_rf v0), some (.int v1), some (.int v2), none, none] [] (fn_X3_fewest_B0 d v0 v1 v2) := by
  unfold fn_X3_fewest_B0
  refine tj_iconst (0 : Int32) dX3_fewest_0 rfl ?_
  refine tj_istore_n dX3_fewest_1 (by decide) rfl [some (va_rf v0), some (.int v1), some (.int v2), some (.int (0 : Int32)), none] rfl ?_
  refine tj_iload_n dX3_fewest_2 rfl ?_
  refine tj_istore dX3_fewest_3 (by decide) rfl [some (va_rf v0), some (.int v1), some (.int v2), some (.int (0 : Int32)), some (.int v1)] rfl ?_
  refine tj_wk (L' := [some (va_rf v0), none, some (.int v2), some (.int (0 : Int32)), some (.int v1)]) ⟨rfl, rfl, rfl, rfl, trivial⟩ ?_
  exact tj_X3_fewest_L5 d mx_K v0 v2 (0 : Int32) v1 _
theorem ct_X3_fewest : ∀ (d : Nat) (v0 : Option Nat) (v1 : Int32) (v2 : Int32), ct_ yX3_fewest (ws_ yX3_fewest cX3_fewest 5 (some .int)) d em_i [va_rf v0, .int v1, .int v2] (fn_X3_fewest d v0 v1 v2)
  | 0, _, _, _ => ct_fail
  | d + 1, v0, v1, v2 => ct_of [(false, va_rf v0), (false, .int v1), (false, .int v2)] [some (va_rf v0), some (.int v1), some (.int v2), none, none] (by decide) rfl ⟨rfl, (rf_cat _), ⟨rfl, rfl, ⟨rfl, rfl, trivial⟩⟩⟩ (fun E X n0 s0 σ => tj_X3_fewest_B0 d v0 v1 v2 σ)
theorem tj_X3_covers_J75 {E : tj_E} {X : tj_X} {n0 s0 : Nat} (d : Nat) {b6 : Option Nat → Int32 → Int32 → Int32 → Int32 → mx_M Int32} {b23 : Option Nat → Int32 → Int32 → Int32 → Int32 → Int32 → mx_M Int32} (h6 : ∀ (l0 : Option Nat) (l1 : Int32) (l3 : Int32) (l4 : Int32) (l5 : Int32) (σ : hp_S), tj_T E X RX3 "covers" cX3_covers 7 (some .boolean) (d + 1) [] n0 s0 em_i σ 6 [some (va_rf l0), some (.int l1), none, some (.int l3), some (.int l4), some (.int l5), none] [] (b6 l0 l1 l3 l4 l5)) (h23 : ∀ (l0 : Option Nat) (l1 : Int32) (l3 : Int32) (l4 : Int32) (l5 : Int32) (l6 : Int32) (σ : hp_S), tj_T E X RX3 "covers" cX3_covers 7 (some .boolean) (d + 1) [] n0 s0 em_i σ 23 [some (va_rf l0), some (.int l1), none, some (.int l3), some (.int l4), some (.int l5), some (.int l6)] [] (b23 l0 l1 l3 l4 l5 l6)) (l0 : Option Nat) (l1 : Int32) (l3 : Int32) (l5 : Int32) (l6 : Int32) (p0 : Int32) (σ : hp_S) : tj_T E X RX3 "covers" cX3_covers 7 (some .boolean) (d + 1) [] n0 s0 em_i σ 75 [some (va_rf l0), some (.int l1), none, some (.int l3), none, some (.int l5), some (.int l6)] [.int p0] (fn_X3_covers_J75 d b6 b23 l0 l1 l3 l5 l6 p0) := by
  unfold fn_X3_covers_J75
  refine tj_istore dX3_covers_75 (by decide) rfl [some (va_rf l0), some (.int l1), none, some (.int l3), some (.int p0), some (.int l5), some (.int l6)] rfl ?_
  refine tj_iinc (1 : Int32) dX3_covers_77 rfl rfl (by decide) rfl [some (va_rf l0), some (.int l1), none, some (.int l3), some (.int p0), some (.int l5), some (.int (l6 + (1 : Int32)))] rfl ?_
  refine tj_goto 23 dX3_covers_80 rfl ?_
  exact h23 l0 l1 l3 p0 l5 _ _
theorem tj_X3_covers_J73 {E : tj_E} {X : tj_X} {n0 s0 : Nat} (d : Nat) {b6 : Option Nat → Int32 → Int32 → Int32 → Int32 → mx_M Int32} {b23 : Option Nat → Int32 → Int32 → Int32 → Int32 → Int32 → mx_M Int32} (h6 : ∀ (l0 : Option Nat) (l1 : Int32) (l3 : Int32) (l4 : Int32) (l5 : Int32) (σ : hp_S), tj_T E X RX3 "covers" cX3_covers 7 (some .boolean) (d + 1) [] n0 s0 em_i σ 6 [some (va_rf l0), some (.int l1), none, some (.int l3), some (.int l4), some (.int l5), none] [] (b6 l0 l1 l3 l4 l5)) (h23 : ∀ (l0 : Option Nat) (l1 : Int32) (l3 : Int32) (l4 : Int32) (l5 : Int32) (l6 : Int32) (σ : hp_S), tj_T E X RX3 "covers" cX3_covers 7 (some .boolean) (d + 1) [] n0 s0 em_i σ 23 [some (va_rf l0), some (.int l1), none, some (.int l3), some (.int l4), some (.int l5), some (.int l6)] [] (b23 l0 l1 l3 l4 l5 l6)) (l0 : Option Nat) (l1 : Int32) (l3 : Int32) (l4 : Int32) (l5 : Int32) (l6 : Int32) (σ : hp_S) : tj_T E X RX3 "covers" cX3_covers 7 (some .boolean) (d + 1) [] n0 s0 em_i σ 73 [some (va_rf l0), some (.int l1), none, some (.int l3), some (.int l4), some (.int l5), some (.int l6)] [] (fn_X3_covers_J73 d b6 b23 l0 l1 l3 l4 l5 l6) := by
  unfold fn_X3_covers_J73
  refine tj_iload dX3_covers_73 rfl ?_
  refine tj_wk (L' := [some (va_rf l0), some (.int l1), none, some (.int l3), none, some (.int l5), some (.int l6)]) ⟨rfl, rfl, rfl, rfl, rfl, trivial⟩ ?_
  exact tj_X3_covers_J75 d h6 h23 l0 l1 l3 l5 l6 l4 _
theorem tj_X3_covers_L23_b {E : tj_E} {X : tj_X} {n0 s0 : Nat} (d : Nat) {b6 : Option Nat → Int32 → Int32 → Int32 → Int32 → mx_M Int32} {b23 : Option Nat → Int32 → Int32 → Int32 → Int32 → Int32 → mx_M Int32} (h6 : ∀ (l0 : Option Nat) (l1 : Int32) (l3 : Int32) (l4 : Int32) (l5 : Int32) (σ : hp_S), tj_T E X RX3 "covers" cX3_covers 7 (some .boolean) (d + 1) [] n0 s0 em_i σ 6 [some (va_rf l0), some (.int l1), none, some (.int l3), some (.int l4), some (.int l5), none] [] (b6 l0 l1 l3 l4 l5)) (h23 : ∀ (l0 : Option Nat) (l1 : Int32) (l3 : Int32) (l4 : Int32) (l5 : Int32) (l6 : Int32) (σ : hp_S), tj_T E X RX3 "covers" cX3_covers 7 (some .boolean) (d + 1) [] n0 s0 em_i σ 23 [some (va_rf l0), some (.int l1), none, some (.int l3), some (.int l4), some (.int l5), some (.int l6)] [] (b23 l0 l1 l3 l4 l5 l6)) (l0 : Option Nat) (l1 : Int32) (l3 : Int32) (l4 : Int32) (l5 : Int32) (l6 : Int32) (σ : hp_S) : tj_T E X RX3 "covers" cX3_covers 7 (some .boolean) (d + 1) [] n0 s0 em_i σ 23 [some (va_rf l0), some (.int l1), none, some (.int l3), some (.int l4), some (.int l5), some (.int l6)] [] (fn_X3_covers_L23_b d b6 b23 l0 l1 l3 l4 l5 l6) := by
  unfold fn_X3_covers_L23_b
  refine tj_iload dX3_covers_23 rfl ?_
  refine tj_aload_n dX3_covers_25 rfl ?_
  refine tj_getR fl_X3_12r dX3_covers_26 (fun v101 => ?_)
  refine tj_callF (as := []) (rest := [.int l6]) (st' := (fun r => [.int r, .int l6])) (t := 16) (fun a e => by cases e; exact ct_J4_size d _) (by decide) rfl q2486 q2143 q1048 q103 q1049 (ev_i 9 rfl) q2145 q2144 q1323 md_i9 rfl (by decide) rfl (by simp [rf_cat, cat_i, cat_l, cat_f, cat_d]) dX3_covers_29 (fun _ => rfl) (fun r102 σ => ?_) (by decide)
  refine tj_icmp_ge 83 dX3_covers_34 rfl (fun _ => ?_) (fun _ => ?_)
  · refine tj_iinc (1 : Int32) dX3_covers_83 rfl rfl (by decide) rfl [some (va_rf l0), some (.int l1), none, some (.int l3), some (.int l4), some (.int (l5 + (1 : Int32))), some (.int l6)] rfl ?_
    refine tj_goto 6 dX3_covers_86 rfl ?_
    refine tj_wk (L' := [some (va_rf l0), some (.int l1), none, some (.int l3), some (.int l4), some (.int (l5 + (1 : Int32))), none]) ⟨rfl, rfl, rfl, rfl, rfl, trivial⟩ ?_
    exact h6 l0 l1 l3 l4 _ _
  · refine tj_iload_n dX3_covers_37 rfl ?_
    refine tj_iload dX3_covers_38 rfl ?_
    refine tj_ishr dX3_covers_40 ?_
    refine tj_iconst (1 : Int32) dX3_covers_41 rfl ?_
    refine tj_iand dX3_covers_42 ?_
    refine tj_iconst (1 : Int32) dX3_covers_43 rfl ?_
    refine tj_icmp_ne 73 dX3_covers_44 rfl (fun _ => ?_) (fun _ => ?_)
    · refine tj_aload_n dX3_covers_47 rfl ?_
      refine tj_getR fl_X3_12r dX3_covers_48 (fun v103 => ?_)
      refine tj_iload dX3_covers_51 rfl ?_
      refine tj_callF (as := [.int l6]) (rest := []) (st' := (fun r => [va_rf r])) (t := 16) (fun a e => by cases e; exact ct_J4_get d _ _) (by decide) rfl q3011 q1324 q1120 q103 q1121 (ev_i 3 rfl) q1326 q1325 q1323 md_i3 rfl (by decide) rfl (by decide) dX3_covers_53 (fun _ => rfl) (fun r104 σ => ?_) (by decide)
      refine tj_cast (nm := "LionGate$Keeper") q1772 ca_LionGate_Keeper dX3_covers_58 ?_
      refine tj_iload dX3_covers_61 rfl ?_
      refine tj_callV (as := [.int l5]) (rest := []) (st' := (fun r => [.int r])) (t := 4) (fun a e => by cases e; exact ct_X11_isOnDuty d _ _) (by decide) rfl q2457 q2458 q2459 q160 q2460 rfl md_X11_isOnDuty rfl (by decide) rfl (by decide) dX3_covers_63 (fun _ => rfl) (fun r105 σ => ?_) (by decide)
      refine tj_if_eq 73 dX3_covers_66 rfl (fun _ => ?_) (fun _ => ?_)
      · exact tj_X3_covers_J73 d h6 h23 l0 l1 l3 l4 l5 l6 _
      · refine tj_iconst (0 : Int32) dX3_covers_69 rfl ?_
        refine tj_goto 75 dX3_covers_70 rfl ?_
        refine tj_wk (L' := [some (va_rf l0), some (.int l1), none, some (.int l3), none, some (.int l5), some (.int l6)]) ⟨rfl, rfl, rfl, rfl, rfl, trivial⟩ ?_
        exact tj_X3_covers_J75 d h6 h23 l0 l1 l3 l5 l6 (0 : Int32) _
    · exact tj_X3_covers_J73 d h6 h23 l0 l1 l3 l4 l5 l6 _
theorem tj_X3_covers_L23 {E : tj_E} {X : tj_X} {n0 s0 : Nat} (d : Nat) {b6 : Option Nat → Int32 → Int32 → Int32 → Int32 → mx_M Int32} (h6 : ∀ (l0 : Option Nat) (l1 : Int32) (l3 : Int32) (l4 : Int32) (l5 : Int32) (σ : hp_S), tj_T E X RX3 "covers" cX3_covers 7 (some .boolean) (d + 1) [] n0 s0 em_i σ 6 [some (va_rf l0), some (.int l1), none, some (.int l3), some (.int l4), some (.int l5), none] [] (b6 l0 l1 l3 l4 l5)) : ∀ (k : Nat) (l0 : Option Nat) (l1 : Int32) (l3 : Int32) (l4 : Int32) (l5 : Int32) (l6 : Int32) (σ : hp_S), tj_T E X RX3 "covers" cX3_covers 7 (some .boolean) (d + 1) [] n0 s0 em_i σ 23 [some (va_rf l0), some (.int l1), none, some (.int l3), some (.int l4), some (.int l5), some (.int l6)] [] (fn_X3_covers_L23 d b6 k l0 l1 l3 l4 l5 l6) := by
  intro k
  induction k with
  | zero =>
    intro l0 l1 l3 l4 l5 l6 σ
    exact tj_fail
  | succ k ih =>
    intro l0 l1 l3 l4 l5 l6 σ
    exact tj_X3_covers_L23_b d h6 ih l0 l1 l3 l4 l5 l6 σ
theorem tj_X3_covers_J89 {E : tj_E} {X : tj_X} {n0 s0 : Nat} (d : Nat) (l4 : Int32) (σ : hp_S) : tj_T E X RX3 "covers" cX3_covers 7 (some .boolean) (d + 1) [] n0 s0 em_i σ 89 [none, none, none, none, some (.int l4), none, none] [] (fn_X3_covers_J89 d l4) := by
  unfold fn_X3_covers_J89
  refine tj_iload dX3_covers_89 rfl ?_
  refine tj_if_ne 98 dX3_covers_91 rfl (fun _ => ?_) (fun _ => ?_)
  · refine tj_iconst (1 : Int32) dX3_covers_94 rfl ?_
    refine tj_goto 99 dX3_covers_95 rfl ?_
    exact tj_zpure rfl dX3_covers_99
  · refine tj_iconst (0 : Int32) dX3_covers_98 rfl ?_
    exact tj_zpure rfl dX3_covers_99
theorem tj_X3_covers_L6_b {E : tj_E} {X : tj_X} {n0 s0 : Nat} (d : Nat) {b6 : Option Nat → Int32 → Int32 → Int32 → Int32 → mx_M Int32} (h6 : ∀ (l0 : Option Nat) (l1 : Int32) (l3 : Int32) (l4 : Int32) (l5 : Int32) (σ : hp_S), tj_T E X RX3 "covers" cX3_covers 7 (some .boolean) (d + 1) [] n0 s0 em_i σ 6 [some (va_rf l0), some (.int l1), none, some (.int l3), some (.int l4), some (.int l5), none] [] (b6 l0 l1 l3 l4 l5)) (l0 : Option Nat) (l1 : Int32) (l3 : Int32) (l4 : Int32) (l5 : Int32) (σ : hp_S) : tj_T E X RX3 "covers" cX3_covers 7 (some .boolean) (d + 1) [] n0 s0 em_i σ 6 [some (va_rf l0), some (.int l1), none, some (.int l3), some (.int l4), some (.int l5), none] [] (fn_X3_covers_L6_b d b6 l0 l1 l3 l4 l5) := by
  unfold fn_X3_covers_L6_b
  refine tj_iload dX3_covers_6 rfl ?_
  refine tj_iload_n dX3_covers_8 rfl ?_
  refine tj_icmp_ge 89 dX3_covers_9 rfl (fun _ => ?_) (fun _ => ?_)
  · refine tj_wk (L' := [none, none, none, none, some (.int l4), none, none]) ⟨rfl, trivial⟩ ?_
    exact tj_X3_covers_J89 d l4 _
  · refine tj_iload dX3_covers_12 rfl ?_
    refine tj_if_ne 89 dX3_covers_14 rfl (fun _ => ?_) (fun _ => ?_)
    · refine tj_iconst (1 : Int32) dX3_covers_17 rfl ?_
      refine tj_istore dX3_covers_18 (by decide) rfl [some (va_rf l0), some (.int l1), none, some (.int l3), some (.int (1 : Int32)), some (.int l5), none] rfl ?_
      refine tj_iconst (0 : Int32) dX3_covers_20 rfl ?_
      refine tj_istore dX3_covers_21 (by decide) rfl [some (va_rf l0), some (.int l1), none, some (.int l3), some (.int (1 : Int32)), some (.int l5), some (.int (0 : Int32))] rfl ?_
      exact tj_X3_covers_L23 d h6 mx_K l0 l1 l3 (1 : Int32) l5 (0 : Int32) _
    · refine tj_wk (L' := [none, none, none, none, some (.int l4), none, none]) ⟨rfl, trivial⟩ ?_
      exact tj_X3_covers_J89 d l4 _
theorem tj_X3_covers_L6 {E : tj_E} {X : tj_X} {n0 s0 : Nat} (d : Nat) : ∀ (k : Nat) (l0 : Option Nat) (l1 : Int32) (l3 : Int32) (l4 : Int32) (l5 : Int32) (σ : hp_S), tj_T E X RX3 "covers" cX3_covers 7 (some .boolean) (d + 1) [] n0 s0 em_i σ 6 [some (va_rf l0), some (.int l1), none, some (.int l3), some (.int l4), some (.int l5), none] [] (fn_X3_covers_L6 d k l0 l1 l3 l4 l5) := by
  intro k
  induction k with
  | zero =>
    intro l0 l1 l3 l4 l5 σ
    exact tj_fail
  | succ k ih =>
    intro l0 l1 l3 l4 l5 σ
    exact tj_X3_covers_L6_b d ih l0 l1 l3 l4 l5 σ
theorem tj_X3_covers_B0 {E : tj_E} {X : tj_X} {n0 s0 : Nat} (d : Nat) (v0 : Option Nat) (v1 : Int32) (v2 : Int32) (v3 : Int32) (σ : hp_S) : tj_T E X RX3 "covers" cX3_covers 7 (some .boolean) (d + 1) [] n0 s0 em_i σ 0 [some (va_rf v0), some (.int v1), some (.int v2), some (.int v3), none, none, none] [] (fn_X3_covers_B0 d v0 v1 v2 v3) := by
  unfold fn_X3_covers_B0
  refine tj_iconst (0 : Int32) dX3_covers_0 rfl ?_
  refine tj_istore dX3_covers_1 (by decide) rfl [some (va_rf v0), some (.int v1), some (.int v2), some (.int v3), some (.int (0 : Int32)), none, none] rfl ?_
  refine tj_iload_n dX3_covers_3 rfl ?_
  refine tj_istore dX3_covers_4 (by decide) rfl [some (va_rf v0), some (.int v1), some (.int v2), some (.int v3), some (.int (0 : Int32)), some (.int v2), none] rfl ?_
  refine tj_wk (L' := [some (va_rf v0), some (.int v1), none, some (.int v3), some (.int (0 : Int32)), some (.int v2), none]) ⟨rfl, rfl, rfl, rfl, rfl, trivial⟩ ?_
  exact tj_X3_covers_L6 d mx_K v0 v1 v3 (0 : Int32) v2 _
theorem ct_X3_covers : ∀ (d : Nat) (v0 : Option Nat) (v1 : Int32) (v2 : Int32) (v3 : Int32), ct_ yX3_covers (ws_ yX3_covers cX3_covers 7 (some .boolean)) d em_i [va_rf v0, .int v1, .int v2, .int v3] (fn_X3_covers d v0 v1 v2 v3)
  | 0, _, _, _, _ => ct_fail
  | d + 1, v0, v1, v2, v3 => ct_of [(false, va_rf v0), (false, .int v1), (false, .int v2), (false, .int v3)] [some (va_rf v0), some (.int v1), some (.int v2), some (.int v3), none, none, none] (by decide) rfl ⟨rfl, (rf_cat _), ⟨rfl, rfl, ⟨rfl, rfl, ⟨rfl, rfl, trivial⟩⟩⟩⟩ (fun E X n0 s0 σ => tj_X3_covers_B0 d v0 v1 v2 v3 σ)
theorem tj_X3_fewestBySets_J63 {E : tj_E} {X : tj_X} {n0 s0 : Nat} (d : Nat) {b6 : Option Nat → Int32 → Int32 → Int32 → Int32 → mx_M Int32} (h6 : ∀ (l0 : Option Nat) (l1 : Int32) (l2 : Int32) (l3 : Int32) (l4 : Int32) (σ : hp_S), tj_T E X RX3 "fewestBySets" cX3_fewestBySets 6 (some .int) (d + 1) [] n0 s0 em_i σ 6 [some (va_rf l0), some (.int l1), some (.int l2), some (.int l3), some (.int l4), none] [] (b6 l0 l1 l2 l3 l4)) (l0 : Option Nat) (l1 : Int32) (l2 : Int32) (l4 : Int32) (p0 : Int32) (σ : hp_S) : tj_T E X RX3 "fewestBySets" cX3_fewestBySets 6 (some .int) (d + 1) [] n0 s0 em_i σ 63 [some (va_rf l0), some (.int l1), some (.int l2), none, some (.int l4), none] [.int p0] (fn_X3_fewestBySets_J63 d b6 l0 l1 l2 l4 p0) := by
  unfold fn_X3_fewestBySets_J63
  refine tj_istore_n dX3_fewestBySets_63 (by decide) rfl [some (va_rf l0), some (.int l1), some (.int l2), some (.int p0), some (.int l4), none] rfl ?_
  refine tj_iinc (1 : Int32) dX3_fewestBySets_64 rfl rfl (by decide) rfl [some (va_rf l0), some (.int l1), some (.int l2), some (.int p0), some (.int (l4 + (1 : Int32))), none] rfl ?_
  refine tj_goto 6 dX3_fewestBySets_67 rfl ?_
  exact h6 l0 l1 l2 p0 _ _
theorem tj_X3_fewestBySets_J47 {E : tj_E} {X : tj_X} {n0 s0 : Nat} (d : Nat) {b6 : Option Nat → Int32 → Int32 → Int32 → Int32 → mx_M Int32} (h6 : ∀ (l0 : Option Nat) (l1 : Int32) (l2 : Int32) (l3 : Int32) (l4 : Int32) (σ : hp_S), tj_T E X RX3 "fewestBySets" cX3_fewestBySets 6 (some .int) (d + 1) [] n0 s0 em_i σ 6 [some (va_rf l0), some (.int l1), some (.int l2), some (.int l3), some (.int l4), none] [] (b6 l0 l1 l2 l3 l4)) (l0 : Option Nat) (l1 : Int32) (l2 : Int32) (l3 : Int32) (l4 : Int32) (p0 : Int32) (σ : hp_S) : tj_T E X RX3 "fewestBySets" cX3_fewestBySets 6 (some .int) (d + 1) [] n0 s0 em_i σ 47 [some (va_rf l0), some (.int l1), some (.int l2), some (.int l3), some (.int l4), none] [.int p0] (fn_X3_fewestBySets_J47 d b6 l0 l1 l2 l3 l4 p0) := by
  unfold fn_X3_fewestBySets_J47
  refine tj_istore dX3_fewestBySets_47 (by decide) rfl [some (va_rf l0), some (.int l1), some (.int l2), some (.int l3), some (.int l4), some (.int p0)] rfl ?_
  refine tj_iload dX3_fewestBySets_49 rfl ?_
  refine tj_if_eq 62 dX3_fewestBySets_51 rfl (fun _ => ?_) (fun _ => ?_)
  · refine tj_iload_n dX3_fewestBySets_62 rfl ?_
    refine tj_wk (L' := [some (va_rf l0), some (.int l1), some (.int l2), none, some (.int l4), none]) ⟨rfl, rfl, rfl, rfl, trivial⟩ ?_
    exact tj_X3_fewestBySets_J63 d h6 l0 l1 l2 l4 l3 _
  · refine tj_iload dX3_fewestBySets_54 rfl ?_
    refine tj_callS (as := [.int l4]) (rest := []) (st' := (fun r => [.int r])) (ct_J27_bitCount d l4) q3005 q2857 q128 q2858 md_J27_bitCount rfl (by decide) rfl (by decide) dX3_fewestBySets_56 (fun _ => rfl) (fun r101 σ => ?_) (by decide)
    refine tj_goto 63 dX3_fewestBySets_59 rfl ?_
    refine tj_wk (L' := [some (va_rf l0), some (.int l1), some (.int l2), none, some (.int l4), none]) ⟨rfl, rfl, rfl, rfl, trivial⟩ ?_
    exact tj_X3_fewestBySets_J63 d h6 l0 l1 l2 l4 r101 _
theorem tj_X3_fewestBySets_J46 {E : tj_E} {X : tj_X} {n0 s0 : Nat} (d : Nat) {b6 : Option Nat → Int32 → Int32 → Int32 → Int32 → mx_M Int32} (h6 : ∀ (l0 : Option Nat) (l1 : Int32) (l2 : Int32) (l3 : Int32) (l4 : Int32) (σ : hp_S), tj_T E X RX3 "fewestBySets" cX3_fewestBySets 6 (some .int) (d + 1) [] n0 s0 em_i σ 6 [some (va_rf l0), some (.int l1), some (.int l2), some (.int l3), some (.int l4), none] [] (b6 l0 l1 l2 l3 l4)) (l0 : Option Nat) (l1 : Int32) (l2 : Int32) (l3 : Int32) (l4 : Int32) (σ : hp_S) : tj_T E X RX3 "fewestBySets" cX3_fewestBySets 6 (some .int) (d + 1) [] n0 s0 em_i σ 46 [some (va_rf l0), some (.int l1), some (.int l2), some (.int l3), some (.int l4), none] [] (fn_X3_fewestBySets_J46 d b6 l0 l1 l2 l3 l4) := by
  unfold fn_X3_fewestBySets_J46
  refine tj_iconst (0 : Int32) dX3_fewestBySets_46 rfl ?_
  exact tj_X3_fewestBySets_J47 d h6 l0 l1 l2 l3 l4 (0 : Int32) _
theorem tj_X3_fewestBySets_L6_b {E : tj_E} {X : tj_X} {n0 s0 : Nat} (d : Nat) {b6 : Option Nat → Int32 → Int32 → Int32 → Int32 → mx_M Int32} (h6 : ∀ (l0 : Option Nat) (l1 : Int32) (l2 : Int32) (l3 : Int32) (l4 : Int32) (σ : hp_S), tj_T E X RX3 "fewestBySets" cX3_fewestBySets 6 (some .int) (d + 1) [] n0 s0 em_i σ 6 [some (va_rf l0), some (.int l1), some (.int l2), some (.int l3), some (.int l4), none] [] (b6 l0 l1 l2 l3 l4)) (l0 : Option Nat) (l1 : Int32) (l2 : Int32) (l3 : Int32) (l4 : Int32) (σ : hp_S) : tj_T E X RX3 "fewestBySets" cX3_fewestBySets 6 (some .int) (d + 1) [] n0 s0 em_i σ 6 [some (va_rf l0), some (.int l1), some (.int l2), some (.int l3), some (.int l4), none] [] (fn_X3_fewestBySets_L6_b d b6 l0 l1 l2 l3 l4) := by
  unfold fn_X3_fewestBySets_L6_b
  refine tj_iload dX3_fewestBySets_6 rfl ?_
  refine tj_iconst (1 : Int32) dX3_fewestBySets_8 rfl ?_
  refine tj_aload_n dX3_fewestBySets_9 rfl ?_
  refine tj_getR fl_X3_12r dX3_fewestBySets_10 (fun v101 => ?_)
  refine tj_callF (as := []) (rest := [.int (1 : Int32), .int l4]) (st' := (fun r => [.int r, .int (1 : Int32), .int l4])) (t := 16) (fun a e => by cases e; exact ct_J4_size d _) (by decide) rfl q2486 q2143 q1048 q103 q1049 (ev_i 9 rfl) q2145 q2144 q1323 md_i9 rfl (by decide) rfl (by simp [rf_cat, cat_i, cat_l, cat_f, cat_d]) dX3_fewestBySets_13 (fun _ => rfl) (fun r102 σ => ?_) (by decide)
  refine tj_ishl dX3_fewestBySets_18 ?_
  refine tj_icmp_ge 70 dX3_fewestBySets_19 rfl (fun _ => ?_) (fun _ => ?_)
  · refine tj_iload_n dX3_fewestBySets_70 rfl ?_
    exact tj_iret dX3_fewestBySets_71
  · refine tj_iload dX3_fewestBySets_22 rfl ?_
    refine tj_callS (as := [.int l4]) (rest := []) (st' := (fun r => [.int r])) (ct_J27_bitCount d l4) q3005 q2857 q128 q2858 md_J27_bitCount rfl (by decide) rfl (by decide) dX3_fewestBySets_24 (fun _ => rfl) (fun r103 σ => ?_) (by decide)
    refine tj_iload_n dX3_fewestBySets_27 rfl ?_
    refine tj_icmp_ge 46 dX3_fewestBySets_28 rfl (fun _ => ?_) (fun _ => ?_)
    · exact tj_X3_fewestBySets_J46 d h6 l0 l1 l2 l3 l4 _
    · refine tj_aload_n dX3_fewestBySets_31 rfl ?_
      refine tj_iload dX3_fewestBySets_32 rfl ?_
      refine tj_iload_n dX3_fewestBySets_34 rfl ?_
      refine tj_iload_n dX3_fewestBySets_35 rfl ?_
      refine tj_callV (as := [.int l4, .int l1, .int l2]) (rest := []) (st' := (fun r => [.int r])) (t := 3) (fun a e => by cases e; exact ct_X3_covers d _ _ _ _) (by decide) rfl q3006 q3008 qs42 q100 q3009 rfl md_X3_covers rfl (by decide) rfl (by decide) dX3_fewestBySets_36 (fun _ => rfl) (fun r104 σ => ?_) (by decide)
      refine tj_if_eq 46 dX3_fewestBySets_39 rfl (fun _ => ?_) (fun _ => ?_)
      · exact tj_X3_fewestBySets_J46 d h6 l0 l1 l2 l3 l4 _
      · refine tj_iconst (1 : Int32) dX3_fewestBySets_42 rfl ?_
        refine tj_goto 47 dX3_fewestBySets_43 rfl ?_
        exact tj_X3_fewestBySets_J47 d h6 l0 l1 l2 l3 l4 (1 : Int32) _
theorem tj_X3_fewestBySets_L6 {E : tj_E} {X : tj_X} {n0 s0 : Nat} (d : Nat) : ∀ (k : Nat) (l0 : Option Nat) (l1 : Int32) (l2 : Int32) (l3 : Int32) (l4 : Int32) (σ : hp_S), tj_T E X RX3 "fewestBySets" cX3_fewestBySets 6 (some .int) (d + 1) [] n0 s0 em_i σ 6 [some (va_rf l0), some (.int l1), some (.int l2), some (.int l3), some (.int l4), none] [] (fn_X3_fewestBySets_L6 d k l0 l1 l2 l3 l4) := by
  intro k
  induction k with
  | zero =>
    intro l0 l1 l2 l3 l4 σ
    exact tj_fail
  | succ k ih =>
    intro l0 l1 l2 l3 l4 σ
    exact tj_X3_fewestBySets_L6_b d ih l0 l1 l2 l3 l4 σ
theorem tj_X3_fewestBySets_B0 {E : tj_E} {X : tj_X} {n0 s0 : Nat} (d : Nat) (v0 : Option Nat) (v1 : Int32) (v2 : Int32) (σ : hp_S) : tj_T E X RX3 "fewestBySets" cX3_fewestBySets 6 (some .int) (d + 1) [] n0 s0 em_i σ 0 [some (va_rf v0), some (.int v1), some (.int v2), none, none, none] [] (fn_X3_fewestBySets_B0 d v0 v1 v2) := by
  unfold fn_X3_fewestBySets_B0
  refine tj_ldc (v := (1000000 : Int32)) dX3_fewestBySets_0 q3004 ?_
  refine tj_istore_n dX3_fewestBySets_2 (by decide) rfl [some (va_rf v0), some (.int v1), some (.int v2), some (.int (1000000 : Int32)), none, none] rfl ?_
  refine tj_iconst (1 : Int32) dX3_fewestBySets_3 rfl ?_
  refine tj_istore dX3_fewestBySets_4 (by decide) rfl [some (va_rf v0), some (.int v1), some (.int v2), some (.int (1000000 : Int32)), some (.int (1 : Int32)), none] rfl ?_
  exact tj_X3_fewestBySets_L6 d mx_K v0 v1 v2 (1000000 : Int32) (1 : Int32) _
theorem ct_X3_fewestBySets : ∀ (d : Nat) (v0 : Option Nat) (v1 : Int32) (v2 : Int32), ct_ yX3_fewestBySets (ws_ yX3_fewestBySets cX3_fewestBySets 6 (some .int)) d em_i [va_rf v0, .int v1, .int v2] (fn_X3_fewestBySets d v0 v1 v2)
  | 0, _, _, _ => ct_fail
  | d + 1, v0, v1, v2 => ct_of [(false, va_rf v0), (false, .int v1), (false, .int v2)] [some (va_rf v0), some (.int v1), some (.int v2), none, none, none] (by decide) rfl ⟨rfl, (rf_cat _), ⟨rfl, rfl, ⟨rfl, rfl, trivial⟩⟩⟩ (fun E X n0 s0 σ => tj_X3_fewestBySets_B0 d v0 v1 v2 σ)
theorem tj_J52_wordIndex_B0 {E : tj_E} {X : tj_X} {n0 s0 : Nat} (d : Nat) (v0 : Int32) (σ : hp_S) : tj_T E X RJ52 "wordIndex" cJ52_wordIndex 1 (some .int) (d + 1) [] n0 s0 em_i σ 0 [some (.int v0)] [] (fn_J52_wordIndex_B0 d v0) := by
  unfold fn_J52_wordIndex_B0
  refine tj_iload_n dJ52_wordIndex_0 rfl ?_
  refine tj_bipush (6 : Int32) dJ52_wordIndex_1 (by decide) ?_
  refine tj_ishr dJ52_wordIndex_3 ?_
  exact tj_iret dJ52_wordIndex_4
theorem ct_J52_wordIndex : ∀ (d : Nat) (v0 : Int32), ct_ yJ52_wordIndex (ws_ yJ52_wordIndex cJ52_wordIndex 1 (some .int)) d em_i [.int v0] (fn_J52_wordIndex d v0)
  | 0, _ => ct_fail
  | d + 1, v0 => ct_of [(false, .int v0)] [some (.int v0)] (by decide) rfl ⟨rfl, rfl, trivial⟩ (fun E X n0 s0 σ => tj_J52_wordIndex_B0 d v0 σ)
theorem tj_J52_initWords_B0 {E : tj_E} {X : tj_X} {n0 s0 : Nat} (d : Nat) (v0 : Option Nat) (v1 : Int32) (σ : hp_S) : tj_T E X RJ52 "initWords" cJ52_initWords 2 none (d + 1) [] n0 s0 em_v σ 0 [some (va_rf v0), some (.int v1)] [] (fn_J52_initWords_B0 d v0 v1) := by
  unfold fn_J52_initWords_B0
  refine tj_aload_n dJ52_initWords_0 rfl ?_
  refine tj_iload_n dJ52_initWords_1 rfl ?_
  refine tj_iconst (1 : Int32) dJ52_initWords_2 rfl ?_
  refine tj_isub dJ52_initWords_3 ?_
  refine tj_callS (as := [.int (v1 - (1 : Int32))]) (rest := [va_rf v0]) (st' := (fun r => [.int r, va_rf v0])) (ct_J52_wordIndex d _) q2938 q2939 q166 q2940 md_J52_wordIndex rfl (by decide) rfl (by simp [rf_cat, cat_i, cat_l, cat_f, cat_d]) dJ52_initWords_4 (fun _ => rfl) (fun r101 σ => ?_) (by decide)
  refine tj_iconst (1 : Int32) dJ52_initWords_7 rfl ?_
  refine tj_iadd dJ52_initWords_8 ?_
  refine tj_newL q2951 dJ52_initWords_9 (fun a102 σ => ?_)
  refine tj_put fl_J52_11 (nar_rf _) (fit_rfa _) dJ52_initWords_11 (fun σ => ?_)
  exact tj_vret dJ52_initWords_14
theorem ct_J52_initWords : ∀ (d : Nat) (v0 : Option Nat) (v1 : Int32), ct_ yJ52_initWords (ws_ yJ52_initWords cJ52_initWords 2 none) d em_v [va_rf v0, .int v1] (fn_J52_initWords d v0 v1)
  | 0, _, _ => ct_fail
  | d + 1, v0, v1 => ct_of [(false, va_rf v0), (false, .int v1)] [some (va_rf v0), some (.int v1)] (by decide) rfl ⟨rfl, (rf_cat _), ⟨rfl, rfl, trivial⟩⟩ (fun E X n0 s0 σ => tj_J52_initWords_B0 d v0 v1 σ)
theorem tj_J52_init_B0 {E : tj_E} {X : tj_X} {n0 s0 : Nat} (d : Nat) (v0 : Option Nat) (v1 : Int32) (σ : hp_S) : tj_T E X RJ52 "<init>" cJ52_init 2 none (d + 1) [] n0 s0 em_v σ 0 [some (va_rf v0), some (.int v1)] [] (fn_J52_init_B0 d v0 v1) := by
  unfold fn_J52_init_B0
  refine tj_aload_n dJ52_init_0 rfl ?_
  refine tj_objInit q2933 q183 q184 (by decide) dJ52_init_1 (fun _ _ => ?_)
  refine tj_aload_n dJ52_init_4 rfl ?_
  refine tj_iconst (0 : Int32) dJ52_init_5 rfl ?_
  refine tj_put fl_J52_7 rfl rfl dJ52_init_6 (fun σ => ?_)
  refine tj_aload_n dJ52_init_9 rfl ?_
  refine tj_iconst (0 : Int32) dJ52_init_10 rfl ?_
  refine tj_put fl_J52_24 rfl rfl dJ52_init_11 (fun σ => ?_)
  refine tj_iload_n dJ52_init_14 rfl ?_
  refine tj_if_ge 45 dJ52_init_15 rfl (fun _ => ?_) (fun _ => ?_)
  · refine tj_aload_n dJ52_init_45 rfl ?_
    refine tj_iload_n dJ52_init_46 rfl ?_
    refine tj_callV (as := [.int v1]) (rest := []) (st' := (fun _ => [])) (t := 28) (fun a e => by cases e; exact ct_J52_initWords d _ _) (by decide) rfl q2934 q2936 qs37 q166 q2937 rfl md_J52_initWords rfl (by decide) rfl (by decide) dJ52_init_47 (fun _ => rfl) (fun _ σ => ?_) (by decide)
    refine tj_aload_n dJ52_init_50 rfl ?_
    refine tj_iconst (1 : Int32) dJ52_init_51 rfl ?_
    refine tj_put fl_J52_24 rfl rfl dJ52_init_52 (fun σ => ?_)
    exact tj_vret dJ52_init_55
  · exact tj_fail
theorem ct_J52_init : ∀ (d : Nat) (v0 : Option Nat) (v1 : Int32), ct_ yJ52_init (ws_ yJ52_init cJ52_init 2 none) d em_v [va_rf v0, .int v1] (fn_J52_init d v0 v1)
  | 0, _, _ => ct_fail
  | d + 1, v0, v1 => ct_of [(false, va_rf v0), (false, .int v1)] [some (va_rf v0), some (.int v1)] (by decide) rfl ⟨rfl, (rf_cat _), ⟨rfl, rfl, trivial⟩⟩ (fun E X n0 s0 σ => tj_J52_init_B0 d v0 v1 σ)
theorem tj_J52_checkInvariants_J70 {E : tj_E} {X : tj_X} {n0 s0 : Nat} (d : Nat) (l0 : Option Nat) (σ : hp_S) : tj_T E X RJ52 "checkInvariants" cJ52_checkInvariants 1 none (d + 1) [] n0 s0 em_v σ 70 [some (va_rf l0)] [] (fn_J52_checkInvariants_J70 d l0) := by
  unfold fn_J52_checkInvariants_J70
  refine tj_getsI (v := (1 : Int32)) (ev_j 2 rfl) q2985 dJ52_checkInvariants_70 ?_
  refine tj_if_ne 110 dJ52_checkInvariants_73 rfl (fun _ => ?_) (fun _ => ?_)
  · refine tj_aload_n dJ52_checkInvariants_76 rfl ?_
    refine tj_getI fl_J52_7 dJ52_checkInvariants_77 (fun v101 => ?_)
    refine tj_aload_n dJ52_checkInvariants_80 rfl ?_
    refine tj_getR fl_J52_11 dJ52_checkInvariants_81 (fun v102 => ?_)
    refine tj_alen dJ52_checkInvariants_84 (fun v103 => ?_)
    refine tj_icmp_eq 110 dJ52_checkInvariants_85 rfl (fun _ => ?_) (fun _ => ?_)
    · exact tj_vret dJ52_checkInvariants_110
    · refine tj_aload_n dJ52_checkInvariants_88 rfl ?_
      refine tj_getR fl_J52_11 dJ52_checkInvariants_89 (fun v104 => ?_)
      refine tj_aload_n dJ52_checkInvariants_92 rfl ?_
      refine tj_getI fl_J52_7 dJ52_checkInvariants_93 (fun v105 => ?_)
      refine tj_lald dJ52_checkInvariants_96 (fun v106 => ?_)
      refine tj_lconst (0 : Int64) dJ52_checkInvariants_97 rfl ?_
      refine tj_lcmp dJ52_checkInvariants_98 ?_
      refine tj_if_eq 110 dJ52_checkInvariants_99 rfl (fun _ => ?_) (fun _ => ?_)
      · exact tj_vret dJ52_checkInvariants_110
      · exact tj_fail
  · exact tj_vret dJ52_checkInvariants_110
theorem tj_J52_checkInvariants_J37 {E : tj_E} {X : tj_X} {n0 s0 : Nat} (d : Nat) (l0 : Option Nat) (σ : hp_S) : tj_T E X RJ52 "checkInvariants" cJ52_checkInvariants 1 none (d + 1) [] n0 s0 em_v σ 37 [some (va_rf l0)] [] (fn_J52_checkInvariants_J37 d l0) := by
  unfold fn_J52_checkInvariants_J37
  refine tj_getsI (v := (1 : Int32)) (ev_j 2 rfl) q2985 dJ52_checkInvariants_37 ?_
  refine tj_if_ne 70 dJ52_checkInvariants_40 rfl (fun _ => ?_) (fun _ => ?_)
  · refine tj_aload_n dJ52_checkInvariants_43 rfl ?_
    refine tj_getI fl_J52_7 dJ52_checkInvariants_44 (fun v101 => ?_)
    refine tj_if_lt 62 dJ52_checkInvariants_47 rfl (fun _ => ?_) (fun _ => ?_)
    · exact tj_fail
    · refine tj_aload_n dJ52_checkInvariants_50 rfl ?_
      refine tj_getI fl_J52_7 dJ52_checkInvariants_51 (fun v102 => ?_)
      refine tj_aload_n dJ52_checkInvariants_54 rfl ?_
      refine tj_getR fl_J52_11 dJ52_checkInvariants_55 (fun v103 => ?_)
      refine tj_alen dJ52_checkInvariants_58 (fun v104 => ?_)
      refine tj_icmp_le 70 dJ52_checkInvariants_59 rfl (fun _ => ?_) (fun _ => ?_)
      · exact tj_J52_checkInvariants_J70 d l0 _
      · exact tj_fail
  · exact tj_J52_checkInvariants_J70 d l0 _
theorem tj_J52_checkInvariants_B0 {E : tj_E} {X : tj_X} {n0 s0 : Nat} (d : Nat) (v0 : Option Nat) (σ : hp_S) : tj_T E X RJ52 "checkInvariants" cJ52_checkInvariants 1 none (d + 1) [] n0 s0 em_v σ 0 [some (va_rf v0)] [] (fn_J52_checkInvariants_B0 d v0) := by
  unfold fn_J52_checkInvariants_B0
  refine tj_getsI (v := (1 : Int32)) (ev_j 2 rfl) q2985 dJ52_checkInvariants_0 ?_
  refine tj_if_ne 37 dJ52_checkInvariants_3 rfl (fun _ => ?_) (fun _ => ?_)
  · refine tj_aload_n dJ52_checkInvariants_6 rfl ?_
    refine tj_getI fl_J52_7 dJ52_checkInvariants_7 (fun v101 => ?_)
    refine tj_if_eq 37 dJ52_checkInvariants_10 rfl (fun _ => ?_) (fun _ => ?_)
    · exact tj_J52_checkInvariants_J37 d v0 _
    · refine tj_aload_n dJ52_checkInvariants_13 rfl ?_
      refine tj_getR fl_J52_11 dJ52_checkInvariants_14 (fun v102 => ?_)
      refine tj_aload_n dJ52_checkInvariants_17 rfl ?_
      refine tj_getI fl_J52_7 dJ52_checkInvariants_18 (fun v103 => ?_)
      refine tj_iconst (1 : Int32) dJ52_checkInvariants_21 rfl ?_
      refine tj_isub dJ52_checkInvariants_22 ?_
      refine tj_lald dJ52_checkInvariants_23 (fun v104 => ?_)
      refine tj_lconst (0 : Int64) dJ52_checkInvariants_24 rfl ?_
      refine tj_lcmp dJ52_checkInvariants_25 ?_
      refine tj_if_ne 37 dJ52_checkInvariants_26 rfl (fun _ => ?_) (fun _ => ?_)
      · exact tj_fail
      · exact tj_J52_checkInvariants_J37 d v0 _
  · exact tj_J52_checkInvariants_J37 d v0 _
theorem ct_J52_checkInvariants : ∀ (d : Nat) (v0 : Option Nat), ct_ yJ52_checkInvariants (ws_ yJ52_checkInvariants cJ52_checkInvariants 1 none) d em_v [va_rf v0] (fn_J52_checkInvariants d v0)
  | 0, _ => ct_fail
  | d + 1, v0 => ct_of [(false, va_rf v0)] [some (va_rf v0)] (by decide) rfl ⟨rfl, (rf_cat _), trivial⟩ (fun E X n0 s0 σ => tj_J52_checkInvariants_B0 d v0 σ)
theorem tj_J23_copyOf_4_B0 {E : tj_E} {X : tj_X} {n0 s0 : Nat} (d : Nat) (v0 : Option Nat) (v1 : Int32) (σ : hp_S) : tj_T E X RJ23 "copyOf" cJ23_copyOf_4 3 (some (.array (.long))) (d + 1) [] n0 s0 em_r σ 0 [some (va_rf v0), some (.int v1), none] [] (fn_J23_copyOf_4_B0 d v0 v1) := by
  unfold fn_J23_copyOf_4_B0
  refine tj_iload_n dJ23_copyOf_4_0 rfl ?_
  refine tj_aload_n dJ23_copyOf_4_1 rfl ?_
  refine tj_alen dJ23_copyOf_4_2 (fun v101 => ?_)
  refine tj_icmp_ne 14 dJ23_copyOf_4_3 rfl (fun _ => ?_) (fun _ => ?_)
  · refine tj_aload_n dJ23_copyOf_4_6 rfl ?_
    refine tj_clone102 q2976 (by decide) dJ23_copyOf_4_7 (fun a102 σ => ?_)
    refine tj_cast (nm := "[J") q2980 ca__J dJ23_copyOf_4_10 ?_
    exact tj_aret (Or.inr ⟨_, rfl⟩) dJ23_copyOf_4_13
  · refine tj_iload_n dJ23_copyOf_4_14 rfl ?_
    refine tj_newL q2951 dJ23_copyOf_4_15 (fun a103 σ => ?_)
    refine tj_astore_n dJ23_copyOf_4_17 (by decide) rfl [some (va_rf v0), some (.int v1), some (va_rf (some a103))] rfl ?_
    refine tj_aload_n dJ23_copyOf_4_18 rfl ?_
    refine tj_iconst (0 : Int32) dJ23_copyOf_4_19 rfl ?_
    refine tj_aload_n dJ23_copyOf_4_20 rfl ?_
    refine tj_iconst (0 : Int32) dJ23_copyOf_4_21 rfl ?_
    refine tj_aload_n dJ23_copyOf_4_22 rfl ?_
    refine tj_alen dJ23_copyOf_4_23 (fun v104 => ?_)
    refine tj_iload_n dJ23_copyOf_4_24 rfl ?_
    refine tj_mmin q648 (by simp [rf_cat, cat_i, cat_l, cat_f, cat_d]) dJ23_copyOf_4_25 ?_
    refine tj_copy102 q651 (by decide) dJ23_copyOf_4_28 (fun σ => ?_)
    refine tj_aload_n dJ23_copyOf_4_31 rfl ?_
    exact tj_aret (Or.inr ⟨_, rfl⟩) dJ23_copyOf_4_32
theorem ct_J23_copyOf_4 : ∀ (d : Nat) (v0 : Option Nat) (v1 : Int32), ct_ yJ23_copyOf_4 (ws_ yJ23_copyOf_4 cJ23_copyOf_4 3 (some (.array (.long)))) d em_r [va_rf v0, .int v1] (fn_J23_copyOf_4 d v0 v1)
  | 0, _, _ => ct_fail
  | d + 1, v0, v1 => ct_of [(false, va_rf v0), (false, .int v1)] [some (va_rf v0), some (.int v1), none] (by decide) rfl ⟨rfl, (rf_cat _), ⟨rfl, rfl, trivial⟩⟩ (fun E X n0 s0 σ => tj_J23_copyOf_4_B0 d v0 v1 σ)
theorem tj_J52_ensureCapacity_B0 {E : tj_E} {X : tj_X} {n0 s0 : Nat} (d : Nat) (v0 : Option Nat) (v1 : Int32) (σ : hp_S) : tj_T E X RJ52 "ensureCapacity" cJ52_ensureCapacity 3 none (d + 1) [] n0 s0 em_v σ 0 [some (va_rf v0), some (.int v1), none] [] (fn_J52_ensureCapacity_B0 d v0 v1) := by
  unfold fn_J52_ensureCapacity_B0
  refine tj_aload_n dJ52_ensureCapacity_0 rfl ?_
  refine tj_getR fl_J52_11 dJ52_ensureCapacity_1 (fun v101 => ?_)
  refine tj_alen dJ52_ensureCapacity_4 (fun v102 => ?_)
  refine tj_iload_n dJ52_ensureCapacity_5 rfl ?_
  refine tj_icmp_ge 38 dJ52_ensureCapacity_6 rfl (fun _ => ?_) (fun _ => ?_)
  · exact tj_vret dJ52_ensureCapacity_38
  · refine tj_iconst (2 : Int32) dJ52_ensureCapacity_9 rfl ?_
    refine tj_aload_n dJ52_ensureCapacity_10 rfl ?_
    refine tj_getR fl_J52_11 dJ52_ensureCapacity_11 (fun v103 => ?_)
    refine tj_alen dJ52_ensureCapacity_14 (fun v104 => ?_)
    refine tj_imul dJ52_ensureCapacity_15 ?_
    refine tj_iload_n dJ52_ensureCapacity_16 rfl ?_
    refine tj_mmax q2972 (by decide) dJ52_ensureCapacity_17 ?_
    refine tj_topi (fun v105 => ?_)
    refine tj_istore_n dJ52_ensureCapacity_20 (by decide) rfl [some (va_rf v0), some (.int v1), some (.int v105)] rfl ?_
    refine tj_aload_n dJ52_ensureCapacity_21 rfl ?_
    refine tj_aload_n dJ52_ensureCapacity_22 rfl ?_
    refine tj_getR fl_J52_11 dJ52_ensureCapacity_23 (fun v106 => ?_)
    refine tj_iload_n dJ52_ensureCapacity_26 rfl ?_
    refine tj_callS (as := [va_rf v106, .int v105]) (rest := [va_rf v0]) (st' := (fun r => [va_rf r, va_rf v0])) (ct_J23_copyOf_4 d v106 v105) q2973 q2974 q123 q2975 md_J23_copyOf_4 rfl (by decide) rfl (by simp [rf_cat, cat_i, cat_l, cat_f, cat_d]) dJ52_ensureCapacity_27 (fun _ => rfl) (fun r107 σ => ?_) (by decide)
    refine tj_put fl_J52_11 (nar_rf _) (fit_rfa _) dJ52_ensureCapacity_30 (fun σ => ?_)
    refine tj_aload_n dJ52_ensureCapacity_33 rfl ?_
    refine tj_iconst (0 : Int32) dJ52_ensureCapacity_34 rfl ?_
    refine tj_put fl_J52_24 rfl rfl dJ52_ensureCapacity_35 (fun σ => ?_)
    exact tj_vret dJ52_ensureCapacity_38
theorem ct_J52_ensureCapacity : ∀ (d : Nat) (v0 : Option Nat) (v1 : Int32), ct_ yJ52_ensureCapacity (ws_ yJ52_ensureCapacity cJ52_ensureCapacity 3 none) d em_v [va_rf v0, .int v1] (fn_J52_ensureCapacity d v0 v1)
  | 0, _, _ => ct_fail
  | d + 1, v0, v1 => ct_of [(false, va_rf v0), (false, .int v1)] [some (va_rf v0), some (.int v1), none] (by decide) rfl ⟨rfl, (rf_cat _), ⟨rfl, rfl, trivial⟩⟩ (fun E X n0 s0 σ => tj_J52_ensureCapacity_B0 d v0 v1 σ)
theorem tj_J52_expandTo_B0 {E : tj_E} {X : tj_X} {n0 s0 : Nat} (d : Nat) (v0 : Option Nat) (v1 : Int32) (σ : hp_S) : tj_T E X RJ52 "expandTo" cJ52_expandTo 3 none (d + 1) [] n0 s0 em_v σ 0 [some (va_rf v0), some (.int v1), none] [] (fn_J52_expandTo_B0 d v0 v1) := by
  unfold fn_J52_expandTo_B0
  refine tj_iload_n dJ52_expandTo_0 rfl ?_
  refine tj_iconst (1 : Int32) dJ52_expandTo_1 rfl ?_
  refine tj_iadd dJ52_expandTo_2 ?_
  refine tj_topi (fun v101 => ?_)
  refine tj_istore_n dJ52_expandTo_3 (by decide) rfl [some (va_rf v0), some (.int v1), some (.int v101)] rfl ?_
  refine tj_aload_n dJ52_expandTo_4 rfl ?_
  refine tj_getI fl_J52_7 dJ52_expandTo_5 (fun v102 => ?_)
  refine tj_iload_n dJ52_expandTo_8 rfl ?_
  refine tj_icmp_ge 22 dJ52_expandTo_9 rfl (fun _ => ?_) (fun _ => ?_)
  · exact tj_vret dJ52_expandTo_22
  · refine tj_aload_n dJ52_expandTo_12 rfl ?_
    refine tj_iload_n dJ52_expandTo_13 rfl ?_
    refine tj_callV (as := [.int v101]) (rest := []) (st' := (fun _ => [])) (t := 28) (fun a e => by cases e; exact ct_J52_ensureCapacity d _ _) (by decide) rfl q2968 q2970 qs39 q166 q2971 rfl md_J52_ensureCapacity rfl (by decide) rfl (by decide) dJ52_expandTo_14 (fun _ => rfl) (fun _ σ => ?_) (by decide)
    refine tj_aload_n dJ52_expandTo_17 rfl ?_
    refine tj_iload_n dJ52_expandTo_18 rfl ?_
    refine tj_put fl_J52_7 rfl rfl dJ52_expandTo_19 (fun σ => ?_)
    exact tj_vret dJ52_expandTo_22
theorem ct_J52_expandTo : ∀ (d : Nat) (v0 : Option Nat) (v1 : Int32), ct_ yJ52_expandTo (ws_ yJ52_expandTo cJ52_expandTo 3 none) d em_v [va_rf v0, .int v1] (fn_J52_expandTo d v0 v1)
  | 0, _, _ => ct_fail
  | d + 1, v0, v1 => ct_of [(false, va_rf v0), (false, .int v1)] [some (va_rf v0), some (.int v1), none] (by decide) rfl ⟨rfl, (rf_cat _), ⟨rfl, rfl, trivial⟩⟩ (fun E X n0 s0 σ => tj_J52_expandTo_B0 d v0 v1 σ)
theorem tj_J52_set_B0 {E : tj_E} {X : tj_X} {n0 s0 : Nat} (d : Nat) (v0 : Option Nat) (v1 : Int32) (σ : hp_S) : tj_T E X RJ52 "set" cJ52_set 3 none (d + 1) [] n0 s0 em_v σ 0 [some (va_rf v0), some (.int v1), none] [] (fn_J52_set_B0 d v0 v1) := by
  unfold fn_J52_set_B0
  refine tj_iload_n dJ52_set_0 rfl ?_
  refine tj_if_ge 31 dJ52_set_1 rfl (fun _ => ?_) (fun _ => ?_)
  · refine tj_iload_n dJ52_set_31 rfl ?_
    refine tj_callS (as := [.int v1]) (rest := []) (st' := (fun r => [.int r])) (ct_J52_wordIndex d v1) q2938 q2939 q166 q2940 md_J52_wordIndex rfl (by decide) rfl (by decide) dJ52_set_32 (fun _ => rfl) (fun r101 σ => ?_) (by decide)
    refine tj_istore_n dJ52_set_35 (by decide) rfl [some (va_rf v0), some (.int v1), some (.int r101)] rfl ?_
    refine tj_aload_n dJ52_set_36 rfl ?_
    refine tj_iload_n dJ52_set_37 rfl ?_
    refine tj_callV (as := [.int r101]) (rest := []) (st' := (fun _ => [])) (t := 28) (fun a e => by cases e; exact ct_J52_expandTo d _ _) (by decide) rfl q2964 q2966 qs38 q166 q2967 rfl md_J52_expandTo rfl (by decide) rfl (by decide) dJ52_set_38 (fun _ => rfl) (fun _ σ => ?_) (by decide)
    refine tj_aload_n dJ52_set_41 rfl ?_
    refine tj_getR fl_J52_11 dJ52_set_42 (fun v102 => ?_)
    refine tj_iload_n dJ52_set_45 rfl ?_
    refine tj_dup2_11 dJ52_set_46 rfl (rf_cat _) ?_
    refine tj_lald dJ52_set_47 (fun v103 => ?_)
    refine tj_lconst (1 : Int64) dJ52_set_48 rfl ?_
    refine tj_iload_n dJ52_set_49 rfl ?_
    refine tj_lshl dJ52_set_50 ?_
    refine tj_lor dJ52_set_51 ?_
    refine tj_last dJ52_set_52 (fun σ => ?_)
    refine tj_aload_n dJ52_set_53 rfl ?_
    refine tj_callV (as := []) (rest := []) (st' := (fun _ => [])) (t := 28) (fun a e => by cases e; exact ct_J52_checkInvariants d _) (by decide) rfl q2981 q2983 qs40 q166 q2984 rfl md_J52_checkInvariants rfl (by decide) rfl (by decide) dJ52_set_54 (fun _ => rfl) (fun _ σ => ?_) (by decide)
    exact tj_vret dJ52_set_57
  · exact tj_fail
theorem ct_J52_set : ∀ (d : Nat) (v0 : Option Nat) (v1 : Int32), ct_ yJ52_set (ws_ yJ52_set cJ52_set 3 none) d em_v [va_rf v0, .int v1] (fn_J52_set d v0 v1)
  | 0, _, _ => ct_fail
  | d + 1, v0, v1 => ct_of [(false, va_rf v0), (false, .int v1)] [some (va_rf v0), some (.int v1), none] (by decide) rfl ⟨rfl, (rf_cat _), ⟨rfl, rfl, trivial⟩⟩ (fun E X n0 s0 σ => tj_J52_set_B0 d v0 v1 σ)
theorem tj_X3_hours_L45_b {E : tj_E} {X : tj_X} {n0 s0 : Nat} (d : Nat) {b20 : Option Nat → Option Nat → mx_M (Option Nat)} {b45 : Option Nat → Option Nat → Option Nat → Int32 → mx_M (Option Nat)} (h20 : ∀ (l1 : Option Nat) (l2 : Option Nat) (σ : hp_S), tj_T E X RX3 "hours" cX3_hours 5 (some (.object "java/util/BitSet")) (d + 1) [] n0 s0 em_r σ 20 [none, some (va_rf l1), some (va_rf l2), none, none] [] (b20 l1 l2)) (h45 : ∀ (l1 : Option Nat) (l2 : Option Nat) (l3 : Option Nat) (l4 : Int32) (σ : hp_S), tj_T E X RX3 "hours" cX3_hours 5 (some (.object "java/util/BitSet")) (d + 1) [] n0 s0 em_r σ 45 [none, some (va_rf l1), some (va_rf l2), some (va_rf l3), some (.int l4)] [] (b45 l1 l2 l3 l4)) (l1 : Option Nat) (l2 : Option Nat) (l3 : Option Nat) (l4 : Int32) (σ : hp_S) : tj_T E X RX3 "hours" cX3_hours 5 (some (.object "java/util/BitSet")) (d + 1) [] n0 s0 em_r σ 45 [none, some (va_rf l1), some (va_rf l2), some (va_rf l3), some (.int l4)] [] (fn_X3_hours_L45_b d b20 b45 l1 l2 l3 l4) := by
  unfold fn_X3_hours_L45_b
  refine tj_iload dX3_hours_45 rfl ?_
  refine tj_aload_n dX3_hours_47 rfl ?_
  refine tj_getI fl_X3_66r dX3_hours_48 (fun v101 => ?_)
  refine tj_icmp_ge 66 dX3_hours_51 rfl (fun _ => ?_) (fun _ => ?_)
  · refine tj_goto 20 dX3_hours_66 rfl ?_
    refine tj_wk (L' := [none, some (va_rf l1), some (va_rf l2), none, none]) ⟨rfl, rfl, trivial⟩ ?_
    exact h20 l1 l2 _
  · refine tj_aload_n dX3_hours_54 rfl ?_
    refine tj_iload dX3_hours_55 rfl ?_
    refine tj_callV (as := [.int l4]) (rest := []) (st' := (fun _ => [])) (t := 28) (fun a e => by cases e; exact ct_J52_set d _ _) (by decide) rfl q2952 q2953 q2954 q166 q2955 rfl md_J52_set rfl (by decide) rfl (by decide) dX3_hours_57 (fun _ => rfl) (fun _ σ => ?_) (by decide)
    refine tj_iinc (1 : Int32) dX3_hours_60 rfl rfl (by decide) (rf_cat _) [none, some (va_rf l1), some (va_rf l2), some (va_rf l3), some (.int (l4 + (1 : Int32)))] rfl ?_
    refine tj_goto 45 dX3_hours_63 rfl ?_
    exact h45 l1 l2 l3 _ _
theorem tj_X3_hours_L45 {E : tj_E} {X : tj_X} {n0 s0 : Nat} (d : Nat) {b20 : Option Nat → Option Nat → mx_M (Option Nat)} (h20 : ∀ (l1 : Option Nat) (l2 : Option Nat) (σ : hp_S), tj_T E X RX3 "hours" cX3_hours 5 (some (.object "java/util/BitSet")) (d + 1) [] n0 s0 em_r σ 20 [none, some (va_rf l1), some (va_rf l2), none, none] [] (b20 l1 l2)) : ∀ (k : Nat) (l1 : Option Nat) (l2 : Option Nat) (l3 : Option Nat) (l4 : Int32) (σ : hp_S), tj_T E X RX3 "hours" cX3_hours 5 (some (.object "java/util/BitSet")) (d + 1) [] n0 s0 em_r σ 45 [none, some (va_rf l1), some (va_rf l2), some (va_rf l3), some (.int l4)] [] (fn_X3_hours_L45 d b20 k l1 l2 l3 l4) := by
  intro k
  induction k with
  | zero =>
    intro l1 l2 l3 l4 σ
    exact tj_fail
  | succ k ih =>
    intro l1 l2 l3 l4 σ
    exact tj_X3_hours_L45_b d h20 ih l1 l2 l3 l4 σ
theorem tj_X3_hours_L20_b {E : tj_E} {X : tj_X} {n0 s0 : Nat} (d : Nat) {b20 : Option Nat → Option Nat → mx_M (Option Nat)} (h20 : ∀ (l1 : Option Nat) (l2 : Option Nat) (σ : hp_S), tj_T E X RX3 "hours" cX3_hours 5 (some (.object "java/util/BitSet")) (d + 1) [] n0 s0 em_r σ 20 [none, some (va_rf l1), some (va_rf l2), none, none] [] (b20 l1 l2)) (l1 : Option Nat) (l2 : Option Nat) (σ : hp_S) : tj_T E X RX3 "hours" cX3_hours 5 (some (.object "java/util/BitSet")) (d + 1) [] n0 s0 em_r σ 20 [none, some (va_rf l1), some (va_rf l2), none, none] [] (fn_X3_hours_L20_b d b20 l1 l2) := by
  unfold fn_X3_hours_L20_b
  refine tj_aload_n dX3_hours_20 rfl ?_
  refine tj_callF (as := []) (rest := []) (st' := (fun r => [.int r])) (t := 17) (fun a e => by cases e; exact ct_J14_hasNext d _) (by decide) rfl q1769 q1060 q1062 q114 q1064 (ev_i 1 rfl) q1063 q1061 q1059 md_i1 rfl (by decide) rfl (by decide) dX3_hours_21 (fun _ => rfl) (fun r101 σ => ?_) (by decide)
  refine tj_if_eq 69 dX3_hours_26 rfl (fun _ => ?_) (fun _ => ?_)
  · refine tj_aload_n dX3_hours_69 rfl ?_
    exact tj_aret (Or.inl ⟨_, rfl⟩) dX3_hours_70
  · refine tj_aload_n dX3_hours_29 rfl ?_
    refine tj_callF (as := []) (rest := []) (st' := (fun r => [va_rf r])) (t := 17) (fun a e => by cases e; exact ct_J14_next d _) (by decide) rfl q1771 q1299 q1301 q114 q1303 (ev_i 2 rfl) q1302 q1300 q1059 md_i2 rfl (by decide) rfl (by decide) dX3_hours_30 (fun _ => rfl) (fun r102 σ => ?_) (by decide)
    refine tj_cast (nm := "LionGate$Keeper") q1772 ca_LionGate_Keeper dX3_hours_35 ?_
    refine tj_astore_n dX3_hours_38 (by decide) (rf_cat _) [none, some (va_rf l1), some (va_rf l2), some (va_rf r102), none] rfl ?_
    refine tj_aload_n dX3_hours_39 rfl ?_
    refine tj_getI fl_X3_62r dX3_hours_40 (fun v103 => ?_)
    refine tj_istore dX3_hours_43 (by decide) (rf_cat _) [none, some (va_rf l1), some (va_rf l2), some (va_rf r102), some (.int v103)] rfl ?_
    exact tj_X3_hours_L45 d h20 mx_K l1 l2 r102 v103 _
theorem tj_X3_hours_L20 {E : tj_E} {X : tj_X} {n0 s0 : Nat} (d : Nat) : ∀ (k : Nat) (l1 : Option Nat) (l2 : Option Nat) (σ : hp_S), tj_T E X RX3 "hours" cX3_hours 5 (some (.object "java/util/BitSet")) (d + 1) [] n0 s0 em_r σ 20 [none, some (va_rf l1), some (va_rf l2), none, none] [] (fn_X3_hours_L20 d k l1 l2) := by
  intro k
  induction k with
  | zero =>
    intro l1 l2 σ
    exact tj_fail
  | succ k ih =>
    intro l1 l2 σ
    exact tj_X3_hours_L20_b d ih l1 l2 σ
theorem tj_X3_hours_B0 {E : tj_E} {X : tj_X} {n0 s0 : Nat} (d : Nat) (v0 : Option Nat) (σ : hp_S) : tj_T E X RX3 "hours" cX3_hours 5 (some (.object "java/util/BitSet")) (d + 1) [] n0 s0 em_r σ 0 [some (va_rf v0), none, none, none, none] [] (fn_X3_hours_B0 d v0) := by
  unfold fn_X3_hours_B0
  refine tj_new nw_X3_57 dX3_hours_0 (fun a101 σ => ?_)
  refine tj_dup dX3_hours_3 (rf_cat _) ?_
  refine tj_bipush (24 : Int32) dX3_hours_4 (by decide) ?_
  refine tj_callI (as := [.int (24 : Int32)]) (rest := [va_rf (some a101)]) (st' := (fun _ => [va_rf (some a101)])) (fun a e => by cases e; exact ct_J52_init d _ _) q2930 q2931 q166 q2932 rfl md_J52_init rfl (by decide) rfl (by simp [rf_cat, cat_i, cat_l, cat_f, cat_d]) dX3_hours_6 (fun _ => rfl) (fun _ σ => ?_) (by decide)
  refine tj_astore_n dX3_hours_9 (by decide) (rf_cat _) [some (va_rf v0), some (va_rf (some a101)), none, none, none] rfl ?_
  refine tj_aload_n dX3_hours_10 rfl ?_
  refine tj_getR fl_X3_12r dX3_hours_11 (fun v102 => ?_)
  refine tj_callF (as := []) (rest := []) (st' := (fun r => [va_rf r])) (t := 16) (fun a e => by cases e; exact ct_J4_iterator d _) (by decide) rfl q1761 q1764 q466 q103 q468 (ev_i 6 rfl) q467 q465 q1323 md_i6 rfl (by decide) rfl (by decide) dX3_hours_14 (fun _ => rfl) (fun r103 σ => ?_) (by decide)
  refine tj_astore_n dX3_hours_19 (by decide) (rf_cat _) [some (va_rf v0), some (va_rf (some a101)), some (va_rf r103), none, none] rfl ?_
  refine tj_wk (L' := [none, some (va_rf (some a101)), some (va_rf r103), none, none]) ⟨rfl, rfl, trivial⟩ ?_
  exact tj_X3_hours_L20 d mx_K (some a101) r103 _
theorem ct_X3_hours : ∀ (d : Nat) (v0 : Option Nat), ct_ yX3_hours (ws_ yX3_hours cX3_hours 5 (some (.object "java/util/BitSet"))) d em_r [va_rf v0] (fn_X3_hours d v0)
  | 0, _ => ct_fail
  | d + 1, v0 => ct_of [(false, va_rf v0)] [some (va_rf v0), none, none, none, none] (by decide) rfl ⟨rfl, (rf_cat _), trivial⟩ (fun E X n0 s0 σ => tj_X3_hours_B0 d v0 σ)
theorem tj_J52_get_B0 {E : tj_E} {X : tj_X} {n0 s0 : Nat} (d : Nat) (v0 : Option Nat) (v1 : Int32) (σ : hp_S) : tj_T E X RJ52 "get" cJ52_get 3 (some .boolean) (d + 1) [] n0 s0 em_i σ 0 [some (va_rf v0), some (.int v1), none] [] (fn_J52_get_B0 d v0 v1) := by
  unfold fn_J52_get_B0
  refine tj_iload_n dJ52_get_0 rfl ?_
  refine tj_if_ge 31 dJ52_get_1 rfl (fun _ => ?_) (fun _ => ?_)
  · refine tj_aload_n dJ52_get_31 rfl ?_
    refine tj_callV (as := []) (rest := []) (st' := (fun _ => [])) (t := 28) (fun a e => by cases e; exact ct_J52_checkInvariants d _) (by decide) rfl q2981 q2983 qs40 q166 q2984 rfl md_J52_checkInvariants rfl (by decide) rfl (by decide) dJ52_get_32 (fun _ => rfl) (fun _ σ => ?_) (by decide)
    refine tj_iload_n dJ52_get_35 rfl ?_
    refine tj_callS (as := [.int v1]) (rest := []) (st' := (fun r => [.int r])) (ct_J52_wordIndex d v1) q2938 q2939 q166 q2940 md_J52_wordIndex rfl (by decide) rfl (by decide) dJ52_get_36 (fun _ => rfl) (fun r101 σ => ?_) (by decide)
    refine tj_istore_n dJ52_get_39 (by decide) rfl [some (va_rf v0), some (.int v1), some (.int r101)] rfl ?_
    refine tj_iload_n dJ52_get_40 rfl ?_
    refine tj_aload_n dJ52_get_41 rfl ?_
    refine tj_getI fl_J52_7 dJ52_get_42 (fun v102 => ?_)
    refine tj_icmp_ge 67 dJ52_get_45 rfl (fun _ => ?_) (fun _ => ?_)
    · refine tj_iconst (0 : Int32) dJ52_get_67 rfl ?_
      exact tj_zpure rfl dJ52_get_68
    · refine tj_aload_n dJ52_get_48 rfl ?_
      refine tj_getR fl_J52_11 dJ52_get_49 (fun v103 => ?_)
      refine tj_iload_n dJ52_get_52 rfl ?_
      refine tj_lald dJ52_get_53 (fun v104 => ?_)
      refine tj_lconst (1 : Int64) dJ52_get_54 rfl ?_
      refine tj_iload_n dJ52_get_55 rfl ?_
      refine tj_lshl dJ52_get_56 ?_
      refine tj_land dJ52_get_57 ?_
      refine tj_lconst (0 : Int64) dJ52_get_58 rfl ?_
      refine tj_lcmp dJ52_get_59 ?_
      refine tj_if_eq 67 dJ52_get_60 rfl (fun _ => ?_) (fun _ => ?_)
      · refine tj_iconst (0 : Int32) dJ52_get_67 rfl ?_
        exact tj_zpure rfl dJ52_get_68
      · refine tj_iconst (1 : Int32) dJ52_get_63 rfl ?_
        refine tj_goto 68 dJ52_get_64 rfl ?_
        exact tj_zpure rfl dJ52_get_68
  · exact tj_fail
theorem ct_J52_get : ∀ (d : Nat) (v0 : Option Nat) (v1 : Int32), ct_ yJ52_get (ws_ yJ52_get cJ52_get 3 (some .boolean)) d em_i [va_rf v0, .int v1] (fn_J52_get d v0 v1)
  | 0, _, _ => ct_fail
  | d + 1, v0, v1 => ct_of [(false, va_rf v0), (false, .int v1)] [some (va_rf v0), some (.int v1), none] (by decide) rfl ⟨rfl, (rf_cat _), ⟨rfl, rfl, trivial⟩⟩ (fun E X n0 s0 σ => tj_J52_get_B0 d v0 v1 σ)
theorem tj_X3_areWaysAlike_J64 {E : tj_E} {X : tj_X} {n0 s0 : Nat} (d : Nat) {b9 : Option Nat → Int32 → Option Nat → Int32 → mx_M Int32} {b20 : Option Nat → Int32 → Option Nat → Int32 → Int32 → mx_M Int32} (h9 : ∀ (l0 : Option Nat) (l1 : Int32) (l2 : Option Nat) (l3 : Int32) (σ : hp_S), tj_T E X RX3 "areWaysAlike" cX3_areWaysAlike 5 (some .boolean) (d + 1) [] n0 s0 em_i σ 9 [some (va_rf l0), some (.int l1), some (va_rf l2), some (.int l3), none] [] (b9 l0 l1 l2 l3)) (h20 : ∀ (l0 : Option Nat) (l1 : Int32) (l2 : Option Nat) (l3 : Int32) (l4 : Int32) (σ : hp_S), tj_T E X RX3 "areWaysAlike" cX3_areWaysAlike 5 (some .boolean) (d + 1) [] n0 s0 em_i σ 20 [some (va_rf l0), some (.int l1), some (va_rf l2), some (.int l3), some (.int l4)] [] (b20 l0 l1 l2 l3 l4)) (l0 : Option Nat) (l2 : Option Nat) (l3 : Int32) (l4 : Int32) (p0 : Int32) (σ : hp_S) : tj_T E X RX3 "areWaysAlike" cX3_areWaysAlike 5 (some .boolean) (d + 1) [] n0 s0 em_i σ 64 [some (va_rf l0), none, some (va_rf l2), some (.int l3), some (.int l4)] [.int p0] (fn_X3_areWaysAlike_J64 d b9 b20 l0 l2 l3 l4 p0) := by
  unfold fn_X3_areWaysAlike_J64
  refine tj_istore_n dX3_areWaysAlike_64 (by decide) (rf_cat _) [some (va_rf l0), some (.int p0), some (va_rf l2), some (.int l3), some (.int l4)] rfl ?_
  refine tj_iinc (1 : Int32) dX3_areWaysAlike_65 rfl rfl (by decide) rfl [some (va_rf l0), some (.int p0), some (va_rf l2), some (.int l3), some (.int (l4 + (1 : Int32)))] rfl ?_
  refine tj_goto 20 dX3_areWaysAlike_68 rfl ?_
  exact h20 l0 p0 l2 l3 _ _
theorem tj_X3_areWaysAlike_J63 {E : tj_E} {X : tj_X} {n0 s0 : Nat} (d : Nat) {b9 : Option Nat → Int32 → Option Nat → Int32 → mx_M Int32} {b20 : Option Nat → Int32 → Option Nat → Int32 → Int32 → mx_M Int32} (h9 : ∀ (l0 : Option Nat) (l1 : Int32) (l2 : Option Nat) (l3 : Int32) (σ : hp_S), tj_T E X RX3 "areWaysAlike" cX3_areWaysAlike 5 (some .boolean) (d + 1) [] n0 s0 em_i σ 9 [some (va_rf l0), some (.int l1), some (va_rf l2), some (.int l3), none] [] (b9 l0 l1 l2 l3)) (h20 : ∀ (l0 : Option Nat) (l1 : Int32) (l2 : Option Nat) (l3 : Int32) (l4 : Int32) (σ : hp_S), tj_T E X RX3 "areWaysAlike" cX3_areWaysAlike 5 (some .boolean) (d + 1) [] n0 s0 em_i σ 20 [some (va_rf l0), some (.int l1), some (va_rf l2), some (.int l3), some (.int l4)] [] (b20 l0 l1 l2 l3 l4)) (l0 : Option Nat) (l2 : Option Nat) (l3 : Int32) (l4 : Int32) (σ : hp_S) : tj_T E X RX3 "areWaysAlike" cX3_areWaysAlike 5 (some .boolean) (d + 1) [] n0 s0 em_i σ 63 [some (va_rf l0), none, some (va_rf l2), some (.int l3), some (.int l4)] [] (fn_X3_areWaysAlike_J63 d b9 b20 l0 l2 l3 l4) := by
  unfold fn_X3_areWaysAlike_J63
  refine tj_iconst (0 : Int32) dX3_areWaysAlike_63 rfl ?_
  exact tj_X3_areWaysAlike_J64 d h9 h20 l0 l2 l3 l4 (0 : Int32) _
theorem tj_X3_areWaysAlike_J71 {E : tj_E} {X : tj_X} {n0 s0 : Nat} (d : Nat) {b9 : Option Nat → Int32 → Option Nat → Int32 → mx_M Int32} (h9 : ∀ (l0 : Option Nat) (l1 : Int32) (l2 : Option Nat) (l3 : Int32) (σ : hp_S), tj_T E X RX3 "areWaysAlike" cX3_areWaysAlike 5 (some .boolean) (d + 1) [] n0 s0 em_i σ 9 [some (va_rf l0), some (.int l1), some (va_rf l2), some (.int l3), none] [] (b9 l0 l1 l2 l3)) (l0 : Option Nat) (l1 : Int32) (l2 : Option Nat) (l3 : Int32) (σ : hp_S) : tj_T E X RX3 "areWaysAlike" cX3_areWaysAlike 5 (some .boolean) (d + 1) [] n0 s0 em_i σ 71 [some (va_rf l0), some (.int l1), some (va_rf l2), some (.int l3), none] [] (fn_X3_areWaysAlike_J71 d b9 l0 l1 l2 l3) := by
  unfold fn_X3_areWaysAlike_J71
  refine tj_iinc (1 : Int32) dX3_areWaysAlike_71 rfl rfl (by decide) (rf_cat _) [some (va_rf l0), some (.int l1), some (va_rf l2), some (.int (l3 + (1 : Int32))), none] rfl ?_
  refine tj_goto 9 dX3_areWaysAlike_74 rfl ?_
  exact h9 l0 l1 l2 _ _
theorem tj_X3_areWaysAlike_L20_b {E : tj_E} {X : tj_X} {n0 s0 : Nat} (d : Nat) {b9 : Option Nat → Int32 → Option Nat → Int32 → mx_M Int32} {b20 : Option Nat → Int32 → Option Nat → Int32 → Int32 → mx_M Int32} (h9 : ∀ (l0 : Option Nat) (l1 : Int32) (l2 : Option Nat) (l3 : Int32) (σ : hp_S), tj_T E X RX3 "areWaysAlike" cX3_areWaysAlike 5 (some .boolean) (d + 1) [] n0 s0 em_i σ 9 [some (va_rf l0), some (.int l1), some (va_rf l2), some (.int l3), none] [] (b9 l0 l1 l2 l3)) (h20 : ∀ (l0 : Option Nat) (l1 : Int32) (l2 : Option Nat) (l3 : Int32) (l4 : Int32) (σ : hp_S), tj_T E X RX3 "areWaysAlike" cX3_areWaysAlike 5 (some .boolean) (d + 1) [] n0 s0 em_i σ 20 [some (va_rf l0), some (.int l1), some (va_rf l2), some (.int l3), some (.int l4)] [] (b20 l0 l1 l2 l3 l4)) (l0 : Option Nat) (l1 : Int32) (l2 : Option Nat) (l3 : Int32) (l4 : Int32) (σ : hp_S) : tj_T E X RX3 "areWaysAlike" cX3_areWaysAlike 5 (some .boolean) (d + 1) [] n0 s0 em_i σ 20 [some (va_rf l0), some (.int l1), some (va_rf l2), some (.int l3), some (.int l4)] [] (fn_X3_areWaysAlike_L20_b d b9 b20 l0 l1 l2 l3 l4) := by
  unfold fn_X3_areWaysAlike_L20_b
  refine tj_iload dX3_areWaysAlike_20 rfl ?_
  refine tj_bipush (24 : Int32) dX3_areWaysAlike_22 (by decide) ?_
  refine tj_icmp_gt 71 dX3_areWaysAlike_24 rfl (fun _ => ?_) (fun _ => ?_)
  · refine tj_wk (L' := [some (va_rf l0), some (.int l1), some (va_rf l2), some (.int l3), none]) ⟨rfl, rfl, rfl, rfl, trivial⟩ ?_
    exact tj_X3_areWaysAlike_J71 d h9 l0 l1 l2 l3 _
  · refine tj_aload_n dX3_areWaysAlike_27 rfl ?_
    refine tj_iload dX3_areWaysAlike_28 rfl ?_
    refine tj_iconst (1 : Int32) dX3_areWaysAlike_30 rfl ?_
    refine tj_isub dX3_areWaysAlike_31 ?_
    refine tj_callV (as := [.int (l4 - (1 : Int32))]) (rest := []) (st' := (fun r => [.int r])) (t := 28) (fun a e => by cases e; exact ct_J52_get d _ _) (by decide) rfl q2987 q2988 q2989 q166 q2990 rfl md_J52_get rfl (by decide) rfl (by decide) dX3_areWaysAlike_32 (fun _ => rfl) (fun r101 σ => ?_) (by decide)
    refine tj_if_eq 71 dX3_areWaysAlike_35 rfl (fun _ => ?_) (fun _ => ?_)
    · refine tj_wk (L' := [some (va_rf l0), some (.int l1), some (va_rf l2), some (.int l3), none]) ⟨rfl, rfl, rfl, rfl, trivial⟩ ?_
      exact tj_X3_areWaysAlike_J71 d h9 l0 l1 l2 l3 _
    · refine tj_iload_n dX3_areWaysAlike_38 rfl ?_
      refine tj_if_eq 63 dX3_areWaysAlike_39 rfl (fun _ => ?_) (fun _ => ?_)
      · refine tj_wk (L' := [some (va_rf l0), none, some (va_rf l2), some (.int l3), some (.int l4)]) ⟨rfl, rfl, rfl, rfl, trivial⟩ ?_
        exact tj_X3_areWaysAlike_J63 d h9 h20 l0 l2 l3 l4 _
      · refine tj_aload_n dX3_areWaysAlike_42 rfl ?_
        refine tj_iload_n dX3_areWaysAlike_43 rfl ?_
        refine tj_iload dX3_areWaysAlike_44 rfl ?_
        refine tj_callV (as := [.int l3, .int l4]) (rest := []) (st' := (fun r => [.int r])) (t := 3) (fun a e => by cases e; exact ct_X3_fewest d _ _ _) (by decide) rfl q2991 q2992 q2993 q100 q2994 rfl md_X3_fewest rfl (by decide) rfl (by decide) dX3_areWaysAlike_46 (fun _ => rfl) (fun r102 σ => ?_) (by decide)
        refine tj_aload_n dX3_areWaysAlike_49 rfl ?_
        refine tj_iload_n dX3_areWaysAlike_50 rfl ?_
        refine tj_iload dX3_areWaysAlike_51 rfl ?_
        refine tj_callV (as := [.int l3, .int l4]) (rest := [.int r102]) (st' := (fun r => [.int r, .int r102])) (t := 3) (fun a e => by cases e; exact ct_X3_fewestBySets d _ _ _) (by decide) rfl q3000 q3001 q3002 q100 q3003 rfl md_X3_fewestBySets rfl (by decide) rfl (by simp [rf_cat, cat_i, cat_l, cat_f, cat_d]) dX3_areWaysAlike_53 (fun _ => rfl) (fun r103 σ => ?_) (by decide)
        refine tj_icmp_ne 63 dX3_areWaysAlike_56 rfl (fun _ => ?_) (fun _ => ?_)
        · refine tj_iconst (1 : Int32) dX3_areWaysAlike_59 rfl ?_
          refine tj_goto 64 dX3_areWaysAlike_60 rfl ?_
          refine tj_wk (L' := [some (va_rf l0), none, some (va_rf l2), some (.int l3), some (.int l4)]) ⟨rfl, rfl, rfl, rfl, trivial⟩ ?_
          exact tj_X3_areWaysAlike_J64 d h9 h20 l0 l2 l3 l4 (1 : Int32) _
        · refine tj_wk (L' := [some (va_rf l0), none, some (va_rf l2), some (.int l3), some (.int l4)]) ⟨rfl, rfl, rfl, rfl, trivial⟩ ?_
          exact tj_X3_areWaysAlike_J63 d h9 h20 l0 l2 l3 l4 _
theorem tj_X3_areWaysAlike_L20 {E : tj_E} {X : tj_X} {n0 s0 : Nat} (d : Nat) {b9 : Option Nat → Int32 → Option Nat → Int32 → mx_M Int32} (h9 : ∀ (l0 : Option Nat) (l1 : Int32) (l2 : Option Nat) (l3 : Int32) (σ : hp_S), tj_T E X RX3 "areWaysAlike" cX3_areWaysAlike 5 (some .boolean) (d + 1) [] n0 s0 em_i σ 9 [some (va_rf l0), some (.int l1), some (va_rf l2), some (.int l3), none] [] (b9 l0 l1 l2 l3)) : ∀ (k : Nat) (l0 : Option Nat) (l1 : Int32) (l2 : Option Nat) (l3 : Int32) (l4 : Int32) (σ : hp_S), tj_T E X RX3 "areWaysAlike" cX3_areWaysAlike 5 (some .boolean) (d + 1) [] n0 s0 em_i σ 20 [some (va_rf l0), some (.int l1), some (va_rf l2), some (.int l3), some (.int l4)] [] (fn_X3_areWaysAlike_L20 d b9 k l0 l1 l2 l3 l4) := by
  intro k
  induction k with
  | zero =>
    intro l0 l1 l2 l3 l4 σ
    exact tj_fail
  | succ k ih =>
    intro l0 l1 l2 l3 l4 σ
    exact tj_X3_areWaysAlike_L20_b d h9 ih l0 l1 l2 l3 l4 σ
theorem tj_X3_areWaysAlike_L9_b {E : tj_E} {X : tj_X} {n0 s0 : Nat} (d : Nat) {b9 : Option Nat → Int32 → Option Nat → Int32 → mx_M Int32} (h9 : ∀ (l0 : Option Nat) (l1 : Int32) (l2 : Option Nat) (l3 : Int32) (σ : hp_S), tj_T E X RX3 "areWaysAlike" cX3_areWaysAlike 5 (some .boolean) (d + 1) [] n0 s0 em_i σ 9 [some (va_rf l0), some (.int l1), some (va_rf l2), some (.int l3), none] [] (b9 l0 l1 l2 l3)) (l0 : Option Nat) (l1 : Int32) (l2 : Option Nat) (l3 : Int32) (σ : hp_S) : tj_T E X RX3 "areWaysAlike" cX3_areWaysAlike 5 (some .boolean) (d + 1) [] n0 s0 em_i σ 9 [some (va_rf l0), some (.int l1), some (va_rf l2), some (.int l3), none] [] (fn_X3_areWaysAlike_L9_b d b9 l0 l1 l2 l3) := by
  unfold fn_X3_areWaysAlike_L9_b
  refine tj_iload_n dX3_areWaysAlike_9 rfl ?_
  refine tj_bipush (24 : Int32) dX3_areWaysAlike_10 (by decide) ?_
  refine tj_icmp_ge 77 dX3_areWaysAlike_12 rfl (fun _ => ?_) (fun _ => ?_)
  · refine tj_iload_n dX3_areWaysAlike_77 rfl ?_
    exact tj_zret dX3_areWaysAlike_78
  · refine tj_iload_n dX3_areWaysAlike_15 rfl ?_
    refine tj_iconst (1 : Int32) dX3_areWaysAlike_16 rfl ?_
    refine tj_iadd dX3_areWaysAlike_17 ?_
    refine tj_topi (fun v101 => ?_)
    refine tj_istore dX3_areWaysAlike_18 (by decide) rfl [some (va_rf l0), some (.int l1), some (va_rf l2), some (.int l3), some (.int v101)] rfl ?_
    exact tj_X3_areWaysAlike_L20 d h9 mx_K l0 l1 l2 l3 v101 _
theorem tj_X3_areWaysAlike_L9 {E : tj_E} {X : tj_X} {n0 s0 : Nat} (d : Nat) : ∀ (k : Nat) (l0 : Option Nat) (l1 : Int32) (l2 : Option Nat) (l3 : Int32) (σ : hp_S), tj_T E X RX3 "areWaysAlike" cX3_areWaysAlike 5 (some .boolean) (d + 1) [] n0 s0 em_i σ 9 [some (va_rf l0), some (.int l1), some (va_rf l2), some (.int l3), none] [] (fn_X3_areWaysAlike_L9 d k l0 l1 l2 l3) := by
  intro k
  induction k with
  | zero =>
    intro l0 l1 l2 l3 σ
    exact tj_fail
  | succ k ih =>
    intro l0 l1 l2 l3 σ
    exact tj_X3_areWaysAlike_L9_b d ih l0 l1 l2 l3 σ
theorem tj_X3_areWaysAlike_B0 {E : tj_E} {X : tj_X} {n0 s0 : Nat} (d : Nat) (v0 : Option Nat) (σ : hp_S) : tj_T E X RX3 "areWaysAlike" cX3_areWaysAlike 5 (some .boolean) (d + 1) [] n0 s0 em_i σ 0 [some (va_rf v0), none, none, none, none] [] (fn_X3_areWaysAlike_B0 d v0) := by
  unfold fn_X3_areWaysAlike_B0
  refine tj_iconst (1 : Int32) dX3_areWaysAlike_0 rfl ?_
  refine tj_istore_n dX3_areWaysAlike_1 (by decide) (rf_cat _) [some (va_rf v0), some (.int (1 : Int32)), none, none, none] rfl ?_
  refine tj_aload_n dX3_areWaysAlike_2 rfl ?_
  refine tj_callV (as := []) (rest := []) (st' := (fun r => [va_rf r])) (t := 3) (fun a e => by cases e; exact ct_X3_hours d _) (by decide) rfl q2924 q2926 qs36 q100 q2927 rfl md_X3_hours rfl (by decide) rfl (by decide) dX3_areWaysAlike_3 (fun _ => rfl) (fun r101 σ => ?_) (by decide)
  refine tj_astore_n dX3_areWaysAlike_6 (by decide) rfl [some (va_rf v0), some (.int (1 : Int32)), some (va_rf r101), none, none] rfl ?_
  refine tj_iconst (0 : Int32) dX3_areWaysAlike_7 rfl ?_
  refine tj_istore_n dX3_areWaysAlike_8 (by decide) (rf_cat _) [some (va_rf v0), some (.int (1 : Int32)), some (va_rf r101), some (.int (0 : Int32)), none] rfl ?_
  exact tj_X3_areWaysAlike_L9 d mx_K v0 (1 : Int32) r101 (0 : Int32) _
theorem ct_X3_areWaysAlike : ∀ (d : Nat) (v0 : Option Nat), ct_ yX3_areWaysAlike (ws_ yX3_areWaysAlike cX3_areWaysAlike 5 (some .boolean)) d em_i [va_rf v0] (fn_X3_areWaysAlike d v0)
  | 0, _ => ct_fail
  | d + 1, v0 => ct_of [(false, va_rf v0)] [some (va_rf v0), none, none, none, none] (by decide) rfl ⟨rfl, (rf_cat _), trivial⟩ (fun E X n0 s0 σ => tj_X3_areWaysAlike_B0 d v0 σ)
theorem tj_X10_way_B0 {E : tj_E} {X : tj_X} {n0 s0 : Nat} (d : Nat) (v0 : Option Nat) (σ : hp_S) : tj_T E X RX10 "way" cX10_way 1 (some .int) (d + 1) [] n0 s0 em_i σ 0 [some (va_rf v0)] [] (fn_X10_way_B0 d v0) := by
  unfold fn_X10_way_B0
  refine tj_aload_n dX10_way_0 rfl ?_
  refine tj_ifnonnull 8 dX10_way_1 rfl (fun _ => ?_) (fun _ _ => ?_)
  · refine tj_iconst (0 : Int32) dX10_way_4 rfl ?_
    refine tj_goto 12 dX10_way_5 rfl ?_
    exact tj_iret dX10_way_12
  · refine tj_aload_n dX10_way_8 rfl ?_
    refine tj_getI fl_X10_27r dX10_way_9 (fun v101 => ?_)
    exact tj_iret dX10_way_12
theorem ct_X10_way : ∀ (d : Nat) (v0 : Option Nat), ct_ yX10_way (ws_ yX10_way cX10_way 1 (some .int)) d em_i [va_rf v0] (fn_X10_way d v0)
  | 0, _ => ct_fail
  | d + 1, v0 => ct_of [(false, va_rf v0)] [some (va_rf v0)] (by decide) rfl ⟨rfl, (rf_cat _), trivial⟩ (fun E X n0 s0 σ => tj_X10_way_B0 d v0 σ)
theorem tj_X10_init_2_J52 {E : tj_E} {X : tj_X} {n0 s0 : Nat} (d : Nat) (l0 : Option Nat) (p0 : Option Nat) (p1 : Option Nat) (σ : hp_S) : tj_T E X RX10 "<init>" cX10_init_2 5 none (d + 1) [] n0 s0 em_v σ 52 [some (va_rf l0), none, none, none, none] [va_rf p1, va_rf p0] (fn_X10_init_2_J52 d l0 p0 p1) := by
  unfold fn_X10_init_2_J52
  refine tj_putF fl_X10_24 (nar_rf _) (fit_rf _) dX10_init_2_52 (fun σ => ?_)
  refine tj_aload_n dX10_init_2_55 rfl ?_
  refine tj_aload_n dX10_init_2_56 rfl ?_
  refine tj_getR fl_X10_24r dX10_init_2_57 (fun v101 => ?_)
  refine tj_callS (as := [va_rf v101]) (rest := [va_rf l0]) (st' := (fun r => [.int r, va_rf l0])) (ct_X10_way d v101) q2389 q2390 q157 q2391 md_X10_way rfl (by decide) rfl (by simp [rf_cat, cat_i, cat_l, cat_f, cat_d]) dX10_init_2_60 (fun _ => rfl) (fun r102 σ => ?_) (by decide)
  refine tj_iconst (1 : Int32) dX10_init_2_63 rfl ?_
  refine tj_iadd dX10_init_2_64 ?_
  refine tj_putF fl_X10_27 rfl rfl dX10_init_2_65 (fun σ => ?_)
  exact tj_vret dX10_init_2_68
theorem tj_X10_init_2_J38 {E : tj_E} {X : tj_X} {n0 s0 : Nat} (d : Nat) (l0 : Option Nat) (l2 : Option Nat) (l3 : Option Nat) (l4 : Int32) (p0 : Option Nat) (p1 : Option Nat) (σ : hp_S) : tj_T E X RX10 "<init>" cX10_init_2 5 none (d + 1) [] n0 s0 em_v σ 38 [some (va_rf l0), none, some (va_rf l2), some (va_rf l3), some (.int l4)] [va_rf p1, va_rf p0] (fn_X10_init_2_J38 d l0 l2 l3 l4 p0 p1) := by
  unfold fn_X10_init_2_J38
  refine tj_putF fl_X10_20 (nar_rf _) (fit_rf _) dX10_init_2_38 (fun σ => ?_)
  refine tj_aload_n dX10_init_2_41 rfl ?_
  refine tj_iload dX10_init_2_42 rfl ?_
  refine tj_if_eq 51 dX10_init_2_44 rfl (fun _ => ?_) (fun _ => ?_)
  · refine tj_aload_n dX10_init_2_51 rfl ?_
    refine tj_wk (L' := [some (va_rf l0), none, none, none, none]) ⟨rfl, trivial⟩ ?_
    exact tj_X10_init_2_J52 d l0 l0 l3 _
  · refine tj_aload_n dX10_init_2_47 rfl ?_
    refine tj_goto 52 dX10_init_2_48 rfl ?_
    refine tj_wk (L' := [some (va_rf l0), none, none, none, none]) ⟨rfl, trivial⟩ ?_
    exact tj_X10_init_2_J52 d l0 l0 l2 _
theorem tj_X10_init_2_J20 {E : tj_E} {X : tj_X} {n0 s0 : Nat} (d : Nat) (l0 : Option Nat) (l1 : Option Nat) (l2 : Option Nat) (l3 : Option Nat) (p0 : Int32) (σ : hp_S) : tj_T E X RX10 "<init>" cX10_init_2 5 none (d + 1) [] n0 s0 em_v σ 20 [some (va_rf l0), some (va_rf l1), some (va_rf l2), some (va_rf l3), none] [.int p0] (fn_X10_init_2_J20 d l0 l1 l2 l3 p0) := by
  unfold fn_X10_init_2_J20
  refine tj_istore dX10_init_2_20 (by decide) (rf_cat _) [some (va_rf l0), some (va_rf l1), some (va_rf l2), some (va_rf l3), some (.int p0)] rfl ?_
  refine tj_aload_n dX10_init_2_22 rfl ?_
  refine tj_aload_n dX10_init_2_23 rfl ?_
  refine tj_putF fl_X10_16 (nar_rf _) (fit_rf _) dX10_init_2_24 (fun σ => ?_)
  refine tj_aload_n dX10_init_2_27 rfl ?_
  refine tj_iload dX10_init_2_28 rfl ?_
  refine tj_if_eq 37 dX10_init_2_30 rfl (fun _ => ?_) (fun _ => ?_)
  · refine tj_aload_n dX10_init_2_37 rfl ?_
    refine tj_wk (L' := [some (va_rf l0), none, some (va_rf l2), some (va_rf l3), some (.int p0)]) ⟨rfl, rfl, rfl, rfl, trivial⟩ ?_
    exact tj_X10_init_2_J38 d l0 l2 l3 p0 l0 l2 _
  · refine tj_aload_n dX10_init_2_33 rfl ?_
    refine tj_goto 38 dX10_init_2_34 rfl ?_
    refine tj_wk (L' := [some (va_rf l0), none, some (va_rf l2), some (va_rf l3), some (.int p0)]) ⟨rfl, rfl, rfl, rfl, trivial⟩ ?_
    exact tj_X10_init_2_J38 d l0 l2 l3 p0 l0 l3 _
theorem tj_X10_init_2_B0 {E : tj_E} {X : tj_X} {n0 s0 : Nat} (d : Nat) (v0 : Option Nat) (v1 : Option Nat) (v2 : Option Nat) (v3 : Option Nat) (σ : hp_S) : tj_T E X RX10 "<init>" cX10_init_2 5 none (d + 1) [] n0 s0 em_v σ 0 [some (va_rf v0), some (va_rf v1), some (va_rf v2), some (va_rf v3), none] [] (fn_X10_init_2_B0 d v0 v1 v2 v3) := by
  unfold fn_X10_init_2_B0
  refine tj_aload_n dX10_init_2_0 rfl ?_
  refine tj_objInit q2388 q183 q184 (by decide) dX10_init_2_1 (fun _ _ => ?_)
  refine tj_aload_n dX10_init_2_4 rfl ?_
  refine tj_callS (as := [va_rf v2]) (rest := []) (st' := (fun r => [.int r])) (ct_X10_way d v2) q2389 q2390 q157 q2391 md_X10_way rfl (by decide) rfl (by decide) dX10_init_2_5 (fun _ => rfl) (fun r102 σ => ?_) (by decide)
  refine tj_aload_n dX10_init_2_8 rfl ?_
  refine tj_callS (as := [va_rf v3]) (rest := [.int r102]) (st' := (fun r => [.int r, .int r102])) (ct_X10_way d v3) q2389 q2390 q157 q2391 md_X10_way rfl (by decide) rfl (by simp [rf_cat, cat_i, cat_l, cat_f, cat_d]) dX10_init_2_9 (fun _ => rfl) (fun r103 σ => ?_) (by decide)
  refine tj_icmp_ge 19 dX10_init_2_12 rfl (fun _ => ?_) (fun _ => ?_)
  · refine tj_iconst (0 : Int32) dX10_init_2_19 rfl ?_
    exact tj_X10_init_2_J20 d v0 v1 v2 v3 (0 : Int32) _
  · refine tj_iconst (1 : Int32) dX10_init_2_15 rfl ?_
    refine tj_goto 20 dX10_init_2_16 rfl ?_
    exact tj_X10_init_2_J20 d v0 v1 v2 v3 (1 : Int32) _
theorem ct_X10_init_2 : ∀ (d : Nat) (v0 : Option Nat) (v1 : Option Nat) (v2 : Option Nat) (v3 : Option Nat), ct_ yX10_init_2 (ws_ yX10_init_2 cX10_init_2 5 none) d em_v [va_rf v0, va_rf v1, va_rf v2, va_rf v3] (fn_X10_init_2 d v0 v1 v2 v3)
  | 0, _, _, _, _ => ct_fail
  | d + 1, v0, v1, v2, v3 => ct_of [(false, va_rf v0), (false, va_rf v1), (false, va_rf v2), (false, va_rf v3)] [some (va_rf v0), some (va_rf v1), some (va_rf v2), some (va_rf v3), none] (by decide) rfl ⟨rfl, (rf_cat _), ⟨rfl, (rf_cat _), ⟨rfl, (rf_cat _), ⟨rfl, (rf_cat _), trivial⟩⟩⟩⟩ (fun E X n0 s0 σ => tj_X10_init_2_B0 d v0 v1 v2 v3 σ)
theorem tj_X9_isBefore_B0 {E : tj_E} {X : tj_X} {n0 s0 : Nat} (d : Nat) (v0 : Option Nat) (v1 : Option Nat) (σ : hp_S) : tj_T E X RX9 "isBefore" cX9_isBefore 2 (some .boolean) (d + 1) [] n0 s0 em_i σ 0 [some (va_rf v0), some (va_rf v1)] [] (fn_X9_isBefore_B0 d v0 v1) := by
  unfold fn_X9_isBefore_B0
  refine tj_aload_n dX9_isBefore_0 rfl ?_
  refine tj_getI fl_X9_16r dX9_isBefore_1 (fun v101 => ?_)
  refine tj_aload_n dX9_isBefore_4 rfl ?_
  refine tj_getI fl_X9_16r dX9_isBefore_5 (fun v102 => ?_)
  refine tj_icmp_gt 33 dX9_isBefore_8 rfl (fun _ => ?_) (fun _ => ?_)
  · refine tj_iconst (1 : Int32) dX9_isBefore_33 rfl ?_
    refine tj_goto 38 dX9_isBefore_34 rfl ?_
    exact tj_zpure rfl dX9_isBefore_38
  · refine tj_aload_n dX9_isBefore_11 rfl ?_
    refine tj_getI fl_X9_16r dX9_isBefore_12 (fun v103 => ?_)
    refine tj_aload_n dX9_isBefore_15 rfl ?_
    refine tj_getI fl_X9_16r dX9_isBefore_16 (fun v104 => ?_)
    refine tj_icmp_ne 37 dX9_isBefore_19 rfl (fun _ => ?_) (fun _ => ?_)
    · refine tj_aload_n dX9_isBefore_22 rfl ?_
      refine tj_getI fl_X9_7r dX9_isBefore_23 (fun v105 => ?_)
      refine tj_aload_n dX9_isBefore_26 rfl ?_
      refine tj_getI fl_X9_7r dX9_isBefore_27 (fun v106 => ?_)
      refine tj_icmp_ge 37 dX9_isBefore_30 rfl (fun _ => ?_) (fun _ => ?_)
      · refine tj_iconst (0 : Int32) dX9_isBefore_37 rfl ?_
        exact tj_zpure rfl dX9_isBefore_38
      · refine tj_iconst (1 : Int32) dX9_isBefore_33 rfl ?_
        refine tj_goto 38 dX9_isBefore_34 rfl ?_
        exact tj_zpure rfl dX9_isBefore_38
    · refine tj_iconst (0 : Int32) dX9_isBefore_37 rfl ?_
      exact tj_zpure rfl dX9_isBefore_38
theorem ct_X9_isBefore : ∀ (d : Nat) (v0 : Option Nat) (v1 : Option Nat), ct_ yX9_isBefore (ws_ yX9_isBefore cX9_isBefore 2 (some .boolean)) d em_i [va_rf v0, va_rf v1] (fn_X9_isBefore d v0 v1)
  | 0, _, _ => ct_fail
  | d + 1, v0, v1 => ct_of [(false, va_rf v0), (false, va_rf v1)] [some (va_rf v0), some (va_rf v1)] (by decide) rfl ⟨rfl, (rf_cat _), ⟨rfl, (rf_cat _), trivial⟩⟩ (fun E X n0 s0 σ => tj_X9_isBefore_B0 d v0 v1 σ)
theorem tj_X10_merged_J8 {E : tj_E} {X : tj_X} {n0 s0 : Nat} (d : Nat) {self : Option Nat → Option Nat → mx_M (Option Nat)} (hself : ∀ (v0 : Option Nat) (v1 : Option Nat), ct_ yX10_merged (ws_ yX10_merged cX10_merged 2 (some (.object "LionGate$Node"))) d em_r [va_rf v0, va_rf v1] (self v0 v1)) (l0 : Option Nat) (l1 : Option Nat) (σ : hp_S) : tj_T E X RX10 "merged" cX10_merged 2 (some (.object "LionGate$Node")) (d + 1) [] n0 s0 em_r σ 8 [some (va_rf l0), some (va_rf l1)] [] (fn_X10_merged_J8 d self l0 l1) := by
  unfold fn_X10_merged_J8
  refine tj_aload_n dX10_merged_8 rfl ?_
  refine tj_ifnonnull 16 dX10_merged_9 rfl (fun _ => ?_) (fun _ _ => ?_)
  · refine tj_aload_n dX10_merged_12 rfl ?_
    refine tj_goto 17 dX10_merged_13 rfl ?_
    exact tj_aret (Or.inl ⟨_, rfl⟩) dX10_merged_17
  · refine tj_aload_n dX10_merged_16 rfl ?_
    exact tj_aret (Or.inl ⟨_, rfl⟩) dX10_merged_17
theorem tj_X10_merged_B0 {E : tj_E} {X : tj_X} {n0 s0 : Nat} (d : Nat) {self : Option Nat → Option Nat → mx_M (Option Nat)} (hself : ∀ (v0 : Option Nat) (v1 : Option Nat), ct_ yX10_merged (ws_ yX10_merged cX10_merged 2 (some (.object "LionGate$Node"))) d em_r [va_rf v0, va_rf v1] (self v0 v1)) (v0 : Option Nat) (v1 : Option Nat) (σ : hp_S) : tj_T E X RX10 "merged" cX10_merged 2 (some (.object "LionGate$Node")) (d + 1) [] n0 s0 em_r σ 0 [some (va_rf v0), some (va_rf v1)] [] (fn_X10_merged_B0 d self v0 v1) := by
  unfold fn_X10_merged_B0
  refine tj_aload_n dX10_merged_0 rfl ?_
  refine tj_ifnull 8 dX10_merged_1 rfl (fun _ => ?_) (fun _ _ => ?_)
  · exact tj_X10_merged_J8 d hself v0 v1 _
  · refine tj_aload_n dX10_merged_4 rfl ?_
    refine tj_ifnonnull 18 dX10_merged_5 rfl (fun _ => ?_) (fun _ _ => ?_)
    · exact tj_X10_merged_J8 d hself v0 v1 _
    · refine tj_aload_n dX10_merged_18 rfl ?_
      refine tj_getR fl_X10_16r dX10_merged_19 (fun v101 => ?_)
      refine tj_aload_n dX10_merged_22 rfl ?_
      refine tj_getR fl_X10_16r dX10_merged_23 (fun v102 => ?_)
      refine tj_callV (as := [va_rf v102]) (rest := []) (st' := (fun r => [.int r])) (t := 6) (fun a e => by cases e; exact ct_X9_isBefore d _ _) (by decide) rfl q2412 q2159 q2160 q152 q2161 rfl md_X9_isBefore rfl (by decide) rfl (by decide) dX10_merged_26 (fun _ => rfl) (fun r103 σ => ?_) (by decide)
      refine tj_if_eq 38 dX10_merged_29 rfl (fun _ => ?_) (fun _ => ?_)
      · refine tj_new nw_X10_2 dX10_merged_38 (fun a104 σ => ?_)
        refine tj_dup dX10_merged_41 (rf_cat _) ?_
        refine tj_aload_n dX10_merged_42 rfl ?_
        refine tj_getR fl_X10_16r dX10_merged_43 (fun v105 => ?_)
        refine tj_aload_n dX10_merged_46 rfl ?_
        refine tj_getR fl_X10_20r dX10_merged_47 (fun v106 => ?_)
        refine tj_aload_n dX10_merged_50 rfl ?_
        refine tj_getR fl_X10_24r dX10_merged_51 (fun v107 => ?_)
        refine tj_aload_n dX10_merged_54 rfl ?_
        refine tj_callS (as := [va_rf v107, va_rf v1]) (rest := [va_rf v106, va_rf v105, va_rf (some a104), va_rf (some a104)]) (st' := (fun r => [va_rf r, va_rf v106, va_rf v105, va_rf (some a104), va_rf (some a104)])) (hself v107 v1) q2413 q2410 q157 q2411 md_X10_merged rfl (by decide) rfl (by simp [rf_cat, cat_i, cat_l, cat_f, cat_d]) dX10_merged_55 (fun _ => rfl) (fun r108 σ => ?_) (by decide)
        refine tj_callI (as := [va_rf v105, va_rf v106, va_rf r108]) (rest := [va_rf (some a104)]) (st' := (fun _ => [va_rf (some a104)])) (fun a e => by cases e; exact ct_X10_init_2 d _ _ _ _) q2385 q2386 q157 q2387 rfl md_X10_init_2 rfl (by decide) rfl (by simp [rf_cat, cat_i, cat_l, cat_f, cat_d]) dX10_merged_58 (fun _ => rfl) (fun _ σ => ?_) (by decide)
        exact tj_aret (Or.inl ⟨_, rfl⟩) dX10_merged_61
      · refine tj_aload_n dX10_merged_32 rfl ?_
        refine tj_aload_n dX10_merged_33 rfl ?_
        refine tj_callS (as := [va_rf v1, va_rf v0]) (rest := []) (st' := (fun r => [va_rf r])) (hself v1 v0) q2413 q2410 q157 q2411 md_X10_merged rfl (by decide) rfl (by decide) dX10_merged_34 (fun _ => rfl) (fun r109 σ => ?_) (by decide)
        exact tj_aret (Or.inl ⟨_, rfl⟩) dX10_merged_37
theorem ct_X10_merged : ∀ (d : Nat) (v0 : Option Nat) (v1 : Option Nat), ct_ yX10_merged (ws_ yX10_merged cX10_merged 2 (some (.object "LionGate$Node"))) d em_r [va_rf v0, va_rf v1] (fn_X10_merged d v0 v1)
  | 0, _, _ => ct_fail
  | d + 1, v0, v1 => ct_of [(false, va_rf v0), (false, va_rf v1)] [some (va_rf v0), some (va_rf v1)] (by decide) rfl ⟨rfl, (rf_cat _), ⟨rfl, (rf_cat _), trivial⟩⟩ (fun E X n0 s0 σ => tj_X10_merged_B0 d (ct_X10_merged d) v0 v1 σ)
theorem tj_X10_withoutTop_B0 {E : tj_E} {X : tj_X} {n0 s0 : Nat} (d : Nat) (v0 : Option Nat) (σ : hp_S) : tj_T E X RX10 "withoutTop" cX10_withoutTop 1 (some (.object "LionGate$Node")) (d + 1) [] n0 s0 em_r σ 0 [some (va_rf v0)] [] (fn_X10_withoutTop_B0 d v0) := by
  unfold fn_X10_withoutTop_B0
  refine tj_aload_n dX10_withoutTop_0 rfl ?_
  refine tj_getR fl_X10_20r dX10_withoutTop_1 (fun v101 => ?_)
  refine tj_aload_n dX10_withoutTop_4 rfl ?_
  refine tj_getR fl_X10_24r dX10_withoutTop_5 (fun v102 => ?_)
  refine tj_callS (as := [va_rf v101, va_rf v102]) (rest := []) (st' := (fun r => [va_rf r])) (ct_X10_merged d v101 v102) q2413 q2410 q157 q2411 md_X10_merged rfl (by decide) rfl (by decide) dX10_withoutTop_8 (fun _ => rfl) (fun r103 σ => ?_) (by decide)
  exact tj_aret (Or.inl ⟨_, rfl⟩) dX10_withoutTop_11
theorem ct_X10_withoutTop : ∀ (d : Nat) (v0 : Option Nat), ct_ yX10_withoutTop (ws_ yX10_withoutTop cX10_withoutTop 1 (some (.object "LionGate$Node"))) d em_r [va_rf v0] (fn_X10_withoutTop d v0)
  | 0, _ => ct_fail
  | d + 1, v0 => ct_of [(false, va_rf v0)] [some (va_rf v0)] (by decide) rfl ⟨rfl, (rf_cat _), trivial⟩ (fun E X n0 s0 σ => tj_X10_withoutTop_B0 d v0 σ)
theorem tj_J26_init_B0 {E : tj_E} {X : tj_X} {n0 s0 : Nat} (d : Nat) (v0 : Option Nat) (σ : hp_S) : tj_T E X RJ26 "<init>" cJ26_init 1 none (d + 1) [] n0 s0 em_v σ 0 [some (va_rf v0)] [] (fn_J26_init_B0 d v0) := by
  unfold fn_J26_init_B0
  refine tj_aload_n dJ26_init_0 rfl ?_
  refine tj_objInit q1443 q183 q184 (by decide) dJ26_init_1 (fun _ _ => ?_)
  exact tj_vret dJ26_init_4
theorem ct_J26_init : ∀ (d : Nat) (v0 : Option Nat), ct_ yJ26_init (ws_ yJ26_init cJ26_init 1 none) d em_v [va_rf v0] (fn_J26_init d v0)
  | 0, _ => ct_fail
  | d + 1, v0 => ct_of [(false, va_rf v0)] [some (va_rf v0)] (by decide) rfl ⟨rfl, (rf_cat _), trivial⟩ (fun E X n0 s0 σ => tj_J26_init_B0 d v0 σ)
theorem tj_J27_init_B0 {E : tj_E} {X : tj_X} {n0 s0 : Nat} (d : Nat) (v0 : Option Nat) (v1 : Int32) (σ : hp_S) : tj_T E X RJ27 "<init>" cJ27_init 2 none (d + 1) [] n0 s0 em_v σ 0 [some (va_rf v0), some (.int v1)] [] (fn_J27_init_B0 d v0 v1) := by
  unfold fn_J27_init_B0
  refine tj_aload_n dJ27_init_0 rfl ?_
  refine tj_callI (as := []) (rest := []) (st' := (fun _ => [])) (fun a e => by cases e; exact ct_J26_init d _) q1440 q1441 q127 q1442 rfl md_J26_init rfl (by decide) rfl (by decide) dJ27_init_1 (fun _ => rfl) (fun _ σ => ?_) (by decide)
  refine tj_aload_n dJ27_init_4 rfl ?_
  refine tj_iload_n dJ27_init_5 rfl ?_
  refine tj_putF fl_J27_205 rfl rfl dJ27_init_6 (fun σ => ?_)
  exact tj_vret dJ27_init_9
theorem ct_J27_init : ∀ (d : Nat) (v0 : Option Nat) (v1 : Int32), ct_ yJ27_init (ws_ yJ27_init cJ27_init 2 none) d em_v [va_rf v0, .int v1] (fn_J27_init d v0 v1)
  | 0, _, _ => ct_fail
  | d + 1, v0, v1 => ct_of [(false, va_rf v0), (false, .int v1)] [some (va_rf v0), some (.int v1)] (by decide) rfl ⟨rfl, (rf_cat _), ⟨rfl, rfl, trivial⟩⟩ (fun E X n0 s0 σ => tj_J27_init_B0 d v0 v1 σ)
theorem tj_J27_valueOf_J23 {E : tj_E} {X : tj_X} {n0 s0 : Nat} (d : Nat) (l0 : Int32) (σ : hp_S) : tj_T E X RJ27 "valueOf" cJ27_valueOf 1 (some (.object "java/lang/Integer")) (d + 1) [] n0 s0 em_r σ 23 [some (.int l0)] [] (fn_J27_valueOf_J23 d l0) := by
  unfold fn_J27_valueOf_J23
  refine tj_new nw_J27_1 dJ27_valueOf_23 (fun a101 σ => ?_)
  refine tj_dup dJ27_valueOf_26 (rf_cat _) ?_
  refine tj_iload_n dJ27_valueOf_27 rfl ?_
  refine tj_callI (as := [.int l0]) (rest := [va_rf (some a101)]) (st' := (fun _ => [va_rf (some a101)])) (fun a e => by cases e; exact ct_J27_init d _ _) q1437 q1438 q128 q1439 rfl md_J27_init rfl (by decide) rfl (by simp [rf_cat, cat_i, cat_l, cat_f, cat_d]) dJ27_valueOf_28 (fun _ => rfl) (fun _ σ => ?_) (by decide)
  exact tj_aret (Or.inl ⟨_, rfl⟩) dJ27_valueOf_31
theorem tj_J27_valueOf_B0 {E : tj_E} {X : tj_X} {n0 s0 : Nat} (d : Nat) (v0 : Int32) (σ : hp_S) : tj_T E X RJ27 "valueOf" cJ27_valueOf 1 (some (.object "java/lang/Integer")) (d + 1) [] n0 s0 em_r σ 0 [some (.int v0)] [] (fn_J27_valueOf_B0 d v0) := by
  unfold fn_J27_valueOf_B0
  refine tj_iload_n dJ27_valueOf_0 rfl ?_
  refine tj_bipush (-128 : Int32) dJ27_valueOf_1 (by decide) ?_
  refine tj_icmp_lt 23 dJ27_valueOf_3 rfl (fun _ => ?_) (fun _ => ?_)
  · exact tj_J27_valueOf_J23 d v0 _
  · refine tj_iload_n dJ27_valueOf_6 rfl ?_
    refine tj_getsI (v := (127 : Int32)) (ev_j 1 rfl) q1431 dJ27_valueOf_7 ?_
    refine tj_icmp_gt 23 dJ27_valueOf_10 rfl (fun _ => ?_) (fun _ => ?_)
    · exact tj_J27_valueOf_J23 d v0 _
    · refine tj_gets (ev_s 7 rfl) q1433 dJ27_valueOf_13 (fun v101 => ?_)
      refine tj_iload_n dJ27_valueOf_16 rfl ?_
      refine tj_sipush (128 : Int32) dJ27_valueOf_17 (by decide) ?_
      refine tj_iadd dJ27_valueOf_20 ?_
      refine tj_aaldI dJ27_valueOf_21 (fun v102 => ?_)
      exact tj_aret (Or.inl ⟨_, rfl⟩) dJ27_valueOf_22
theorem ct_J27_valueOf : ∀ (d : Nat) (v0 : Int32), ct_ yJ27_valueOf (ws_ yJ27_valueOf cJ27_valueOf 1 (some (.object "java/lang/Integer"))) d em_r [.int v0] (fn_J27_valueOf d v0)
  | 0, _ => ct_fail
  | d + 1, v0 => ct_of [(false, .int v0)] [some (.int v0)] (by decide) rfl ⟨rfl, rfl, trivial⟩ (fun E X n0 s0 σ => tj_J27_valueOf_B0 d v0 σ)
theorem tj_J27_compare_B0 {E : tj_E} {X : tj_X} {n0 s0 : Nat} (d : Nat) (v0 : Int32) (v1 : Int32) (σ : hp_S) : tj_T E X RJ27 "compare" cJ27_compare 2 (some .int) (d + 1) [] n0 s0 em_i σ 0 [some (.int v0), some (.int v1)] [] (fn_J27_compare_B0 d v0 v1) := by
  unfold fn_J27_compare_B0
  refine tj_iload_n dJ27_compare_0 rfl ?_
  refine tj_iload_n dJ27_compare_1 rfl ?_
  refine tj_icmp_ge 9 dJ27_compare_2 rfl (fun _ => ?_) (fun _ => ?_)
  · refine tj_iload_n dJ27_compare_9 rfl ?_
    refine tj_iload_n dJ27_compare_10 rfl ?_
    refine tj_icmp_ne 18 dJ27_compare_11 rfl (fun _ => ?_) (fun _ => ?_)
    · refine tj_iconst (0 : Int32) dJ27_compare_14 rfl ?_
      refine tj_goto 19 dJ27_compare_15 rfl ?_
      exact tj_iret dJ27_compare_19
    · refine tj_iconst (1 : Int32) dJ27_compare_18 rfl ?_
      exact tj_iret dJ27_compare_19
  · refine tj_iconst (-1 : Int32) dJ27_compare_5 rfl ?_
    refine tj_goto 19 dJ27_compare_6 rfl ?_
    exact tj_iret dJ27_compare_19
theorem ct_J27_compare : ∀ (d : Nat) (v0 : Int32) (v1 : Int32), ct_ yJ27_compare (ws_ yJ27_compare cJ27_compare 2 (some .int)) d em_i [.int v0, .int v1] (fn_J27_compare d v0 v1)
  | 0, _, _ => ct_fail
  | d + 1, v0, v1 => ct_of [(false, .int v0), (false, .int v1)] [some (.int v0), some (.int v1)] (by decide) rfl ⟨rfl, rfl, ⟨rfl, rfl, trivial⟩⟩ (fun E X n0 s0 σ => tj_J27_compare_B0 d v0 v1 σ)
theorem tj_J27_compareTo_2_B0 {E : tj_E} {X : tj_X} {n0 s0 : Nat} (d : Nat) (v0 : Option Nat) (v1 : Option Nat) (σ : hp_S) : tj_T E X RJ27 "compareTo" cJ27_compareTo_2 2 (some .int) (d + 1) [] n0 s0 em_i σ 0 [some (va_rf v0), some (va_rf v1)] [] (fn_J27_compareTo_2_B0 d v0 v1) := by
  unfold fn_J27_compareTo_2_B0
  refine tj_aload_n dJ27_compareTo_2_0 rfl ?_
  refine tj_getI fl_J27_205r dJ27_compareTo_2_1 (fun v101 => ?_)
  refine tj_aload_n dJ27_compareTo_2_4 rfl ?_
  refine tj_getI fl_J27_205r dJ27_compareTo_2_5 (fun v102 => ?_)
  refine tj_callS (as := [.int v101, .int v102]) (rest := []) (st' := (fun r => [.int r])) (ct_J27_compare d v101 v102) q1479 q1480 q128 q1481 md_J27_compare rfl (by decide) rfl (by decide) dJ27_compareTo_2_8 (fun _ => rfl) (fun r103 σ => ?_) (by decide)
  exact tj_iret dJ27_compareTo_2_11
theorem ct_J27_compareTo_2 : ∀ (d : Nat) (v0 : Option Nat) (v1 : Option Nat), ct_ yJ27_compareTo_2 (ws_ yJ27_compareTo_2 cJ27_compareTo_2 2 (some .int)) d em_i [va_rf v0, va_rf v1] (fn_J27_compareTo_2 d v0 v1)
  | 0, _, _ => ct_fail
  | d + 1, v0, v1 => ct_of [(false, va_rf v0), (false, va_rf v1)] [some (va_rf v0), some (va_rf v1)] (by decide) rfl ⟨rfl, (rf_cat _), ⟨rfl, (rf_cat _), trivial⟩⟩ (fun E X n0 s0 σ => tj_J27_compareTo_2_B0 d v0 v1 σ)
theorem tj_J27_compareTo_B0 {E : tj_E} {X : tj_X} {n0 s0 : Nat} (d : Nat) (v0 : Option Nat) (v1 : Option Nat) (σ : hp_S) : tj_T E X RJ27 "compareTo" cJ27_compareTo 2 (some .int) (d + 1) [] n0 s0 em_i σ 0 [some (va_rf v0), some (va_rf v1)] [] (fn_J27_compareTo_B0 d v0 v1) := by
  unfold fn_J27_compareTo_B0
  refine tj_aload_n dJ27_compareTo_0 rfl ?_
  refine tj_aload_n dJ27_compareTo_1 rfl ?_
  refine tj_cast (nm := "java/lang/Integer") q1435 ca_java_lang_Integer dJ27_compareTo_2 ?_
  refine tj_callV (as := [va_rf v1]) (rest := []) (st' := (fun r => [.int r])) (t := 31) (fun a e => by cases e; exact ct_J27_compareTo_2 d _ _) (by decide) rfl q1475 q1476 q1477 q128 q1478 rfl md_J27_compareTo_2 rfl (by decide) rfl (by decide) dJ27_compareTo_5 (fun _ => rfl) (fun r101 σ => ?_) (by decide)
  exact tj_iret dJ27_compareTo_8
theorem ct_J27_compareTo : ∀ (d : Nat) (v0 : Option Nat) (v1 : Option Nat), ct_ yJ27_compareTo (ws_ yJ27_compareTo cJ27_compareTo 2 (some .int)) d em_i [va_rf v0, va_rf v1] (fn_J27_compareTo d v0 v1)
  | 0, _, _ => ct_fail
  | d + 1, v0, v1 => ct_of [(false, va_rf v0), (false, va_rf v1)] [some (va_rf v0), some (va_rf v1)] (by decide) rfl ⟨rfl, (rf_cat _), ⟨rfl, (rf_cat _), trivial⟩⟩ (fun E X n0 s0 σ => tj_J27_compareTo_B0 d v0 v1 σ)
theorem tj_J37_requireNonNull_B0 {E : tj_E} {X : tj_X} {n0 s0 : Nat} (d : Nat) (v0 : Option Nat) (σ : hp_S) : tj_T E X RJ37 "requireNonNull" cJ37_requireNonNull 1 (some (.object "java/lang/Object")) (d + 1) [] n0 s0 em_r σ 0 [some (va_rf v0)] [] (fn_J37_requireNonNull_B0 d v0) := by
  unfold fn_J37_requireNonNull_B0
  refine tj_aload_n dJ37_requireNonNull_0 rfl ?_
  refine tj_ifnonnull 12 dJ37_requireNonNull_1 rfl (fun _ => ?_) (fun _ _ => ?_)
  · exact tj_fail
  · refine tj_aload_n dJ37_requireNonNull_12 rfl ?_
    exact tj_aret (Or.inl ⟨_, rfl⟩) dJ37_requireNonNull_13
theorem ct_J37_requireNonNull : ∀ (d : Nat) (v0 : Option Nat), ct_ yJ37_requireNonNull (ws_ yJ37_requireNonNull cJ37_requireNonNull 1 (some (.object "java/lang/Object"))) d em_r [va_rf v0] (fn_J37_requireNonNull d v0)
  | 0, _ => ct_fail
  | d + 1, v0 => ct_of [(false, va_rf v0)] [some (va_rf v0)] (by decide) rfl ⟨rfl, (rf_cat _), trivial⟩ (fun E X n0 s0 σ => tj_J37_requireNonNull_B0 d v0 σ)
theorem tj_J1_getEntry_J72 {E : tj_E} {X : tj_X} {n0 s0 : Nat} (d : Nat) {b28 : Option Nat → Option Nat → mx_M (Option Nat)} (h28 : ∀ (l2 : Option Nat) (l3 : Option Nat) (σ : hp_S), tj_T E X RJ1 "getEntry" cJ1_getEntry 5 (some (.object "java/util/TreeMap$Entry")) (d + 1) [] n0 s0 em_r σ 28 [none, none, some (va_rf l2), some (va_rf l3), none] [] (b28 l2 l3)) (l2 : Option Nat) (l3 : Option Nat) (σ : hp_S) : tj_T E X RJ1 "getEntry" cJ1_getEntry 5 (some (.object "java/util/TreeMap$Entry")) (d + 1) [] n0 s0 em_r σ 72 [none, none, some (va_rf l2), some (va_rf l3), none] [] (fn_J1_getEntry_J72 d b28 l2 l3) := by
  unfold fn_J1_getEntry_J72
  refine tj_goto 28 dJ1_getEntry_72 rfl ?_
  exact h28 l2 l3 _
theorem tj_J1_getEntry_L28_b {E : tj_E} {X : tj_X} {n0 s0 : Nat} (d : Nat) {b28 : Option Nat → Option Nat → mx_M (Option Nat)} (h28 : ∀ (l2 : Option Nat) (l3 : Option Nat) (σ : hp_S), tj_T E X RJ1 "getEntry" cJ1_getEntry 5 (some (.object "java/util/TreeMap$Entry")) (d + 1) [] n0 s0 em_r σ 28 [none, none, some (va_rf l2), some (va_rf l3), none] [] (b28 l2 l3)) (l2 : Option Nat) (l3 : Option Nat) (σ : hp_S) : tj_T E X RJ1 "getEntry" cJ1_getEntry 5 (some (.object "java/util/TreeMap$Entry")) (d + 1) [] n0 s0 em_r σ 28 [none, none, some (va_rf l2), some (va_rf l3), none] [] (fn_J1_getEntry_L28_b d b28 l2 l3) := by
  unfold fn_J1_getEntry_L28_b
  refine tj_aload_n dJ1_getEntry_28 rfl ?_
  refine tj_ifnull 75 dJ1_getEntry_29 rfl (fun _ => ?_) (fun _ _ => ?_)
  · refine tj_null dJ1_getEntry_75 ?_
    exact tj_aret (Or.inl ⟨_, rfl⟩) dJ1_getEntry_76
  · refine tj_aload_n dJ1_getEntry_32 rfl ?_
    refine tj_aload_n dJ1_getEntry_33 rfl ?_
    refine tj_getR fl_J1_105 dJ1_getEntry_34 (fun v101 => ?_)
    refine tj_callF (as := [va_rf v101]) (rest := []) (st' := (fun r => [.int r])) (t := 31) (fun a e => by cases e; exact ct_J27_compareTo d _ _) (by decide) rfl q1466 q1470 q1472 q128 q1474 (ev_i 4 rfl) q1473 q1471 q1469 md_i4 rfl (by decide) rfl (by decide) dJ1_getEntry_37 (fun _ => rfl) (fun r102 σ => ?_) (by decide)
    refine tj_istore dJ1_getEntry_42 (by decide) (rf_cat _) [none, none, some (va_rf l2), some (va_rf l3), some (.int r102)] rfl ?_
    refine tj_iload dJ1_getEntry_44 rfl ?_
    refine tj_if_ge 57 dJ1_getEntry_46 rfl (fun _ => ?_) (fun _ => ?_)
    · refine tj_iload dJ1_getEntry_57 rfl ?_
      refine tj_if_le 70 dJ1_getEntry_59 rfl (fun _ => ?_) (fun _ => ?_)
      · refine tj_aload_n dJ1_getEntry_70 rfl ?_
        exact tj_aret (Or.inl ⟨_, rfl⟩) dJ1_getEntry_71
      · refine tj_aload_n dJ1_getEntry_62 rfl ?_
        refine tj_getR fl_J1_114 dJ1_getEntry_63 (fun v103 => ?_)
        refine tj_astore_n dJ1_getEntry_66 (by decide) (rf_cat _) [none, none, some (va_rf l2), some (va_rf v103), some (.int r102)] rfl ?_
        refine tj_goto 72 dJ1_getEntry_67 rfl ?_
        refine tj_wk (L' := [none, none, some (va_rf l2), some (va_rf v103), none]) ⟨rfl, rfl, trivial⟩ ?_
        exact tj_J1_getEntry_J72 d h28 l2 v103 _
    · refine tj_aload_n dJ1_getEntry_49 rfl ?_
      refine tj_getR fl_J1_111 dJ1_getEntry_50 (fun v104 => ?_)
      refine tj_astore_n dJ1_getEntry_53 (by decide) (rf_cat _) [none, none, some (va_rf l2), some (va_rf v104), some (.int r102)] rfl ?_
      refine tj_goto 72 dJ1_getEntry_54 rfl ?_
      refine tj_wk (L' := [none, none, some (va_rf l2), some (va_rf v104), none]) ⟨rfl, rfl, trivial⟩ ?_
      exact tj_J1_getEntry_J72 d h28 l2 v104 _
theorem tj_J1_getEntry_L28 {E : tj_E} {X : tj_X} {n0 s0 : Nat} (d : Nat) : ∀ (k : Nat) (l2 : Option Nat) (l3 : Option Nat) (σ : hp_S), tj_T E X RJ1 "getEntry" cJ1_getEntry 5 (some (.object "java/util/TreeMap$Entry")) (d + 1) [] n0 s0 em_r σ 28 [none, none, some (va_rf l2), some (va_rf l3), none] [] (fn_J1_getEntry_L28 d k l2 l3) := by
  intro k
  induction k with
  | zero =>
    intro l2 l3 σ
    exact tj_fail
  | succ k ih =>
    intro l2 l3 σ
    exact tj_J1_getEntry_L28_b d ih l2 l3 σ
theorem tj_J1_getEntry_B0 {E : tj_E} {X : tj_X} {n0 s0 : Nat} (d : Nat) (v0 : Option Nat) (v1 : Option Nat) (σ : hp_S) : tj_T E X RJ1 "getEntry" cJ1_getEntry 5 (some (.object "java/util/TreeMap$Entry")) (d + 1) [] n0 s0 em_r σ 0 [some (va_rf v0), some (va_rf v1), none, none, none] [] (fn_J1_getEntry_B0 d v0 v1) := by
  unfold fn_J1_getEntry_B0
  refine tj_aload_n dJ1_getEntry_0 rfl ?_
  refine tj_getR fl_J1_16r dJ1_getEntry_1 (fun v101 => ?_)
  refine tj_ifnull 13 dJ1_getEntry_4 rfl (fun _ => ?_) (fun _ _ => ?_)
  · refine tj_aload_n dJ1_getEntry_13 rfl ?_
    refine tj_callS (as := [va_rf v1]) (rest := []) (st' := (fun r => [va_rf r])) (ct_J37_requireNonNull d v1) q1720 q1721 q139 q1722 md_J37_requireNonNull rfl (by decide) rfl (by decide) dJ1_getEntry_14 (fun _ => rfl) (fun r102 σ => ?_) (by decide)
    refine tj_pop dJ1_getEntry_17 (rf_cat _) ?_
    refine tj_aload_n dJ1_getEntry_18 rfl ?_
    refine tj_cast (nm := "java/lang/Comparable") q1464 ca_java_lang_Comparable dJ1_getEntry_19 ?_
    refine tj_astore_n dJ1_getEntry_22 (by decide) (rf_cat _) [some (va_rf v0), some (va_rf v1), some (va_rf v1), none, none] rfl ?_
    refine tj_aload_n dJ1_getEntry_23 rfl ?_
    refine tj_getR fl_J1_101 dJ1_getEntry_24 (fun v103 => ?_)
    refine tj_astore_n dJ1_getEntry_27 (by decide) (rf_cat _) [some (va_rf v0), some (va_rf v1), some (va_rf v1), some (va_rf v103), none] rfl ?_
    refine tj_wk (L' := [none, none, some (va_rf v1), some (va_rf v103), none]) ⟨rfl, rfl, trivial⟩ ?_
    exact tj_J1_getEntry_L28 d mx_K v1 v103 _
  · refine tj_aload_n dJ1_getEntry_7 rfl ?_
    refine tj_aload_n dJ1_getEntry_8 rfl ?_
    exact tj_fail
theorem ct_J1_getEntry : ∀ (d : Nat) (v0 : Option Nat) (v1 : Option Nat), ct_ yJ1_getEntry (ws_ yJ1_getEntry cJ1_getEntry 5 (some (.object "java/util/TreeMap$Entry"))) d em_r [va_rf v0, va_rf v1] (fn_J1_getEntry d v0 v1)
  | 0, _, _ => ct_fail
  | d + 1, v0, v1 => ct_of [(false, va_rf v0), (false, va_rf v1)] [some (va_rf v0), some (va_rf v1), none, none, none] (by decide) rfl ⟨rfl, (rf_cat _), ⟨rfl, (rf_cat _), trivial⟩⟩ (fun E X n0 s0 σ => tj_J1_getEntry_B0 d v0 v1 σ)
theorem tj_J1_containsKey_B0 {E : tj_E} {X : tj_X} {n0 s0 : Nat} (d : Nat) (v0 : Option Nat) (v1 : Option Nat) (σ : hp_S) : tj_T E X RJ1 "containsKey" cJ1_containsKey 2 (some .boolean) (d + 1) [] n0 s0 em_i σ 0 [some (va_rf v0), some (va_rf v1)] [] (fn_J1_containsKey_B0 d v0 v1) := by
  unfold fn_J1_containsKey_B0
  refine tj_aload_n dJ1_containsKey_0 rfl ?_
  refine tj_aload_n dJ1_containsKey_1 rfl ?_
  refine tj_callV (as := [va_rf v1]) (rest := []) (st' := (fun r => [va_rf r])) (t := 18) (fun a e => by cases e; exact ct_J1_getEntry d _ _) (by decide) rfl q2203 q2204 q2205 q99 q2206 rfl md_J1_getEntry rfl (by decide) rfl (by decide) dJ1_containsKey_2 (fun _ => rfl) (fun r101 σ => ?_) (by decide)
  refine tj_ifnull 12 dJ1_containsKey_5 rfl (fun _ => ?_) (fun _ _ => ?_)
  · refine tj_iconst (0 : Int32) dJ1_containsKey_12 rfl ?_
    exact tj_zpure rfl dJ1_containsKey_13
  · refine tj_iconst (1 : Int32) dJ1_containsKey_8 rfl ?_
    refine tj_goto 13 dJ1_containsKey_9 rfl ?_
    exact tj_zpure rfl dJ1_containsKey_13
theorem ct_J1_containsKey : ∀ (d : Nat) (v0 : Option Nat) (v1 : Option Nat), ct_ yJ1_containsKey (ws_ yJ1_containsKey cJ1_containsKey 2 (some .boolean)) d em_i [va_rf v0, va_rf v1] (fn_J1_containsKey d v0 v1)
  | 0, _, _ => ct_fail
  | d + 1, v0, v1 => ct_of [(false, va_rf v0), (false, va_rf v1)] [some (va_rf v0), some (va_rf v1)] (by decide) rfl ⟨rfl, (rf_cat _), ⟨rfl, (rf_cat _), trivial⟩⟩ (fun E X n0 s0 σ => tj_J1_containsKey_B0 d v0 v1 σ)
theorem tj_X2_hasLion_B0 {E : tj_E} {X : tj_X} {n0 s0 : Nat} (d : Nat) (v0 : Option Nat) (v1 : Int32) (σ : hp_S) : tj_T E X RX2 "hasLion" cX2_hasLion 2 (some .boolean) (d + 1) [] n0 s0 em_i σ 0 [some (va_rf v0), some (.int v1)] [] (fn_X2_hasLion_B0 d v0 v1) := by
  unfold fn_X2_hasLion_B0
  refine tj_aload_n dX2_hasLion_0 rfl ?_
  refine tj_getR fl_X2_12r dX2_hasLion_1 (fun v101 => ?_)
  refine tj_iload_n dX2_hasLion_4 rfl ?_
  refine tj_callS (as := [.int v1]) (rest := [va_rf v101]) (st' := (fun r => [va_rf r, va_rf v101])) (ct_J27_valueOf d v1) q1428 q1429 q128 q1430 md_J27_valueOf rfl (by decide) rfl (by simp [rf_cat, cat_i, cat_l, cat_f, cat_d]) dX2_hasLion_5 (fun _ => rfl) (fun r102 σ => ?_) (by decide)
  refine tj_callV (as := [va_rf r102]) (rest := []) (st' := (fun r => [.int r])) (t := 18) (fun a e => by cases e; exact ct_J1_containsKey d _ _) (by decide) rfl q2199 q2200 q2201 q99 q2202 rfl md_J1_containsKey rfl (by decide) rfl (by decide) dX2_hasLion_8 (fun _ => rfl) (fun r103 σ => ?_) (by decide)
  exact tj_zret dX2_hasLion_11
theorem ct_X2_hasLion : ∀ (d : Nat) (v0 : Option Nat) (v1 : Int32), ct_ yX2_hasLion (ws_ yX2_hasLion cX2_hasLion 2 (some .boolean)) d em_i [va_rf v0, .int v1] (fn_X2_hasLion d v0 v1)
  | 0, _, _ => ct_fail
  | d + 1, v0, v1 => ct_of [(false, va_rf v0), (false, .int v1)] [some (va_rf v0), some (.int v1)] (by decide) rfl ⟨rfl, (rf_cat _), ⟨rfl, rfl, trivial⟩⟩ (fun E X n0 s0 σ => tj_X2_hasLion_B0 d v0 v1 σ)
theorem tj_J1_get_B0 {E : tj_E} {X : tj_X} {n0 s0 : Nat} (d : Nat) (v0 : Option Nat) (v1 : Option Nat) (σ : hp_S) : tj_T E X RJ1 "get" cJ1_get 3 (some (.object "java/lang/Object")) (d + 1) [] n0 s0 em_r σ 0 [some (va_rf v0), some (va_rf v1), none] [] (fn_J1_get_B0 d v0 v1) := by
  unfold fn_J1_get_B0
  refine tj_aload_n dJ1_get_0 rfl ?_
  refine tj_aload_n dJ1_get_1 rfl ?_
  refine tj_callV (as := [va_rf v1]) (rest := []) (st' := (fun r => [va_rf r])) (t := 18) (fun a e => by cases e; exact ct_J1_getEntry d _ _) (by decide) rfl q2203 q2204 q2205 q99 q2206 rfl md_J1_getEntry rfl (by decide) rfl (by decide) dJ1_get_2 (fun _ => rfl) (fun r101 σ => ?_) (by decide)
  refine tj_astore_n dJ1_get_5 (by decide) (rf_cat _) [some (va_rf v0), some (va_rf v1), some (va_rf r101)] rfl ?_
  refine tj_aload_n dJ1_get_6 rfl ?_
  refine tj_ifnonnull 14 dJ1_get_7 rfl (fun _ => ?_) (fun _ _ => ?_)
  · refine tj_null dJ1_get_10 ?_
    refine tj_goto 18 dJ1_get_11 rfl ?_
    exact tj_aret (Or.inl ⟨_, rfl⟩) dJ1_get_18
  · refine tj_aload_n dJ1_get_14 rfl ?_
    refine tj_getR fl_J1_58 dJ1_get_15 (fun v102 => ?_)
    exact tj_aret (Or.inl ⟨_, rfl⟩) dJ1_get_18
theorem ct_J1_get : ∀ (d : Nat) (v0 : Option Nat) (v1 : Option Nat), ct_ yJ1_get (ws_ yJ1_get cJ1_get 3 (some (.object "java/lang/Object"))) d em_r [va_rf v0, va_rf v1] (fn_J1_get d v0 v1)
  | 0, _, _ => ct_fail
  | d + 1, v0, v1 => ct_of [(false, va_rf v0), (false, va_rf v1)] [some (va_rf v0), some (va_rf v1), none] (by decide) rfl ⟨rfl, (rf_cat _), ⟨rfl, (rf_cat _), trivial⟩⟩ (fun E X n0 s0 σ => tj_J1_get_B0 d v0 v1 σ)
theorem tj_X2_isValid_B0 {E : tj_E} {X : tj_X} {n0 s0 : Nat} (d : Nat) (v0 : Option Nat) (v1 : Option Nat) (σ : hp_S) : tj_T E X RX2 "isValid" cX2_isValid 2 (some .boolean) (d + 1) [] n0 s0 em_i σ 0 [some (va_rf v0), some (va_rf v1)] [] (fn_X2_isValid_B0 d v0 v1) := by
  unfold fn_X2_isValid_B0
  refine tj_aload_n dX2_isValid_0 rfl ?_
  refine tj_aload_n dX2_isValid_1 rfl ?_
  refine tj_getI fl_X2_98r dX2_isValid_2 (fun v101 => ?_)
  refine tj_callV (as := [.int v101]) (rest := []) (st' := (fun r => [.int r])) (t := 2) (fun a e => by cases e; exact ct_X2_hasLion d _ _) (by decide) rfl q2195 q2196 q2197 q97 q2198 rfl md_X2_hasLion rfl (by decide) rfl (by decide) dX2_isValid_5 (fun _ => rfl) (fun r102 σ => ?_) (by decide)
  refine tj_if_eq 45 dX2_isValid_8 rfl (fun _ => ?_) (fun _ => ?_)
  · refine tj_iconst (0 : Int32) dX2_isValid_45 rfl ?_
    exact tj_zpure rfl dX2_isValid_46
  · refine tj_aload_n dX2_isValid_11 rfl ?_
    refine tj_getR fl_X2_12r dX2_isValid_12 (fun v103 => ?_)
    refine tj_aload_n dX2_isValid_15 rfl ?_
    refine tj_getI fl_X2_98r dX2_isValid_16 (fun v104 => ?_)
    refine tj_callS (as := [.int v104]) (rest := [va_rf v103]) (st' := (fun r => [va_rf r, va_rf v103])) (ct_J27_valueOf d v104) q1428 q1429 q128 q1430 md_J27_valueOf rfl (by decide) rfl (by simp [rf_cat, cat_i, cat_l, cat_f, cat_d]) dX2_isValid_19 (fun _ => rfl) (fun r105 σ => ?_) (by decide)
    refine tj_callV (as := [va_rf r105]) (rest := []) (st' := (fun r => [va_rf r])) (t := 18) (fun a e => by cases e; exact ct_J1_get d _ _) (by decide) rfl q2211 q2212 q2213 q99 q2214 rfl md_J1_get rfl (by decide) rfl (by decide) dX2_isValid_22 (fun _ => rfl) (fun r106 σ => ?_) (by decide)
    refine tj_cast (nm := "LionGate$Lion") q1427 ca_LionGate_Lion dX2_isValid_25 ?_
    refine tj_getR fl_X2_111r dX2_isValid_28 (fun v107 => ?_)
    refine tj_getI fl_X2_115r dX2_isValid_31 (fun v108 => ?_)
    refine tj_aload_n dX2_isValid_34 rfl ?_
    refine tj_getI fl_X2_115r dX2_isValid_35 (fun v109 => ?_)
    refine tj_icmp_ne 45 dX2_isValid_38 rfl (fun _ => ?_) (fun _ => ?_)
    · refine tj_iconst (1 : Int32) dX2_isValid_41 rfl ?_
      refine tj_goto 46 dX2_isValid_42 rfl ?_
      exact tj_zpure rfl dX2_isValid_46
    · refine tj_iconst (0 : Int32) dX2_isValid_45 rfl ?_
      exact tj_zpure rfl dX2_isValid_46
theorem ct_X2_isValid : ∀ (d : Nat) (v0 : Option Nat) (v1 : Option Nat), ct_ yX2_isValid (ws_ yX2_isValid cX2_isValid 2 (some .boolean)) d em_i [va_rf v0, va_rf v1] (fn_X2_isValid d v0 v1)
  | 0, _, _ => ct_fail
  | d + 1, v0, v1 => ct_of [(false, va_rf v0), (false, va_rf v1)] [some (va_rf v0), some (va_rf v1)] (by decide) rfl ⟨rfl, (rf_cat _), ⟨rfl, (rf_cat _), trivial⟩⟩ (fun E X n0 s0 σ => tj_X2_isValid_B0 d v0 v1 σ)
theorem tj_X2_hungriest_J28 {E : tj_E} {X : tj_X} {n0 s0 : Nat} (d : Nat) (l1 : Option Nat) (σ : hp_S) : tj_T E X RX2 "hungriest" cX2_hungriest 2 (some .int) (d + 1) [] n0 s0 em_i σ 28 [none, some (va_rf l1)] [] (fn_X2_hungriest_J28 d l1) := by
  unfold fn_X2_hungriest_J28
  refine tj_aload_n dX2_hungriest_28 rfl ?_
  refine tj_ifnonnull 36 dX2_hungriest_29 rfl (fun _ => ?_) (fun _ _ => ?_)
  · refine tj_iconst (-1 : Int32) dX2_hungriest_32 rfl ?_
    refine tj_goto 43 dX2_hungriest_33 rfl ?_
    exact tj_iret dX2_hungriest_43
  · refine tj_aload_n dX2_hungriest_36 rfl ?_
    refine tj_getR fl_X2_127r dX2_hungriest_37 (fun v101 => ?_)
    refine tj_getI fl_X2_98r dX2_hungriest_40 (fun v102 => ?_)
    exact tj_iret dX2_hungriest_43
theorem tj_X2_hungriest_L5_b {E : tj_E} {X : tj_X} {n0 s0 : Nat} (d : Nat) {b5 : Option Nat → Option Nat → mx_M Int32} (h5 : ∀ (l0 : Option Nat) (l1 : Option Nat) (σ : hp_S), tj_T E X RX2 "hungriest" cX2_hungriest 2 (some .int) (d + 1) [] n0 s0 em_i σ 5 [some (va_rf l0), some (va_rf l1)] [] (b5 l0 l1)) (l0 : Option Nat) (l1 : Option Nat) (σ : hp_S) : tj_T E X RX2 "hungriest" cX2_hungriest 2 (some .int) (d + 1) [] n0 s0 em_i σ 5 [some (va_rf l0), some (va_rf l1)] [] (fn_X2_hungriest_L5_b d b5 l0 l1) := by
  unfold fn_X2_hungriest_L5_b
  refine tj_aload_n dX2_hungriest_5 rfl ?_
  refine tj_ifnull 28 dX2_hungriest_6 rfl (fun _ => ?_) (fun _ _ => ?_)
  · refine tj_wk (L' := [none, some (va_rf l1)]) ⟨rfl, trivial⟩ ?_
    exact tj_X2_hungriest_J28 d l1 _
  · refine tj_aload_n dX2_hungriest_9 rfl ?_
    refine tj_aload_n dX2_hungriest_10 rfl ?_
    refine tj_getR fl_X2_127r dX2_hungriest_11 (fun v101 => ?_)
    refine tj_callV (as := [va_rf v101]) (rest := []) (st' := (fun r => [.int r])) (t := 2) (fun a e => by cases e; exact ct_X2_isValid d _ _) (by decide) rfl q2191 q2192 q2193 q97 q2194 rfl md_X2_isValid rfl (by decide) rfl (by decide) dX2_hungriest_14 (fun _ => rfl) (fun r102 σ => ?_) (by decide)
    refine tj_if_ne 28 dX2_hungriest_17 rfl (fun _ => ?_) (fun _ => ?_)
    · refine tj_aload_n dX2_hungriest_20 rfl ?_
      refine tj_callV (as := []) (rest := []) (st' := (fun r => [va_rf r])) (t := 7) (fun a e => by cases e; exact ct_X10_withoutTop d _) (by decide) rfl q2469 q2470 q2471 q157 q2472 rfl md_X10_withoutTop rfl (by decide) rfl (by decide) dX2_hungriest_21 (fun _ => rfl) (fun r103 σ => ?_) (by decide)
      refine tj_astore_n dX2_hungriest_24 (by decide) (rf_cat _) [some (va_rf l0), some (va_rf r103)] rfl ?_
      refine tj_goto 5 dX2_hungriest_25 rfl ?_
      exact h5 l0 r103 _
    · refine tj_wk (L' := [none, some (va_rf l1)]) ⟨rfl, trivial⟩ ?_
      exact tj_X2_hungriest_J28 d l1 _
theorem tj_X2_hungriest_L5 {E : tj_E} {X : tj_X} {n0 s0 : Nat} (d : Nat) : ∀ (k : Nat) (l0 : Option Nat) (l1 : Option Nat) (σ : hp_S), tj_T E X RX2 "hungriest" cX2_hungriest 2 (some .int) (d + 1) [] n0 s0 em_i σ 5 [some (va_rf l0), some (va_rf l1)] [] (fn_X2_hungriest_L5 d k l0 l1) := by
  intro k
  induction k with
  | zero =>
    intro l0 l1 σ
    exact tj_fail
  | succ k ih =>
    intro l0 l1 σ
    exact tj_X2_hungriest_L5_b d ih l0 l1 σ
theorem tj_X2_hungriest_B0 {E : tj_E} {X : tj_X} {n0 s0 : Nat} (d : Nat) (v0 : Option Nat) (σ : hp_S) : tj_T E X RX2 "hungriest" cX2_hungriest 2 (some .int) (d + 1) [] n0 s0 em_i σ 0 [some (va_rf v0), none] [] (fn_X2_hungriest_B0 d v0) := by
  unfold fn_X2_hungriest_B0
  refine tj_aload_n dX2_hungriest_0 rfl ?_
  refine tj_getR fl_X2_66 dX2_hungriest_1 (fun v101 => ?_)
  refine tj_astore_n dX2_hungriest_4 (by decide) (rf_cat _) [some (va_rf v0), some (va_rf v101)] rfl ?_
  exact tj_X2_hungriest_L5 d mx_K v0 v101 _
theorem ct_X2_hungriest : ∀ (d : Nat) (v0 : Option Nat), ct_ yX2_hungriest (ws_ yX2_hungriest cX2_hungriest 2 (some .int)) d em_i [va_rf v0] (fn_X2_hungriest d v0)
  | 0, _ => ct_fail
  | d + 1, v0 => ct_of [(false, va_rf v0)] [some (va_rf v0), none] (by decide) rfl ⟨rfl, (rf_cat _), trivial⟩ (fun E X n0 s0 σ => tj_X2_hungriest_B0 d v0 σ)
theorem tj_X2_hungriestByLooking_J57 {E : tj_E} {X : tj_X} {n0 s0 : Nat} (d : Nat) {b15 : Option Nat → Option Nat → mx_M Int32} (h15 : ∀ (l1 : Option Nat) (l2 : Option Nat) (σ : hp_S), tj_T E X RX2 "hungriestByLooking" cX2_hungriestByLooking 4 (some .int) (d + 1) [] n0 s0 em_i σ 15 [none, some (va_rf l1), some (va_rf l2), none] [] (b15 l1 l2)) (l2 : Option Nat) (p0 : Option Nat) (σ : hp_S) : tj_T E X RX2 "hungriestByLooking" cX2_hungriestByLooking 4 (some .int) (d + 1) [] n0 s0 em_i σ 57 [none, none, some (va_rf l2), none] [va_rf p0] (fn_X2_hungriestByLooking_J57 d b15 l2 p0) := by
  unfold fn_X2_hungriestByLooking_J57
  refine tj_astore_n dX2_hungriestByLooking_57 (by decide) trivial [none, some (va_rf p0), some (va_rf l2), none] rfl ?_
  refine tj_goto 15 dX2_hungriestByLooking_58 rfl ?_
  exact h15 p0 l2 _
theorem tj_X2_hungriestByLooking_J52 {E : tj_E} {X : tj_X} {n0 s0 : Nat} (d : Nat) {b15 : Option Nat → Option Nat → mx_M Int32} (h15 : ∀ (l1 : Option Nat) (l2 : Option Nat) (σ : hp_S), tj_T E X RX2 "hungriestByLooking" cX2_hungriestByLooking 4 (some .int) (d + 1) [] n0 s0 em_i σ 15 [none, some (va_rf l1), some (va_rf l2), none] [] (b15 l1 l2)) (l2 : Option Nat) (l3 : Option Nat) (σ : hp_S) : tj_T E X RX2 "hungriestByLooking" cX2_hungriestByLooking 4 (some .int) (d + 1) [] n0 s0 em_i σ 52 [none, none, some (va_rf l2), some (va_rf l3)] [] (fn_X2_hungriestByLooking_J52 d b15 l2 l3) := by
  unfold fn_X2_hungriestByLooking_J52
  refine tj_aload_n dX2_hungriestByLooking_52 rfl ?_
  refine tj_goto 57 dX2_hungriestByLooking_53 rfl ?_
  refine tj_wk (L' := [none, none, some (va_rf l2), none]) ⟨rfl, trivial⟩ ?_
  exact tj_X2_hungriestByLooking_J57 d h15 l2 l3 _
theorem tj_X2_hungriestByLooking_L15_b {E : tj_E} {X : tj_X} {n0 s0 : Nat} (d : Nat) {b15 : Option Nat → Option Nat → mx_M Int32} (h15 : ∀ (l1 : Option Nat) (l2 : Option Nat) (σ : hp_S), tj_T E X RX2 "hungriestByLooking" cX2_hungriestByLooking 4 (some .int) (d + 1) [] n0 s0 em_i σ 15 [none, some (va_rf l1), some (va_rf l2), none] [] (b15 l1 l2)) (l1 : Option Nat) (l2 : Option Nat) (σ : hp_S) : tj_T E X RX2 "hungriestByLooking" cX2_hungriestByLooking 4 (some .int) (d + 1) [] n0 s0 em_i σ 15 [none, some (va_rf l1), some (va_rf l2), none] [] (fn_X2_hungriestByLooking_L15_b d b15 l1 l2) := by
  unfold fn_X2_hungriestByLooking_L15_b
  refine tj_aload_n dX2_hungriestByLooking_15 rfl ?_
  refine tj_callF (as := []) (rest := []) (st' := (fun r => [.int r])) (t := 22) (fun a e => by cases e; exact ct_J33_hasNext d _) (by decide) rfl q1036 q1100 q1093 q135 q1095 (ev_i 1 rfl) q1094 q1101 q1099 md_i1 rfl (by decide) rfl (by decide) dX2_hungriestByLooking_16 (fun _ => rfl) (fun r101 σ => ?_) (by decide)
  refine tj_if_eq 61 dX2_hungriestByLooking_21 rfl (fun _ => ?_) (fun _ => ?_)
  · refine tj_aload_n dX2_hungriestByLooking_61 rfl ?_
    refine tj_ifnonnull 69 dX2_hungriestByLooking_62 rfl (fun _ => ?_) (fun _ _ => ?_)
    · refine tj_iconst (-1 : Int32) dX2_hungriestByLooking_65 rfl ?_
      refine tj_goto 73 dX2_hungriestByLooking_66 rfl ?_
      exact tj_iret dX2_hungriestByLooking_73
    · refine tj_aload_n dX2_hungriestByLooking_69 rfl ?_
      refine tj_getI fl_X2_48r dX2_hungriestByLooking_70 (fun v102 => ?_)
      exact tj_iret dX2_hungriestByLooking_73
  · refine tj_aload_n dX2_hungriestByLooking_24 rfl ?_
    refine tj_callF (as := []) (rest := []) (st' := (fun r => [va_rf r])) (t := 22) (fun a e => by cases e; exact ct_J36_next d _) (by decide) rfl q1103 q1419 q1421 q138 q1423 (ev_i 2 rfl) q1422 q1420 q1099 md_i2 rfl (by decide) rfl (by decide) dX2_hungriestByLooking_25 (fun _ => rfl) (fun r103 σ => ?_) (by decide)
    refine tj_cast (nm := "LionGate$Lion") q1427 ca_LionGate_Lion dX2_hungriestByLooking_30 ?_
    refine tj_astore_n dX2_hungriestByLooking_33 (by decide) (rf_cat _) [none, some (va_rf l1), some (va_rf l2), some (va_rf r103)] rfl ?_
    refine tj_aload_n dX2_hungriestByLooking_34 rfl ?_
    refine tj_ifnull 52 dX2_hungriestByLooking_35 rfl (fun _ => ?_) (fun _ _ => ?_)
    · refine tj_wk (L' := [none, none, some (va_rf l2), some (va_rf r103)]) ⟨rfl, rfl, trivial⟩ ?_
      exact tj_X2_hungriestByLooking_J52 d h15 l2 r103 _
    · refine tj_aload_n dX2_hungriestByLooking_38 rfl ?_
      refine tj_getR fl_X2_111r dX2_hungriestByLooking_39 (fun v104 => ?_)
      refine tj_aload_n dX2_hungriestByLooking_42 rfl ?_
      refine tj_getR fl_X2_111r dX2_hungriestByLooking_43 (fun v105 => ?_)
      refine tj_callV (as := [va_rf v105]) (rest := []) (st' := (fun r => [.int r])) (t := 6) (fun a e => by cases e; exact ct_X9_isBefore d _ _) (by decide) rfl q2916 q2159 q2160 q152 q2161 rfl md_X9_isBefore rfl (by decide) rfl (by decide) dX2_hungriestByLooking_46 (fun _ => rfl) (fun r106 σ => ?_) (by decide)
      refine tj_if_eq 56 dX2_hungriestByLooking_49 rfl (fun _ => ?_) (fun _ => ?_)
      · refine tj_aload_n dX2_hungriestByLooking_56 rfl ?_
        refine tj_wk (L' := [none, none, some (va_rf l2), none]) ⟨rfl, trivial⟩ ?_
        exact tj_X2_hungriestByLooking_J57 d h15 l2 l1 _
      · refine tj_wk (L' := [none, none, some (va_rf l2), some (va_rf r103)]) ⟨rfl, rfl, trivial⟩ ?_
        exact tj_X2_hungriestByLooking_J52 d h15 l2 r103 _
theorem tj_X2_hungriestByLooking_L15 {E : tj_E} {X : tj_X} {n0 s0 : Nat} (d : Nat) : ∀ (k : Nat) (l1 : Option Nat) (l2 : Option Nat) (σ : hp_S), tj_T E X RX2 "hungriestByLooking" cX2_hungriestByLooking 4 (some .int) (d + 1) [] n0 s0 em_i σ 15 [none, some (va_rf l1), some (va_rf l2), none] [] (fn_X2_hungriestByLooking_L15 d k l1 l2) := by
  intro k
  induction k with
  | zero =>
    intro l1 l2 σ
    exact tj_fail
  | succ k ih =>
    intro l1 l2 σ
    exact tj_X2_hungriestByLooking_L15_b d ih l1 l2 σ
theorem tj_X2_hungriestByLooking_B0 {E : tj_E} {X : tj_X} {n0 s0 : Nat} (d : Nat) (v0 : Option Nat) (σ : hp_S) : tj_T E X RX2 "hungriestByLooking" cX2_hungriestByLooking 4 (some .int) (d + 1) [] n0 s0 em_i σ 0 [some (va_rf v0), none, none, none] [] (fn_X2_hungriestByLooking_B0 d v0) := by
  unfold fn_X2_hungriestByLooking_B0
  refine tj_null dX2_hungriestByLooking_0 ?_
  refine tj_astore_n dX2_hungriestByLooking_1 (by decide) (rf_cat _) [some (va_rf v0), some (va_rf none), none, none] rfl ?_
  refine tj_aload_n dX2_hungriestByLooking_2 rfl ?_
  refine tj_getR fl_X2_12r dX2_hungriestByLooking_3 (fun v101 => ?_)
  refine tj_callV (as := []) (rest := []) (st' := (fun r => [va_rf r])) (t := 18) (fun a e => by cases e; exact ct_J1_values d _) (by decide) rfl q412 q413 q414 q99 q415 rfl md_J1_values rfl (by decide) rfl (by decide) dX2_hungriestByLooking_6 (fun _ => rfl) (fun r102 σ => ?_) (by decide)
  refine tj_callF (as := []) (rest := []) (st' := (fun r => [va_rf r])) (t := 20) (fun a e => by cases e; exact ct_J11_iterator d _) (by decide) rfl q428 q1018 q1020 q111 q1022 (ev_i 0 rfl) q1021 q1019 q1017 md_i0 rfl (by decide) rfl (by decide) dX2_hungriestByLooking_9 (fun _ => rfl) (fun r103 σ => ?_) (by decide)
  refine tj_astore_n dX2_hungriestByLooking_14 (by decide) (rf_cat _) [some (va_rf v0), some (va_rf none), some (va_rf r103), none] rfl ?_
  refine tj_wk (L' := [none, some (va_rf none), some (va_rf r103), none]) ⟨rfl, rfl, trivial⟩ ?_
  exact tj_X2_hungriestByLooking_L15 d mx_K none r103 _
theorem ct_X2_hungriestByLooking : ∀ (d : Nat) (v0 : Option Nat), ct_ yX2_hungriestByLooking (ws_ yX2_hungriestByLooking cX2_hungriestByLooking 4 (some .int)) d em_i [va_rf v0] (fn_X2_hungriestByLooking d v0)
  | 0, _ => ct_fail
  | d + 1, v0 => ct_of [(false, va_rf v0)] [some (va_rf v0), none, none, none] (by decide) rfl ⟨rfl, (rf_cat _), trivial⟩ (fun E X n0 s0 σ => tj_X2_hungriestByLooking_B0 d v0 σ)
theorem tj_X2_ticketsByAccounts_B0 {E : tj_E} {X : tj_X} {n0 s0 : Nat} (d : Nat) (v0 : Option Nat) (σ : hp_S) : tj_T E X RX2 "ticketsByAccounts" cX2_ticketsByAccounts 1 (some .int) (d + 1) [] n0 s0 em_i σ 0 [some (va_rf v0)] [] (fn_X2_ticketsByAccounts_B0 d v0) := by
  unfold fn_X2_ticketsByAccounts_B0
  refine tj_aload_n dX2_ticketsByAccounts_0 rfl ?_
  refine tj_getI fl_X2_76 dX2_ticketsByAccounts_1 (fun v101 => ?_)
  refine tj_aload_n dX2_ticketsByAccounts_4 rfl ?_
  refine tj_getI fl_X2_79 dX2_ticketsByAccounts_5 (fun v102 => ?_)
  refine tj_isub dX2_ticketsByAccounts_8 ?_
  refine tj_aload_n dX2_ticketsByAccounts_9 rfl ?_
  refine tj_getI fl_X2_85 dX2_ticketsByAccounts_10 (fun v103 => ?_)
  refine tj_isub dX2_ticketsByAccounts_13 ?_
  exact tj_iret dX2_ticketsByAccounts_14
theorem ct_X2_ticketsByAccounts : ∀ (d : Nat) (v0 : Option Nat), ct_ yX2_ticketsByAccounts (ws_ yX2_ticketsByAccounts cX2_ticketsByAccounts 1 (some .int)) d em_i [va_rf v0] (fn_X2_ticketsByAccounts d v0)
  | 0, _ => ct_fail
  | d + 1, v0 => ct_of [(false, va_rf v0)] [some (va_rf v0)] (by decide) rfl ⟨rfl, (rf_cat _), trivial⟩ (fun E X n0 s0 σ => tj_X2_ticketsByAccounts_B0 d v0 σ)
theorem tj_J1_size_B0 {E : tj_E} {X : tj_X} {n0 s0 : Nat} (d : Nat) (v0 : Option Nat) (σ : hp_S) : tj_T E X RJ1 "size" cJ1_size 1 (some .int) (d + 1) [] n0 s0 em_i σ 0 [some (va_rf v0)] [] (fn_J1_size_B0 d v0) := by
  unfold fn_J1_size_B0
  refine tj_aload_n dJ1_size_0 rfl ?_
  refine tj_getI fl_J1_7 dJ1_size_1 (fun v101 => ?_)
  exact tj_iret dJ1_size_4
theorem ct_J1_size : ∀ (d : Nat) (v0 : Option Nat), ct_ yJ1_size (ws_ yJ1_size cJ1_size 1 (some .int)) d em_i [va_rf v0] (fn_J1_size d v0)
  | 0, _ => ct_fail
  | d + 1, v0 => ct_of [(false, va_rf v0)] [some (va_rf v0)] (by decide) rfl ⟨rfl, (rf_cat _), trivial⟩ (fun E X n0 s0 σ => tj_J1_size_B0 d v0 σ)
theorem tj_X2_isConsistent_J32 {E : tj_E} {X : tj_X} {n0 s0 : Nat} (d : Nat) (l0 : Option Nat) (p0 : Int32) (σ : hp_S) : tj_T E X RX2 "isConsistent" cX2_isConsistent 3 (some .boolean) (d + 1) [] n0 s0 em_i σ 32 [some (va_rf l0), none, none] [.int p0] (fn_X2_isConsistent_J32 d l0 p0) := by
  unfold fn_X2_isConsistent_J32
  refine tj_istore_n dX2_isConsistent_32 (by decide) trivial [some (va_rf l0), none, some (.int p0)] rfl ?_
  refine tj_iload_n dX2_isConsistent_33 rfl ?_
  refine tj_if_eq 76 dX2_isConsistent_34 rfl (fun _ => ?_) (fun _ => ?_)
  · refine tj_iconst (0 : Int32) dX2_isConsistent_76 rfl ?_
    exact tj_zpure rfl dX2_isConsistent_77
  · refine tj_aload_n dX2_isConsistent_37 rfl ?_
    refine tj_getI fl_X2_70 dX2_isConsistent_38 (fun v101 => ?_)
    refine tj_aload_n dX2_isConsistent_41 rfl ?_
    refine tj_callV (as := []) (rest := [.int v101]) (st' := (fun r => [.int r, .int v101])) (t := 2) (fun a e => by cases e; exact ct_X2_ticketsByAccounts d _) (by decide) rfl q2919 q2896 q2897 q97 q2898 rfl md_X2_ticketsByAccounts rfl (by decide) rfl (by simp [rf_cat, cat_i, cat_l, cat_f, cat_d]) dX2_isConsistent_42 (fun _ => rfl) (fun r102 σ => ?_) (by decide)
    refine tj_icmp_ne 76 dX2_isConsistent_45 rfl (fun _ => ?_) (fun _ => ?_)
    · refine tj_aload_n dX2_isConsistent_48 rfl ?_
      refine tj_getI fl_X2_70 dX2_isConsistent_49 (fun v103 => ?_)
      refine tj_aload_n dX2_isConsistent_52 rfl ?_
      refine tj_getR fl_X2_12r dX2_isConsistent_53 (fun v104 => ?_)
      refine tj_callV (as := []) (rest := [.int v103]) (st' := (fun r => [.int r, .int v103])) (t := 18) (fun a e => by cases e; exact ct_J1_size d _) (by decide) rfl q1994 q1995 q1996 q99 q1997 rfl md_J1_size rfl (by decide) rfl (by simp [rf_cat, cat_i, cat_l, cat_f, cat_d]) dX2_isConsistent_56 (fun _ => rfl) (fun r105 σ => ?_) (by decide)
      refine tj_icmp_lt 76 dX2_isConsistent_59 rfl (fun _ => ?_) (fun _ => ?_)
      · refine tj_iconst (0 : Int32) dX2_isConsistent_76 rfl ?_
        exact tj_zpure rfl dX2_isConsistent_77
      · refine tj_aload_n dX2_isConsistent_62 rfl ?_
        refine tj_getR fl_X2_21 dX2_isConsistent_63 (fun v106 => ?_)
        refine tj_callV (as := []) (rest := []) (st' := (fun r => [.int r])) (t := 3) (fun a e => by cases e; exact ct_X3_areWaysAlike d _) (by decide) rfl q2920 q2921 q2922 q100 q2923 rfl md_X3_areWaysAlike rfl (by decide) rfl (by decide) dX2_isConsistent_66 (fun _ => rfl) (fun r107 σ => ?_) (by decide)
        refine tj_if_eq 76 dX2_isConsistent_69 rfl (fun _ => ?_) (fun _ => ?_)
        · refine tj_iconst (0 : Int32) dX2_isConsistent_76 rfl ?_
          exact tj_zpure rfl dX2_isConsistent_77
        · refine tj_iconst (1 : Int32) dX2_isConsistent_72 rfl ?_
          refine tj_goto 77 dX2_isConsistent_73 rfl ?_
          exact tj_zpure rfl dX2_isConsistent_77
    · refine tj_iconst (0 : Int32) dX2_isConsistent_76 rfl ?_
      exact tj_zpure rfl dX2_isConsistent_77
theorem tj_X2_isConsistent_J31 {E : tj_E} {X : tj_X} {n0 s0 : Nat} (d : Nat) (l0 : Option Nat) (σ : hp_S) : tj_T E X RX2 "isConsistent" cX2_isConsistent 3 (some .boolean) (d + 1) [] n0 s0 em_i σ 31 [some (va_rf l0), none, none] [] (fn_X2_isConsistent_J31 d l0) := by
  unfold fn_X2_isConsistent_J31
  refine tj_iconst (0 : Int32) dX2_isConsistent_31 rfl ?_
  exact tj_X2_isConsistent_J32 d l0 (0 : Int32) _
theorem tj_X2_isConsistent_B0 {E : tj_E} {X : tj_X} {n0 s0 : Nat} (d : Nat) (v0 : Option Nat) (σ : hp_S) : tj_T E X RX2 "isConsistent" cX2_isConsistent 3 (some .boolean) (d + 1) [] n0 s0 em_i σ 0 [some (va_rf v0), none, none] [] (fn_X2_isConsistent_B0 d v0) := by
  unfold fn_X2_isConsistent_B0
  refine tj_aload_n dX2_isConsistent_0 rfl ?_
  refine tj_callV (as := []) (rest := []) (st' := (fun r => [va_rf r])) (t := 2) (fun a e => by cases e; exact ct_X2_feeding d _) (by decide) rfl q2907 q2716 q2717 q97 q2718 rfl md_X2_feeding rfl (by decide) rfl (by decide) dX2_isConsistent_1 (fun _ => rfl) (fun r101 σ => ?_) (by decide)
  refine tj_astore_n dX2_isConsistent_4 (by decide) (rf_cat _) [some (va_rf v0), some (va_rf r101), none] rfl ?_
  refine tj_aload_n dX2_isConsistent_5 rfl ?_
  refine tj_callV (as := []) (rest := []) (st' := (fun r => [.int r])) (t := 2) (fun a e => by cases e; exact ct_X2_hungriest d _) (by decide) rfl q2908 q2909 q2910 q97 q2911 rfl md_X2_hungriest rfl (by decide) rfl (by decide) dX2_isConsistent_6 (fun _ => rfl) (fun r102 σ => ?_) (by decide)
  refine tj_aload_n dX2_isConsistent_9 rfl ?_
  refine tj_callV (as := []) (rest := [.int r102]) (st' := (fun r => [.int r, .int r102])) (t := 2) (fun a e => by cases e; exact ct_X2_hungriestByLooking d _) (by decide) rfl q2912 q2913 q2914 q97 q2915 rfl md_X2_hungriestByLooking rfl (by decide) rfl (by simp [rf_cat, cat_i, cat_l, cat_f, cat_d]) dX2_isConsistent_10 (fun _ => rfl) (fun r103 σ => ?_) (by decide)
  refine tj_icmp_ne 31 dX2_isConsistent_13 rfl (fun _ => ?_) (fun _ => ?_)
  · refine tj_aload_n dX2_isConsistent_16 rfl ?_
    refine tj_callV (as := []) (rest := []) (st' := (fun r => [.int r])) (t := 8) (fun a e => by cases e; exact ct_X12_most d _) (by decide) rfl q2917 q2788 q2789 q163 q2790 rfl md_X12_most rfl (by decide) rfl (by decide) dX2_isConsistent_17 (fun _ => rfl) (fun r104 σ => ?_) (by decide)
    refine tj_aload_n dX2_isConsistent_20 rfl ?_
    refine tj_callV (as := []) (rest := [.int r104]) (st' := (fun r => [.int r, .int r104])) (t := 8) (fun a e => by cases e; exact ct_X12_mostBySets d _) (by decide) rfl q2918 q2853 q2854 q163 q2855 rfl md_X12_mostBySets rfl (by decide) rfl (by simp [rf_cat, cat_i, cat_l, cat_f, cat_d]) dX2_isConsistent_21 (fun _ => rfl) (fun r105 σ => ?_) (by decide)
    refine tj_icmp_ne 31 dX2_isConsistent_24 rfl (fun _ => ?_) (fun _ => ?_)
    · refine tj_iconst (1 : Int32) dX2_isConsistent_27 rfl ?_
      refine tj_goto 32 dX2_isConsistent_28 rfl ?_
      refine tj_wk (L' := [some (va_rf v0), none, none]) ⟨rfl, trivial⟩ ?_
      exact tj_X2_isConsistent_J32 d v0 (1 : Int32) _
    · refine tj_wk (L' := [some (va_rf v0), none, none]) ⟨rfl, trivial⟩ ?_
      exact tj_X2_isConsistent_J31 d v0 _
  · refine tj_wk (L' := [some (va_rf v0), none, none]) ⟨rfl, trivial⟩ ?_
    exact tj_X2_isConsistent_J31 d v0 _
theorem ct_X2_isConsistent : ∀ (d : Nat) (v0 : Option Nat), ct_ yX2_isConsistent (ws_ yX2_isConsistent cX2_isConsistent 3 (some .boolean)) d em_i [va_rf v0] (fn_X2_isConsistent d v0)
  | 0, _ => ct_fail
  | d + 1, v0 => ct_of [(false, va_rf v0)] [some (va_rf v0), none, none] (by decide) rfl ⟨rfl, (rf_cat _), trivial⟩ (fun E X n0 s0 σ => tj_X2_isConsistent_B0 d v0 σ)
theorem tj_X1_isConsistent_B0 {E : tj_E} {X : tj_X} {n0 s0 : Nat} (d : Nat) (v0 : Option Nat) (σ : hp_S) : tj_T E X RX1 "isConsistent" cX1_isConsistent 1 (some .boolean) (d + 1) [] n0 s0 em_i σ 0 [some (va_rf v0)] [] (fn_X1_isConsistent_B0 d v0) := by
  unfold fn_X1_isConsistent_B0
  refine tj_aload_n dX1_isConsistent_0 rfl ?_
  refine tj_getR fl_X1_66 dX1_isConsistent_1 (fun v101 => ?_)
  refine tj_callV (as := []) (rest := []) (st' := (fun r => [.int r])) (t := 2) (fun a e => by cases e; exact ct_X2_isConsistent d _) (by decide) rfl q2903 q2904 q2905 q97 q2906 rfl md_X2_isConsistent rfl (by decide) rfl (by decide) dX1_isConsistent_4 (fun _ => rfl) (fun r102 σ => ?_) (by decide)
  exact tj_zret dX1_isConsistent_7
theorem ct_X1_isConsistent : ∀ (d : Nat) (v0 : Option Nat), ct_ yX1_isConsistent (ws_ yX1_isConsistent cX1_isConsistent 1 (some .boolean)) d em_i [va_rf v0] (fn_X1_isConsistent d v0)
  | 0, _ => ct_fail
  | d + 1, v0 => ct_of [(false, va_rf v0)] [some (va_rf v0)] (by decide) rfl ⟨rfl, (rf_cat _), trivial⟩ (fun E X n0 s0 σ => tj_X1_isConsistent_B0 d v0 σ)
theorem tj_X3_count_B0 {E : tj_E} {X : tj_X} {n0 s0 : Nat} (d : Nat) (v0 : Option Nat) (σ : hp_S) : tj_T E X RX3 "count" cX3_count 1 (some .int) (d + 1) [] n0 s0 em_i σ 0 [some (va_rf v0)] [] (fn_X3_count_B0 d v0) := by
  unfold fn_X3_count_B0
  refine tj_aload_n dX3_count_0 rfl ?_
  refine tj_getR fl_X3_12r dX3_count_1 (fun v101 => ?_)
  refine tj_callF (as := []) (rest := []) (st' := (fun r => [.int r])) (t := 16) (fun a e => by cases e; exact ct_J4_size d _) (by decide) rfl q2486 q2143 q1048 q103 q1049 (ev_i 9 rfl) q2145 q2144 q1323 md_i9 rfl (by decide) rfl (by decide) dX3_count_4 (fun _ => rfl) (fun r102 σ => ?_) (by decide)
  exact tj_iret dX3_count_9
theorem ct_X3_count : ∀ (d : Nat) (v0 : Option Nat), ct_ yX3_count (ws_ yX3_count cX3_count 1 (some .int)) d em_i [va_rf v0] (fn_X3_count d v0)
  | 0, _ => ct_fail
  | d + 1, v0 => ct_of [(false, va_rf v0)] [some (va_rf v0)] (by decide) rfl ⟨rfl, (rf_cat _), trivial⟩ (fun E X n0 s0 σ => tj_X3_count_B0 d v0 σ)
theorem tj_X1_keeperCount_B0 {E : tj_E} {X : tj_X} {n0 s0 : Nat} (d : Nat) (v0 : Option Nat) (σ : hp_S) : tj_T E X RX1 "keeperCount" cX1_keeperCount 1 (some .int) (d + 1) [] n0 s0 em_i σ 0 [some (va_rf v0)] [] (fn_X1_keeperCount_B0 d v0) := by
  unfold fn_X1_keeperCount_B0
  refine tj_aload_n dX1_keeperCount_0 rfl ?_
  refine tj_getR fl_X1_66 dX1_keeperCount_1 (fun v101 => ?_)
  refine tj_getR fl_X1_272 dX1_keeperCount_4 (fun v102 => ?_)
  refine tj_callV (as := []) (rest := []) (st' := (fun r => [.int r])) (t := 3) (fun a e => by cases e; exact ct_X3_count d _) (by decide) rfl q2866 q2482 q2483 q100 q2484 rfl md_X3_count rfl (by decide) rfl (by decide) dX1_keeperCount_7 (fun _ => rfl) (fun r103 σ => ?_) (by decide)
  exact tj_iret dX1_keeperCount_10
theorem ct_X1_keeperCount : ∀ (d : Nat) (v0 : Option Nat), ct_ yX1_keeperCount (ws_ yX1_keeperCount cX1_keeperCount 1 (some .int)) d em_i [va_rf v0] (fn_X1_keeperCount d v0)
  | 0, _ => ct_fail
  | d + 1, v0 => ct_of [(false, va_rf v0)] [some (va_rf v0)] (by decide) rfl ⟨rfl, (rf_cat _), trivial⟩ (fun E X n0 s0 σ => tj_X1_keeperCount_B0 d v0 σ)
theorem tj_X1_lateTotal_B0 {E : tj_E} {X : tj_X} {n0 s0 : Nat} (d : Nat) (v0 : Option Nat) (σ : hp_S) : tj_T E X RX1 "lateTotal" cX1_lateTotal 1 (some .int) (d + 1) [] n0 s0 em_i σ 0 [some (va_rf v0)] [] (fn_X1_lateTotal_B0 d v0) := by
  unfold fn_X1_lateTotal_B0
  refine tj_aload_n dX1_lateTotal_0 rfl ?_
  refine tj_getR fl_X1_66 dX1_lateTotal_1 (fun v101 => ?_)
  refine tj_getI fl_X1_331 dX1_lateTotal_4 (fun v102 => ?_)
  exact tj_iret dX1_lateTotal_7
theorem ct_X1_lateTotal : ∀ (d : Nat) (v0 : Option Nat), ct_ yX1_lateTotal (ws_ yX1_lateTotal cX1_lateTotal 1 (some .int)) d em_i [va_rf v0] (fn_X1_lateTotal d v0)
  | 0, _ => ct_fail
  | d + 1, v0 => ct_of [(false, va_rf v0)] [some (va_rf v0)] (by decide) rfl ⟨rfl, (rf_cat _), trivial⟩ (fun E X n0 s0 σ => tj_X1_lateTotal_B0 d v0 σ)
theorem tj_X1_lionCount_B0 {E : tj_E} {X : tj_X} {n0 s0 : Nat} (d : Nat) (v0 : Option Nat) (σ : hp_S) : tj_T E X RX1 "lionCount" cX1_lionCount 1 (some .int) (d + 1) [] n0 s0 em_i σ 0 [some (va_rf v0)] [] (fn_X1_lionCount_B0 d v0) := by
  unfold fn_X1_lionCount_B0
  refine tj_aload_n dX1_lionCount_0 rfl ?_
  refine tj_getR fl_X1_66 dX1_lionCount_1 (fun v101 => ?_)
  refine tj_getR fl_X1_172r dX1_lionCount_4 (fun v102 => ?_)
  refine tj_callV (as := []) (rest := []) (st' := (fun r => [.int r])) (t := 18) (fun a e => by cases e; exact ct_J1_size d _) (by decide) rfl q2698 q1995 q1996 q99 q1997 rfl md_J1_size rfl (by decide) rfl (by decide) dX1_lionCount_7 (fun _ => rfl) (fun r103 σ => ?_) (by decide)
  exact tj_iret dX1_lionCount_10
theorem ct_X1_lionCount : ∀ (d : Nat) (v0 : Option Nat), ct_ yX1_lionCount (ws_ yX1_lionCount cX1_lionCount 1 (some .int)) d em_i [va_rf v0] (fn_X1_lionCount d v0)
  | 0, _ => ct_fail
  | d + 1, v0 => ct_of [(false, va_rf v0)] [some (va_rf v0)] (by decide) rfl ⟨rfl, (rf_cat _), trivial⟩ (fun E X n0 s0 σ => tj_X1_lionCount_B0 d v0 σ)
theorem tj_X1_mostInTime_B0 {E : tj_E} {X : tj_X} {n0 s0 : Nat} (d : Nat) (v0 : Option Nat) (σ : hp_S) : tj_T E X RX1 "mostInTime" cX1_mostInTime 1 (some .int) (d + 1) [] n0 s0 em_i σ 0 [some (va_rf v0)] [] (fn_X1_mostInTime_B0 d v0) := by
  unfold fn_X1_mostInTime_B0
  refine tj_aload_n dX1_mostInTime_0 rfl ?_
  refine tj_getR fl_X1_66 dX1_mostInTime_1 (fun v101 => ?_)
  refine tj_callV (as := []) (rest := []) (st' := (fun r => [va_rf r])) (t := 2) (fun a e => by cases e; exact ct_X2_feeding d _) (by decide) rfl q2715 q2716 q2717 q97 q2718 rfl md_X2_feeding rfl (by decide) rfl (by decide) dX1_mostInTime_4 (fun _ => rfl) (fun r102 σ => ?_) (by decide)
  refine tj_callV (as := []) (rest := []) (st' := (fun r => [.int r])) (t := 8) (fun a e => by cases e; exact ct_X12_most d _) (by decide) rfl q2787 q2788 q2789 q163 q2790 rfl md_X12_most rfl (by decide) rfl (by decide) dX1_mostInTime_7 (fun _ => rfl) (fun r103 σ => ?_) (by decide)
  exact tj_iret dX1_mostInTime_10
theorem ct_X1_mostInTime : ∀ (d : Nat) (v0 : Option Nat), ct_ yX1_mostInTime (ws_ yX1_mostInTime cX1_mostInTime 1 (some .int)) d em_i [va_rf v0] (fn_X1_mostInTime d v0)
  | 0, _ => ct_fail
  | d + 1, v0 => ct_of [(false, va_rf v0)] [some (va_rf v0)] (by decide) rfl ⟨rfl, (rf_cat _), trivial⟩ (fun E X n0 s0 σ => tj_X1_mostInTime_B0 d v0 σ)
theorem tj_X1_mostInTimeBySets_B0 {E : tj_E} {X : tj_X} {n0 s0 : Nat} (d : Nat) (v0 : Option Nat) (σ : hp_S) : tj_T E X RX1 "mostInTimeBySets" cX1_mostInTimeBySets 1 (some .int) (d + 1) [] n0 s0 em_i σ 0 [some (va_rf v0)] [] (fn_X1_mostInTimeBySets_B0 d v0) := by
  unfold fn_X1_mostInTimeBySets_B0
  refine tj_aload_n dX1_mostInTimeBySets_0 rfl ?_
  refine tj_getR fl_X1_66 dX1_mostInTimeBySets_1 (fun v101 => ?_)
  refine tj_callV (as := []) (rest := []) (st' := (fun r => [va_rf r])) (t := 2) (fun a e => by cases e; exact ct_X2_feeding d _) (by decide) rfl q2715 q2716 q2717 q97 q2718 rfl md_X2_feeding rfl (by decide) rfl (by decide) dX1_mostInTimeBySets_4 (fun _ => rfl) (fun r102 σ => ?_) (by decide)
  refine tj_callV (as := []) (rest := []) (st' := (fun r => [.int r])) (t := 8) (fun a e => by cases e; exact ct_X12_mostBySets d _) (by decide) rfl q2852 q2853 q2854 q163 q2855 rfl md_X12_mostBySets rfl (by decide) rfl (by decide) dX1_mostInTimeBySets_7 (fun _ => rfl) (fun r103 σ => ?_) (by decide)
  exact tj_iret dX1_mostInTimeBySets_10
theorem ct_X1_mostInTimeBySets : ∀ (d : Nat) (v0 : Option Nat), ct_ yX1_mostInTimeBySets (ws_ yX1_mostInTimeBySets cX1_mostInTimeBySets 1 (some .int)) d em_i [va_rf v0] (fn_X1_mostInTimeBySets d v0)
  | 0, _ => ct_fail
  | d + 1, v0 => ct_of [(false, va_rf v0)] [some (va_rf v0)] (by decide) rfl ⟨rfl, (rf_cat _), trivial⟩ (fun E X n0 s0 σ => tj_X1_mostInTimeBySets_B0 d v0 σ)
theorem tj_X1_portionTotal_B0 {E : tj_E} {X : tj_X} {n0 s0 : Nat} (d : Nat) (v0 : Option Nat) (σ : hp_S) : tj_T E X RX1 "portionTotal" cX1_portionTotal 1 (some .int) (d + 1) [] n0 s0 em_i σ 0 [some (va_rf v0)] [] (fn_X1_portionTotal_B0 d v0) := by
  unfold fn_X1_portionTotal_B0
  refine tj_aload_n dX1_portionTotal_0 rfl ?_
  refine tj_getR fl_X1_66 dX1_portionTotal_1 (fun v101 => ?_)
  refine tj_getI fl_X1_334 dX1_portionTotal_4 (fun v102 => ?_)
  exact tj_iret dX1_portionTotal_7
theorem ct_X1_portionTotal : ∀ (d : Nat) (v0 : Option Nat), ct_ yX1_portionTotal (ws_ yX1_portionTotal cX1_portionTotal 1 (some .int)) d em_i [va_rf v0] (fn_X1_portionTotal d v0)
  | 0, _ => ct_fail
  | d + 1, v0 => ct_of [(false, va_rf v0)] [some (va_rf v0)] (by decide) rfl ⟨rfl, (rf_cat _), trivial⟩ (fun E X n0 s0 σ => tj_X1_portionTotal_B0 d v0 σ)
theorem tj_J43_init_B0 {E : tj_E} {X : tj_X} {n0 s0 : Nat} (d : Nat) (v0 : Option Nat) (v1 : Option Nat) (v2 : Option Nat) (v3 : Option Nat) (σ : hp_S) : tj_T E X RJ43 "<init>" cJ43_init 4 none (d + 1) [] n0 s0 em_v σ 0 [some (va_rf v0), some (va_rf v1), some (va_rf v2), some (va_rf v3)] [] (fn_J43_init_B0 d v0 v1 v2 v3) := by
  unfold fn_J43_init_B0
  refine tj_aload_n dJ43_init_0 rfl ?_
  refine tj_objInit q1846 q183 q184 (by decide) dJ43_init_1 (fun _ _ => ?_)
  refine tj_aload_n dJ43_init_4 rfl ?_
  refine tj_aload_n dJ43_init_5 rfl ?_
  refine tj_put fl_J43_7 (nar_rf _) (fit_rf _) dJ43_init_6 (fun σ => ?_)
  refine tj_aload_n dJ43_init_9 rfl ?_
  refine tj_aload_n dJ43_init_10 rfl ?_
  refine tj_put fl_J43_13 (nar_rf _) (fit_rf _) dJ43_init_11 (fun σ => ?_)
  refine tj_aload_n dJ43_init_14 rfl ?_
  refine tj_aload_n dJ43_init_15 rfl ?_
  refine tj_put fl_J43_17 (nar_rf _) (fit_rf _) dJ43_init_16 (fun σ => ?_)
  exact tj_vret dJ43_init_19
theorem ct_J43_init : ∀ (d : Nat) (v0 : Option Nat) (v1 : Option Nat) (v2 : Option Nat) (v3 : Option Nat), ct_ yJ43_init (ws_ yJ43_init cJ43_init 4 none) d em_v [va_rf v0, va_rf v1, va_rf v2, va_rf v3] (fn_J43_init d v0 v1 v2 v3)
  | 0, _, _, _, _ => ct_fail
  | d + 1, v0, v1, v2, v3 => ct_of [(false, va_rf v0), (false, va_rf v1), (false, va_rf v2), (false, va_rf v3)] [some (va_rf v0), some (va_rf v1), some (va_rf v2), some (va_rf v3)] (by decide) rfl ⟨rfl, (rf_cat _), ⟨rfl, (rf_cat _), ⟨rfl, (rf_cat _), ⟨rfl, (rf_cat _), trivial⟩⟩⟩⟩ (fun E X n0 s0 σ => tj_J43_init_B0 d v0 v1 v2 v3 σ)
theorem tj_J6_linkLast_J38 {E : tj_E} {X : tj_X} {n0 s0 : Nat} (d : Nat) (l0 : Option Nat) (σ : hp_S) : tj_T E X RJ6 "linkLast" cJ6_linkLast 4 none (d + 1) [] n0 s0 em_v σ 38 [some (va_rf l0), none, none, none] [] (fn_J6_linkLast_J38 d l0) := by
  unfold fn_J6_linkLast_J38
  refine tj_aload_n dJ6_linkLast_38 rfl ?_
  refine tj_dup dJ6_linkLast_39 (rf_cat _) ?_
  refine tj_getI fl_J6_7 dJ6_linkLast_40 (fun v101 => ?_)
  refine tj_iconst (1 : Int32) dJ6_linkLast_43 rfl ?_
  refine tj_iadd dJ6_linkLast_44 ?_
  refine tj_put fl_J6_7 rfl rfl dJ6_linkLast_45 (fun σ => ?_)
  refine tj_aload_n dJ6_linkLast_48 rfl ?_
  refine tj_dup dJ6_linkLast_49 (rf_cat _) ?_
  refine tj_getI fl_J6_33 dJ6_linkLast_50 (fun v102 => ?_)
  refine tj_iconst (1 : Int32) dJ6_linkLast_53 rfl ?_
  refine tj_iadd dJ6_linkLast_54 ?_
  refine tj_put fl_J6_33 rfl rfl dJ6_linkLast_55 (fun σ => ?_)
  exact tj_vret dJ6_linkLast_58
theorem tj_J6_linkLast_B0 {E : tj_E} {X : tj_X} {n0 s0 : Nat} (d : Nat) (v0 : Option Nat) (v1 : Option Nat) (σ : hp_S) : tj_T E X RJ6 "linkLast" cJ6_linkLast 4 none (d + 1) [] n0 s0 em_v σ 0 [some (va_rf v0), some (va_rf v1), none, none] [] (fn_J6_linkLast_B0 d v0 v1) := by
  unfold fn_J6_linkLast_B0
  refine tj_aload_n dJ6_linkLast_0 rfl ?_
  refine tj_getR fl_J6_27 dJ6_linkLast_1 (fun v101 => ?_)
  refine tj_astore_n dJ6_linkLast_4 (by decide) (rf_cat _) [some (va_rf v0), some (va_rf v1), some (va_rf v101), none] rfl ?_
  refine tj_new nw_J6_22 dJ6_linkLast_5 (fun a102 σ => ?_)
  refine tj_dup dJ6_linkLast_8 (rf_cat _) ?_
  refine tj_aload_n dJ6_linkLast_9 rfl ?_
  refine tj_aload_n dJ6_linkLast_10 rfl ?_
  refine tj_null dJ6_linkLast_11 ?_
  refine tj_callI (as := [va_rf v101, va_rf v1, va_rf none]) (rest := [va_rf (some a102)]) (st' := (fun _ => [va_rf (some a102)])) (fun a e => by cases e; exact ct_J43_init d _ _ _ _) q1843 q1844 q147 q1845 rfl md_J43_init rfl (by decide) rfl (by simp [rf_cat, cat_i, cat_l, cat_f, cat_d]) dJ6_linkLast_12 (fun _ => rfl) (fun _ σ => ?_) (by decide)
  refine tj_astore_n dJ6_linkLast_15 (by decide) (rf_cat _) [some (va_rf v0), some (va_rf v1), some (va_rf v101), some (va_rf (some a102))] rfl ?_
  refine tj_aload_n dJ6_linkLast_16 rfl ?_
  refine tj_aload_n dJ6_linkLast_17 rfl ?_
  refine tj_put fl_J6_27 (nar_rf _) (fit_rf _) dJ6_linkLast_18 (fun σ => ?_)
  refine tj_aload_n dJ6_linkLast_21 rfl ?_
  refine tj_ifnonnull 33 dJ6_linkLast_22 rfl (fun _ => ?_) (fun _ _ => ?_)
  · refine tj_aload_n dJ6_linkLast_25 rfl ?_
    refine tj_aload_n dJ6_linkLast_26 rfl ?_
    refine tj_put fl_J6_18 (nar_rf _) (fit_rf _) dJ6_linkLast_27 (fun σ => ?_)
    refine tj_goto 38 dJ6_linkLast_30 rfl ?_
    refine tj_wk (L' := [some (va_rf v0), none, none, none]) ⟨rfl, trivial⟩ ?_
    exact tj_J6_linkLast_J38 d v0 _
  · refine tj_aload_n dJ6_linkLast_33 rfl ?_
    refine tj_aload_n dJ6_linkLast_34 rfl ?_
    refine tj_put fl_J6_36 (nar_rf _) (fit_rf _) dJ6_linkLast_35 (fun σ => ?_)
    refine tj_wk (L' := [some (va_rf v0), none, none, none]) ⟨rfl, trivial⟩ ?_
    exact tj_J6_linkLast_J38 d v0 _
theorem ct_J6_linkLast : ∀ (d : Nat) (v0 : Option Nat) (v1 : Option Nat), ct_ yJ6_linkLast (ws_ yJ6_linkLast cJ6_linkLast 4 none) d em_v [va_rf v0, va_rf v1] (fn_J6_linkLast d v0 v1)
  | 0, _, _ => ct_fail
  | d + 1, v0, v1 => ct_of [(false, va_rf v0), (false, va_rf v1)] [some (va_rf v0), some (va_rf v1), none, none] (by decide) rfl ⟨rfl, (rf_cat _), ⟨rfl, (rf_cat _), trivial⟩⟩ (fun E X n0 s0 σ => tj_J6_linkLast_B0 d v0 v1 σ)
theorem tj_J6_addLast_B0 {E : tj_E} {X : tj_X} {n0 s0 : Nat} (d : Nat) (v0 : Option Nat) (v1 : Option Nat) (σ : hp_S) : tj_T E X RJ6 "addLast" cJ6_addLast 2 none (d + 1) [] n0 s0 em_v σ 0 [some (va_rf v0), some (va_rf v1)] [] (fn_J6_addLast_B0 d v0 v1) := by
  unfold fn_J6_addLast_B0
  refine tj_aload_n dJ6_addLast_0 rfl ?_
  refine tj_aload_n dJ6_addLast_1 rfl ?_
  refine tj_callV (as := [va_rf v1]) (rest := []) (st' := (fun _ => [])) (t := 24) (fun a e => by cases e; exact ct_J6_linkLast d _ _) (by decide) rfl q1837 q1838 q1839 q105 q1840 rfl md_J6_linkLast rfl (by decide) rfl (by decide) dJ6_addLast_2 (fun _ => rfl) (fun _ σ => ?_) (by decide)
  exact tj_vret dJ6_addLast_5
theorem ct_J6_addLast : ∀ (d : Nat) (v0 : Option Nat) (v1 : Option Nat), ct_ yJ6_addLast (ws_ yJ6_addLast cJ6_addLast 2 none) d em_v [va_rf v0, va_rf v1] (fn_J6_addLast d v0 v1)
  | 0, _, _ => ct_fail
  | d + 1, v0, v1 => ct_of [(false, va_rf v0), (false, va_rf v1)] [some (va_rf v0), some (va_rf v1)] (by decide) rfl ⟨rfl, (rf_cat _), ⟨rfl, (rf_cat _), trivial⟩⟩ (fun E X n0 s0 σ => tj_J6_addLast_B0 d v0 v1 σ)
theorem tj_J6_unlinkFirst_J42 {E : tj_E} {X : tj_X} {n0 s0 : Nat} (d : Nat) (l0 : Option Nat) (l2 : Option Nat) (σ : hp_S) : tj_T E X RJ6 "unlinkFirst" cJ6_unlinkFirst 4 (some (.object "java/lang/Object")) (d + 1) [] n0 s0 em_r σ 42 [some (va_rf l0), none, some (va_rf l2), none] [] (fn_J6_unlinkFirst_J42 d l0 l2) := by
  unfold fn_J6_unlinkFirst_J42
  refine tj_aload_n dJ6_unlinkFirst_42 rfl ?_
  refine tj_dup dJ6_unlinkFirst_43 (rf_cat _) ?_
  refine tj_getI fl_J6_7 dJ6_unlinkFirst_44 (fun v101 => ?_)
  refine tj_iconst (1 : Int32) dJ6_unlinkFirst_47 rfl ?_
  refine tj_isub dJ6_unlinkFirst_48 ?_
  refine tj_put fl_J6_7 rfl rfl dJ6_unlinkFirst_49 (fun σ => ?_)
  refine tj_aload_n dJ6_unlinkFirst_52 rfl ?_
  refine tj_dup dJ6_unlinkFirst_53 (rf_cat _) ?_
  refine tj_getI fl_J6_33 dJ6_unlinkFirst_54 (fun v102 => ?_)
  refine tj_iconst (1 : Int32) dJ6_unlinkFirst_57 rfl ?_
  refine tj_iadd dJ6_unlinkFirst_58 ?_
  refine tj_put fl_J6_33 rfl rfl dJ6_unlinkFirst_59 (fun σ => ?_)
  refine tj_aload_n dJ6_unlinkFirst_62 rfl ?_
  exact tj_aret (Or.inl ⟨_, rfl⟩) dJ6_unlinkFirst_63
theorem tj_J6_unlinkFirst_B0 {E : tj_E} {X : tj_X} {n0 s0 : Nat} (d : Nat) (v0 : Option Nat) (v1 : Option Nat) (σ : hp_S) : tj_T E X RJ6 "unlinkFirst" cJ6_unlinkFirst 4 (some (.object "java/lang/Object")) (d + 1) [] n0 s0 em_r σ 0 [some (va_rf v0), some (va_rf v1), none, none] [] (fn_J6_unlinkFirst_B0 d v0 v1) := by
  unfold fn_J6_unlinkFirst_B0
  refine tj_aload_n dJ6_unlinkFirst_0 rfl ?_
  refine tj_getR fl_J6_39 dJ6_unlinkFirst_1 (fun v101 => ?_)
  refine tj_astore_n dJ6_unlinkFirst_4 (by decide) (rf_cat _) [some (va_rf v0), some (va_rf v1), some (va_rf v101), none] rfl ?_
  refine tj_aload_n dJ6_unlinkFirst_5 rfl ?_
  refine tj_getR fl_J6_36 dJ6_unlinkFirst_6 (fun v102 => ?_)
  refine tj_astore_n dJ6_unlinkFirst_9 (by decide) (rf_cat _) [some (va_rf v0), some (va_rf v1), some (va_rf v101), some (va_rf v102)] rfl ?_
  refine tj_aload_n dJ6_unlinkFirst_10 rfl ?_
  refine tj_null dJ6_unlinkFirst_11 ?_
  refine tj_put fl_J6_39 (nar_rf _) (fit_rf _) dJ6_unlinkFirst_12 (fun σ => ?_)
  refine tj_aload_n dJ6_unlinkFirst_15 rfl ?_
  refine tj_null dJ6_unlinkFirst_16 ?_
  refine tj_put fl_J6_36 (nar_rf _) (fit_rf _) dJ6_unlinkFirst_17 (fun σ => ?_)
  refine tj_aload_n dJ6_unlinkFirst_20 rfl ?_
  refine tj_aload_n dJ6_unlinkFirst_21 rfl ?_
  refine tj_put fl_J6_18 (nar_rf _) (fit_rf _) dJ6_unlinkFirst_22 (fun σ => ?_)
  refine tj_aload_n dJ6_unlinkFirst_25 rfl ?_
  refine tj_ifnonnull 37 dJ6_unlinkFirst_26 rfl (fun _ => ?_) (fun _ _ => ?_)
  · refine tj_aload_n dJ6_unlinkFirst_29 rfl ?_
    refine tj_null dJ6_unlinkFirst_30 ?_
    refine tj_put fl_J6_27 (nar_rf _) (fit_rf _) dJ6_unlinkFirst_31 (fun σ => ?_)
    refine tj_goto 42 dJ6_unlinkFirst_34 rfl ?_
    refine tj_wk (L' := [some (va_rf v0), none, some (va_rf v101), none]) ⟨rfl, rfl, trivial⟩ ?_
    exact tj_J6_unlinkFirst_J42 d v0 v101 _
  · refine tj_aload_n dJ6_unlinkFirst_37 rfl ?_
    refine tj_null dJ6_unlinkFirst_38 ?_
    refine tj_put fl_J6_30 (nar_rf _) (fit_rf _) dJ6_unlinkFirst_39 (fun σ => ?_)
    refine tj_wk (L' := [some (va_rf v0), none, some (va_rf v101), none]) ⟨rfl, rfl, trivial⟩ ?_
    exact tj_J6_unlinkFirst_J42 d v0 v101 _
theorem ct_J6_unlinkFirst : ∀ (d : Nat) (v0 : Option Nat) (v1 : Option Nat), ct_ yJ6_unlinkFirst (ws_ yJ6_unlinkFirst cJ6_unlinkFirst 4 (some (.object "java/lang/Object"))) d em_r [va_rf v0, va_rf v1] (fn_J6_unlinkFirst d v0 v1)
  | 0, _, _ => ct_fail
  | d + 1, v0, v1 => ct_of [(false, va_rf v0), (false, va_rf v1)] [some (va_rf v0), some (va_rf v1), none, none] (by decide) rfl ⟨rfl, (rf_cat _), ⟨rfl, (rf_cat _), trivial⟩⟩ (fun E X n0 s0 σ => tj_J6_unlinkFirst_B0 d v0 v1 σ)
theorem tj_J6_removeFirst_B0 {E : tj_E} {X : tj_X} {n0 s0 : Nat} (d : Nat) (v0 : Option Nat) (σ : hp_S) : tj_T E X RJ6 "removeFirst" cJ6_removeFirst 2 (some (.object "java/lang/Object")) (d + 1) [] n0 s0 em_r σ 0 [some (va_rf v0), none] [] (fn_J6_removeFirst_B0 d v0) := by
  unfold fn_J6_removeFirst_B0
  refine tj_aload_n dJ6_removeFirst_0 rfl ?_
  refine tj_getR fl_J6_18 dJ6_removeFirst_1 (fun v101 => ?_)
  refine tj_astore_n dJ6_removeFirst_4 (by decide) (rf_cat _) [some (va_rf v0), some (va_rf v101)] rfl ?_
  refine tj_aload_n dJ6_removeFirst_5 rfl ?_
  refine tj_ifnonnull 17 dJ6_removeFirst_6 rfl (fun _ => ?_) (fun _ _ => ?_)
  · exact tj_fail
  · refine tj_aload_n dJ6_removeFirst_17 rfl ?_
    refine tj_aload_n dJ6_removeFirst_18 rfl ?_
    refine tj_callV (as := [va_rf v101]) (rest := []) (st' := (fun r => [va_rf r])) (t := 24) (fun a e => by cases e; exact ct_J6_unlinkFirst d _ _) (by decide) rfl q2666 q2668 qs33 q105 q2669 rfl md_J6_unlinkFirst rfl (by decide) rfl (by decide) dJ6_removeFirst_19 (fun _ => rfl) (fun r102 σ => ?_) (by decide)
    exact tj_aret (Or.inl ⟨_, rfl⟩) dJ6_removeFirst_22
theorem ct_J6_removeFirst : ∀ (d : Nat) (v0 : Option Nat), ct_ yJ6_removeFirst (ws_ yJ6_removeFirst cJ6_removeFirst 2 (some (.object "java/lang/Object"))) d em_r [va_rf v0] (fn_J6_removeFirst d v0)
  | 0, _ => ct_fail
  | d + 1, v0 => ct_of [(false, va_rf v0)] [some (va_rf v0), none] (by decide) rfl ⟨rfl, (rf_cat _), trivial⟩ (fun E X n0 s0 σ => tj_J6_removeFirst_B0 d v0 σ)
theorem tj_J6_size_B0 {E : tj_E} {X : tj_X} {n0 s0 : Nat} (d : Nat) (v0 : Option Nat) (σ : hp_S) : tj_T E X RJ6 "size" cJ6_size 1 (some .int) (d + 1) [] n0 s0 em_i σ 0 [some (va_rf v0)] [] (fn_J6_size_B0 d v0) := by
  unfold fn_J6_size_B0
  refine tj_aload_n dJ6_size_0 rfl ?_
  refine tj_getI fl_J6_7 dJ6_size_1 (fun v101 => ?_)
  exact tj_iret dJ6_size_4
theorem ct_J6_size : ∀ (d : Nat) (v0 : Option Nat), ct_ yJ6_size (ws_ yJ6_size cJ6_size 1 (some .int)) d em_i [va_rf v0] (fn_J6_size d v0)
  | 0, _ => ct_fail
  | d + 1, v0 => ct_of [(false, va_rf v0)] [some (va_rf v0)] (by decide) rfl ⟨rfl, (rf_cat _), trivial⟩ (fun E X n0 s0 σ => tj_J6_size_B0 d v0 σ)
theorem tj_X1_commit_J20 {E : tj_E} {X : tj_X} {n0 s0 : Nat} (d : Nat) (l0 : Option Nat) (l1 : Option Nat) (l2 : Int32) (σ : hp_S) : tj_T E X RX1 "commit" cX1_commit 3 (some .int) (d + 1) [] n0 s0 em_i σ 20 [some (va_rf l0), some (va_rf l1), some (.int l2)] [] (fn_X1_commit_J20 d l0 l1 l2) := by
  unfold fn_X1_commit_J20
  refine tj_aload_n dX1_commit_20 rfl ?_
  refine tj_getR fl_X1_75r dX1_commit_21 (fun v101 => ?_)
  refine tj_aload_n dX1_commit_24 rfl ?_
  refine tj_getR fl_X1_66 dX1_commit_25 (fun v102 => ?_)
  refine tj_callV (as := [va_rf v102]) (rest := []) (st' := (fun _ => [])) (t := 24) (fun a e => by cases e; exact ct_J6_addLast d _ _) (by decide) rfl q2670 q2671 q2672 q105 q2673 rfl md_J6_addLast rfl (by decide) rfl (by decide) dX1_commit_28 (fun _ => rfl) (fun _ σ => ?_) (by decide)
  refine tj_aload_n dX1_commit_31 rfl ?_
  refine tj_aload_n dX1_commit_32 rfl ?_
  refine tj_put fl_X1_66 (nar_rf _) (fit_rf _) dX1_commit_33 (fun σ => ?_)
  refine tj_iload_n dX1_commit_36 rfl ?_
  exact tj_iret dX1_commit_37
theorem tj_X1_commit_B0 {E : tj_E} {X : tj_X} {n0 s0 : Nat} (d : Nat) (v0 : Option Nat) (v1 : Option Nat) (v2 : Int32) (σ : hp_S) : tj_T E X RX1 "commit" cX1_commit 3 (some .int) (d + 1) [] n0 s0 em_i σ 0 [some (va_rf v0), some (va_rf v1), some (.int v2)] [] (fn_X1_commit_B0 d v0 v1 v2) := by
  unfold fn_X1_commit_B0
  refine tj_aload_n dX1_commit_0 rfl ?_
  refine tj_getR fl_X1_75r dX1_commit_1 (fun v101 => ?_)
  refine tj_callV (as := []) (rest := []) (st' := (fun r => [.int r])) (t := 24) (fun a e => by cases e; exact ct_J6_size d _) (by decide) rfl q2659 q1051 q4351 q105 q1052 rfl md_J6_size rfl (by decide) rfl (by decide) dX1_commit_4 (fun _ => rfl) (fun r102 σ => ?_) (by decide)
  refine tj_bipush (8 : Int32) dX1_commit_7 (by decide) ?_
  refine tj_icmp_ne 20 dX1_commit_9 rfl (fun _ => ?_) (fun _ => ?_)
  · refine tj_aload_n dX1_commit_12 rfl ?_
    refine tj_getR fl_X1_75r dX1_commit_13 (fun v103 => ?_)
    refine tj_callV (as := []) (rest := []) (st' := (fun r => [va_rf r])) (t := 24) (fun a e => by cases e; exact ct_J6_removeFirst d _) (by decide) rfl q2660 q2661 q2662 q105 q2663 rfl md_J6_removeFirst rfl (by decide) rfl (by decide) dX1_commit_16 (fun _ => rfl) (fun r104 σ => ?_) (by decide)
    refine tj_pop dX1_commit_19 (rf_cat _) ?_
    exact tj_X1_commit_J20 d v0 v1 v2 _
  · exact tj_X1_commit_J20 d v0 v1 v2 _
theorem ct_X1_commit : ∀ (d : Nat) (v0 : Option Nat) (v1 : Option Nat) (v2 : Int32), ct_ yX1_commit (ws_ yX1_commit cX1_commit 3 (some .int)) d em_i [va_rf v0, va_rf v1, .int v2] (fn_X1_commit d v0 v1 v2)
  | 0, _, _, _ => ct_fail
  | d + 1, v0, v1, v2 => ct_of [(false, va_rf v0), (false, va_rf v1), (false, .int v2)] [some (va_rf v0), some (va_rf v1), some (.int v2)] (by decide) rfl ⟨rfl, (rf_cat _), ⟨rfl, (rf_cat _), ⟨rfl, rfl, trivial⟩⟩⟩ (fun E X n0 s0 σ => tj_X1_commit_B0 d v0 v1 v2 σ)
