set_option maxRecDepth 100000
def fn_J2_init_B0 (d : Nat) (v0 : Option Nat) : mx_M Unit :=
  mx_deref v0 fun _ =>
  mx_pure ()
def fn_J2_init : Nat → Option Nat → mx_M Unit
  | 0, _ => mx_fail
  | d + 1, v0 => fn_J2_init_B0 d v0
def fn_J3_init_B0 (d : Nat) (v0 : Option Nat) : mx_M Unit :=
  mx_bind (mx_deref v0 fun _ => fn_J2_init d v0) fun _ =>
  mx_bind (mx_put [(16, 0), (24, 0)] v0 (.int (0 : Int32))) fun _ =>
  mx_pure ()
def fn_J3_init : Nat → Option Nat → mx_M Unit
  | 0, _ => mx_fail
  | d + 1, v0 => fn_J3_init_B0 d v0
def fn_J4_init_B0 (d : Nat) (v0 : Option Nat) : mx_M Unit :=
  mx_bind (mx_deref v0 fun _ => fn_J3_init d v0) fun _ =>
  mx_bind (mx_con 0) fun v101 =>
  mx_bind (mx_put [(16, 1)] v0 (va_rf v101)) fun _ =>
  mx_pure ()
def fn_J4_init : Nat → Option Nat → mx_M Unit
  | 0, _ => mx_fail
  | d + 1, v0 => fn_J4_init_B0 d v0
def fn_X3_init_B0 (d : Nat) (v0 : Option Nat) : mx_M Unit :=
  mx_deref v0 fun _ =>
  mx_bind (mx_new (16, [.int 0, .null, .int 0]) 3) fun a102 =>
  mx_bind (mx_deref (some a102) fun _ => fn_J4_init d (some a102)) fun _ =>
  mx_bind (mx_put [(3, 0)] v0 (va_rf (some a102))) fun _ =>
  mx_pure ()
def fn_X3_init : Nat → Option Nat → mx_M Unit
  | 0, _ => mx_fail
  | d + 1, v0 => fn_X3_init_B0 d v0
def fn_J0_init_B0 (d : Nat) (v0 : Option Nat) : mx_M Unit :=
  mx_deref v0 fun _ =>
  mx_pure ()
def fn_J0_init : Nat → Option Nat → mx_M Unit
  | 0, _ => mx_fail
  | d + 1, v0 => fn_J0_init_B0 d v0
def fn_J1_init_B0 (d : Nat) (v0 : Option Nat) : mx_M Unit :=
  mx_bind (mx_deref v0 fun _ => fn_J0_init d v0) fun _ =>
  mx_bind (mx_put [(18, 4)] v0 (.int (0 : Int32))) fun _ =>
  mx_bind (mx_put [(18, 5)] v0 (.int (0 : Int32))) fun _ =>
  mx_bind (mx_put [(18, 2)] v0 (va_rf none)) fun _ =>
  mx_pure ()
def fn_J1_init : Nat → Option Nat → mx_M Unit
  | 0, _ => mx_fail
  | d + 1, v0 => fn_J1_init_B0 d v0
def fn_X2_init_B0 (d : Nat) (v0 : Option Nat) : mx_M Unit :=
  mx_deref v0 fun _ =>
  mx_bind (mx_new (18, [.null, .null, .null, .null, .int 0, .int 0, .null, .null, .null]) 9) fun a102 =>
  mx_bind (mx_deref (some a102) fun _ => fn_J1_init d (some a102)) fun _ =>
  mx_bind (mx_put [(2, 0)] v0 (va_rf (some a102))) fun _ =>
  mx_bind (mx_new (3, [.null]) 1) fun a103 =>
  mx_bind (mx_deref (some a103) fun _ => fn_X3_init d (some a103)) fun _ =>
  mx_bind (mx_put [(2, 1)] v0 (va_rf (some a103))) fun _ =>
  mx_pure ()
def fn_X2_init : Nat → Option Nat → mx_M Unit
  | 0, _ => mx_fail
  | d + 1, v0 => fn_X2_init_B0 d v0
def fn_J7_init_B0 (d : Nat) (v0 : Option Nat) (v1 : Int32) : mx_M Unit :=
  mx_deref v0 fun _ =>
  mx_if ((1 : Int32) = (0 : Int32)) (
    mx_fail) (
    mx_bind (mx_newa 101 (.int 0) v1) fun a102 =>
    mx_bind (mx_put [(29, 0)] v0 (va_rf (some a102))) fun _ =>
    mx_bind (mx_put [(29, 1)] v0 (.int (0 : Int32))) fun _ =>
    mx_pure ())
def fn_J7_init : Nat → Option Nat → Int32 → mx_M Unit
  | 0, _, _ => mx_fail
  | d + 1, v0, v1 => fn_J7_init_B0 d v0 v1
def fn_J8_init_B0 (d : Nat) (v0 : Option Nat) : mx_M Unit :=
  mx_bind (mx_deref v0 fun _ => fn_J7_init d v0 (16 : Int32)) fun _ =>
  mx_pure ()
def fn_J8_init : Nat → Option Nat → mx_M Unit
  | 0, _ => mx_fail
  | d + 1, v0 => fn_J8_init_B0 d v0
def fn_J5_init_B0 (d : Nat) (v0 : Option Nat) : mx_M Unit :=
  mx_bind (mx_deref v0 fun _ => fn_J3_init d v0) fun _ =>
  mx_pure ()
def fn_J5_init : Nat → Option Nat → mx_M Unit
  | 0, _ => mx_fail
  | d + 1, v0 => fn_J5_init_B0 d v0
def fn_J6_init_B0 (d : Nat) (v0 : Option Nat) : mx_M Unit :=
  mx_bind (mx_deref v0 fun _ => fn_J5_init d v0) fun _ =>
  mx_bind (mx_put [(24, 1)] v0 (.int (0 : Int32))) fun _ =>
  mx_pure ()
def fn_J6_init : Nat → Option Nat → mx_M Unit
  | 0, _ => mx_fail
  | d + 1, v0 => fn_J6_init_B0 d v0
def fn_X1_init_B0 (d : Nat) (v0 : Option Nat) : mx_M Unit :=
  mx_deref v0 fun _ =>
  mx_bind (mx_new (2, [.null, .null, .null, .int 0, .int 0, .int 0, .int 0, .int 0, .int 0, .int 0, .int 0]) 11) fun a102 =>
  mx_bind (mx_deref (some a102) fun _ => fn_X2_init d (some a102)) fun _ =>
  mx_bind (mx_put [(0, 0)] v0 (va_rf (some a102))) fun _ =>
  mx_bind (mx_new (24, [.int 0, .int 0, .null, .null]) 4) fun a103 =>
  mx_bind (mx_deref (some a103) fun _ => fn_J6_init d (some a103)) fun _ =>
  mx_bind (mx_put [(0, 2)] v0 (va_rf (some a103))) fun _ =>
  mx_bind (mx_new (29, [.null, .int 0, .int 0, .int 0]) 4) fun a104 =>
  mx_bind (mx_deref (some a104) fun _ => fn_J8_init d (some a104)) fun _ =>
  mx_bind (mx_put [(0, 3)] v0 (va_rf (some a104))) fun _ =>
  mx_bind (mx_put [(0, 4)] v0 (.int (-1 : Int32))) fun _ =>
  mx_bind (mx_put [(0, 5)] v0 (.int (-1 : Int32))) fun _ =>
  mx_bind (mx_con 200) fun v105 =>
  mx_bind (mx_put [(0, 7)] v0 (va_rf v105)) fun _ =>
  mx_pure ()
def fn_X1_init : Nat → Option Nat → mx_M Unit
  | 0, _ => mx_fail
  | d + 1, v0 => fn_X1_init_B0 d v0
def fn_J4_elementData_B0 (d : Nat) (v0 : Option Nat) (v1 : Int32) : mx_M (Option Nat) :=
  mx_bind (mx_getR [(16, 1)] v0) fun v101 =>
  mx_bind (mx_aldR 104 v101 v1) fun v102 =>
  mx_pure v102
def fn_J4_elementData : Nat → Option Nat → Int32 → mx_M (Option Nat)
  | 0, _, _ => mx_fail
  | d + 1, v0, v1 => fn_J4_elementData_B0 d v0 v1
def fn_J24_checkIndex_B0 (d : Nat) (v0 : Int32) (v1 : Int32) (v2 : Option Nat) : mx_M Int32 :=
  mx_if (v0 < (0 : Int32)) (
    mx_fail) (
    mx_if (v0 < v1) (
      mx_pure v0) (
      mx_fail))
def fn_J24_checkIndex : Nat → Int32 → Int32 → Option Nat → mx_M Int32
  | 0, _, _, _ => mx_fail
  | d + 1, v0, v1, v2 => fn_J24_checkIndex_B0 d v0 v1 v2
def fn_J37_checkIndex_B0 (d : Nat) (v0 : Int32) (v1 : Int32) : mx_M Int32 :=
  mx_bind (fn_J24_checkIndex d v0 v1 none) fun r101 =>
  mx_pure r101
def fn_J37_checkIndex : Nat → Int32 → Int32 → mx_M Int32
  | 0, _, _ => mx_fail
  | d + 1, v0, v1 => fn_J37_checkIndex_B0 d v0 v1
def fn_J4_get_B0 (d : Nat) (v0 : Option Nat) (v1 : Int32) : mx_M (Option Nat) :=
  mx_bind (mx_getI [(16, 2)] v0) fun v101 =>
  mx_bind (fn_J37_checkIndex d v1 v101) fun r102 =>
  mx_bind (mx_is 16 v0 (fn_J4_elementData d v0 v1)) fun r103 =>
  mx_pure r103
def fn_J4_get : Nat → Option Nat → Int32 → mx_M (Option Nat)
  | 0, _, _ => mx_fail
  | d + 1, v0, v1 => fn_J4_get_B0 d v0 v1
def fn_J4_size_B0 (d : Nat) (v0 : Option Nat) : mx_M Int32 :=
  mx_bind (mx_getI [(16, 2)] v0) fun v101 =>
  mx_pure v101
def fn_J4_size : Nat → Option Nat → mx_M Int32
  | 0, _ => mx_fail
  | d + 1, v0 => fn_J4_size_B0 d v0
def fn_X12_isInTime_J85 (d : Nat) (b10 : Option Nat → Int32 → Int32 → Int32 → Int32 → mx_M Int32) (l0 : Option Nat) (l1 : Int32) (l2 : Int32) (l3 : Int32) (l4 : Int32) : mx_M Int32 :=
  b10 l0 l1 l2 l3 (l4 + (1 : Int32))
def fn_X12_isInTime_J84 (d : Nat) (b10 : Option Nat → Int32 → Int32 → Int32 → Int32 → mx_M Int32) (l0 : Option Nat) (l1 : Int32) (l2 : Int32) (l4 : Int32) (p0 : Int32) : mx_M Int32 :=
  fn_X12_isInTime_J85 d b10 l0 l1 l2 p0 l4
def fn_X12_isInTime_L10_b (d : Nat) (b10 : Option Nat → Int32 → Int32 → Int32 → Int32 → mx_M Int32) (l0 : Option Nat) (l1 : Int32) (l2 : Int32) (l3 : Int32) (l4 : Int32) : mx_M Int32 :=
  mx_bind (mx_getR [(8, 0)] l0) fun v101 =>
  mx_bind (mx_is 16 v101 (fn_J4_size d v101)) fun r102 =>
  mx_if (r102 ≤ l4) (
    mx_retN .boolean l3) (
    mx_if (l3 = (0 : Int32)) (
      mx_retN .boolean l3) (
      mx_if (((l1 >>> (l4 &&& 31)) &&& (1 : Int32)) = (1 : Int32)) (
        mx_bind (mx_getR [(8, 0)] l0) fun v103 =>
        mx_bind (mx_is 16 v103 (fn_J4_get d v103 l4)) fun r104 =>
        mx_bind (mx_cast [5] r104) fun _ =>
        mx_bind (mx_getI [(5, 1)] r104) fun v105 =>
        mx_let (l2 + v105) fun v106 =>
        mx_bind (mx_getR [(8, 0)] l0) fun v107 =>
        mx_bind (mx_is 16 v107 (fn_J4_get d v107 l4)) fun r108 =>
        mx_bind (mx_cast [5] r108) fun _ =>
        mx_bind (mx_getI [(5, 2)] r108) fun v109 =>
        mx_if (v109 < v106) (
          fn_X12_isInTime_J84 d b10 l0 l1 v106 l4 (0 : Int32)) (
          fn_X12_isInTime_J84 d b10 l0 l1 v106 l4 (1 : Int32))) (
        fn_X12_isInTime_J85 d b10 l0 l1 l2 l3 l4)))
def fn_X12_isInTime_L10 (d : Nat) : Nat → Option Nat → Int32 → Int32 → Int32 → Int32 → mx_M Int32
  | 0, _, _, _, _, _ => mx_fail
  | k + 1, l0, l1, l2, l3, l4 => fn_X12_isInTime_L10_b d (fn_X12_isInTime_L10 d k) l0 l1 l2 l3 l4
def fn_X12_isInTime_B0 (d : Nat) (v0 : Option Nat) (v1 : Int32) : mx_M Int32 :=
  mx_bind (mx_getI [(8, 1)] v0) fun v101 =>
  fn_X12_isInTime_L10 d mx_K v0 v1 v101 (1 : Int32) (0 : Int32)
def fn_X12_isInTime : Nat → Option Nat → Int32 → mx_M Int32
  | 0, _, _ => mx_fail
  | d + 1, v0, v1 => fn_X12_isInTime_B0 d v0 v1
def fn_X12_areAllInTime_B0 (d : Nat) (v0 : Option Nat) : mx_M Int32 :=
  mx_bind (mx_getR [(8, 0)] v0) fun v101 =>
  mx_bind (mx_is 16 v101 (fn_J4_size d v101)) fun r102 =>
  mx_bind (mx_is 8 v0 (fn_X12_isInTime d v0 (((1 : Int32) <<< (r102 &&& 31)) - (1 : Int32)))) fun r103 =>
  mx_retN .boolean r103
def fn_X12_areAllInTime : Nat → Option Nat → mx_M Int32
  | 0, _ => mx_fail
  | d + 1, v0 => fn_X12_areAllInTime_B0 d v0
def fn_X13_init_B0 (d : Nat) (v0 : Option Nat) : mx_M Unit :=
  mx_deref v0 fun _ =>
  mx_pure ()
def fn_X13_init : Nat → Option Nat → mx_M Unit
  | 0, _ => mx_fail
  | d + 1, v0 => fn_X13_init_B0 d v0
def fn_X13_compare_2_B0 (d : Nat) (v0 : Option Nat) (v1 : Option Nat) (v2 : Option Nat) : mx_M Int32 :=
  mx_bind (mx_getI [(5, 2)] v1) fun v101 =>
  mx_bind (mx_getI [(5, 2)] v2) fun v102 =>
  mx_if (v101 = v102) (
    mx_bind (mx_getI [(5, 0)] v1) fun v103 =>
    mx_bind (mx_getI [(5, 0)] v2) fun v104 =>
    mx_pure (v103 - v104)) (
    mx_bind (mx_getI [(5, 2)] v1) fun v105 =>
    mx_bind (mx_getI [(5, 2)] v2) fun v106 =>
    mx_pure (v105 - v106))
def fn_X13_compare_2 : Nat → Option Nat → Option Nat → Option Nat → mx_M Int32
  | 0, _, _, _ => mx_fail
  | d + 1, v0, v1, v2 => fn_X13_compare_2_B0 d v0 v1 v2
def fn_J23_copyOf_3_B0 (d : Nat) (v0 : Option Nat) (v1 : Int32) (v2 : Option Nat) : mx_M (Option Nat) :=
  mx_bind (mx_con 1104) fun v101 =>
  mx_if (v2 = v101) (
    mx_bind (mx_newa 104 .null v1) fun a102 =>
    mx_bind (mx_alen v0) fun v103 =>
    mx_bind (mx_copyP 104 hp_okV v0 (0 : Int32) (some a102) (0 : Int32) (if v1 < v103 then v1 else v103)) fun _ =>
    mx_pure (some a102)) (
    mx_fail)
def fn_J23_copyOf_3 : Nat → Option Nat → Int32 → Option Nat → mx_M (Option Nat)
  | 0, _, _, _ => mx_fail
  | d + 1, v0, v1, v2 => fn_J23_copyOf_3_B0 d v0 v1 v2
def fn_J23_copyOf_2_B0 (d : Nat) (v0 : Option Nat) (v1 : Int32) : mx_M (Option Nat) :=
  mx_bind (mx_cls [104] v0) fun v101 =>
  mx_bind (fn_J23_copyOf_3 d v0 v1 v101) fun r102 =>
  mx_pure r102
def fn_J23_copyOf_2 : Nat → Option Nat → Int32 → mx_M (Option Nat)
  | 0, _, _ => mx_fail
  | d + 1, v0, v1 => fn_J23_copyOf_2_B0 d v0 v1
def fn_J21_newLength_B0 (d : Nat) (v0 : Int32) (v1 : Int32) (v2 : Int32) : mx_M Int32 :=
  mx_let (v0 + (if v1 < v2 then v2 else v1)) fun v101 =>
  mx_if (v101 ≤ (0 : Int32)) (
    mx_fail) (
    mx_if ((2147483639 : Int32) < v101) (
      mx_fail) (
      mx_pure v101))
def fn_J21_newLength : Nat → Int32 → Int32 → Int32 → mx_M Int32
  | 0, _, _, _ => mx_fail
  | d + 1, v0, v1, v2 => fn_J21_newLength_B0 d v0 v1 v2
def fn_J4_grow_2_J20 (d : Nat) (l0 : Option Nat) (l1 : Int32) (l2 : Int32) : mx_M (Option Nat) :=
  mx_bind (fn_J21_newLength d l2 (l1 - l2) (l2 >>> ((1 : Int32) &&& 31))) fun r101 =>
  mx_bind (mx_getR [(16, 1)] l0) fun v102 =>
  mx_bind (fn_J23_copyOf_2 d v102 r101) fun r103 =>
  mx_bind (mx_put [(16, 1)] l0 (va_rf r103)) fun _ =>
  mx_pure r103
def fn_J4_grow_2_B0 (d : Nat) (v0 : Option Nat) (v1 : Int32) : mx_M (Option Nat) :=
  mx_bind (mx_getR [(16, 1)] v0) fun v101 =>
  mx_bind (mx_alen v101) fun v102 =>
  mx_if ((0 : Int32) < v102) (
    fn_J4_grow_2_J20 d v0 v1 v102) (
    mx_bind (mx_getR [(16, 1)] v0) fun v103 =>
    mx_bind (mx_con 0) fun v104 =>
    mx_if (v103 = v104) (
      mx_bind (mx_newa 104 .null (if (10 : Int32) < v1 then v1 else (10 : Int32))) fun a105 =>
      mx_bind (mx_put [(16, 1)] v0 (va_rf (some a105))) fun _ =>
      mx_pure (some a105)) (
      fn_J4_grow_2_J20 d v0 v1 v102))
def fn_J4_grow_2 : Nat → Option Nat → Int32 → mx_M (Option Nat)
  | 0, _, _ => mx_fail
  | d + 1, v0, v1 => fn_J4_grow_2_B0 d v0 v1
def fn_J4_grow_B0 (d : Nat) (v0 : Option Nat) : mx_M (Option Nat) :=
  mx_bind (mx_getI [(16, 2)] v0) fun v101 =>
  mx_bind (mx_is 16 v0 (fn_J4_grow_2 d v0 (v101 + (1 : Int32)))) fun r102 =>
  mx_pure r102
def fn_J4_grow : Nat → Option Nat → mx_M (Option Nat)
  | 0, _ => mx_fail
  | d + 1, v0 => fn_J4_grow_B0 d v0
def fn_J4_rangeCheckForAdd_B0 (d : Nat) (v0 : Option Nat) (v1 : Int32) : mx_M Unit :=
  mx_bind (mx_getI [(16, 2)] v0) fun v101 =>
  mx_if (v101 < v1) (
    mx_fail) (
    mx_if ((0 : Int32) ≤ v1) (
      mx_pure ()) (
      mx_fail))
def fn_J4_rangeCheckForAdd : Nat → Option Nat → Int32 → mx_M Unit
  | 0, _, _ => mx_fail
  | d + 1, v0, v1 => fn_J4_rangeCheckForAdd_B0 d v0 v1
def fn_J4_add_3_J38 (d : Nat) (l0 : Option Nat) (l1 : Int32) (l2 : Option Nat) (l3 : Int32) (l4 : Option Nat) : mx_M Unit :=
  mx_bind (mx_copyP 104 hp_okV l4 l1 l4 (l1 + (1 : Int32)) (l3 - l1)) fun _ =>
  mx_bind (mx_astR l4 l1 l2) fun _ =>
  mx_bind (mx_put [(16, 2)] l0 (.int (l3 + (1 : Int32)))) fun _ =>
  mx_pure ()
def fn_J4_add_3_B0 (d : Nat) (v0 : Option Nat) (v1 : Int32) (v2 : Option Nat) : mx_M Unit :=
  mx_bind (mx_is 16 v0 (fn_J4_rangeCheckForAdd d v0 v1)) fun _ =>
  mx_bind (mx_getI [(16, 0)] v0) fun v101 =>
  mx_bind (mx_put [(16, 0)] v0 (.int (v101 + (1 : Int32)))) fun _ =>
  mx_bind (mx_getI [(16, 2)] v0) fun v102 =>
  mx_bind (mx_getR [(16, 1)] v0) fun v103 =>
  mx_bind (mx_alen v103) fun v104 =>
  mx_if (v102 = v104) (
    mx_bind (mx_is 16 v0 (fn_J4_grow d v0)) fun r105 =>
    fn_J4_add_3_J38 d v0 v1 v2 v102 r105) (
    fn_J4_add_3_J38 d v0 v1 v2 v102 v103)
def fn_J4_add_3 : Nat → Option Nat → Int32 → Option Nat → mx_M Unit
  | 0, _, _, _ => mx_fail
  | d + 1, v0, v1, v2 => fn_J4_add_3_B0 d v0 v1 v2
def fn_J33_hasNext_B0 (d : Nat) (v0 : Option Nat) : mx_M Int32 :=
  mx_bind (mx_getR [(22, 0), (23, 0)] v0) fun v101 =>
  mx_ifnull v101 (
    mx_pure (0 : Int32)) (
    mx_pure (1 : Int32))
def fn_J33_hasNext : Nat → Option Nat → mx_M Int32
  | 0, _ => mx_fail
  | d + 1, v0 => fn_J33_hasNext_B0 d v0
def fn_J1_successor_L18_b (d : Nat) (b18 : Option Nat → mx_M (Option Nat)) (l1 : Option Nat) : mx_M (Option Nat) :=
  mx_bind (mx_getR [(19, 2)] l1) fun v101 =>
  mx_ifnull v101 (
    mx_pure l1) (
    mx_bind (mx_getR [(19, 2)] l1) fun v102 =>
    b18 v102)
def fn_J1_successor_L18 (d : Nat) : Nat → Option Nat → mx_M (Option Nat)
  | 0, _ => mx_fail
  | k + 1, l1 => fn_J1_successor_L18_b d (fn_J1_successor_L18 d k) l1
def fn_J1_successor_L42_b (d : Nat) (b42 : Option Nat → Option Nat → mx_M (Option Nat)) (l1 : Option Nat) (l2 : Option Nat) : mx_M (Option Nat) :=
  mx_ifnull l1 (
    mx_pure l1) (
    mx_bind (mx_getR [(19, 3)] l1) fun v101 =>
    mx_if (l2 = v101) (
      mx_bind (mx_getR [(19, 4)] l1) fun v102 =>
      b42 v102 l1) (
      mx_pure l1))
def fn_J1_successor_L42 (d : Nat) : Nat → Option Nat → Option Nat → mx_M (Option Nat)
  | 0, _, _ => mx_fail
  | k + 1, l1, l2 => fn_J1_successor_L42_b d (fn_J1_successor_L42 d k) l1 l2
def fn_J1_successor_B0 (d : Nat) (v0 : Option Nat) : mx_M (Option Nat) :=
  mx_ifnull v0 (
    mx_pure none) (
    mx_bind (mx_getR [(19, 3)] v0) fun v101 =>
    mx_ifnull v101 (
      mx_bind (mx_getR [(19, 4)] v0) fun v102 =>
      fn_J1_successor_L42 d mx_K v102 v0) (
      mx_bind (mx_getR [(19, 3)] v0) fun v103 =>
      fn_J1_successor_L18 d mx_K v103))
def fn_J1_successor : Nat → Option Nat → mx_M (Option Nat)
  | 0, _ => mx_fail
  | d + 1, v0 => fn_J1_successor_B0 d v0
def fn_J33_nextEntry_B0 (d : Nat) (v0 : Option Nat) : mx_M (Option Nat) :=
  mx_bind (mx_getR [(22, 0), (23, 0)] v0) fun v101 =>
  mx_ifnull v101 (
    mx_fail) (
    mx_bind (mx_getR [(22, 3), (23, 3)] v0) fun v102 =>
    mx_bind (mx_getI [(18, 5)] v102) fun v103 =>
    mx_bind (mx_getI [(22, 2), (23, 2)] v0) fun v104 =>
    mx_if (v103 = v104) (
      mx_bind (fn_J1_successor d v101) fun r105 =>
      mx_bind (mx_put [(22, 0), (23, 0)] v0 (va_rf r105)) fun _ =>
      mx_bind (mx_put [(22, 1), (23, 1)] v0 (va_rf v101)) fun _ =>
      mx_pure v101) (
      mx_fail))
def fn_J33_nextEntry : Nat → Option Nat → mx_M (Option Nat)
  | 0, _ => mx_fail
  | d + 1, v0 => fn_J33_nextEntry_B0 d v0
def fn_J36_next_B0 (d : Nat) (v0 : Option Nat) : mx_M (Option Nat) :=
  mx_bind (mx_is 22 v0 (fn_J33_nextEntry d v0)) fun r101 =>
  mx_bind (mx_getR [(19, 1)] r101) fun v102 =>
  mx_pure v102
def fn_J36_next : Nat → Option Nat → mx_M (Option Nat)
  | 0, _ => mx_fail
  | d + 1, v0 => fn_J36_next_B0 d v0
def fn_J1_getFirstEntry_L9_b (d : Nat) (b9 : Option Nat → mx_M (Option Nat)) (l1 : Option Nat) : mx_M (Option Nat) :=
  mx_bind (mx_getR [(19, 2)] l1) fun v101 =>
  mx_ifnull v101 (
    mx_pure l1) (
    mx_bind (mx_getR [(19, 2)] l1) fun v102 =>
    b9 v102)
def fn_J1_getFirstEntry_L9 (d : Nat) : Nat → Option Nat → mx_M (Option Nat)
  | 0, _ => mx_fail
  | k + 1, l1 => fn_J1_getFirstEntry_L9_b d (fn_J1_getFirstEntry_L9 d k) l1
def fn_J1_getFirstEntry_B0 (d : Nat) (v0 : Option Nat) : mx_M (Option Nat) :=
  mx_bind (mx_getR [(18, 3)] v0) fun v101 =>
  mx_ifnull v101 (
    mx_pure v101) (
    fn_J1_getFirstEntry_L9 d mx_K v101)
def fn_J1_getFirstEntry : Nat → Option Nat → mx_M (Option Nat)
  | 0, _ => mx_fail
  | d + 1, v0 => fn_J1_getFirstEntry_B0 d v0
def fn_J33_init_B0 (d : Nat) (v0 : Option Nat) (v1 : Option Nat) (v2 : Option Nat) : mx_M Unit :=
  mx_bind (mx_put [(22, 3), (23, 3)] v0 (va_rf v1)) fun _ =>
  mx_deref v0 fun _ =>
  mx_bind (mx_getI [(18, 5)] v1) fun v102 =>
  mx_bind (mx_put [(22, 2), (23, 2)] v0 (.int v102)) fun _ =>
  mx_bind (mx_put [(22, 1), (23, 1)] v0 (va_rf none)) fun _ =>
  mx_bind (mx_put [(22, 0), (23, 0)] v0 (va_rf v2)) fun _ =>
  mx_pure ()
def fn_J33_init : Nat → Option Nat → Option Nat → Option Nat → mx_M Unit
  | 0, _, _, _ => mx_fail
  | d + 1, v0, v1, v2 => fn_J33_init_B0 d v0 v1 v2
def fn_J36_init_B0 (d : Nat) (v0 : Option Nat) (v1 : Option Nat) (v2 : Option Nat) : mx_M Unit :=
  mx_bind (mx_deref v0 fun _ => fn_J33_init d v0 v1 v2) fun _ =>
  mx_pure ()
def fn_J36_init : Nat → Option Nat → Option Nat → Option Nat → mx_M Unit
  | 0, _, _, _ => mx_fail
  | d + 1, v0, v1, v2 => fn_J36_init_B0 d v0 v1 v2
def fn_J11_iterator_B0 (d : Nat) (v0 : Option Nat) : mx_M (Option Nat) :=
  mx_bind (mx_new (22, [.null, .null, .int 0, .null]) 4) fun a101 =>
  mx_bind (mx_getR [(20, 0)] v0) fun v102 =>
  mx_bind (mx_getR [(20, 0)] v0) fun v103 =>
  mx_bind (mx_is 18 v103 (fn_J1_getFirstEntry d v103)) fun r104 =>
  mx_bind (mx_deref (some a101) fun _ => fn_J36_init d (some a101) v102 r104) fun _ =>
  mx_pure (some a101)
def fn_J11_iterator : Nat → Option Nat → mx_M (Option Nat)
  | 0, _ => mx_fail
  | d + 1, v0 => fn_J11_iterator_B0 d v0
def fn_X12_init_J105 (d : Nat) (b36 : Option Nat → Option Nat → Option Nat → mx_M Unit) (l0 : Option Nat) (l3 : Option Nat) (l4 : Option Nat) (l5 : Option Nat) (l6 : Int32) : mx_M Unit :=
  mx_bind (mx_getR [(8, 0)] l0) fun v101 =>
  mx_bind (mx_is 16 v101 (fn_J4_add_3 d v101 l6 l5)) fun _ =>
  b36 l0 l3 l4
def fn_X12_init_L69_b (d : Nat) (b36 : Option Nat → Option Nat → Option Nat → mx_M Unit) (b69 : Option Nat → Option Nat → Option Nat → Option Nat → Int32 → mx_M Unit) (l0 : Option Nat) (l3 : Option Nat) (l4 : Option Nat) (l5 : Option Nat) (l6 : Int32) : mx_M Unit :=
  mx_if (l6 ≤ (0 : Int32)) (
    fn_X12_init_J105 d b36 l0 l3 l4 l5 l6) (
    mx_bind (mx_getR [(8, 0)] l0) fun v101 =>
    mx_bind (mx_is 16 v101 (fn_J4_get d v101 (l6 - (1 : Int32)))) fun r102 =>
    mx_bind (mx_cast [5] r102) fun _ =>
    mx_bind (mx_is 9 l3 (fn_X13_compare_2 d l3 r102 l5)) fun r103 =>
    mx_if (r103 ≤ (0 : Int32)) (
      fn_X12_init_J105 d b36 l0 l3 l4 l5 l6) (
      b69 l0 l3 l4 l5 (l6 + (-1 : Int32))))
def fn_X12_init_L69 (d : Nat) (b36 : Option Nat → Option Nat → Option Nat → mx_M Unit) : Nat → Option Nat → Option Nat → Option Nat → Option Nat → Int32 → mx_M Unit
  | 0, _, _, _, _, _ => mx_fail
  | k + 1, l0, l3, l4, l5, l6 => fn_X12_init_L69_b d b36 (fn_X12_init_L69 d b36 k) l0 l3 l4 l5 l6
def fn_X12_init_L36_b (d : Nat) (b36 : Option Nat → Option Nat → Option Nat → mx_M Unit) (l0 : Option Nat) (l3 : Option Nat) (l4 : Option Nat) : mx_M Unit :=
  mx_bind (mx_is 22 l4 (fn_J33_hasNext d l4)) fun r101 =>
  mx_if (r101 = (0 : Int32)) (
    mx_pure ()) (
    mx_bind (mx_is 22 l4 (fn_J36_next d l4)) fun r102 =>
    mx_bind (mx_cast [5] r102) fun _ =>
    mx_bind (mx_getR [(8, 0)] l0) fun v103 =>
    mx_bind (mx_is 16 v103 (fn_J4_size d v103)) fun r104 =>
    fn_X12_init_L69 d b36 mx_K l0 l3 l4 r102 r104)
def fn_X12_init_L36 (d : Nat) : Nat → Option Nat → Option Nat → Option Nat → mx_M Unit
  | 0, _, _, _ => mx_fail
  | k + 1, l0, l3, l4 => fn_X12_init_L36_b d (fn_X12_init_L36 d k) l0 l3 l4
def fn_X12_init_B0 (d : Nat) (v0 : Option Nat) (v1 : Option Nat) (v2 : Int32) : mx_M Unit :=
  mx_deref v0 fun _ =>
  mx_bind (mx_new (16, [.int 0, .null, .int 0]) 3) fun a102 =>
  mx_bind (mx_deref (some a102) fun _ => fn_J4_init d (some a102)) fun _ =>
  mx_bind (mx_put [(8, 0)] v0 (va_rf (some a102))) fun _ =>
  mx_bind (mx_put [(8, 1)] v0 (.int v2)) fun _ =>
  mx_bind (mx_new (9, []) 0) fun a103 =>
  mx_bind (mx_deref (some a103) fun _ => fn_X13_init d (some a103)) fun _ =>
  mx_bind (mx_is 20 v1 (fn_J11_iterator d v1)) fun r104 =>
  fn_X12_init_L36 d mx_K v0 (some a103) r104
def fn_X12_init : Nat → Option Nat → Option Nat → Int32 → mx_M Unit
  | 0, _, _, _ => mx_fail
  | d + 1, v0, v1, v2 => fn_X12_init_B0 d v0 v1 v2
def fn_J11_init_B0 (d : Nat) (v0 : Option Nat) (v1 : Option Nat) : mx_M Unit :=
  mx_bind (mx_put [(20, 0)] v0 (va_rf v1)) fun _ =>
  mx_bind (mx_deref v0 fun _ => fn_J2_init d v0) fun _ =>
  mx_pure ()
def fn_J11_init : Nat → Option Nat → Option Nat → mx_M Unit
  | 0, _, _ => mx_fail
  | d + 1, v0, v1 => fn_J11_init_B0 d v0 v1
def fn_J1_values_B0 (d : Nat) (v0 : Option Nat) : mx_M (Option Nat) :=
  mx_bind (mx_getR [(18, 1)] v0) fun v101 =>
  mx_ifnull v101 (
    mx_bind (mx_new (20, [.null]) 1) fun a102 =>
    mx_bind (mx_deref (some a102) fun _ => fn_J11_init d (some a102) v0) fun _ =>
    mx_bind (mx_put [(18, 1)] v0 (va_rf (some a102))) fun _ =>
    mx_pure (some a102)) (
    mx_pure v101)
def fn_J1_values : Nat → Option Nat → mx_M (Option Nat)
  | 0, _ => mx_fail
  | d + 1, v0 => fn_J1_values_B0 d v0
def fn_X2_feeding_B0 (d : Nat) (v0 : Option Nat) : mx_M (Option Nat) :=
  mx_bind (mx_new (8, [.null, .int 0]) 2) fun a101 =>
  mx_bind (mx_getR [(2, 0)] v0) fun v102 =>
  mx_bind (mx_is 18 v102 (fn_J1_values d v102)) fun r103 =>
  mx_bind (mx_getI [(2, 7)] v0) fun v104 =>
  mx_bind (mx_deref (some a101) fun _ => fn_X12_init d (some a101) r103 v104) fun _ =>
  mx_pure (some a101)
def fn_X2_feeding : Nat → Option Nat → mx_M (Option Nat)
  | 0, _ => mx_fail
  | d + 1, v0 => fn_X2_feeding_B0 d v0
def fn_X1_areAllInTime_B0 (d : Nat) (v0 : Option Nat) : mx_M Int32 :=
  mx_bind (mx_getR [(0, 0)] v0) fun v101 =>
  mx_bind (mx_is 2 v101 (fn_X2_feeding d v101)) fun r102 =>
  mx_bind (mx_is 8 r102 (fn_X12_areAllInTime d r102)) fun r103 =>
  mx_retN .boolean r103
def fn_X1_areAllInTime : Nat → Option Nat → mx_M Int32
  | 0, _ => mx_fail
  | d + 1, v0 => fn_X1_areAllInTime_B0 d v0
def fn_X1_drawnTotal_B0 (d : Nat) (v0 : Option Nat) : mx_M Int32 :=
  mx_bind (mx_getR [(0, 0)] v0) fun v101 =>
  mx_bind (mx_getI [(2, 5)] v101) fun v102 =>
  mx_pure v102
def fn_X1_drawnTotal : Nat → Option Nat → mx_M Int32
  | 0, _ => mx_fail
  | d + 1, v0 => fn_X1_drawnTotal_B0 d v0
def fn_X1_hour_B0 (d : Nat) (v0 : Option Nat) : mx_M Int32 :=
  mx_bind (mx_getR [(0, 0)] v0) fun v101 =>
  mx_bind (mx_getI [(2, 7)] v101) fun v102 =>
  mx_pure v102
def fn_X1_hour : Nat → Option Nat → mx_M Int32
  | 0, _ => mx_fail
  | d + 1, v0 => fn_X1_hour_B0 d v0
def fn_X14_init_B0 (d : Nat) (v0 : Option Nat) : mx_M Unit :=
  mx_deref v0 fun _ =>
  mx_pure ()
def fn_X14_init : Nat → Option Nat → mx_M Unit
  | 0, _ => mx_fail
  | d + 1, v0 => fn_X14_init_B0 d v0
def fn_J14_init_B0 (d : Nat) (v0 : Option Nat) (v1 : Option Nat) : mx_M Unit :=
  mx_bind (mx_put [(17, 3)] v0 (va_rf v1)) fun _ =>
  mx_deref v0 fun _ =>
  mx_bind (mx_put [(17, 1)] v0 (.int (-1 : Int32))) fun _ =>
  mx_bind (mx_getR [(17, 3)] v0) fun v102 =>
  mx_bind (mx_getI [(16, 0)] v102) fun v103 =>
  mx_bind (mx_put [(17, 2)] v0 (.int v103)) fun _ =>
  mx_pure ()
def fn_J14_init : Nat → Option Nat → Option Nat → mx_M Unit
  | 0, _, _ => mx_fail
  | d + 1, v0, v1 => fn_J14_init_B0 d v0 v1
def fn_J4_iterator_B0 (d : Nat) (v0 : Option Nat) : mx_M (Option Nat) :=
  mx_bind (mx_new (17, [.int 0, .int 0, .int 0, .null]) 4) fun a101 =>
  mx_bind (mx_deref (some a101) fun _ => fn_J14_init d (some a101) v0) fun _ =>
  mx_pure (some a101)
def fn_J4_iterator : Nat → Option Nat → mx_M (Option Nat)
  | 0, _ => mx_fail
  | d + 1, v0 => fn_J4_iterator_B0 d v0
def fn_J14_hasNext_B0 (d : Nat) (v0 : Option Nat) : mx_M Int32 :=
  mx_bind (mx_getI [(17, 0)] v0) fun v101 =>
  mx_bind (mx_getR [(17, 3)] v0) fun v102 =>
  mx_bind (mx_getI [(16, 2)] v102) fun v103 =>
  mx_if (v101 = v103) (
    mx_pure (0 : Int32)) (
    mx_pure (1 : Int32))
def fn_J14_hasNext : Nat → Option Nat → mx_M Int32
  | 0, _ => mx_fail
  | d + 1, v0 => fn_J14_hasNext_B0 d v0
def fn_J14_checkForComodification_B0 (d : Nat) (v0 : Option Nat) : mx_M Unit :=
  mx_bind (mx_getR [(17, 3)] v0) fun v101 =>
  mx_bind (mx_getI [(16, 0)] v101) fun v102 =>
  mx_bind (mx_getI [(17, 2)] v0) fun v103 =>
  mx_if (v102 = v103) (
    mx_pure ()) (
    mx_fail)
def fn_J14_checkForComodification : Nat → Option Nat → mx_M Unit
  | 0, _ => mx_fail
  | d + 1, v0 => fn_J14_checkForComodification_B0 d v0
def fn_J14_next_B0 (d : Nat) (v0 : Option Nat) : mx_M (Option Nat) :=
  mx_bind (mx_is 17 v0 (fn_J14_checkForComodification d v0)) fun _ =>
  mx_bind (mx_getI [(17, 0)] v0) fun v101 =>
  mx_bind (mx_getR [(17, 3)] v0) fun v102 =>
  mx_bind (mx_getI [(16, 2)] v102) fun v103 =>
  mx_if (v101 < v103) (
    mx_bind (mx_getR [(17, 3)] v0) fun v104 =>
    mx_bind (mx_getR [(16, 1)] v104) fun v105 =>
    mx_bind (mx_alen v105) fun v106 =>
    mx_if (v101 < v106) (
      mx_bind (mx_put [(17, 0)] v0 (.int (v101 + (1 : Int32)))) fun _ =>
      mx_bind (mx_put [(17, 1)] v0 (.int v101)) fun _ =>
      mx_bind (mx_aldR 104 v105 v101) fun v107 =>
      mx_pure v107) (
      mx_fail)) (
    mx_fail)
def fn_J14_next : Nat → Option Nat → mx_M (Option Nat)
  | 0, _ => mx_fail
  | d + 1, v0 => fn_J14_next_B0 d v0
def fn_J46_init_B0 (d : Nat) (v0 : Option Nat) : mx_M Unit :=
  mx_bind (mx_deref v0 fun _ => fn_J2_init d v0) fun _ =>
  mx_pure ()
def fn_J46_init : Nat → Option Nat → mx_M Unit
  | 0, _ => mx_fail
  | d + 1, v0 => fn_J46_init_B0 d v0
def fn_J47_init_2_B0 (d : Nat) (v0 : Option Nat) (v1 : Int32) (v2 : Option Nat) : mx_M Unit :=
  mx_bind (mx_deref v0 fun _ => fn_J46_init d v0) fun _ =>
  mx_if ((1 : Int32) ≤ v1) (
    mx_bind (mx_newa 104 .null v1) fun a101 =>
    mx_bind (mx_put [(27, 0)] v0 (va_rf (some a101))) fun _ =>
    mx_bind (mx_put [(27, 2)] v0 (va_rf v2)) fun _ =>
    mx_pure ()) (
    mx_fail)
def fn_J47_init_2 : Nat → Option Nat → Int32 → Option Nat → mx_M Unit
  | 0, _, _, _ => mx_fail
  | d + 1, v0, v1, v2 => fn_J47_init_2_B0 d v0 v1 v2
def fn_J47_init_B0 (d : Nat) (v0 : Option Nat) (v1 : Option Nat) : mx_M Unit :=
  mx_bind (mx_deref v0 fun _ => fn_J47_init_2 d v0 (11 : Int32) v1) fun _ =>
  mx_pure ()
def fn_J47_init : Nat → Option Nat → Option Nat → mx_M Unit
  | 0, _, _ => mx_fail
  | d + 1, v0, v1 => fn_J47_init_B0 d v0 v1
def fn_J47_grow_J25 (d : Nat) (l0 : Option Nat) (p0 : Int32) (p1 : Int32) (p2 : Int32) : mx_M Unit :=
  mx_bind (fn_J21_newLength d p0 p1 p2) fun r101 =>
  mx_bind (mx_getR [(27, 0)] l0) fun v102 =>
  mx_bind (fn_J23_copyOf_2 d v102 r101) fun r103 =>
  mx_bind (mx_put [(27, 0)] l0 (va_rf r103)) fun _ =>
  mx_pure ()
def fn_J47_grow_B0 (d : Nat) (v0 : Option Nat) (v1 : Int32) : mx_M Unit :=
  mx_bind (mx_getR [(27, 0)] v0) fun v101 =>
  mx_bind (mx_alen v101) fun v102 =>
  mx_if ((64 : Int32) ≤ v102) (
    fn_J47_grow_J25 d v0 v102 (v1 - v102) (v102 >>> ((1 : Int32) &&& 31))) (
    fn_J47_grow_J25 d v0 v102 (v1 - v102) (v102 + (2 : Int32)))
def fn_J47_grow : Nat → Option Nat → Int32 → mx_M Unit
  | 0, _, _ => mx_fail
  | d + 1, v0, v1 => fn_J47_grow_B0 d v0 v1
def fn_X14_compare_2_B0 (d : Nat) (v0 : Option Nat) (v1 : Option Nat) (v2 : Option Nat) : mx_M Int32 :=
  mx_bind (mx_getI [(5, 1)] v1) fun v101 =>
  mx_bind (mx_getI [(5, 1)] v2) fun v102 =>
  mx_if (v101 = v102) (
    mx_bind (mx_getI [(5, 0)] v1) fun v103 =>
    mx_bind (mx_getI [(5, 0)] v2) fun v104 =>
    mx_pure (v103 - v104)) (
    mx_bind (mx_getI [(5, 1)] v2) fun v105 =>
    mx_bind (mx_getI [(5, 1)] v1) fun v106 =>
    mx_pure (v105 - v106))
def fn_X14_compare_2 : Nat → Option Nat → Option Nat → Option Nat → mx_M Int32
  | 0, _, _, _ => mx_fail
  | d + 1, v0, v1, v2 => fn_X14_compare_2_B0 d v0 v1 v2
def fn_X14_compare_B0 (d : Nat) (v0 : Option Nat) (v1 : Option Nat) (v2 : Option Nat) : mx_M Int32 :=
  mx_bind (mx_cast [5] v1) fun _ =>
  mx_bind (mx_cast [5] v2) fun _ =>
  mx_bind (mx_is 10 v0 (fn_X14_compare_2 d v0 v1 v2)) fun r101 =>
  mx_pure r101
def fn_X14_compare : Nat → Option Nat → Option Nat → Option Nat → mx_M Int32
  | 0, _, _, _ => mx_fail
  | d + 1, v0, v1, v2 => fn_X14_compare_B0 d v0 v1 v2
def fn_J47_siftUpUsingComparator_L0_b (d : Nat) (b0 : Int32 → Option Nat → Option Nat → Option Nat → mx_M Unit) (l0 : Int32) (l1 : Option Nat) (l2 : Option Nat) (l3 : Option Nat) : mx_M Unit :=
  mx_if (l0 ≤ (0 : Int32)) (
    mx_bind (mx_astR l2 l0 l1) fun _ =>
    mx_pure ()) (
    mx_let (((l0 - (1 : Int32)).toUInt32 >>> ((1 : Int32).toUInt32 &&& Int32.toUInt32 31)).toInt32) fun v101 =>
    mx_bind (mx_aldR 104 l2 v101) fun v102 =>
    mx_bind (mx_is 10 l3 (fn_X14_compare d l3 l1 v102)) fun r103 =>
    mx_if (r103 < (0 : Int32)) (
      mx_bind (mx_astR l2 l0 v102) fun _ =>
      b0 v101 l1 l2 l3) (
      mx_bind (mx_astR l2 l0 l1) fun _ =>
      mx_pure ()))
def fn_J47_siftUpUsingComparator_L0 (d : Nat) : Nat → Int32 → Option Nat → Option Nat → Option Nat → mx_M Unit
  | 0, _, _, _, _ => mx_fail
  | k + 1, l0, l1, l2, l3 => fn_J47_siftUpUsingComparator_L0_b d (fn_J47_siftUpUsingComparator_L0 d k) l0 l1 l2 l3
def fn_J47_siftUpUsingComparator_E (d : Nat) (v0 : Int32) (v1 : Option Nat) (v2 : Option Nat) (v3 : Option Nat) : mx_M Unit :=
  fn_J47_siftUpUsingComparator_L0 d mx_K v0 v1 v2 v3
def fn_J47_siftUpUsingComparator : Nat → Int32 → Option Nat → Option Nat → Option Nat → mx_M Unit
  | 0, _, _, _, _ => mx_fail
  | d + 1, v0, v1, v2, v3 => fn_J47_siftUpUsingComparator_E d v0 v1 v2 v3
def fn_J47_siftUp_B0 (d : Nat) (v0 : Option Nat) (v1 : Int32) (v2 : Option Nat) : mx_M Unit :=
  mx_bind (mx_getR [(27, 2)] v0) fun v101 =>
  mx_ifnull v101 (
    mx_bind (mx_getR [(27, 0)] v0) fun v102 =>
    mx_fail) (
    mx_bind (mx_getR [(27, 0)] v0) fun v103 =>
    mx_bind (mx_getR [(27, 2)] v0) fun v104 =>
    mx_bind (fn_J47_siftUpUsingComparator d v1 v2 v103 v104) fun _ =>
    mx_pure ())
def fn_J47_siftUp : Nat → Option Nat → Int32 → Option Nat → mx_M Unit
  | 0, _, _, _ => mx_fail
  | d + 1, v0, v1, v2 => fn_J47_siftUp_B0 d v0 v1 v2
def fn_J47_offer_J43 (d : Nat) (l0 : Option Nat) (l1 : Option Nat) (l2 : Int32) : mx_M Int32 :=
  mx_bind (mx_is 27 l0 (fn_J47_siftUp d l0 l2 l1)) fun _ =>
  mx_bind (mx_put [(27, 1)] l0 (.int (l2 + (1 : Int32)))) fun _ =>
  mx_pure (1 : Int32)
def fn_J47_offer_B0 (d : Nat) (v0 : Option Nat) (v1 : Option Nat) : mx_M Int32 :=
  mx_ifnull v1 (
    mx_fail) (
    mx_bind (mx_getI [(27, 3)] v0) fun v101 =>
    mx_bind (mx_put [(27, 3)] v0 (.int (v101 + (1 : Int32)))) fun _ =>
    mx_bind (mx_getI [(27, 1)] v0) fun v102 =>
    mx_bind (mx_getR [(27, 0)] v0) fun v103 =>
    mx_bind (mx_alen v103) fun v104 =>
    mx_if (v102 < v104) (
      fn_J47_offer_J43 d v0 v1 v102) (
      mx_bind (mx_is 27 v0 (fn_J47_grow d v0 (v102 + (1 : Int32)))) fun _ =>
      fn_J47_offer_J43 d v0 v1 v102))
def fn_J47_offer : Nat → Option Nat → Option Nat → mx_M Int32
  | 0, _, _ => mx_fail
  | d + 1, v0, v1 => fn_J47_offer_B0 d v0 v1
def fn_J47_add_B0 (d : Nat) (v0 : Option Nat) (v1 : Option Nat) : mx_M Int32 :=
  mx_bind (mx_is 27 v0 (fn_J47_offer d v0 v1)) fun r101 =>
  mx_retN .boolean r101
def fn_J47_add : Nat → Option Nat → Option Nat → mx_M Int32
  | 0, _, _ => mx_fail
  | d + 1, v0, v1 => fn_J47_add_B0 d v0 v1
def fn_J47_siftDownUsingComparator_J61 (d : Nat) (b5 : Int32 → Option Nat → Option Nat → Int32 → Option Nat → Int32 → mx_M Unit) (l0 : Int32) (l1 : Option Nat) (l2 : Option Nat) (l3 : Int32) (l4 : Option Nat) (l5 : Int32) (l6 : Int32) (l7 : Option Nat) : mx_M Unit :=
  mx_bind (mx_is 10 l4 (fn_X14_compare d l4 l1 l7)) fun r101 =>
  mx_if ((0 : Int32) < r101) (
    mx_bind (mx_astR l2 l0 l7) fun _ =>
    b5 l6 l1 l2 l3 l4 l5) (
    mx_bind (mx_astR l2 l0 l1) fun _ =>
    mx_pure ())
def fn_J47_siftDownUsingComparator_L5_b (d : Nat) (b5 : Int32 → Option Nat → Option Nat → Int32 → Option Nat → Int32 → mx_M Unit) (l0 : Int32) (l1 : Option Nat) (l2 : Option Nat) (l3 : Int32) (l4 : Option Nat) (l5 : Int32) : mx_M Unit :=
  mx_if (l5 ≤ l0) (
    mx_bind (mx_astR l2 l0 l1) fun _ =>
    mx_pure ()) (
    mx_let ((l0 <<< ((1 : Int32) &&& 31)) + (1 : Int32)) fun v101 =>
    mx_bind (mx_aldR 104 l2 v101) fun v102 =>
    mx_let (v101 + (1 : Int32)) fun v103 =>
    mx_if (l3 ≤ v103) (
      fn_J47_siftDownUsingComparator_J61 d b5 l0 l1 l2 l3 l4 l5 v101 v102) (
      mx_bind (mx_aldR 104 l2 v103) fun v104 =>
      mx_bind (mx_is 10 l4 (fn_X14_compare d l4 v102 v104)) fun r105 =>
      mx_if (r105 ≤ (0 : Int32)) (
        fn_J47_siftDownUsingComparator_J61 d b5 l0 l1 l2 l3 l4 l5 v101 v102) (
        mx_bind (mx_aldR 104 l2 v103) fun v106 =>
        fn_J47_siftDownUsingComparator_J61 d b5 l0 l1 l2 l3 l4 l5 v103 v106)))
def fn_J47_siftDownUsingComparator_L5 (d : Nat) : Nat → Int32 → Option Nat → Option Nat → Int32 → Option Nat → Int32 → mx_M Unit
  | 0, _, _, _, _, _, _ => mx_fail
  | k + 1, l0, l1, l2, l3, l4, l5 => fn_J47_siftDownUsingComparator_L5_b d (fn_J47_siftDownUsingComparator_L5 d k) l0 l1 l2 l3 l4 l5
def fn_J47_siftDownUsingComparator_B0 (d : Nat) (v0 : Int32) (v1 : Option Nat) (v2 : Option Nat) (v3 : Int32) (v4 : Option Nat) : mx_M Unit :=
  mx_let ((v3.toUInt32 >>> ((1 : Int32).toUInt32 &&& Int32.toUInt32 31)).toInt32) fun v101 =>
  fn_J47_siftDownUsingComparator_L5 d mx_K v0 v1 v2 v3 v4 v101
def fn_J47_siftDownUsingComparator : Nat → Int32 → Option Nat → Option Nat → Int32 → Option Nat → mx_M Unit
  | 0, _, _, _, _, _ => mx_fail
  | d + 1, v0, v1, v2, v3, v4 => fn_J47_siftDownUsingComparator_B0 d v0 v1 v2 v3 v4
def fn_J47_poll_B0 (d : Nat) (v0 : Option Nat) : mx_M (Option Nat) :=
  mx_bind (mx_getR [(27, 0)] v0) fun v101 =>
  mx_bind (mx_aldR 104 v101 (0 : Int32)) fun v102 =>
  mx_ifnull v102 (
    mx_pure v102) (
    mx_bind (mx_getI [(27, 3)] v0) fun v103 =>
    mx_bind (mx_put [(27, 3)] v0 (.int (v103 + (1 : Int32)))) fun _ =>
    mx_bind (mx_getI [(27, 1)] v0) fun v104 =>
    mx_let (v104 - (1 : Int32)) fun v105 =>
    mx_bind (mx_put [(27, 1)] v0 (.int v105)) fun _ =>
    mx_bind (mx_aldR 104 v101 v105) fun v106 =>
    mx_bind (mx_astR v101 v105 none) fun _ =>
    mx_if (v105 ≤ (0 : Int32)) (
      mx_pure v102) (
      mx_bind (mx_getR [(27, 2)] v0) fun v107 =>
      mx_ifnull v107 (
        mx_fail) (
        mx_bind (fn_J47_siftDownUsingComparator d (0 : Int32) v106 v101 v105 v107) fun _ =>
        mx_pure v102)))
def fn_J47_poll : Nat → Option Nat → mx_M (Option Nat)
  | 0, _ => mx_fail
  | d + 1, v0 => fn_J47_poll_B0 d v0
def fn_J47_size_B0 (d : Nat) (v0 : Option Nat) : mx_M Int32 :=
  mx_bind (mx_getI [(27, 1)] v0) fun v101 =>
  mx_pure v101
def fn_J47_size : Nat → Option Nat → mx_M Int32
  | 0, _ => mx_fail
  | d + 1, v0 => fn_J47_size_B0 d v0
def fn_X12_most_J87 (d : Nat) (b30 : Option Nat → Int32 → Option Nat → mx_M Int32) (l1 : Option Nat) (l2 : Int32) (l3 : Option Nat) : mx_M Int32 :=
  b30 l1 l2 l3
def fn_X12_most_L30_b (d : Nat) (b30 : Option Nat → Int32 → Option Nat → mx_M Int32) (l1 : Option Nat) (l2 : Int32) (l3 : Option Nat) : mx_M Int32 :=
  mx_bind (mx_is 17 l3 (fn_J14_hasNext d l3)) fun r101 =>
  mx_if (r101 = (0 : Int32)) (
    mx_bind (mx_is 27 l1 (fn_J47_size d l1)) fun r102 =>
    mx_pure r102) (
    mx_bind (mx_is 17 l3 (fn_J14_next d l3)) fun r103 =>
    mx_bind (mx_cast [5] r103) fun _ =>
    mx_bind (mx_is 27 l1 (fn_J47_add d l1 r103)) fun r104 =>
    mx_bind (mx_getI [(5, 1)] r103) fun v105 =>
    mx_let (l2 + v105) fun v106 =>
    mx_bind (mx_getI [(5, 2)] r103) fun v107 =>
    mx_if (v106 ≤ v107) (
      fn_X12_most_J87 d b30 l1 v106 l3) (
      mx_bind (mx_is 27 l1 (fn_J47_poll d l1)) fun r108 =>
      mx_bind (mx_cast [5] r108) fun _ =>
      mx_bind (mx_getI [(5, 1)] r108) fun v109 =>
      mx_let (v106 - v109) fun v110 =>
      fn_X12_most_J87 d b30 l1 v110 l3))
def fn_X12_most_L30 (d : Nat) : Nat → Option Nat → Int32 → Option Nat → mx_M Int32
  | 0, _, _, _ => mx_fail
  | k + 1, l1, l2, l3 => fn_X12_most_L30_b d (fn_X12_most_L30 d k) l1 l2 l3
def fn_X12_most_B0 (d : Nat) (v0 : Option Nat) : mx_M Int32 :=
  mx_bind (mx_new (27, [.null, .int 0, .null, .int 0]) 4) fun a101 =>
  mx_bind (mx_new (10, []) 0) fun a102 =>
  mx_bind (mx_deref (some a102) fun _ => fn_X14_init d (some a102)) fun _ =>
  mx_bind (mx_deref (some a101) fun _ => fn_J47_init d (some a101) (some a102)) fun _ =>
  mx_bind (mx_getI [(8, 1)] v0) fun v103 =>
  mx_bind (mx_getR [(8, 0)] v0) fun v104 =>
  mx_bind (mx_is 16 v104 (fn_J4_iterator d v104)) fun r105 =>
  fn_X12_most_L30 d mx_K (some a101) v103 r105
def fn_X12_most : Nat → Option Nat → mx_M Int32
  | 0, _ => mx_fail
  | d + 1, v0 => fn_X12_most_B0 d v0
def fn_J27_bitCount_B0 (d : Nat) (v0 : Int32) : mx_M Int32 :=
  mx_let (v0 - (((v0.toUInt32 >>> ((1 : Int32).toUInt32 &&& Int32.toUInt32 31)).toInt32) &&& (1431655765 : Int32))) fun v101 =>
  mx_let ((v101 &&& (858993459 : Int32)) + (((v101.toUInt32 >>> ((2 : Int32).toUInt32 &&& Int32.toUInt32 31)).toInt32) &&& (858993459 : Int32))) fun v102 =>
  mx_let ((v102 + ((v102.toUInt32 >>> ((4 : Int32).toUInt32 &&& Int32.toUInt32 31)).toInt32)) &&& (252645135 : Int32)) fun v103 =>
  mx_let (v103 + ((v103.toUInt32 >>> ((8 : Int32).toUInt32 &&& Int32.toUInt32 31)).toInt32)) fun v104 =>
  mx_let (v104 + ((v104.toUInt32 >>> ((16 : Int32).toUInt32 &&& Int32.toUInt32 31)).toInt32)) fun v105 =>
  mx_pure (v105 &&& (63 : Int32))
def fn_J27_bitCount : Nat → Int32 → mx_M Int32
  | 0, _ => mx_fail
  | d + 1, v0 => fn_J27_bitCount_B0 d v0
def fn_X12_mostBySets_J43 (d : Nat) (b4 : Option Nat → Int32 → Int32 → mx_M Int32) (l0 : Option Nat) (l2 : Int32) (p0 : Int32) : mx_M Int32 :=
  b4 l0 p0 (l2 + (1 : Int32))
def fn_X12_mostBySets_J42 (d : Nat) (b4 : Option Nat → Int32 → Int32 → mx_M Int32) (l0 : Option Nat) (l1 : Int32) (l2 : Int32) : mx_M Int32 :=
  fn_X12_mostBySets_J43 d b4 l0 l2 l1
def fn_X12_mostBySets_L4_b (d : Nat) (b4 : Option Nat → Int32 → Int32 → mx_M Int32) (l0 : Option Nat) (l1 : Int32) (l2 : Int32) : mx_M Int32 :=
  mx_bind (mx_getR [(8, 0)] l0) fun v101 =>
  mx_bind (mx_is 16 v101 (fn_J4_size d v101)) fun r102 =>
  mx_if (((1 : Int32) <<< (r102 &&& 31)) ≤ l2) (
    mx_pure l1) (
    mx_bind (fn_J27_bitCount d l2) fun r103 =>
    mx_if (r103 ≤ l1) (
      fn_X12_mostBySets_J42 d b4 l0 l1 l2) (
      mx_bind (mx_is 8 l0 (fn_X12_isInTime d l0 l2)) fun r104 =>
      mx_if (r104 = (0 : Int32)) (
        fn_X12_mostBySets_J42 d b4 l0 l1 l2) (
        mx_bind (fn_J27_bitCount d l2) fun r105 =>
        fn_X12_mostBySets_J43 d b4 l0 l2 r105)))
def fn_X12_mostBySets_L4 (d : Nat) : Nat → Option Nat → Int32 → Int32 → mx_M Int32
  | 0, _, _, _ => mx_fail
  | k + 1, l0, l1, l2 => fn_X12_mostBySets_L4_b d (fn_X12_mostBySets_L4 d k) l0 l1 l2
def fn_X12_mostBySets_B0 (d : Nat) (v0 : Option Nat) : mx_M Int32 :=
  fn_X12_mostBySets_L4 d mx_K v0 (0 : Int32) (1 : Int32)
def fn_X12_mostBySets : Nat → Option Nat → mx_M Int32
  | 0, _ => mx_fail
  | d + 1, v0 => fn_X12_mostBySets_B0 d v0
def fn_X11_isOnDuty_B0 (d : Nat) (v0 : Option Nat) (v1 : Int32) : mx_M Int32 :=
  mx_bind (mx_getI [(4, 0)] v0) fun v101 =>
  mx_if (v1 < v101) (
    mx_pure (0 : Int32)) (
    mx_bind (mx_getI [(4, 1)] v0) fun v102 =>
    mx_if (v102 ≤ v1) (
      mx_pure (0 : Int32)) (
      mx_pure (1 : Int32)))
def fn_X11_isOnDuty : Nat → Option Nat → Int32 → mx_M Int32
  | 0, _, _ => mx_fail
  | d + 1, v0, v1 => fn_X11_isOnDuty_B0 d v0 v1
def fn_X3_latestEnd_J54 (d : Nat) (b12 : Int32 → Int32 → Option Nat → mx_M Int32) (l1 : Int32) (l3 : Option Nat) (p0 : Int32) : mx_M Int32 :=
  b12 l1 p0 l3
def fn_X3_latestEnd_L12_b (d : Nat) (b12 : Int32 → Int32 → Option Nat → mx_M Int32) (l1 : Int32) (l2 : Int32) (l3 : Option Nat) : mx_M Int32 :=
  mx_bind (mx_is 17 l3 (fn_J14_hasNext d l3)) fun r101 =>
  mx_if (r101 = (0 : Int32)) (
    mx_pure l2) (
    mx_bind (mx_is 17 l3 (fn_J14_next d l3)) fun r102 =>
    mx_bind (mx_cast [4] r102) fun _ =>
    mx_bind (mx_is 4 r102 (fn_X11_isOnDuty d r102 l1)) fun r103 =>
    mx_if (r103 = (0 : Int32)) (
      fn_X3_latestEnd_J54 d b12 l1 l3 l2) (
      mx_bind (mx_getI [(4, 1)] r102) fun v104 =>
      fn_X3_latestEnd_J54 d b12 l1 l3 (if l2 < v104 then v104 else l2)))
def fn_X3_latestEnd_L12 (d : Nat) : Nat → Int32 → Int32 → Option Nat → mx_M Int32
  | 0, _, _, _ => mx_fail
  | k + 1, l1, l2, l3 => fn_X3_latestEnd_L12_b d (fn_X3_latestEnd_L12 d k) l1 l2 l3
def fn_X3_latestEnd_B0 (d : Nat) (v0 : Option Nat) (v1 : Int32) : mx_M Int32 :=
  mx_bind (mx_getR [(3, 0)] v0) fun v101 =>
  mx_bind (mx_is 16 v101 (fn_J4_iterator d v101)) fun r102 =>
  fn_X3_latestEnd_L12 d mx_K v1 v1 r102
def fn_X3_latestEnd : Nat → Option Nat → Int32 → mx_M Int32
  | 0, _, _ => mx_fail
  | d + 1, v0, v1 => fn_X3_latestEnd_B0 d v0 v1
def fn_X3_fewest_L5_b (d : Nat) (b5 : Option Nat → Int32 → Int32 → Int32 → mx_M Int32) (l0 : Option Nat) (l2 : Int32) (l3 : Int32) (l4 : Int32) : mx_M Int32 :=
  mx_if (l2 ≤ l4) (
    mx_pure l3) (
    mx_bind (mx_is 3 l0 (fn_X3_latestEnd d l0 l4)) fun r101 =>
    b5 l0 l2 (l3 + (1 : Int32)) r101)
def fn_X3_fewest_L5 (d : Nat) : Nat → Option Nat → Int32 → Int32 → Int32 → mx_M Int32
  | 0, _, _, _, _ => mx_fail
  | k + 1, l0, l2, l3, l4 => fn_X3_fewest_L5_b d (fn_X3_fewest_L5 d k) l0 l2 l3 l4
def fn_X3_fewest_B0 (d : Nat) (v0 : Option Nat) (v1 : Int32) (v2 : Int32) : mx_M Int32 :=
  fn_X3_fewest_L5 d mx_K v0 v2 (0 : Int32) v1
def fn_X3_fewest : Nat → Option Nat → Int32 → Int32 → mx_M Int32
  | 0, _, _, _ => mx_fail
  | d + 1, v0, v1, v2 => fn_X3_fewest_B0 d v0 v1 v2
def fn_X3_covers_J75 (d : Nat) (b6 : Option Nat → Int32 → Int32 → Int32 → Int32 → mx_M Int32) (b23 : Option Nat → Int32 → Int32 → Int32 → Int32 → Int32 → mx_M Int32) (l0 : Option Nat) (l1 : Int32) (l3 : Int32) (l5 : Int32) (l6 : Int32) (p0 : Int32) : mx_M Int32 :=
  b23 l0 l1 l3 p0 l5 (l6 + (1 : Int32))
def fn_X3_covers_J73 (d : Nat) (b6 : Option Nat → Int32 → Int32 → Int32 → Int32 → mx_M Int32) (b23 : Option Nat → Int32 → Int32 → Int32 → Int32 → Int32 → mx_M Int32) (l0 : Option Nat) (l1 : Int32) (l3 : Int32) (l4 : Int32) (l5 : Int32) (l6 : Int32) : mx_M Int32 :=
  fn_X3_covers_J75 d b6 b23 l0 l1 l3 l5 l6 l4
def fn_X3_covers_L23_b (d : Nat) (b6 : Option Nat → Int32 → Int32 → Int32 → Int32 → mx_M Int32) (b23 : Option Nat → Int32 → Int32 → Int32 → Int32 → Int32 → mx_M Int32) (l0 : Option Nat) (l1 : Int32) (l3 : Int32) (l4 : Int32) (l5 : Int32) (l6 : Int32) : mx_M Int32 :=
  mx_bind (mx_getR [(3, 0)] l0) fun v101 =>
  mx_bind (mx_is 16 v101 (fn_J4_size d v101)) fun r102 =>
  mx_if (r102 ≤ l6) (
    b6 l0 l1 l3 l4 (l5 + (1 : Int32))) (
    mx_if (((l1 >>> (l6 &&& 31)) &&& (1 : Int32)) = (1 : Int32)) (
      mx_bind (mx_getR [(3, 0)] l0) fun v103 =>
      mx_bind (mx_is 16 v103 (fn_J4_get d v103 l6)) fun r104 =>
      mx_bind (mx_cast [4] r104) fun _ =>
      mx_bind (mx_is 4 r104 (fn_X11_isOnDuty d r104 l5)) fun r105 =>
      mx_if (r105 = (0 : Int32)) (
        fn_X3_covers_J73 d b6 b23 l0 l1 l3 l4 l5 l6) (
        fn_X3_covers_J75 d b6 b23 l0 l1 l3 l5 l6 (0 : Int32))) (
      fn_X3_covers_J73 d b6 b23 l0 l1 l3 l4 l5 l6))
def fn_X3_covers_L23 (d : Nat) (b6 : Option Nat → Int32 → Int32 → Int32 → Int32 → mx_M Int32) : Nat → Option Nat → Int32 → Int32 → Int32 → Int32 → Int32 → mx_M Int32
  | 0, _, _, _, _, _, _ => mx_fail
  | k + 1, l0, l1, l3, l4, l5, l6 => fn_X3_covers_L23_b d b6 (fn_X3_covers_L23 d b6 k) l0 l1 l3 l4 l5 l6
def fn_X3_covers_J89 (d : Nat) (l4 : Int32) : mx_M Int32 :=
  mx_if (l4 = (0 : Int32)) (
    mx_pure (1 : Int32)) (
    mx_pure (0 : Int32))
def fn_X3_covers_L6_b (d : Nat) (b6 : Option Nat → Int32 → Int32 → Int32 → Int32 → mx_M Int32) (l0 : Option Nat) (l1 : Int32) (l3 : Int32) (l4 : Int32) (l5 : Int32) : mx_M Int32 :=
  mx_if (l3 ≤ l5) (
    fn_X3_covers_J89 d l4) (
    mx_if (l4 = (0 : Int32)) (
      fn_X3_covers_L23 d b6 mx_K l0 l1 l3 (1 : Int32) l5 (0 : Int32)) (
      fn_X3_covers_J89 d l4))
def fn_X3_covers_L6 (d : Nat) : Nat → Option Nat → Int32 → Int32 → Int32 → Int32 → mx_M Int32
  | 0, _, _, _, _, _ => mx_fail
  | k + 1, l0, l1, l3, l4, l5 => fn_X3_covers_L6_b d (fn_X3_covers_L6 d k) l0 l1 l3 l4 l5
def fn_X3_covers_B0 (d : Nat) (v0 : Option Nat) (v1 : Int32) (v2 : Int32) (v3 : Int32) : mx_M Int32 :=
  fn_X3_covers_L6 d mx_K v0 v1 v3 (0 : Int32) v2
def fn_X3_covers : Nat → Option Nat → Int32 → Int32 → Int32 → mx_M Int32
  | 0, _, _, _, _ => mx_fail
  | d + 1, v0, v1, v2, v3 => fn_X3_covers_B0 d v0 v1 v2 v3
def fn_X3_fewestBySets_J63 (d : Nat) (b6 : Option Nat → Int32 → Int32 → Int32 → Int32 → mx_M Int32) (l0 : Option Nat) (l1 : Int32) (l2 : Int32) (l4 : Int32) (p0 : Int32) : mx_M Int32 :=
  b6 l0 l1 l2 p0 (l4 + (1 : Int32))
def fn_X3_fewestBySets_J47 (d : Nat) (b6 : Option Nat → Int32 → Int32 → Int32 → Int32 → mx_M Int32) (l0 : Option Nat) (l1 : Int32) (l2 : Int32) (l3 : Int32) (l4 : Int32) (p0 : Int32) : mx_M Int32 :=
  mx_if (p0 = (0 : Int32)) (
    fn_X3_fewestBySets_J63 d b6 l0 l1 l2 l4 l3) (
    mx_bind (fn_J27_bitCount d l4) fun r101 =>
    fn_X3_fewestBySets_J63 d b6 l0 l1 l2 l4 r101)
def fn_X3_fewestBySets_J46 (d : Nat) (b6 : Option Nat → Int32 → Int32 → Int32 → Int32 → mx_M Int32) (l0 : Option Nat) (l1 : Int32) (l2 : Int32) (l3 : Int32) (l4 : Int32) : mx_M Int32 :=
  fn_X3_fewestBySets_J47 d b6 l0 l1 l2 l3 l4 (0 : Int32)
def fn_X3_fewestBySets_L6_b (d : Nat) (b6 : Option Nat → Int32 → Int32 → Int32 → Int32 → mx_M Int32) (l0 : Option Nat) (l1 : Int32) (l2 : Int32) (l3 : Int32) (l4 : Int32) : mx_M Int32 :=
  mx_bind (mx_getR [(3, 0)] l0) fun v101 =>
  mx_bind (mx_is 16 v101 (fn_J4_size d v101)) fun r102 =>
  mx_if (((1 : Int32) <<< (r102 &&& 31)) ≤ l4) (
    mx_pure l3) (
    mx_bind (fn_J27_bitCount d l4) fun r103 =>
    mx_if (l3 ≤ r103) (
      fn_X3_fewestBySets_J46 d b6 l0 l1 l2 l3 l4) (
      mx_bind (mx_is 3 l0 (fn_X3_covers d l0 l4 l1 l2)) fun r104 =>
      mx_if (r104 = (0 : Int32)) (
        fn_X3_fewestBySets_J46 d b6 l0 l1 l2 l3 l4) (
        fn_X3_fewestBySets_J47 d b6 l0 l1 l2 l3 l4 (1 : Int32))))
def fn_X3_fewestBySets_L6 (d : Nat) : Nat → Option Nat → Int32 → Int32 → Int32 → Int32 → mx_M Int32
  | 0, _, _, _, _, _ => mx_fail
  | k + 1, l0, l1, l2, l3, l4 => fn_X3_fewestBySets_L6_b d (fn_X3_fewestBySets_L6 d k) l0 l1 l2 l3 l4
def fn_X3_fewestBySets_B0 (d : Nat) (v0 : Option Nat) (v1 : Int32) (v2 : Int32) : mx_M Int32 :=
  fn_X3_fewestBySets_L6 d mx_K v0 v1 v2 (1000000 : Int32) (1 : Int32)
def fn_X3_fewestBySets : Nat → Option Nat → Int32 → Int32 → mx_M Int32
  | 0, _, _, _ => mx_fail
  | d + 1, v0, v1, v2 => fn_X3_fewestBySets_B0 d v0 v1 v2
def fn_J52_wordIndex_B0 (d : Nat) (v0 : Int32) : mx_M Int32 :=
  mx_pure (v0 >>> ((6 : Int32) &&& 31))
def fn_J52_wordIndex : Nat → Int32 → mx_M Int32
  | 0, _ => mx_fail
  | d + 1, v0 => fn_J52_wordIndex_B0 d v0
def fn_J52_initWords_B0 (d : Nat) (v0 : Option Nat) (v1 : Int32) : mx_M Unit :=
  mx_bind (fn_J52_wordIndex d (v1 - (1 : Int32))) fun r101 =>
  mx_bind (mx_newa 102 (.long 0) (r101 + (1 : Int32))) fun a102 =>
  mx_bind (mx_put [(28, 0)] v0 (va_rf (some a102))) fun _ =>
  mx_pure ()
def fn_J52_initWords : Nat → Option Nat → Int32 → mx_M Unit
  | 0, _, _ => mx_fail
  | d + 1, v0, v1 => fn_J52_initWords_B0 d v0 v1
def fn_J52_init_B0 (d : Nat) (v0 : Option Nat) (v1 : Int32) : mx_M Unit :=
  mx_deref v0 fun _ =>
  mx_bind (mx_put [(28, 1)] v0 (.int (0 : Int32))) fun _ =>
  mx_bind (mx_put [(28, 2)] v0 (.int (0 : Int32))) fun _ =>
  mx_if ((0 : Int32) ≤ v1) (
    mx_bind (mx_is 28 v0 (fn_J52_initWords d v0 v1)) fun _ =>
    mx_bind (mx_put [(28, 2)] v0 (.int (1 : Int32))) fun _ =>
    mx_pure ()) (
    mx_fail)
def fn_J52_init : Nat → Option Nat → Int32 → mx_M Unit
  | 0, _, _ => mx_fail
  | d + 1, v0, v1 => fn_J52_init_B0 d v0 v1
def fn_J52_checkInvariants_J70 (d : Nat) (l0 : Option Nat) : mx_M Unit :=
  mx_if ((1 : Int32) = (0 : Int32)) (
    mx_bind (mx_getI [(28, 1)] l0) fun v101 =>
    mx_bind (mx_getR [(28, 0)] l0) fun v102 =>
    mx_bind (mx_alen v102) fun v103 =>
    mx_if (v101 = v103) (
      mx_pure ()) (
      mx_bind (mx_getR [(28, 0)] l0) fun v104 =>
      mx_bind (mx_getI [(28, 1)] l0) fun v105 =>
      mx_bind (mx_aldL 102 v104 v105) fun v106 =>
      mx_if ((lg_cmp v106 (0 : Int64)) = (0 : Int32)) (
        mx_pure ()) (
        mx_fail))) (
    mx_pure ())
def fn_J52_checkInvariants_J37 (d : Nat) (l0 : Option Nat) : mx_M Unit :=
  mx_if ((1 : Int32) = (0 : Int32)) (
    mx_bind (mx_getI [(28, 1)] l0) fun v101 =>
    mx_if (v101 < (0 : Int32)) (
      mx_fail) (
      mx_bind (mx_getI [(28, 1)] l0) fun v102 =>
      mx_bind (mx_getR [(28, 0)] l0) fun v103 =>
      mx_bind (mx_alen v103) fun v104 =>
      mx_if (v102 ≤ v104) (
        fn_J52_checkInvariants_J70 d l0) (
        mx_fail))) (
    fn_J52_checkInvariants_J70 d l0)
def fn_J52_checkInvariants_B0 (d : Nat) (v0 : Option Nat) : mx_M Unit :=
  mx_if ((1 : Int32) = (0 : Int32)) (
    mx_bind (mx_getI [(28, 1)] v0) fun v101 =>
    mx_if (v101 = (0 : Int32)) (
      fn_J52_checkInvariants_J37 d v0) (
      mx_bind (mx_getR [(28, 0)] v0) fun v102 =>
      mx_bind (mx_getI [(28, 1)] v0) fun v103 =>
      mx_bind (mx_aldL 102 v102 (v103 - (1 : Int32))) fun v104 =>
      mx_if ((lg_cmp v104 (0 : Int64)) = (0 : Int32)) (
        mx_fail) (
        fn_J52_checkInvariants_J37 d v0))) (
    fn_J52_checkInvariants_J37 d v0)
def fn_J52_checkInvariants : Nat → Option Nat → mx_M Unit
  | 0, _ => mx_fail
  | d + 1, v0 => fn_J52_checkInvariants_B0 d v0
def fn_J23_copyOf_4_B0 (d : Nat) (v0 : Option Nat) (v1 : Int32) : mx_M (Option Nat) :=
  mx_bind (mx_alen v0) fun v101 =>
  mx_if (v1 = v101) (
    mx_bind (mx_cloneP 102 (fun w => fits .long w) v0) fun a102 =>
    mx_bind (mx_cast [102] (some a102)) fun _ =>
    mx_pure (some a102)) (
    mx_bind (mx_newa 102 (.long 0) v1) fun a103 =>
    mx_bind (mx_alen v0) fun v104 =>
    mx_bind (mx_copyP 102 (fun _ w => fits .long w) v0 (0 : Int32) (some a103) (0 : Int32) (if v1 < v104 then v1 else v104)) fun _ =>
    mx_pure (some a103))
def fn_J23_copyOf_4 : Nat → Option Nat → Int32 → mx_M (Option Nat)
  | 0, _, _ => mx_fail
  | d + 1, v0, v1 => fn_J23_copyOf_4_B0 d v0 v1
def fn_J52_ensureCapacity_B0 (d : Nat) (v0 : Option Nat) (v1 : Int32) : mx_M Unit :=
  mx_bind (mx_getR [(28, 0)] v0) fun v101 =>
  mx_bind (mx_alen v101) fun v102 =>
  mx_if (v1 ≤ v102) (
    mx_pure ()) (
    mx_bind (mx_getR [(28, 0)] v0) fun v103 =>
    mx_bind (mx_alen v103) fun v104 =>
    mx_let (if ((2 : Int32) * v104) < v1 then v1 else ((2 : Int32) * v104)) fun v105 =>
    mx_bind (mx_getR [(28, 0)] v0) fun v106 =>
    mx_bind (fn_J23_copyOf_4 d v106 v105) fun r107 =>
    mx_bind (mx_put [(28, 0)] v0 (va_rf r107)) fun _ =>
    mx_bind (mx_put [(28, 2)] v0 (.int (0 : Int32))) fun _ =>
    mx_pure ())
def fn_J52_ensureCapacity : Nat → Option Nat → Int32 → mx_M Unit
  | 0, _, _ => mx_fail
  | d + 1, v0, v1 => fn_J52_ensureCapacity_B0 d v0 v1
def fn_J52_expandTo_B0 (d : Nat) (v0 : Option Nat) (v1 : Int32) : mx_M Unit :=
  mx_let (v1 + (1 : Int32)) fun v101 =>
  mx_bind (mx_getI [(28, 1)] v0) fun v102 =>
  mx_if (v101 ≤ v102) (
    mx_pure ()) (
    mx_bind (mx_is 28 v0 (fn_J52_ensureCapacity d v0 v101)) fun _ =>
    mx_bind (mx_put [(28, 1)] v0 (.int v101)) fun _ =>
    mx_pure ())
def fn_J52_expandTo : Nat → Option Nat → Int32 → mx_M Unit
  | 0, _, _ => mx_fail
  | d + 1, v0, v1 => fn_J52_expandTo_B0 d v0 v1
def fn_J52_set_B0 (d : Nat) (v0 : Option Nat) (v1 : Int32) : mx_M Unit :=
  mx_if ((0 : Int32) ≤ v1) (
    mx_bind (fn_J52_wordIndex d v1) fun r101 =>
    mx_bind (mx_is 28 v0 (fn_J52_expandTo d v0 r101)) fun _ =>
    mx_bind (mx_getR [(28, 0)] v0) fun v102 =>
    mx_bind (mx_aldL 102 v102 r101) fun v103 =>
    mx_bind (mx_ast 102 v102 r101 (.long (v103 ||| ((1 : Int64) <<< (v1.toInt64 &&& 63))))) fun _ =>
    mx_bind (mx_is 28 v0 (fn_J52_checkInvariants d v0)) fun _ =>
    mx_pure ()) (
    mx_fail)
def fn_J52_set : Nat → Option Nat → Int32 → mx_M Unit
  | 0, _, _ => mx_fail
  | d + 1, v0, v1 => fn_J52_set_B0 d v0 v1
def fn_X3_hours_L45_b (d : Nat) (b20 : Option Nat → Option Nat → mx_M (Option Nat)) (b45 : Option Nat → Option Nat → Option Nat → Int32 → mx_M (Option Nat)) (l1 : Option Nat) (l2 : Option Nat) (l3 : Option Nat) (l4 : Int32) : mx_M (Option Nat) :=
  mx_bind (mx_getI [(4, 1)] l3) fun v101 =>
  mx_if (v101 ≤ l4) (
    b20 l1 l2) (
    mx_bind (mx_is 28 l1 (fn_J52_set d l1 l4)) fun _ =>
    b45 l1 l2 l3 (l4 + (1 : Int32)))
def fn_X3_hours_L45 (d : Nat) (b20 : Option Nat → Option Nat → mx_M (Option Nat)) : Nat → Option Nat → Option Nat → Option Nat → Int32 → mx_M (Option Nat)
  | 0, _, _, _, _ => mx_fail
  | k + 1, l1, l2, l3, l4 => fn_X3_hours_L45_b d b20 (fn_X3_hours_L45 d b20 k) l1 l2 l3 l4
def fn_X3_hours_L20_b (d : Nat) (b20 : Option Nat → Option Nat → mx_M (Option Nat)) (l1 : Option Nat) (l2 : Option Nat) : mx_M (Option Nat) :=
  mx_bind (mx_is 17 l2 (fn_J14_hasNext d l2)) fun r101 =>
  mx_if (r101 = (0 : Int32)) (
    mx_pure l1) (
    mx_bind (mx_is 17 l2 (fn_J14_next d l2)) fun r102 =>
    mx_bind (mx_cast [4] r102) fun _ =>
    mx_bind (mx_getI [(4, 0)] r102) fun v103 =>
    fn_X3_hours_L45 d b20 mx_K l1 l2 r102 v103)
def fn_X3_hours_L20 (d : Nat) : Nat → Option Nat → Option Nat → mx_M (Option Nat)
  | 0, _, _ => mx_fail
  | k + 1, l1, l2 => fn_X3_hours_L20_b d (fn_X3_hours_L20 d k) l1 l2
def fn_X3_hours_B0 (d : Nat) (v0 : Option Nat) : mx_M (Option Nat) :=
  mx_bind (mx_new (28, [.null, .int 0, .int 0]) 3) fun a101 =>
  mx_bind (mx_deref (some a101) fun _ => fn_J52_init d (some a101) (24 : Int32)) fun _ =>
  mx_bind (mx_getR [(3, 0)] v0) fun v102 =>
  mx_bind (mx_is 16 v102 (fn_J4_iterator d v102)) fun r103 =>
  fn_X3_hours_L20 d mx_K (some a101) r103
def fn_X3_hours : Nat → Option Nat → mx_M (Option Nat)
  | 0, _ => mx_fail
  | d + 1, v0 => fn_X3_hours_B0 d v0
def fn_J52_get_B0 (d : Nat) (v0 : Option Nat) (v1 : Int32) : mx_M Int32 :=
  mx_if ((0 : Int32) ≤ v1) (
    mx_bind (mx_is 28 v0 (fn_J52_checkInvariants d v0)) fun _ =>
    mx_bind (fn_J52_wordIndex d v1) fun r101 =>
    mx_bind (mx_getI [(28, 1)] v0) fun v102 =>
    mx_if (v102 ≤ r101) (
      mx_pure (0 : Int32)) (
      mx_bind (mx_getR [(28, 0)] v0) fun v103 =>
      mx_bind (mx_aldL 102 v103 r101) fun v104 =>
      mx_if ((lg_cmp (v104 &&& ((1 : Int64) <<< (v1.toInt64 &&& 63))) (0 : Int64)) = (0 : Int32)) (
        mx_pure (0 : Int32)) (
        mx_pure (1 : Int32)))) (
    mx_fail)
def fn_J52_get : Nat → Option Nat → Int32 → mx_M Int32
  | 0, _, _ => mx_fail
  | d + 1, v0, v1 => fn_J52_get_B0 d v0 v1
def fn_X3_areWaysAlike_J64 (d : Nat) (b9 : Option Nat → Int32 → Option Nat → Int32 → mx_M Int32) (b20 : Option Nat → Int32 → Option Nat → Int32 → Int32 → mx_M Int32) (l0 : Option Nat) (l2 : Option Nat) (l3 : Int32) (l4 : Int32) (p0 : Int32) : mx_M Int32 :=
  b20 l0 p0 l2 l3 (l4 + (1 : Int32))
def fn_X3_areWaysAlike_J63 (d : Nat) (b9 : Option Nat → Int32 → Option Nat → Int32 → mx_M Int32) (b20 : Option Nat → Int32 → Option Nat → Int32 → Int32 → mx_M Int32) (l0 : Option Nat) (l2 : Option Nat) (l3 : Int32) (l4 : Int32) : mx_M Int32 :=
  fn_X3_areWaysAlike_J64 d b9 b20 l0 l2 l3 l4 (0 : Int32)
def fn_X3_areWaysAlike_J71 (d : Nat) (b9 : Option Nat → Int32 → Option Nat → Int32 → mx_M Int32) (l0 : Option Nat) (l1 : Int32) (l2 : Option Nat) (l3 : Int32) : mx_M Int32 :=
  b9 l0 l1 l2 (l3 + (1 : Int32))
def fn_X3_areWaysAlike_L20_b (d : Nat) (b9 : Option Nat → Int32 → Option Nat → Int32 → mx_M Int32) (b20 : Option Nat → Int32 → Option Nat → Int32 → Int32 → mx_M Int32) (l0 : Option Nat) (l1 : Int32) (l2 : Option Nat) (l3 : Int32) (l4 : Int32) : mx_M Int32 :=
  mx_if ((24 : Int32) < l4) (
    fn_X3_areWaysAlike_J71 d b9 l0 l1 l2 l3) (
    mx_bind (mx_is 28 l2 (fn_J52_get d l2 (l4 - (1 : Int32)))) fun r101 =>
    mx_if (r101 = (0 : Int32)) (
      fn_X3_areWaysAlike_J71 d b9 l0 l1 l2 l3) (
      mx_if (l1 = (0 : Int32)) (
        fn_X3_areWaysAlike_J63 d b9 b20 l0 l2 l3 l4) (
        mx_bind (mx_is 3 l0 (fn_X3_fewest d l0 l3 l4)) fun r102 =>
        mx_bind (mx_is 3 l0 (fn_X3_fewestBySets d l0 l3 l4)) fun r103 =>
        mx_if (r102 = r103) (
          fn_X3_areWaysAlike_J64 d b9 b20 l0 l2 l3 l4 (1 : Int32)) (
          fn_X3_areWaysAlike_J63 d b9 b20 l0 l2 l3 l4))))
def fn_X3_areWaysAlike_L20 (d : Nat) (b9 : Option Nat → Int32 → Option Nat → Int32 → mx_M Int32) : Nat → Option Nat → Int32 → Option Nat → Int32 → Int32 → mx_M Int32
  | 0, _, _, _, _, _ => mx_fail
  | k + 1, l0, l1, l2, l3, l4 => fn_X3_areWaysAlike_L20_b d b9 (fn_X3_areWaysAlike_L20 d b9 k) l0 l1 l2 l3 l4
def fn_X3_areWaysAlike_L9_b (d : Nat) (b9 : Option Nat → Int32 → Option Nat → Int32 → mx_M Int32) (l0 : Option Nat) (l1 : Int32) (l2 : Option Nat) (l3 : Int32) : mx_M Int32 :=
  mx_if ((24 : Int32) ≤ l3) (
    mx_retN .boolean l1) (
    mx_let (l3 + (1 : Int32)) fun v101 =>
    fn_X3_areWaysAlike_L20 d b9 mx_K l0 l1 l2 l3 v101)
def fn_X3_areWaysAlike_L9 (d : Nat) : Nat → Option Nat → Int32 → Option Nat → Int32 → mx_M Int32
  | 0, _, _, _, _ => mx_fail
  | k + 1, l0, l1, l2, l3 => fn_X3_areWaysAlike_L9_b d (fn_X3_areWaysAlike_L9 d k) l0 l1 l2 l3
def fn_X3_areWaysAlike_B0 (d : Nat) (v0 : Option Nat) : mx_M Int32 :=
  mx_bind (mx_is 3 v0 (fn_X3_hours d v0)) fun r101 =>
  fn_X3_areWaysAlike_L9 d mx_K v0 (1 : Int32) r101 (0 : Int32)
def fn_X3_areWaysAlike : Nat → Option Nat → mx_M Int32
  | 0, _ => mx_fail
  | d + 1, v0 => fn_X3_areWaysAlike_B0 d v0
def fn_X10_way_B0 (d : Nat) (v0 : Option Nat) : mx_M Int32 :=
  mx_ifnull v0 (
    mx_pure (0 : Int32)) (
    mx_bind (mx_getI [(7, 3)] v0) fun v101 =>
    mx_pure v101)
def fn_X10_way : Nat → Option Nat → mx_M Int32
  | 0, _ => mx_fail
  | d + 1, v0 => fn_X10_way_B0 d v0
def fn_X10_init_2_J52 (d : Nat) (l0 : Option Nat) (p0 : Option Nat) (p1 : Option Nat) : mx_M Unit :=
  mx_bind (mx_put [(7, 2)] p0 (va_rf p1)) fun _ =>
  mx_bind (mx_getR [(7, 2)] l0) fun v101 =>
  mx_bind (fn_X10_way d v101) fun r102 =>
  mx_bind (mx_put [(7, 3)] l0 (.int (r102 + (1 : Int32)))) fun _ =>
  mx_pure ()
def fn_X10_init_2_J38 (d : Nat) (l0 : Option Nat) (l2 : Option Nat) (l3 : Option Nat) (l4 : Int32) (p0 : Option Nat) (p1 : Option Nat) : mx_M Unit :=
  mx_bind (mx_put [(7, 1)] p0 (va_rf p1)) fun _ =>
  mx_if (l4 = (0 : Int32)) (
    fn_X10_init_2_J52 d l0 l0 l3) (
    fn_X10_init_2_J52 d l0 l0 l2)
def fn_X10_init_2_J20 (d : Nat) (l0 : Option Nat) (l1 : Option Nat) (l2 : Option Nat) (l3 : Option Nat) (p0 : Int32) : mx_M Unit :=
  mx_bind (mx_put [(7, 0)] l0 (va_rf l1)) fun _ =>
  mx_if (p0 = (0 : Int32)) (
    fn_X10_init_2_J38 d l0 l2 l3 p0 l0 l2) (
    fn_X10_init_2_J38 d l0 l2 l3 p0 l0 l3)
def fn_X10_init_2_B0 (d : Nat) (v0 : Option Nat) (v1 : Option Nat) (v2 : Option Nat) (v3 : Option Nat) : mx_M Unit :=
  mx_deref v0 fun _ =>
  mx_bind (fn_X10_way d v2) fun r102 =>
  mx_bind (fn_X10_way d v3) fun r103 =>
  mx_if (r103 ≤ r102) (
    fn_X10_init_2_J20 d v0 v1 v2 v3 (0 : Int32)) (
    fn_X10_init_2_J20 d v0 v1 v2 v3 (1 : Int32))
def fn_X10_init_2 : Nat → Option Nat → Option Nat → Option Nat → Option Nat → mx_M Unit
  | 0, _, _, _, _ => mx_fail
  | d + 1, v0, v1, v2, v3 => fn_X10_init_2_B0 d v0 v1 v2 v3
def fn_X9_isBefore_B0 (d : Nat) (v0 : Option Nat) (v1 : Option Nat) : mx_M Int32 :=
  mx_bind (mx_getI [(6, 2)] v0) fun v101 =>
  mx_bind (mx_getI [(6, 2)] v1) fun v102 =>
  mx_if (v102 < v101) (
    mx_pure (1 : Int32)) (
    mx_bind (mx_getI [(6, 2)] v0) fun v103 =>
    mx_bind (mx_getI [(6, 2)] v1) fun v104 =>
    mx_if (v103 = v104) (
      mx_bind (mx_getI [(6, 0)] v0) fun v105 =>
      mx_bind (mx_getI [(6, 0)] v1) fun v106 =>
      mx_if (v106 ≤ v105) (
        mx_pure (0 : Int32)) (
        mx_pure (1 : Int32))) (
      mx_pure (0 : Int32)))
def fn_X9_isBefore : Nat → Option Nat → Option Nat → mx_M Int32
  | 0, _, _ => mx_fail
  | d + 1, v0, v1 => fn_X9_isBefore_B0 d v0 v1
def fn_X10_merged_J8 (d : Nat) (self : Option Nat → Option Nat → mx_M (Option Nat)) (l0 : Option Nat) (l1 : Option Nat) : mx_M (Option Nat) :=
  mx_ifnull l0 (
    mx_pure l1) (
    mx_pure l0)
def fn_X10_merged_B0 (d : Nat) (self : Option Nat → Option Nat → mx_M (Option Nat)) (v0 : Option Nat) (v1 : Option Nat) : mx_M (Option Nat) :=
  mx_ifnull v0 (
    fn_X10_merged_J8 d self v0 v1) (
    mx_ifnull v1 (
      fn_X10_merged_J8 d self v0 v1) (
      mx_bind (mx_getR [(7, 0)] v1) fun v101 =>
      mx_bind (mx_getR [(7, 0)] v0) fun v102 =>
      mx_bind (mx_is 6 v101 (fn_X9_isBefore d v101 v102)) fun r103 =>
      mx_if (r103 = (0 : Int32)) (
        mx_bind (mx_new (7, [.null, .null, .null, .int 0]) 4) fun a104 =>
        mx_bind (mx_getR [(7, 0)] v0) fun v105 =>
        mx_bind (mx_getR [(7, 1)] v0) fun v106 =>
        mx_bind (mx_getR [(7, 2)] v0) fun v107 =>
        mx_bind (self v107 v1) fun r108 =>
        mx_bind (mx_deref (some a104) fun _ => fn_X10_init_2 d (some a104) v105 v106 r108) fun _ =>
        mx_pure (some a104)) (
        mx_bind (self v1 v0) fun r109 =>
        mx_pure r109)))
def fn_X10_merged : Nat → Option Nat → Option Nat → mx_M (Option Nat)
  | 0, _, _ => mx_fail
  | d + 1, v0, v1 => fn_X10_merged_B0 d (fn_X10_merged d) v0 v1
def fn_X10_withoutTop_B0 (d : Nat) (v0 : Option Nat) : mx_M (Option Nat) :=
  mx_bind (mx_getR [(7, 1)] v0) fun v101 =>
  mx_bind (mx_getR [(7, 2)] v0) fun v102 =>
  mx_bind (fn_X10_merged d v101 v102) fun r103 =>
  mx_pure r103
def fn_X10_withoutTop : Nat → Option Nat → mx_M (Option Nat)
  | 0, _ => mx_fail
  | d + 1, v0 => fn_X10_withoutTop_B0 d v0
def fn_J26_init_B0 (d : Nat) (v0 : Option Nat) : mx_M Unit :=
  mx_deref v0 fun _ =>
  mx_pure ()
def fn_J26_init : Nat → Option Nat → mx_M Unit
  | 0, _ => mx_fail
  | d + 1, v0 => fn_J26_init_B0 d v0
def fn_J27_init_B0 (d : Nat) (v0 : Option Nat) (v1 : Int32) : mx_M Unit :=
  mx_bind (mx_deref v0 fun _ => fn_J26_init d v0) fun _ =>
  mx_bind (mx_put [(31, 0)] v0 (.int v1)) fun _ =>
  mx_pure ()
def fn_J27_init : Nat → Option Nat → Int32 → mx_M Unit
  | 0, _, _ => mx_fail
  | d + 1, v0, v1 => fn_J27_init_B0 d v0 v1
def fn_J27_valueOf_J23 (d : Nat) (l0 : Int32) : mx_M (Option Nat) :=
  mx_bind (mx_new (31, [.int 0]) 1) fun a101 =>
  mx_bind (mx_deref (some a101) fun _ => fn_J27_init d (some a101) l0) fun _ =>
  mx_pure (some a101)
def fn_J27_valueOf_B0 (d : Nat) (v0 : Int32) : mx_M (Option Nat) :=
  mx_if (v0 < (-128 : Int32)) (
    fn_J27_valueOf_J23 d v0) (
    mx_if ((127 : Int32) < v0) (
      fn_J27_valueOf_J23 d v0) (
      mx_bind (mx_con 7) fun v101 =>
      mx_bind (mx_aldR 105 v101 (v0 + (128 : Int32))) fun v102 =>
      mx_pure v102))
def fn_J27_valueOf : Nat → Int32 → mx_M (Option Nat)
  | 0, _ => mx_fail
  | d + 1, v0 => fn_J27_valueOf_B0 d v0
def fn_J27_compare_B0 (d : Nat) (v0 : Int32) (v1 : Int32) : mx_M Int32 :=
  mx_if (v1 ≤ v0) (
    mx_if (v0 = v1) (
      mx_pure (0 : Int32)) (
      mx_pure (1 : Int32))) (
    mx_pure (-1 : Int32))
def fn_J27_compare : Nat → Int32 → Int32 → mx_M Int32
  | 0, _, _ => mx_fail
  | d + 1, v0, v1 => fn_J27_compare_B0 d v0 v1
def fn_J27_compareTo_2_B0 (d : Nat) (v0 : Option Nat) (v1 : Option Nat) : mx_M Int32 :=
  mx_bind (mx_getI [(31, 0)] v0) fun v101 =>
  mx_bind (mx_getI [(31, 0)] v1) fun v102 =>
  mx_bind (fn_J27_compare d v101 v102) fun r103 =>
  mx_pure r103
def fn_J27_compareTo_2 : Nat → Option Nat → Option Nat → mx_M Int32
  | 0, _, _ => mx_fail
  | d + 1, v0, v1 => fn_J27_compareTo_2_B0 d v0 v1
def fn_J27_compareTo_B0 (d : Nat) (v0 : Option Nat) (v1 : Option Nat) : mx_M Int32 :=
  mx_bind (mx_cast [31] v1) fun _ =>
  mx_bind (mx_is 31 v0 (fn_J27_compareTo_2 d v0 v1)) fun r101 =>
  mx_pure r101
def fn_J27_compareTo : Nat → Option Nat → Option Nat → mx_M Int32
  | 0, _, _ => mx_fail
  | d + 1, v0, v1 => fn_J27_compareTo_B0 d v0 v1
def fn_J37_requireNonNull_B0 (d : Nat) (v0 : Option Nat) : mx_M (Option Nat) :=
  mx_ifnull v0 (
    mx_fail) (
    mx_pure v0)
def fn_J37_requireNonNull : Nat → Option Nat → mx_M (Option Nat)
  | 0, _ => mx_fail
  | d + 1, v0 => fn_J37_requireNonNull_B0 d v0
def fn_J1_getEntry_J72 (d : Nat) (b28 : Option Nat → Option Nat → mx_M (Option Nat)) (l2 : Option Nat) (l3 : Option Nat) : mx_M (Option Nat) :=
  b28 l2 l3
def fn_J1_getEntry_L28_b (d : Nat) (b28 : Option Nat → Option Nat → mx_M (Option Nat)) (l2 : Option Nat) (l3 : Option Nat) : mx_M (Option Nat) :=
  mx_ifnull l3 (
    mx_pure none) (
    mx_bind (mx_getR [(19, 0)] l3) fun v101 =>
    mx_bind (mx_is 31 l2 (fn_J27_compareTo d l2 v101)) fun r102 =>
    mx_if ((0 : Int32) ≤ r102) (
      mx_if (r102 ≤ (0 : Int32)) (
        mx_pure l3) (
        mx_bind (mx_getR [(19, 3)] l3) fun v103 =>
        fn_J1_getEntry_J72 d b28 l2 v103)) (
      mx_bind (mx_getR [(19, 2)] l3) fun v104 =>
      fn_J1_getEntry_J72 d b28 l2 v104))
def fn_J1_getEntry_L28 (d : Nat) : Nat → Option Nat → Option Nat → mx_M (Option Nat)
  | 0, _, _ => mx_fail
  | k + 1, l2, l3 => fn_J1_getEntry_L28_b d (fn_J1_getEntry_L28 d k) l2 l3
def fn_J1_getEntry_B0 (d : Nat) (v0 : Option Nat) (v1 : Option Nat) : mx_M (Option Nat) :=
  mx_bind (mx_getR [(18, 2)] v0) fun v101 =>
  mx_ifnull v101 (
    mx_bind (fn_J37_requireNonNull d v1) fun r102 =>
    mx_bind (mx_cast [29, 30, 31] v1) fun _ =>
    mx_bind (mx_getR [(18, 3)] v0) fun v103 =>
    fn_J1_getEntry_L28 d mx_K v1 v103) (
    mx_fail)
def fn_J1_getEntry : Nat → Option Nat → Option Nat → mx_M (Option Nat)
  | 0, _, _ => mx_fail
  | d + 1, v0, v1 => fn_J1_getEntry_B0 d v0 v1
def fn_J1_containsKey_B0 (d : Nat) (v0 : Option Nat) (v1 : Option Nat) : mx_M Int32 :=
  mx_bind (mx_is 18 v0 (fn_J1_getEntry d v0 v1)) fun r101 =>
  mx_ifnull r101 (
    mx_pure (0 : Int32)) (
    mx_pure (1 : Int32))
def fn_J1_containsKey : Nat → Option Nat → Option Nat → mx_M Int32
  | 0, _, _ => mx_fail
  | d + 1, v0, v1 => fn_J1_containsKey_B0 d v0 v1
def fn_X2_hasLion_B0 (d : Nat) (v0 : Option Nat) (v1 : Int32) : mx_M Int32 :=
  mx_bind (mx_getR [(2, 0)] v0) fun v101 =>
  mx_bind (fn_J27_valueOf d v1) fun r102 =>
  mx_bind (mx_is 18 v101 (fn_J1_containsKey d v101 r102)) fun r103 =>
  mx_retN .boolean r103
def fn_X2_hasLion : Nat → Option Nat → Int32 → mx_M Int32
  | 0, _, _ => mx_fail
  | d + 1, v0, v1 => fn_X2_hasLion_B0 d v0 v1
def fn_J1_get_B0 (d : Nat) (v0 : Option Nat) (v1 : Option Nat) : mx_M (Option Nat) :=
  mx_bind (mx_is 18 v0 (fn_J1_getEntry d v0 v1)) fun r101 =>
  mx_ifnull r101 (
    mx_pure none) (
    mx_bind (mx_getR [(19, 1)] r101) fun v102 =>
    mx_pure v102)
def fn_J1_get : Nat → Option Nat → Option Nat → mx_M (Option Nat)
  | 0, _, _ => mx_fail
  | d + 1, v0, v1 => fn_J1_get_B0 d v0 v1
def fn_X2_isValid_B0 (d : Nat) (v0 : Option Nat) (v1 : Option Nat) : mx_M Int32 :=
  mx_bind (mx_getI [(6, 1)] v1) fun v101 =>
  mx_bind (mx_is 2 v0 (fn_X2_hasLion d v0 v101)) fun r102 =>
  mx_if (r102 = (0 : Int32)) (
    mx_pure (0 : Int32)) (
    mx_bind (mx_getR [(2, 0)] v0) fun v103 =>
    mx_bind (mx_getI [(6, 1)] v1) fun v104 =>
    mx_bind (fn_J27_valueOf d v104) fun r105 =>
    mx_bind (mx_is 18 v103 (fn_J1_get d v103 r105)) fun r106 =>
    mx_bind (mx_cast [5] r106) fun _ =>
    mx_bind (mx_getR [(5, 3)] r106) fun v107 =>
    mx_bind (mx_getI [(6, 0)] v107) fun v108 =>
    mx_bind (mx_getI [(6, 0)] v1) fun v109 =>
    mx_if (v108 = v109) (
      mx_pure (1 : Int32)) (
      mx_pure (0 : Int32)))
def fn_X2_isValid : Nat → Option Nat → Option Nat → mx_M Int32
  | 0, _, _ => mx_fail
  | d + 1, v0, v1 => fn_X2_isValid_B0 d v0 v1
def fn_X2_hungriest_J28 (d : Nat) (l1 : Option Nat) : mx_M Int32 :=
  mx_ifnull l1 (
    mx_pure (-1 : Int32)) (
    mx_bind (mx_getR [(7, 0)] l1) fun v101 =>
    mx_bind (mx_getI [(6, 1)] v101) fun v102 =>
    mx_pure v102)
def fn_X2_hungriest_L5_b (d : Nat) (b5 : Option Nat → Option Nat → mx_M Int32) (l0 : Option Nat) (l1 : Option Nat) : mx_M Int32 :=
  mx_ifnull l1 (
    fn_X2_hungriest_J28 d l1) (
    mx_bind (mx_getR [(7, 0)] l1) fun v101 =>
    mx_bind (mx_is 2 l0 (fn_X2_isValid d l0 v101)) fun r102 =>
    mx_if (r102 = (0 : Int32)) (
      mx_bind (mx_is 7 l1 (fn_X10_withoutTop d l1)) fun r103 =>
      b5 l0 r103) (
      fn_X2_hungriest_J28 d l1))
def fn_X2_hungriest_L5 (d : Nat) : Nat → Option Nat → Option Nat → mx_M Int32
  | 0, _, _ => mx_fail
  | k + 1, l0, l1 => fn_X2_hungriest_L5_b d (fn_X2_hungriest_L5 d k) l0 l1
def fn_X2_hungriest_B0 (d : Nat) (v0 : Option Nat) : mx_M Int32 :=
  mx_bind (mx_getR [(2, 2)] v0) fun v101 =>
  fn_X2_hungriest_L5 d mx_K v0 v101
def fn_X2_hungriest : Nat → Option Nat → mx_M Int32
  | 0, _ => mx_fail
  | d + 1, v0 => fn_X2_hungriest_B0 d v0
def fn_X2_hungriestByLooking_J57 (d : Nat) (b15 : Option Nat → Option Nat → mx_M Int32) (l2 : Option Nat) (p0 : Option Nat) : mx_M Int32 :=
  b15 p0 l2
def fn_X2_hungriestByLooking_J52 (d : Nat) (b15 : Option Nat → Option Nat → mx_M Int32) (l2 : Option Nat) (l3 : Option Nat) : mx_M Int32 :=
  fn_X2_hungriestByLooking_J57 d b15 l2 l3
def fn_X2_hungriestByLooking_L15_b (d : Nat) (b15 : Option Nat → Option Nat → mx_M Int32) (l1 : Option Nat) (l2 : Option Nat) : mx_M Int32 :=
  mx_bind (mx_is 22 l2 (fn_J33_hasNext d l2)) fun r101 =>
  mx_if (r101 = (0 : Int32)) (
    mx_ifnull l1 (
      mx_pure (-1 : Int32)) (
      mx_bind (mx_getI [(5, 0)] l1) fun v102 =>
      mx_pure v102)) (
    mx_bind (mx_is 22 l2 (fn_J36_next d l2)) fun r103 =>
    mx_bind (mx_cast [5] r103) fun _ =>
    mx_ifnull l1 (
      fn_X2_hungriestByLooking_J52 d b15 l2 r103) (
      mx_bind (mx_getR [(5, 3)] r103) fun v104 =>
      mx_bind (mx_getR [(5, 3)] l1) fun v105 =>
      mx_bind (mx_is 6 v104 (fn_X9_isBefore d v104 v105)) fun r106 =>
      mx_if (r106 = (0 : Int32)) (
        fn_X2_hungriestByLooking_J57 d b15 l2 l1) (
        fn_X2_hungriestByLooking_J52 d b15 l2 r103)))
def fn_X2_hungriestByLooking_L15 (d : Nat) : Nat → Option Nat → Option Nat → mx_M Int32
  | 0, _, _ => mx_fail
  | k + 1, l1, l2 => fn_X2_hungriestByLooking_L15_b d (fn_X2_hungriestByLooking_L15 d k) l1 l2
def fn_X2_hungriestByLooking_B0 (d : Nat) (v0 : Option Nat) : mx_M Int32 :=
  mx_bind (mx_getR [(2, 0)] v0) fun v101 =>
  mx_bind (mx_is 18 v101 (fn_J1_values d v101)) fun r102 =>
  mx_bind (mx_is 20 r102 (fn_J11_iterator d r102)) fun r103 =>
  fn_X2_hungriestByLooking_L15 d mx_K none r103
def fn_X2_hungriestByLooking : Nat → Option Nat → mx_M Int32
  | 0, _ => mx_fail
  | d + 1, v0 => fn_X2_hungriestByLooking_B0 d v0
def fn_X2_ticketsByAccounts_B0 (d : Nat) (v0 : Option Nat) : mx_M Int32 :=
  mx_bind (mx_getI [(2, 5)] v0) fun v101 =>
  mx_bind (mx_getI [(2, 6)] v0) fun v102 =>
  mx_bind (mx_getI [(2, 8)] v0) fun v103 =>
  mx_pure ((v101 - v102) - v103)
def fn_X2_ticketsByAccounts : Nat → Option Nat → mx_M Int32
  | 0, _ => mx_fail
  | d + 1, v0 => fn_X2_ticketsByAccounts_B0 d v0
def fn_J1_size_B0 (d : Nat) (v0 : Option Nat) : mx_M Int32 :=
  mx_bind (mx_getI [(18, 4)] v0) fun v101 =>
  mx_pure v101
def fn_J1_size : Nat → Option Nat → mx_M Int32
  | 0, _ => mx_fail
  | d + 1, v0 => fn_J1_size_B0 d v0
def fn_X2_isConsistent_J32 (d : Nat) (l0 : Option Nat) (p0 : Int32) : mx_M Int32 :=
  mx_if (p0 = (0 : Int32)) (
    mx_pure (0 : Int32)) (
    mx_bind (mx_getI [(2, 3)] l0) fun v101 =>
    mx_bind (mx_is 2 l0 (fn_X2_ticketsByAccounts d l0)) fun r102 =>
    mx_if (v101 = r102) (
      mx_bind (mx_getI [(2, 3)] l0) fun v103 =>
      mx_bind (mx_getR [(2, 0)] l0) fun v104 =>
      mx_bind (mx_is 18 v104 (fn_J1_size d v104)) fun r105 =>
      mx_if (v103 < r105) (
        mx_pure (0 : Int32)) (
        mx_bind (mx_getR [(2, 1)] l0) fun v106 =>
        mx_bind (mx_is 3 v106 (fn_X3_areWaysAlike d v106)) fun r107 =>
        mx_if (r107 = (0 : Int32)) (
          mx_pure (0 : Int32)) (
          mx_pure (1 : Int32)))) (
      mx_pure (0 : Int32)))
def fn_X2_isConsistent_J31 (d : Nat) (l0 : Option Nat) : mx_M Int32 :=
  fn_X2_isConsistent_J32 d l0 (0 : Int32)
def fn_X2_isConsistent_B0 (d : Nat) (v0 : Option Nat) : mx_M Int32 :=
  mx_bind (mx_is 2 v0 (fn_X2_feeding d v0)) fun r101 =>
  mx_bind (mx_is 2 v0 (fn_X2_hungriest d v0)) fun r102 =>
  mx_bind (mx_is 2 v0 (fn_X2_hungriestByLooking d v0)) fun r103 =>
  mx_if (r102 = r103) (
    mx_bind (mx_is 8 r101 (fn_X12_most d r101)) fun r104 =>
    mx_bind (mx_is 8 r101 (fn_X12_mostBySets d r101)) fun r105 =>
    mx_if (r104 = r105) (
      fn_X2_isConsistent_J32 d v0 (1 : Int32)) (
      fn_X2_isConsistent_J31 d v0)) (
    fn_X2_isConsistent_J31 d v0)
def fn_X2_isConsistent : Nat → Option Nat → mx_M Int32
  | 0, _ => mx_fail
  | d + 1, v0 => fn_X2_isConsistent_B0 d v0
def fn_X1_isConsistent_B0 (d : Nat) (v0 : Option Nat) : mx_M Int32 :=
  mx_bind (mx_getR [(0, 0)] v0) fun v101 =>
  mx_bind (mx_is 2 v101 (fn_X2_isConsistent d v101)) fun r102 =>
  mx_retN .boolean r102
def fn_X1_isConsistent : Nat → Option Nat → mx_M Int32
  | 0, _ => mx_fail
  | d + 1, v0 => fn_X1_isConsistent_B0 d v0
def fn_X3_count_B0 (d : Nat) (v0 : Option Nat) : mx_M Int32 :=
  mx_bind (mx_getR [(3, 0)] v0) fun v101 =>
  mx_bind (mx_is 16 v101 (fn_J4_size d v101)) fun r102 =>
  mx_pure r102
def fn_X3_count : Nat → Option Nat → mx_M Int32
  | 0, _ => mx_fail
  | d + 1, v0 => fn_X3_count_B0 d v0
def fn_X1_keeperCount_B0 (d : Nat) (v0 : Option Nat) : mx_M Int32 :=
  mx_bind (mx_getR [(0, 0)] v0) fun v101 =>
  mx_bind (mx_getR [(2, 1)] v101) fun v102 =>
  mx_bind (mx_is 3 v102 (fn_X3_count d v102)) fun r103 =>
  mx_pure r103
def fn_X1_keeperCount : Nat → Option Nat → mx_M Int32
  | 0, _ => mx_fail
  | d + 1, v0 => fn_X1_keeperCount_B0 d v0
def fn_X1_lateTotal_B0 (d : Nat) (v0 : Option Nat) : mx_M Int32 :=
  mx_bind (mx_getR [(0, 0)] v0) fun v101 =>
  mx_bind (mx_getI [(2, 9)] v101) fun v102 =>
  mx_pure v102
def fn_X1_lateTotal : Nat → Option Nat → mx_M Int32
  | 0, _ => mx_fail
  | d + 1, v0 => fn_X1_lateTotal_B0 d v0
def fn_X1_lionCount_B0 (d : Nat) (v0 : Option Nat) : mx_M Int32 :=
  mx_bind (mx_getR [(0, 0)] v0) fun v101 =>
  mx_bind (mx_getR [(2, 0)] v101) fun v102 =>
  mx_bind (mx_is 18 v102 (fn_J1_size d v102)) fun r103 =>
  mx_pure r103
def fn_X1_lionCount : Nat → Option Nat → mx_M Int32
  | 0, _ => mx_fail
  | d + 1, v0 => fn_X1_lionCount_B0 d v0
def fn_X1_mostInTime_B0 (d : Nat) (v0 : Option Nat) : mx_M Int32 :=
  mx_bind (mx_getR [(0, 0)] v0) fun v101 =>
  mx_bind (mx_is 2 v101 (fn_X2_feeding d v101)) fun r102 =>
  mx_bind (mx_is 8 r102 (fn_X12_most d r102)) fun r103 =>
  mx_pure r103
def fn_X1_mostInTime : Nat → Option Nat → mx_M Int32
  | 0, _ => mx_fail
  | d + 1, v0 => fn_X1_mostInTime_B0 d v0
def fn_X1_mostInTimeBySets_B0 (d : Nat) (v0 : Option Nat) : mx_M Int32 :=
  mx_bind (mx_getR [(0, 0)] v0) fun v101 =>
  mx_bind (mx_is 2 v101 (fn_X2_feeding d v101)) fun r102 =>
  mx_bind (mx_is 8 r102 (fn_X12_mostBySets d r102)) fun r103 =>
  mx_pure r103
def fn_X1_mostInTimeBySets : Nat → Option Nat → mx_M Int32
  | 0, _ => mx_fail
  | d + 1, v0 => fn_X1_mostInTimeBySets_B0 d v0
def fn_X1_portionTotal_B0 (d : Nat) (v0 : Option Nat) : mx_M Int32 :=
  mx_bind (mx_getR [(0, 0)] v0) fun v101 =>
  mx_bind (mx_getI [(2, 10)] v101) fun v102 =>
  mx_pure v102
def fn_X1_portionTotal : Nat → Option Nat → mx_M Int32
  | 0, _ => mx_fail
  | d + 1, v0 => fn_X1_portionTotal_B0 d v0
def fn_J43_init_B0 (d : Nat) (v0 : Option Nat) (v1 : Option Nat) (v2 : Option Nat) (v3 : Option Nat) : mx_M Unit :=
  mx_deref v0 fun _ =>
  mx_bind (mx_put [(25, 0)] v0 (va_rf v2)) fun _ =>
  mx_bind (mx_put [(25, 1)] v0 (va_rf v3)) fun _ =>
  mx_bind (mx_put [(25, 2)] v0 (va_rf v1)) fun _ =>
  mx_pure ()
def fn_J43_init : Nat → Option Nat → Option Nat → Option Nat → Option Nat → mx_M Unit
  | 0, _, _, _, _ => mx_fail
  | d + 1, v0, v1, v2, v3 => fn_J43_init_B0 d v0 v1 v2 v3
def fn_J6_linkLast_J38 (d : Nat) (l0 : Option Nat) : mx_M Unit :=
  mx_bind (mx_getI [(24, 1)] l0) fun v101 =>
  mx_bind (mx_put [(24, 1)] l0 (.int (v101 + (1 : Int32)))) fun _ =>
  mx_bind (mx_getI [(24, 0)] l0) fun v102 =>
  mx_bind (mx_put [(24, 0)] l0 (.int (v102 + (1 : Int32)))) fun _ =>
  mx_pure ()
def fn_J6_linkLast_B0 (d : Nat) (v0 : Option Nat) (v1 : Option Nat) : mx_M Unit :=
  mx_bind (mx_getR [(24, 3)] v0) fun v101 =>
  mx_bind (mx_new (25, [.null, .null, .null]) 3) fun a102 =>
  mx_bind (mx_deref (some a102) fun _ => fn_J43_init d (some a102) v101 v1 none) fun _ =>
  mx_bind (mx_put [(24, 3)] v0 (va_rf (some a102))) fun _ =>
  mx_ifnull v101 (
    mx_bind (mx_put [(24, 2)] v0 (va_rf (some a102))) fun _ =>
    fn_J6_linkLast_J38 d v0) (
    mx_bind (mx_put [(25, 1)] v101 (va_rf (some a102))) fun _ =>
    fn_J6_linkLast_J38 d v0)
def fn_J6_linkLast : Nat → Option Nat → Option Nat → mx_M Unit
  | 0, _, _ => mx_fail
  | d + 1, v0, v1 => fn_J6_linkLast_B0 d v0 v1
def fn_J6_addLast_B0 (d : Nat) (v0 : Option Nat) (v1 : Option Nat) : mx_M Unit :=
  mx_bind (mx_is 24 v0 (fn_J6_linkLast d v0 v1)) fun _ =>
  mx_pure ()
def fn_J6_addLast : Nat → Option Nat → Option Nat → mx_M Unit
  | 0, _, _ => mx_fail
  | d + 1, v0, v1 => fn_J6_addLast_B0 d v0 v1
def fn_J6_unlinkFirst_J42 (d : Nat) (l0 : Option Nat) (l2 : Option Nat) : mx_M (Option Nat) :=
  mx_bind (mx_getI [(24, 1)] l0) fun v101 =>
  mx_bind (mx_put [(24, 1)] l0 (.int (v101 - (1 : Int32)))) fun _ =>
  mx_bind (mx_getI [(24, 0)] l0) fun v102 =>
  mx_bind (mx_put [(24, 0)] l0 (.int (v102 + (1 : Int32)))) fun _ =>
  mx_pure l2
def fn_J6_unlinkFirst_B0 (d : Nat) (v0 : Option Nat) (v1 : Option Nat) : mx_M (Option Nat) :=
  mx_bind (mx_getR [(25, 0)] v1) fun v101 =>
  mx_bind (mx_getR [(25, 1)] v1) fun v102 =>
  mx_bind (mx_put [(25, 0)] v1 (va_rf none)) fun _ =>
  mx_bind (mx_put [(25, 1)] v1 (va_rf none)) fun _ =>
  mx_bind (mx_put [(24, 2)] v0 (va_rf v102)) fun _ =>
  mx_ifnull v102 (
    mx_bind (mx_put [(24, 3)] v0 (va_rf none)) fun _ =>
    fn_J6_unlinkFirst_J42 d v0 v101) (
    mx_bind (mx_put [(25, 2)] v102 (va_rf none)) fun _ =>
    fn_J6_unlinkFirst_J42 d v0 v101)
def fn_J6_unlinkFirst : Nat → Option Nat → Option Nat → mx_M (Option Nat)
  | 0, _, _ => mx_fail
  | d + 1, v0, v1 => fn_J6_unlinkFirst_B0 d v0 v1
def fn_J6_removeFirst_B0 (d : Nat) (v0 : Option Nat) : mx_M (Option Nat) :=
  mx_bind (mx_getR [(24, 2)] v0) fun v101 =>
  mx_ifnull v101 (
    mx_fail) (
    mx_bind (mx_is 24 v0 (fn_J6_unlinkFirst d v0 v101)) fun r102 =>
    mx_pure r102)
def fn_J6_removeFirst : Nat → Option Nat → mx_M (Option Nat)
  | 0, _ => mx_fail
  | d + 1, v0 => fn_J6_removeFirst_B0 d v0
def fn_J6_size_B0 (d : Nat) (v0 : Option Nat) : mx_M Int32 :=
  mx_bind (mx_getI [(24, 1)] v0) fun v101 =>
  mx_pure v101
def fn_J6_size : Nat → Option Nat → mx_M Int32
  | 0, _ => mx_fail
  | d + 1, v0 => fn_J6_size_B0 d v0
def fn_X1_commit_J20 (d : Nat) (l0 : Option Nat) (l1 : Option Nat) (l2 : Int32) : mx_M Int32 :=
  mx_bind (mx_getR [(0, 2)] l0) fun v101 =>
  mx_bind (mx_getR [(0, 0)] l0) fun v102 =>
  mx_bind (mx_is 24 v101 (fn_J6_addLast d v101 v102)) fun _ =>
  mx_bind (mx_put [(0, 0)] l0 (va_rf l1)) fun _ =>
  mx_pure l2
def fn_X1_commit_B0 (d : Nat) (v0 : Option Nat) (v1 : Option Nat) (v2 : Int32) : mx_M Int32 :=
  mx_bind (mx_getR [(0, 2)] v0) fun v101 =>
  mx_bind (mx_is 24 v101 (fn_J6_size d v101)) fun r102 =>
  mx_if (r102 = (8 : Int32)) (
    mx_bind (mx_getR [(0, 2)] v0) fun v103 =>
    mx_bind (mx_is 24 v103 (fn_J6_removeFirst d v103)) fun r104 =>
    fn_X1_commit_J20 d v0 v1 v2) (
    fn_X1_commit_J20 d v0 v1 v2)
def fn_X1_commit : Nat → Option Nat → Option Nat → Int32 → mx_M Int32
  | 0, _, _, _ => mx_fail
  | d + 1, v0, v1, v2 => fn_X1_commit_B0 d v0 v1 v2
def fn_X5_init_B0 (d : Nat) (v0 : Option Nat) (v1 : Option Nat) (v2 : Option Nat) : mx_M Unit :=
  mx_deref v0 fun _ =>
  mx_bind (mx_put [(11, 0)] v0 (va_rf v1)) fun _ =>
  mx_bind (mx_put [(11, 1)] v0 (va_rf v2)) fun _ =>
  mx_pure ()
def fn_X5_init : Nat → Option Nat → Option Nat → Option Nat → mx_M Unit
  | 0, _, _, _ => mx_fail
  | d + 1, v0, v1, v2 => fn_X5_init_B0 d v0 v1 v2
def fn_X5_at_B0 (d : Nat) (v0 : Option Nat) (v1 : Int32) : mx_M Int32 :=
  mx_bind (mx_getR [(11, 1)] v0) fun v101 =>
  mx_bind (mx_aldI 100 v101 v1) fun v102 =>
  mx_pure v102
def fn_X5_at : Nat → Option Nat → Int32 → mx_M Int32
  | 0, _, _ => mx_fail
  | d + 1, v0, v1 => fn_X5_at_B0 d v0 v1
def fn_J17_init_4_B0 (d : Nat) (v0 : Option Nat) (v1 : Option Nat) (v2 : Option Nat) : mx_M Unit :=
  mx_deref v0 fun _ =>
  mx_bind (mx_put [(13, 0), (14, 0), (15, 0)] v0 (va_rf v0)) fun _ =>
  mx_bind (mx_con 2) fun v102 =>
  mx_bind (mx_put [(13, 1), (14, 1), (15, 1)] v0 (va_rf v102)) fun _ =>
  mx_bind (mx_con 3) fun v103 =>
  mx_bind (mx_put [(13, 2), (14, 2), (15, 2)] v0 (va_rf v103)) fun _ =>
  mx_bind (mx_ge 1 d (mx_fill v0)) fun _ =>
  mx_bind (mx_put [(13, 3), (14, 3), (15, 3)] v0 (va_rf v1)) fun _ =>
  mx_bind (mx_put [(13, 0), (14, 0), (15, 0)] v0 (va_rf v2)) fun _ =>
  mx_pure ()
def fn_J17_init_4 : Nat → Option Nat → Option Nat → Option Nat → mx_M Unit
  | 0, _, _, _ => mx_fail
  | d + 1, v0, v1, v2 => fn_J17_init_4_B0 d v0 v1 v2
def fn_J18_init_4_B0 (d : Nat) (v0 : Option Nat) (v1 : Option Nat) (v2 : Option Nat) : mx_M Unit :=
  mx_bind (mx_deref v0 fun _ => fn_J17_init_4 d v0 v1 v2) fun _ =>
  mx_pure ()
def fn_J18_init_4 : Nat → Option Nat → Option Nat → Option Nat → mx_M Unit
  | 0, _, _, _ => mx_fail
  | d + 1, v0, v1, v2 => fn_J18_init_4_B0 d v0 v1 v2
def fn_X6_init_B0 (d : Nat) (v0 : Option Nat) (v1 : Option Nat) : mx_M Unit :=
  mx_bind (mx_deref v0 fun _ => fn_J18_init_4 d v0 none v1) fun _ =>
  mx_pure ()
def fn_X6_init : Nat → Option Nat → Option Nat → mx_M Unit
  | 0, _, _ => mx_fail
  | d + 1, v0, v1 => fn_X6_init_B0 d v0 v1
def fn_X7_init_B0 (d : Nat) (v0 : Option Nat) (v1 : Int32) : mx_M Unit :=
  mx_bind (mx_deref v0 fun _ => fn_X6_init d v0 none) fun _ =>
  mx_bind (mx_putN .char [(13, 6)] v0 v1) fun _ =>
  mx_pure ()
def fn_X7_init : Nat → Option Nat → Int32 → mx_M Unit
  | 0, _, _ => mx_fail
  | d + 1, v0, v1 => fn_X7_init_B0 d v0 v1
def fn_X1_demand_B0 (d : Nat) (v0 : Int32) (v1 : Int32) : mx_M Unit :=
  mx_if (v0 = (0 : Int32)) (
    mx_bind (mx_new (13, [.null, .null, .null, .null, .null, .int 0, .int 0]) 7) fun a101 =>
    mx_bind (mx_deref (some a101) fun _ => fn_X7_init d (some a101) v1) fun _ =>
    mx_deref (some a101) fun q102 =>
    mx_thr [13, 14, 15, 34, 35, 36, 37, 38, 39] q102) (
    mx_pure ())
def fn_X1_demand : Nat → Int32 → Int32 → mx_M Unit
  | 0, _, _ => mx_fail
  | d + 1, v0, v1 => fn_X1_demand_B0 d v0 v1
def fn_X1_isBetween_B0 (d : Nat) (v0 : Int32) (v1 : Int32) (v2 : Int32) : mx_M Int32 :=
  mx_if (v0 < v1) (
    mx_pure (0 : Int32)) (
    mx_if (v2 < v0) (
      mx_pure (0 : Int32)) (
      mx_pure (1 : Int32)))
def fn_X1_isBetween : Nat → Int32 → Int32 → Int32 → mx_M Int32
  | 0, _, _, _ => mx_fail
  | d + 1, v0, v1, v2 => fn_X1_isBetween_B0 d v0 v1 v2
def fn_X8_init_B0 (d : Nat) (v0 : Option Nat) (v1 : Int32) (v2 : Int32) (v3 : Int32) (v4 : Option Nat) : mx_M Unit :=
  mx_deref v0 fun _ =>
  mx_bind (mx_put [(5, 0)] v0 (.int v1)) fun _ =>
  mx_bind (mx_put [(5, 1)] v0 (.int v2)) fun _ =>
  mx_bind (mx_put [(5, 2)] v0 (.int v3)) fun _ =>
  mx_bind (mx_put [(5, 3)] v0 (va_rf v4)) fun _ =>
  mx_pure ()
def fn_X8_init : Nat → Option Nat → Int32 → Int32 → Int32 → Option Nat → mx_M Unit
  | 0, _, _, _, _, _ => mx_fail
  | d + 1, v0, v1, v2, v3, v4 => fn_X8_init_B0 d v0 v1 v2 v3 v4
def fn_X8_with_B0 (d : Nat) (v0 : Option Nat) (v1 : Option Nat) : mx_M (Option Nat) :=
  mx_bind (mx_new (5, [.int 0, .int 0, .int 0, .null]) 4) fun a101 =>
  mx_bind (mx_getI [(5, 0)] v0) fun v102 =>
  mx_bind (mx_getI [(5, 1)] v0) fun v103 =>
  mx_bind (mx_getI [(5, 2)] v0) fun v104 =>
  mx_bind (mx_deref (some a101) fun _ => fn_X8_init d (some a101) v102 v103 v104 v1) fun _ =>
  mx_pure (some a101)
def fn_X8_with : Nat → Option Nat → Option Nat → mx_M (Option Nat)
  | 0, _, _ => mx_fail
  | d + 1, v0, v1 => fn_X8_with_B0 d v0 v1
def fn_J13_init_B0 (d : Nat) (v0 : Option Nat) : mx_M Unit :=
  mx_bind (mx_deref v0 fun _ => fn_J2_init d v0) fun _ =>
  mx_bind (mx_newa 104 .null (17 : Int32)) fun a101 =>
  mx_bind (mx_put [(26, 0)] v0 (va_rf (some a101))) fun _ =>
  mx_pure ()
def fn_J13_init : Nat → Option Nat → mx_M Unit
  | 0, _ => mx_fail
  | d + 1, v0 => fn_J13_init_B0 d v0
def fn_J13_isEmpty_B0 (d : Nat) (v0 : Option Nat) : mx_M Int32 :=
  mx_bind (mx_getI [(26, 1)] v0) fun v101 =>
  mx_bind (mx_getI [(26, 2)] v0) fun v102 =>
  mx_if (v101 = v102) (
    mx_pure (1 : Int32)) (
    mx_pure (0 : Int32))
def fn_J13_isEmpty : Nat → Option Nat → mx_M Int32
  | 0, _ => mx_fail
  | d + 1, v0 => fn_J13_isEmpty_B0 d v0
def fn_J13_elementAt_B0 (d : Nat) (v0 : Option Nat) (v1 : Int32) : mx_M (Option Nat) :=
  mx_bind (mx_aldR 104 v0 v1) fun v101 =>
  mx_pure v101
def fn_J13_elementAt : Nat → Option Nat → Int32 → mx_M (Option Nat)
  | 0, _, _ => mx_fail
  | d + 1, v0, v1 => fn_J13_elementAt_B0 d v0 v1
def fn_J13_inc_B0 (d : Nat) (v0 : Int32) (v1 : Int32) : mx_M Int32 :=
  mx_if ((v0 + (1 : Int32)) < v1) (
    mx_pure (v0 + (1 : Int32))) (
    mx_pure (0 : Int32))
def fn_J13_inc : Nat → Int32 → Int32 → mx_M Int32
  | 0, _, _ => mx_fail
  | d + 1, v0, v1 => fn_J13_inc_B0 d v0 v1
def fn_J13_pollFirst_B0 (d : Nat) (v0 : Option Nat) : mx_M (Option Nat) :=
  mx_bind (mx_getR [(26, 0)] v0) fun v101 =>
  mx_bind (mx_getI [(26, 1)] v0) fun v102 =>
  mx_bind (fn_J13_elementAt d v101 v102) fun r103 =>
  mx_ifnull r103 (
    mx_pure r103) (
    mx_bind (mx_astR v101 v102 none) fun _ =>
    mx_bind (mx_alen v101) fun v104 =>
    mx_bind (fn_J13_inc d v102 v104) fun r105 =>
    mx_bind (mx_put [(26, 1)] v0 (.int r105)) fun _ =>
    mx_pure r103)
def fn_J13_pollFirst : Nat → Option Nat → mx_M (Option Nat)
  | 0, _ => mx_fail
  | d + 1, v0 => fn_J13_pollFirst_B0 d v0
def fn_J13_removeFirst_B0 (d : Nat) (v0 : Option Nat) : mx_M (Option Nat) :=
  mx_bind (mx_is 26 v0 (fn_J13_pollFirst d v0)) fun r101 =>
  mx_ifnull r101 (
    mx_fail) (
    mx_pure r101)
def fn_J13_removeFirst : Nat → Option Nat → mx_M (Option Nat)
  | 0, _ => mx_fail
  | d + 1, v0 => fn_J13_removeFirst_B0 d v0
def fn_J13_pop_B0 (d : Nat) (v0 : Option Nat) : mx_M (Option Nat) :=
  mx_bind (mx_is 26 v0 (fn_J13_removeFirst d v0)) fun r101 =>
  mx_pure r101
def fn_J13_pop : Nat → Option Nat → mx_M (Option Nat)
  | 0, _ => mx_fail
  | d + 1, v0 => fn_J13_pop_B0 d v0
def fn_J13_dec_B0 (d : Nat) (v0 : Int32) (v1 : Int32) : mx_M Int32 :=
  mx_if ((0 : Int32) ≤ (v0 + (-1 : Int32))) (
    mx_pure (v0 + (-1 : Int32))) (
    mx_let (v1 - (1 : Int32)) fun v101 =>
    mx_pure v101)
def fn_J13_dec : Nat → Int32 → Int32 → mx_M Int32
  | 0, _, _ => mx_fail
  | d + 1, v0, v1 => fn_J13_dec_B0 d v0 v1
def fn_J13_newCapacity_B0 (d : Nat) (v0 : Option Nat) (v1 : Int32) (v2 : Int32) : mx_M Int32 :=
  mx_bind (mx_getR [(26, 0)] v0) fun v101 =>
  mx_bind (mx_alen v101) fun v102 =>
  mx_let (v102 + v1) fun v103 =>
  mx_if ((v103 - (2147483639 : Int32)) ≤ (0 : Int32)) (
    mx_if (v1 ≤ v2) (
      mx_if ((0 : Int32) ≤ ((v102 + v2) - (2147483639 : Int32))) (
        mx_pure (2147483639 : Int32)) (
        mx_pure (v102 + v2))) (
      mx_pure v103)) (
    mx_if ((0 : Int32) ≤ v103) (
      mx_pure (2147483647 : Int32)) (
      mx_fail))
def fn_J13_newCapacity : Nat → Option Nat → Int32 → Int32 → mx_M Int32
  | 0, _, _, _ => mx_fail
  | d + 1, v0, v1, v2 => fn_J13_newCapacity_B0 d v0 v1 v2
def fn_J13_grow_L145_b (d : Nat) (b145 : Option Nat → Int32 → Int32 → mx_M Unit) (l5 : Option Nat) (l7 : Int32) (l8 : Int32) : mx_M Unit :=
  mx_if (l8 ≤ l7) (
    mx_pure ()) (
    mx_bind (mx_astR l5 l7 none) fun _ =>
    b145 l5 (l7 + (1 : Int32)) l8)
def fn_J13_grow_L145 (d : Nat) : Nat → Option Nat → Int32 → Int32 → mx_M Unit
  | 0, _, _, _ => mx_fail
  | k + 1, l5, l7, l8 => fn_J13_grow_L145_b d (fn_J13_grow_L145 d k) l5 l7 l8
def fn_J13_grow_J96 (d : Nat) (l0 : Option Nat) (l2 : Int32) (l3 : Int32) (l5 : Option Nat) : mx_M Unit :=
  mx_let (l3 - l2) fun v101 =>
  mx_bind (mx_getI [(26, 1)] l0) fun v102 =>
  mx_bind (mx_getI [(26, 1)] l0) fun v103 =>
  mx_bind (mx_getI [(26, 1)] l0) fun v104 =>
  mx_bind (mx_copyP 104 hp_okV l5 v102 l5 (v103 + v101) (l2 - v104)) fun _ =>
  mx_bind (mx_getI [(26, 1)] l0) fun v105 =>
  mx_bind (mx_getI [(26, 1)] l0) fun v106 =>
  mx_let (v106 + v101) fun v107 =>
  mx_bind (mx_put [(26, 1)] l0 (.int v107)) fun _ =>
  fn_J13_grow_L145 d mx_K l5 v105 v107
def fn_J13_grow_J49 (d : Nat) (l0 : Option Nat) (l2 : Int32) (l3 : Int32) : mx_M Unit :=
  mx_bind (mx_getR [(26, 0)] l0) fun v101 =>
  mx_bind (fn_J23_copyOf_2 d v101 l3) fun r102 =>
  mx_bind (mx_put [(26, 0)] l0 (va_rf r102)) fun _ =>
  mx_bind (mx_getI [(26, 2)] l0) fun v103 =>
  mx_bind (mx_getI [(26, 1)] l0) fun v104 =>
  mx_if (v103 < v104) (
    fn_J13_grow_J96 d l0 l2 l3 r102) (
    mx_bind (mx_getI [(26, 2)] l0) fun v105 =>
    mx_bind (mx_getI [(26, 1)] l0) fun v106 =>
    mx_if (v105 = v106) (
      mx_bind (mx_getI [(26, 1)] l0) fun v107 =>
      mx_bind (mx_aldR 104 r102 v107) fun v108 =>
      mx_ifnull v108 (
        mx_pure ()) (
        fn_J13_grow_J96 d l0 l2 l3 r102)) (
      mx_pure ()))
def fn_J13_grow_J41 (d : Nat) (l0 : Option Nat) (l1 : Int32) (l2 : Int32) (l4 : Int32) : mx_M Unit :=
  mx_bind (mx_is 26 l0 (fn_J13_newCapacity d l0 l1 l4)) fun r101 =>
  fn_J13_grow_J49 d l0 l2 r101
def fn_J13_grow_J21 (d : Nat) (l0 : Option Nat) (l1 : Int32) (l2 : Int32) (p0 : Int32) : mx_M Unit :=
  mx_if (p0 < l1) (
    fn_J13_grow_J41 d l0 l1 l2 p0) (
    mx_let (l2 + p0) fun v101 =>
    mx_if ((v101 - (2147483639 : Int32)) ≤ (0 : Int32)) (
      fn_J13_grow_J49 d l0 l2 v101) (
      fn_J13_grow_J41 d l0 l1 l2 p0))
def fn_J13_grow_B0 (d : Nat) (v0 : Option Nat) (v1 : Int32) : mx_M Unit :=
  mx_bind (mx_getR [(26, 0)] v0) fun v101 =>
  mx_bind (mx_alen v101) fun v102 =>
  mx_if ((64 : Int32) ≤ v102) (
    fn_J13_grow_J21 d v0 v1 v102 (v102 >>> ((1 : Int32) &&& 31))) (
    fn_J13_grow_J21 d v0 v1 v102 (v102 + (2 : Int32)))
def fn_J13_grow : Nat → Option Nat → Int32 → mx_M Unit
  | 0, _, _ => mx_fail
  | d + 1, v0, v1 => fn_J13_grow_B0 d v0 v1
def fn_J13_addFirst_B0 (d : Nat) (v0 : Option Nat) (v1 : Option Nat) : mx_M Unit :=
  mx_ifnull v1 (
    mx_fail) (
    mx_bind (mx_getR [(26, 0)] v0) fun v101 =>
    mx_bind (mx_getI [(26, 1)] v0) fun v102 =>
    mx_bind (mx_alen v101) fun v103 =>
    mx_bind (fn_J13_dec d v102 v103) fun r104 =>
    mx_bind (mx_put [(26, 1)] v0 (.int r104)) fun _ =>
    mx_bind (mx_astR v101 r104 v1) fun _ =>
    mx_bind (mx_getI [(26, 1)] v0) fun v105 =>
    mx_bind (mx_getI [(26, 2)] v0) fun v106 =>
    mx_if (v105 = v106) (
      mx_bind (mx_is 26 v0 (fn_J13_grow d v0 (1 : Int32))) fun _ =>
      mx_pure ()) (
      mx_pure ()))
def fn_J13_addFirst : Nat → Option Nat → Option Nat → mx_M Unit
  | 0, _, _ => mx_fail
  | d + 1, v0, v1 => fn_J13_addFirst_B0 d v0 v1
def fn_J13_push_B0 (d : Nat) (v0 : Option Nat) (v1 : Option Nat) : mx_M Unit :=
  mx_bind (mx_is 26 v0 (fn_J13_addFirst d v0 v1)) fun _ =>
  mx_pure ()
def fn_J13_push : Nat → Option Nat → Option Nat → mx_M Unit
  | 0, _, _ => mx_fail
  | d + 1, v0, v1 => fn_J13_push_B0 d v0 v1
def fn_X1_inOrder_J124 (d : Nat) (b25 : Option Nat → Option Nat → mx_M (Option Nat)) (l1 : Option Nat) (l2 : Option Nat) : mx_M (Option Nat) :=
  b25 l1 l2
def fn_X1_inOrder_J109 (d : Nat) (b25 : Option Nat → Option Nat → mx_M (Option Nat)) (l1 : Option Nat) (l2 : Option Nat) (l3 : Option Nat) : mx_M (Option Nat) :=
  mx_bind (mx_getR [(7, 2)] l3) fun v101 =>
  mx_ifnull v101 (
    fn_X1_inOrder_J124 d b25 l1 l2) (
    mx_bind (mx_getR [(7, 2)] l3) fun v102 =>
    mx_bind (mx_is 26 l2 (fn_J13_push d l2 v102)) fun _ =>
    fn_X1_inOrder_J124 d b25 l1 l2)
def fn_X1_inOrder_J82 (d : Nat) (b25 : Option Nat → Option Nat → mx_M (Option Nat)) (l1 : Option Nat) (l2 : Option Nat) (l3 : Option Nat) (l4 : Int32) : mx_M (Option Nat) :=
  mx_bind (mx_getR [(7, 0)] l3) fun v101 =>
  mx_bind (mx_is 16 l1 (fn_J4_add_3 d l1 l4 v101)) fun _ =>
  mx_bind (mx_getR [(7, 1)] l3) fun v102 =>
  mx_ifnull v102 (
    fn_X1_inOrder_J109 d b25 l1 l2 l3) (
    mx_bind (mx_getR [(7, 1)] l3) fun v103 =>
    mx_bind (mx_is 26 l2 (fn_J13_push d l2 v103)) fun _ =>
    fn_X1_inOrder_J109 d b25 l1 l2 l3)
def fn_X1_inOrder_L48_b (d : Nat) (b25 : Option Nat → Option Nat → mx_M (Option Nat)) (b48 : Option Nat → Option Nat → Option Nat → Int32 → mx_M (Option Nat)) (l1 : Option Nat) (l2 : Option Nat) (l3 : Option Nat) (l4 : Int32) : mx_M (Option Nat) :=
  mx_if (l4 ≤ (0 : Int32)) (
    fn_X1_inOrder_J82 d b25 l1 l2 l3 l4) (
    mx_bind (mx_getR [(7, 0)] l3) fun v101 =>
    mx_bind (mx_is 16 l1 (fn_J4_get d l1 (l4 - (1 : Int32)))) fun r102 =>
    mx_bind (mx_cast [6] r102) fun _ =>
    mx_bind (mx_is 6 v101 (fn_X9_isBefore d v101 r102)) fun r103 =>
    mx_if (r103 = (0 : Int32)) (
      fn_X1_inOrder_J82 d b25 l1 l2 l3 l4) (
      b48 l1 l2 l3 (l4 + (-1 : Int32))))
def fn_X1_inOrder_L48 (d : Nat) (b25 : Option Nat → Option Nat → mx_M (Option Nat)) : Nat → Option Nat → Option Nat → Option Nat → Int32 → mx_M (Option Nat)
  | 0, _, _, _, _ => mx_fail
  | k + 1, l1, l2, l3, l4 => fn_X1_inOrder_L48_b d b25 (fn_X1_inOrder_L48 d b25 k) l1 l2 l3 l4
def fn_X1_inOrder_L25_b (d : Nat) (b25 : Option Nat → Option Nat → mx_M (Option Nat)) (l1 : Option Nat) (l2 : Option Nat) : mx_M (Option Nat) :=
  mx_bind (mx_is 26 l2 (fn_J13_isEmpty d l2)) fun r101 =>
  mx_if (r101 = (0 : Int32)) (
    mx_bind (mx_is 26 l2 (fn_J13_pop d l2)) fun r102 =>
    mx_bind (mx_cast [7] r102) fun _ =>
    mx_bind (mx_is 16 l1 (fn_J4_size d l1)) fun r103 =>
    fn_X1_inOrder_L48 d b25 mx_K l1 l2 r102 r103) (
    mx_pure l1)
def fn_X1_inOrder_L25 (d : Nat) : Nat → Option Nat → Option Nat → mx_M (Option Nat)
  | 0, _, _ => mx_fail
  | k + 1, l1, l2 => fn_X1_inOrder_L25_b d (fn_X1_inOrder_L25 d k) l1 l2
def fn_X1_inOrder_B0 (d : Nat) (v0 : Option Nat) : mx_M (Option Nat) :=
  mx_bind (mx_new (16, [.int 0, .null, .int 0]) 3) fun a101 =>
  mx_bind (mx_deref (some a101) fun _ => fn_J4_init d (some a101)) fun _ =>
  mx_bind (mx_new (26, [.null, .int 0, .int 0]) 3) fun a102 =>
  mx_bind (mx_deref (some a102) fun _ => fn_J13_init d (some a102)) fun _ =>
  mx_ifnull v0 (
    fn_X1_inOrder_L25 d mx_K (some a101) (some a102)) (
    mx_bind (mx_is 26 (some a102) (fn_J13_push d (some a102) v0)) fun _ =>
    fn_X1_inOrder_L25 d mx_K (some a101) (some a102))
def fn_X1_inOrder : Nat → Option Nat → mx_M (Option Nat)
  | 0, _ => mx_fail
  | d + 1, v0 => fn_X1_inOrder_B0 d v0
def fn_X10_init_B0 (d : Nat) (v0 : Option Nat) (v1 : Option Nat) : mx_M Unit :=
  mx_bind (mx_deref v0 fun _ => fn_X10_init_2 d v0 v1 none none) fun _ =>
  mx_pure ()
def fn_X10_init : Nat → Option Nat → Option Nat → mx_M Unit
  | 0, _, _ => mx_fail
  | d + 1, v0, v1 => fn_X10_init_B0 d v0 v1
def fn_X2_put_B0 (d : Nat) (v0 : Option Nat) (v1 : Option Nat) : mx_M Unit :=
  mx_bind (mx_getR [(2, 2)] v0) fun v101 =>
  mx_bind (mx_new (7, [.null, .null, .null, .int 0]) 4) fun a102 =>
  mx_bind (mx_deref (some a102) fun _ => fn_X10_init d (some a102) v1) fun _ =>
  mx_bind (fn_X10_merged d v101 (some a102)) fun r103 =>
  mx_bind (mx_put [(2, 2)] v0 (va_rf r103)) fun _ =>
  mx_bind (mx_getI [(2, 3)] v0) fun v104 =>
  mx_bind (mx_put [(2, 3)] v0 (.int (v104 + (1 : Int32)))) fun _ =>
  mx_pure ()
def fn_X2_put : Nat → Option Nat → Option Nat → mx_M Unit
  | 0, _, _ => mx_fail
  | d + 1, v0, v1 => fn_X2_put_B0 d v0 v1
def fn_J4_fastRemove_J34 (d : Nat) (l0 : Option Nat) (l1 : Option Nat) (l3 : Int32) : mx_M Unit :=
  mx_bind (mx_put [(16, 2)] l0 (.int l3)) fun _ =>
  mx_bind (mx_astR l1 l3 none) fun _ =>
  mx_pure ()
def fn_J4_fastRemove_B0 (d : Nat) (v0 : Option Nat) (v1 : Option Nat) (v2 : Int32) : mx_M Unit :=
  mx_bind (mx_getI [(16, 0)] v0) fun v101 =>
  mx_bind (mx_put [(16, 0)] v0 (.int (v101 + (1 : Int32)))) fun _ =>
  mx_bind (mx_getI [(16, 2)] v0) fun v102 =>
  mx_let (v102 - (1 : Int32)) fun v103 =>
  mx_if (v103 ≤ v2) (
    fn_J4_fastRemove_J34 d v0 v1 v103) (
    mx_bind (mx_copyP 104 hp_okV v1 (v2 + (1 : Int32)) v1 v2 (v103 - v2)) fun _ =>
    fn_J4_fastRemove_J34 d v0 v1 v103)
def fn_J4_fastRemove : Nat → Option Nat → Option Nat → Int32 → mx_M Unit
  | 0, _, _, _ => mx_fail
  | d + 1, v0, v1, v2 => fn_J4_fastRemove_B0 d v0 v1 v2
def fn_J4_remove_B0 (d : Nat) (v0 : Option Nat) (v1 : Int32) : mx_M (Option Nat) :=
  mx_bind (mx_getI [(16, 2)] v0) fun v101 =>
  mx_bind (fn_J37_checkIndex d v1 v101) fun r102 =>
  mx_bind (mx_getR [(16, 1)] v0) fun v103 =>
  mx_bind (mx_aldR 104 v103 v1) fun v104 =>
  mx_bind (mx_is 16 v0 (fn_J4_fastRemove d v0 v103 v1)) fun _ =>
  mx_pure v104
def fn_J4_remove : Nat → Option Nat → Int32 → mx_M (Option Nat)
  | 0, _, _ => mx_fail
  | d + 1, v0, v1 => fn_J4_remove_B0 d v0 v1
def fn_J14_remove_B0 (d : Nat) (v0 : Option Nat) : mx_M Unit :=
  mx_bind (mx_getI [(17, 1)] v0) fun v101 =>
  mx_if ((0 : Int32) ≤ v101) (
    mx_bind (mx_is 17 v0 (fn_J14_checkForComodification d v0)) fun _ =>
    mx_bind (mx_getR [(17, 3)] v0) fun v102 =>
    mx_bind (mx_getI [(17, 1)] v0) fun v103 =>
    mx_try (mx_is 16 v102 (fn_J4_remove d v102 v103)) (fun r104 =>
      mx_bind (mx_getI [(17, 1)] v0) fun v106 =>
      mx_bind (mx_put [(17, 0)] v0 (.int v106)) fun _ =>
      mx_bind (mx_put [(17, 1)] v0 (.int (-1 : Int32))) fun _ =>
      mx_bind (mx_getR [(17, 3)] v0) fun v107 =>
      mx_bind (mx_getI [(16, 0)] v107) fun v108 =>
      mx_bind (mx_put [(17, 2)] v0 (.int v108)) fun _ =>
      mx_pure ()) fun q105 =>
      mx_fail
) (
    mx_fail)
def fn_J14_remove : Nat → Option Nat → mx_M Unit
  | 0, _ => mx_fail
  | d + 1, v0 => fn_J14_remove_B0 d v0
def fn_X2_purge_L72_b (d : Nat) (b72 : Option Nat → Int32 → Option Nat → mx_M Int32) (l0 : Option Nat) (l2 : Int32) (l4 : Option Nat) : mx_M Int32 :=
  mx_bind (mx_is 17 l4 (fn_J14_hasNext d l4)) fun r101 =>
  mx_if (r101 = (0 : Int32)) (
    mx_bind (mx_getI [(2, 6)] l0) fun v102 =>
    mx_bind (mx_put [(2, 6)] l0 (.int (v102 + l2))) fun _ =>
    mx_pure l2) (
    mx_bind (mx_is 17 l4 (fn_J14_next d l4)) fun r103 =>
    mx_bind (mx_cast [6] r103) fun _ =>
    mx_bind (mx_is 2 l0 (fn_X2_put d l0 r103)) fun _ =>
    b72 l0 l2 l4)
def fn_X2_purge_L72 (d : Nat) : Nat → Option Nat → Int32 → Option Nat → mx_M Int32
  | 0, _, _, _ => mx_fail
  | k + 1, l0, l2, l4 => fn_X2_purge_L72_b d (fn_X2_purge_L72 d k) l0 l2 l4
def fn_X2_purge_L17_b (d : Nat) (b17 : Option Nat → Option Nat → Int32 → Option Nat → mx_M Int32) (l0 : Option Nat) (l1 : Option Nat) (l2 : Int32) (l3 : Option Nat) : mx_M Int32 :=
  mx_bind (mx_is 17 l3 (fn_J14_hasNext d l3)) fun r101 =>
  mx_if (r101 = (0 : Int32)) (
    mx_bind (mx_put [(2, 2)] l0 (va_rf none)) fun _ =>
    mx_bind (mx_put [(2, 3)] l0 (.int (0 : Int32))) fun _ =>
    mx_bind (mx_is 16 l1 (fn_J4_iterator d l1)) fun r102 =>
    fn_X2_purge_L72 d mx_K l0 l2 r102) (
    mx_bind (mx_is 17 l3 (fn_J14_next d l3)) fun r103 =>
    mx_bind (mx_cast [6] r103) fun _ =>
    mx_bind (mx_is 2 l0 (fn_X2_isValid d l0 r103)) fun r104 =>
    mx_if (r104 = (0 : Int32)) (
      mx_bind (mx_is 17 l3 (fn_J14_remove d l3)) fun _ =>
      b17 l0 l1 (l2 + (1 : Int32)) l3) (
      b17 l0 l1 l2 l3))
def fn_X2_purge_L17 (d : Nat) : Nat → Option Nat → Option Nat → Int32 → Option Nat → mx_M Int32
  | 0, _, _, _, _ => mx_fail
  | k + 1, l0, l1, l2, l3 => fn_X2_purge_L17_b d (fn_X2_purge_L17 d k) l0 l1 l2 l3
def fn_X2_purge_B0 (d : Nat) (v0 : Option Nat) : mx_M Int32 :=
  mx_bind (mx_getR [(2, 2)] v0) fun v101 =>
  mx_bind (fn_X1_inOrder d v101) fun r102 =>
  mx_bind (mx_is 16 r102 (fn_J4_iterator d r102)) fun r103 =>
  fn_X2_purge_L17 d mx_K v0 r102 (0 : Int32) r103
def fn_X2_purge : Nat → Option Nat → mx_M Int32
  | 0, _ => mx_fail
  | d + 1, v0 => fn_X2_purge_B0 d v0
def fn_X9_init_B0 (d : Nat) (v0 : Option Nat) (v1 : Int32) (v2 : Int32) (v3 : Int32) : mx_M Unit :=
  mx_deref v0 fun _ =>
  mx_bind (mx_put [(6, 0)] v0 (.int v1)) fun _ =>
  mx_bind (mx_put [(6, 1)] v0 (.int v2)) fun _ =>
  mx_bind (mx_put [(6, 2)] v0 (.int v3)) fun _ =>
  mx_pure ()
def fn_X9_init : Nat → Option Nat → Int32 → Int32 → Int32 → mx_M Unit
  | 0, _, _, _, _ => mx_fail
  | d + 1, v0, v1, v2, v3 => fn_X9_init_B0 d v0 v1 v2 v3
def fn_J1_colorOf_B0 (d : Nat) (v0 : Option Nat) : mx_M Int32 :=
  mx_ifnull v0 (
    mx_pure (1 : Int32)) (
    mx_bind (mx_getI [(19, 5)] v0) fun v101 =>
    mx_retN .boolean v101)
def fn_J1_colorOf : Nat → Option Nat → mx_M Int32
  | 0, _ => mx_fail
  | d + 1, v0 => fn_J1_colorOf_B0 d v0
def fn_J1_leftOf_B0 (d : Nat) (v0 : Option Nat) : mx_M (Option Nat) :=
  mx_ifnull v0 (
    mx_pure none) (
    mx_bind (mx_getR [(19, 2)] v0) fun v101 =>
    mx_pure v101)
def fn_J1_leftOf : Nat → Option Nat → mx_M (Option Nat)
  | 0, _ => mx_fail
  | d + 1, v0 => fn_J1_leftOf_B0 d v0
def fn_J1_parentOf_B0 (d : Nat) (v0 : Option Nat) : mx_M (Option Nat) :=
  mx_ifnull v0 (
    mx_pure none) (
    mx_bind (mx_getR [(19, 4)] v0) fun v101 =>
    mx_pure v101)
def fn_J1_parentOf : Nat → Option Nat → mx_M (Option Nat)
  | 0, _ => mx_fail
  | d + 1, v0 => fn_J1_parentOf_B0 d v0
def fn_J1_rightOf_B0 (d : Nat) (v0 : Option Nat) : mx_M (Option Nat) :=
  mx_ifnull v0 (
    mx_pure none) (
    mx_bind (mx_getR [(19, 3)] v0) fun v101 =>
    mx_pure v101)
def fn_J1_rightOf : Nat → Option Nat → mx_M (Option Nat)
  | 0, _ => mx_fail
  | d + 1, v0 => fn_J1_rightOf_B0 d v0
def fn_J1_rotateLeft_J85 (d : Nat) (l1 : Option Nat) (l2 : Option Nat) : mx_M Unit :=
  mx_bind (mx_put [(19, 2)] l2 (va_rf l1)) fun _ =>
  mx_bind (mx_put [(19, 4)] l1 (va_rf l2)) fun _ =>
  mx_pure ()
def fn_J1_rotateLeft_J32 (d : Nat) (l0 : Option Nat) (l1 : Option Nat) (l2 : Option Nat) : mx_M Unit :=
  mx_bind (mx_getR [(19, 4)] l1) fun v101 =>
  mx_bind (mx_put [(19, 4)] l2 (va_rf v101)) fun _ =>
  mx_bind (mx_getR [(19, 4)] l1) fun v102 =>
  mx_ifnull v102 (
    mx_bind (mx_put [(18, 3)] l0 (va_rf l2)) fun _ =>
    fn_J1_rotateLeft_J85 d l1 l2) (
    mx_bind (mx_getR [(19, 4)] l1) fun v103 =>
    mx_bind (mx_getR [(19, 2)] v103) fun v104 =>
    mx_if (v104 = l1) (
      mx_bind (mx_getR [(19, 4)] l1) fun v105 =>
      mx_bind (mx_put [(19, 2)] v105 (va_rf l2)) fun _ =>
      fn_J1_rotateLeft_J85 d l1 l2) (
      mx_bind (mx_getR [(19, 4)] l1) fun v106 =>
      mx_bind (mx_put [(19, 3)] v106 (va_rf l2)) fun _ =>
      fn_J1_rotateLeft_J85 d l1 l2))
def fn_J1_rotateLeft_B0 (d : Nat) (v0 : Option Nat) (v1 : Option Nat) : mx_M Unit :=
  mx_ifnull v1 (
    mx_pure ()) (
    mx_bind (mx_getR [(19, 3)] v1) fun v101 =>
    mx_bind (mx_getR [(19, 2)] v101) fun v102 =>
    mx_bind (mx_put [(19, 3)] v1 (va_rf v102)) fun _ =>
    mx_bind (mx_getR [(19, 2)] v101) fun v103 =>
    mx_ifnull v103 (
      fn_J1_rotateLeft_J32 d v0 v1 v101) (
      mx_bind (mx_getR [(19, 2)] v101) fun v104 =>
      mx_bind (mx_put [(19, 4)] v104 (va_rf v1)) fun _ =>
      fn_J1_rotateLeft_J32 d v0 v1 v101))
def fn_J1_rotateLeft : Nat → Option Nat → Option Nat → mx_M Unit
  | 0, _, _ => mx_fail
  | d + 1, v0, v1 => fn_J1_rotateLeft_B0 d v0 v1
def fn_J1_rotateRight_J85 (d : Nat) (l1 : Option Nat) (l2 : Option Nat) : mx_M Unit :=
  mx_bind (mx_put [(19, 3)] l2 (va_rf l1)) fun _ =>
  mx_bind (mx_put [(19, 4)] l1 (va_rf l2)) fun _ =>
  mx_pure ()
def fn_J1_rotateRight_J32 (d : Nat) (l0 : Option Nat) (l1 : Option Nat) (l2 : Option Nat) : mx_M Unit :=
  mx_bind (mx_getR [(19, 4)] l1) fun v101 =>
  mx_bind (mx_put [(19, 4)] l2 (va_rf v101)) fun _ =>
  mx_bind (mx_getR [(19, 4)] l1) fun v102 =>
  mx_ifnull v102 (
    mx_bind (mx_put [(18, 3)] l0 (va_rf l2)) fun _ =>
    fn_J1_rotateRight_J85 d l1 l2) (
    mx_bind (mx_getR [(19, 4)] l1) fun v103 =>
    mx_bind (mx_getR [(19, 3)] v103) fun v104 =>
    mx_if (v104 = l1) (
      mx_bind (mx_getR [(19, 4)] l1) fun v105 =>
      mx_bind (mx_put [(19, 3)] v105 (va_rf l2)) fun _ =>
      fn_J1_rotateRight_J85 d l1 l2) (
      mx_bind (mx_getR [(19, 4)] l1) fun v106 =>
      mx_bind (mx_put [(19, 2)] v106 (va_rf l2)) fun _ =>
      fn_J1_rotateRight_J85 d l1 l2))
def fn_J1_rotateRight_B0 (d : Nat) (v0 : Option Nat) (v1 : Option Nat) : mx_M Unit :=
  mx_ifnull v1 (
    mx_pure ()) (
    mx_bind (mx_getR [(19, 2)] v1) fun v101 =>
    mx_bind (mx_getR [(19, 3)] v101) fun v102 =>
    mx_bind (mx_put [(19, 2)] v1 (va_rf v102)) fun _ =>
    mx_bind (mx_getR [(19, 3)] v101) fun v103 =>
    mx_ifnull v103 (
      fn_J1_rotateRight_J32 d v0 v1 v101) (
      mx_bind (mx_getR [(19, 3)] v101) fun v104 =>
      mx_bind (mx_put [(19, 4)] v104 (va_rf v1)) fun _ =>
      fn_J1_rotateRight_J32 d v0 v1 v101))
def fn_J1_rotateRight : Nat → Option Nat → Option Nat → mx_M Unit
  | 0, _, _ => mx_fail
  | d + 1, v0, v1 => fn_J1_rotateRight_B0 d v0 v1
def fn_J1_setColor_B0 (d : Nat) (v0 : Option Nat) (v1 : Int32) : mx_M Unit :=
  mx_ifnull v0 (
    mx_pure ()) (
    mx_bind (mx_putN .boolean [(19, 5)] v0 v1) fun _ =>
    mx_pure ())
def fn_J1_setColor : Nat → Option Nat → Int32 → mx_M Unit
  | 0, _, _ => mx_fail
  | d + 1, v0, v1 => fn_J1_setColor_B0 d v0 v1
def fn_J1_fixAfterInsertion_J148 (d : Nat) (b5 : Option Nat → Option Nat → mx_M Unit) (l0 : Option Nat) (l1 : Option Nat) : mx_M Unit :=
  b5 l0 l1
def fn_J1_fixAfterInsertion_J118 (d : Nat) (b5 : Option Nat → Option Nat → mx_M Unit) (l0 : Option Nat) (l1 : Option Nat) : mx_M Unit :=
  mx_bind (fn_J1_parentOf d l1) fun r101 =>
  mx_bind (fn_J1_setColor d r101 (1 : Int32)) fun _ =>
  mx_bind (fn_J1_parentOf d l1) fun r102 =>
  mx_bind (fn_J1_parentOf d r102) fun r103 =>
  mx_bind (fn_J1_setColor d r103 (0 : Int32)) fun _ =>
  mx_bind (fn_J1_parentOf d l1) fun r104 =>
  mx_bind (fn_J1_parentOf d r104) fun r105 =>
  mx_bind (mx_is 18 l0 (fn_J1_rotateRight d l0 r105)) fun _ =>
  fn_J1_fixAfterInsertion_J148 d b5 l0 l1
def fn_J1_fixAfterInsertion_J255 (d : Nat) (b5 : Option Nat → Option Nat → mx_M Unit) (l0 : Option Nat) (l1 : Option Nat) : mx_M Unit :=
  b5 l0 l1
def fn_J1_fixAfterInsertion_J225 (d : Nat) (b5 : Option Nat → Option Nat → mx_M Unit) (l0 : Option Nat) (l1 : Option Nat) : mx_M Unit :=
  mx_bind (fn_J1_parentOf d l1) fun r101 =>
  mx_bind (fn_J1_setColor d r101 (1 : Int32)) fun _ =>
  mx_bind (fn_J1_parentOf d l1) fun r102 =>
  mx_bind (fn_J1_parentOf d r102) fun r103 =>
  mx_bind (fn_J1_setColor d r103 (0 : Int32)) fun _ =>
  mx_bind (fn_J1_parentOf d l1) fun r104 =>
  mx_bind (fn_J1_parentOf d r104) fun r105 =>
  mx_bind (mx_is 18 l0 (fn_J1_rotateLeft d l0 r105)) fun _ =>
  fn_J1_fixAfterInsertion_J255 d b5 l0 l1
def fn_J1_fixAfterInsertion_L5_b (d : Nat) (b5 : Option Nat → Option Nat → mx_M Unit) (l0 : Option Nat) (l1 : Option Nat) : mx_M Unit :=
  mx_ifnull l1 (
    mx_bind (mx_getR [(18, 3)] l0) fun v101 =>
    mx_bind (mx_put [(19, 5)] v101 (.int (1 : Int32))) fun _ =>
    mx_pure ()) (
    mx_bind (mx_getR [(18, 3)] l0) fun v102 =>
    mx_if (l1 = v102) (
      mx_bind (mx_getR [(18, 3)] l0) fun v103 =>
      mx_bind (mx_put [(19, 5)] v103 (.int (1 : Int32))) fun _ =>
      mx_pure ()) (
      mx_bind (mx_getR [(19, 4)] l1) fun v104 =>
      mx_bind (mx_getI [(19, 5)] v104) fun v105 =>
      mx_if (v105 = (0 : Int32)) (
        mx_bind (fn_J1_parentOf d l1) fun r106 =>
        mx_bind (fn_J1_parentOf d l1) fun r107 =>
        mx_bind (fn_J1_parentOf d r107) fun r108 =>
        mx_bind (fn_J1_leftOf d r108) fun r109 =>
        mx_if (r106 = r109) (
          mx_bind (fn_J1_parentOf d l1) fun r110 =>
          mx_bind (fn_J1_parentOf d r110) fun r111 =>
          mx_bind (fn_J1_rightOf d r111) fun r112 =>
          mx_bind (fn_J1_colorOf d r112) fun r113 =>
          mx_if (r113 = (0 : Int32)) (
            mx_bind (fn_J1_parentOf d l1) fun r114 =>
            mx_bind (fn_J1_setColor d r114 (1 : Int32)) fun _ =>
            mx_bind (fn_J1_setColor d r112 (1 : Int32)) fun _ =>
            mx_bind (fn_J1_parentOf d l1) fun r115 =>
            mx_bind (fn_J1_parentOf d r115) fun r116 =>
            mx_bind (fn_J1_setColor d r116 (0 : Int32)) fun _ =>
            mx_bind (fn_J1_parentOf d l1) fun r117 =>
            mx_bind (fn_J1_parentOf d r117) fun r118 =>
            fn_J1_fixAfterInsertion_J148 d b5 l0 r118) (
            mx_bind (fn_J1_parentOf d l1) fun r119 =>
            mx_bind (fn_J1_rightOf d r119) fun r120 =>
            mx_if (l1 = r120) (
              mx_bind (fn_J1_parentOf d l1) fun r121 =>
              mx_bind (mx_is 18 l0 (fn_J1_rotateLeft d l0 r121)) fun _ =>
              fn_J1_fixAfterInsertion_J118 d b5 l0 r121) (
              fn_J1_fixAfterInsertion_J118 d b5 l0 l1))) (
          mx_bind (fn_J1_parentOf d l1) fun r122 =>
          mx_bind (fn_J1_parentOf d r122) fun r123 =>
          mx_bind (fn_J1_leftOf d r123) fun r124 =>
          mx_bind (fn_J1_colorOf d r124) fun r125 =>
          mx_if (r125 = (0 : Int32)) (
            mx_bind (fn_J1_parentOf d l1) fun r126 =>
            mx_bind (fn_J1_setColor d r126 (1 : Int32)) fun _ =>
            mx_bind (fn_J1_setColor d r124 (1 : Int32)) fun _ =>
            mx_bind (fn_J1_parentOf d l1) fun r127 =>
            mx_bind (fn_J1_parentOf d r127) fun r128 =>
            mx_bind (fn_J1_setColor d r128 (0 : Int32)) fun _ =>
            mx_bind (fn_J1_parentOf d l1) fun r129 =>
            mx_bind (fn_J1_parentOf d r129) fun r130 =>
            fn_J1_fixAfterInsertion_J255 d b5 l0 r130) (
            mx_bind (fn_J1_parentOf d l1) fun r131 =>
            mx_bind (fn_J1_leftOf d r131) fun r132 =>
            mx_if (l1 = r132) (
              mx_bind (fn_J1_parentOf d l1) fun r133 =>
              mx_bind (mx_is 18 l0 (fn_J1_rotateRight d l0 r133)) fun _ =>
              fn_J1_fixAfterInsertion_J225 d b5 l0 r133) (
              fn_J1_fixAfterInsertion_J225 d b5 l0 l1)))) (
        mx_bind (mx_getR [(18, 3)] l0) fun v134 =>
        mx_bind (mx_put [(19, 5)] v134 (.int (1 : Int32))) fun _ =>
        mx_pure ())))
def fn_J1_fixAfterInsertion_L5 (d : Nat) : Nat → Option Nat → Option Nat → mx_M Unit
  | 0, _, _ => mx_fail
  | k + 1, l0, l1 => fn_J1_fixAfterInsertion_L5_b d (fn_J1_fixAfterInsertion_L5 d k) l0 l1
def fn_J1_fixAfterInsertion_B0 (d : Nat) (v0 : Option Nat) (v1 : Option Nat) : mx_M Unit :=
  mx_bind (mx_put [(19, 5)] v1 (.int (0 : Int32))) fun _ =>
  fn_J1_fixAfterInsertion_L5 d mx_K v0 v1
def fn_J1_fixAfterInsertion : Nat → Option Nat → Option Nat → mx_M Unit
  | 0, _, _ => mx_fail
  | d + 1, v0, v1 => fn_J1_fixAfterInsertion_B0 d v0 v1
def fn_J41_init_B0 (d : Nat) (v0 : Option Nat) (v1 : Option Nat) (v2 : Option Nat) (v3 : Option Nat) : mx_M Unit :=
  mx_deref v0 fun _ =>
  mx_bind (mx_put [(19, 5)] v0 (.int (1 : Int32))) fun _ =>
  mx_bind (mx_put [(19, 0)] v0 (va_rf v1)) fun _ =>
  mx_bind (mx_put [(19, 1)] v0 (va_rf v2)) fun _ =>
  mx_bind (mx_put [(19, 4)] v0 (va_rf v3)) fun _ =>
  mx_pure ()
def fn_J41_init : Nat → Option Nat → Option Nat → Option Nat → Option Nat → mx_M Unit
  | 0, _, _, _, _ => mx_fail
  | d + 1, v0, v1, v2, v3 => fn_J41_init_B0 d v0 v1 v2 v3
def fn_J1_addEntry_J32 (d : Nat) (l0 : Option Nat) (l5 : Option Nat) : mx_M Unit :=
  mx_bind (mx_is 18 l0 (fn_J1_fixAfterInsertion d l0 l5)) fun _ =>
  mx_bind (mx_getI [(18, 4)] l0) fun v101 =>
  mx_bind (mx_put [(18, 4)] l0 (.int (v101 + (1 : Int32)))) fun _ =>
  mx_bind (mx_getI [(18, 5)] l0) fun v102 =>
  mx_bind (mx_put [(18, 5)] l0 (.int (v102 + (1 : Int32)))) fun _ =>
  mx_pure ()
def fn_J1_addEntry_B0 (d : Nat) (v0 : Option Nat) (v1 : Option Nat) (v2 : Option Nat) (v3 : Option Nat) (v4 : Int32) : mx_M Unit :=
  mx_bind (mx_new (19, [.null, .null, .null, .null, .null, .int 0]) 6) fun a101 =>
  mx_bind (mx_deref (some a101) fun _ => fn_J41_init d (some a101) v1 v2 v3) fun _ =>
  mx_if (v4 = (0 : Int32)) (
    mx_bind (mx_put [(19, 3)] v3 (va_rf (some a101))) fun _ =>
    fn_J1_addEntry_J32 d v0 (some a101)) (
    mx_bind (mx_put [(19, 2)] v3 (va_rf (some a101))) fun _ =>
    fn_J1_addEntry_J32 d v0 (some a101))
def fn_J1_addEntry : Nat → Option Nat → Option Nat → Option Nat → Option Nat → Int32 → mx_M Unit
  | 0, _, _, _, _, _ => mx_fail
  | d + 1, v0, v1, v2, v3, v4 => fn_J1_addEntry_B0 d v0 v1 v2 v3 v4
def fn_J1_compare_B0 (d : Nat) (v0 : Option Nat) (v1 : Option Nat) (v2 : Option Nat) : mx_M Int32 :=
  mx_bind (mx_getR [(18, 2)] v0) fun v101 =>
  mx_ifnull v101 (
    mx_bind (mx_cast [29, 30, 31] v1) fun _ =>
    mx_bind (mx_is 31 v1 (fn_J27_compareTo d v1 v2)) fun r102 =>
    mx_pure r102) (
    mx_bind (mx_getR [(18, 2)] v0) fun v103 =>
    mx_bind (mx_is 10 v103 (fn_X14_compare d v103 v1 v2)) fun r104 =>
    mx_pure r104)
def fn_J1_compare : Nat → Option Nat → Option Nat → Option Nat → mx_M Int32
  | 0, _, _, _ => mx_fail
  | d + 1, v0, v1, v2 => fn_J1_compare_B0 d v0 v1 v2
def fn_J1_addEntryToEmptyMap_B0 (d : Nat) (v0 : Option Nat) (v1 : Option Nat) (v2 : Option Nat) : mx_M Unit :=
  mx_bind (mx_is 18 v0 (fn_J1_compare d v0 v1 v1)) fun r101 =>
  mx_bind (mx_new (19, [.null, .null, .null, .null, .null, .int 0]) 6) fun a102 =>
  mx_bind (mx_deref (some a102) fun _ => fn_J41_init d (some a102) v1 v2 none) fun _ =>
  mx_bind (mx_put [(18, 3)] v0 (va_rf (some a102))) fun _ =>
  mx_bind (mx_put [(18, 4)] v0 (.int (1 : Int32))) fun _ =>
  mx_bind (mx_getI [(18, 5)] v0) fun v103 =>
  mx_bind (mx_put [(18, 5)] v0 (.int (v103 + (1 : Int32)))) fun _ =>
  mx_pure ()
def fn_J1_addEntryToEmptyMap : Nat → Option Nat → Option Nat → Option Nat → mx_M Unit
  | 0, _, _, _ => mx_fail
  | d + 1, v0, v1, v2 => fn_J1_addEntryToEmptyMap_B0 d v0 v1 v2
def fn_J1_put_2_J216 (d : Nat) (p0 : Option Nat) (p1 : Option Nat) (p2 : Option Nat) (p3 : Option Nat) (p4 : Int32) : mx_M (Option Nat) :=
  mx_bind (mx_is 18 p0 (fn_J1_addEntry d p0 p1 p2 p3 p4)) fun _ =>
  mx_pure none
def fn_J1_put_2_J201 (d : Nat) (l0 : Option Nat) (l1 : Option Nat) (l2 : Option Nat) (l5 : Int32) (l6 : Option Nat) : mx_M (Option Nat) :=
  mx_if ((0 : Int32) ≤ l5) (
    fn_J1_put_2_J216 d l0 l1 l2 l6 (0 : Int32)) (
    fn_J1_put_2_J216 d l0 l1 l2 l6 (1 : Int32))
def fn_J1_put_2_J104 (d : Nat) (b30 : Option Nat → Option Nat → Option Nat → Int32 → Option Nat → Option Nat → mx_M (Option Nat)) (l0 : Option Nat) (l1 : Option Nat) (l2 : Option Nat) (l3 : Int32) (l4 : Option Nat) (l5 : Int32) (l6 : Option Nat) (l7 : Option Nat) : mx_M (Option Nat) :=
  mx_ifnull l4 (
    fn_J1_put_2_J201 d l0 l1 l2 l5 l6) (
    b30 l0 l1 l2 l3 l4 l7)
def fn_J1_put_2_L30_b (d : Nat) (b30 : Option Nat → Option Nat → Option Nat → Int32 → Option Nat → Option Nat → mx_M (Option Nat)) (l0 : Option Nat) (l1 : Option Nat) (l2 : Option Nat) (l3 : Int32) (l4 : Option Nat) (l7 : Option Nat) : mx_M (Option Nat) :=
  mx_bind (mx_getR [(19, 0)] l4) fun v101 =>
  mx_bind (mx_is 10 l7 (fn_X14_compare d l7 l1 v101)) fun r102 =>
  mx_if ((0 : Int32) ≤ r102) (
    mx_if (r102 ≤ (0 : Int32)) (
      mx_bind (mx_getR [(19, 1)] l4) fun v103 =>
      mx_if (l3 = (0 : Int32)) (
        mx_ifnull v103 (
          mx_bind (mx_put [(19, 1)] l4 (va_rf l2)) fun _ =>
          mx_pure v103) (
          mx_pure v103)) (
        mx_bind (mx_put [(19, 1)] l4 (va_rf l2)) fun _ =>
        mx_pure v103)) (
      mx_bind (mx_getR [(19, 3)] l4) fun v104 =>
      fn_J1_put_2_J104 d b30 l0 l1 l2 l3 v104 r102 l4 l7)) (
    mx_bind (mx_getR [(19, 2)] l4) fun v105 =>
    fn_J1_put_2_J104 d b30 l0 l1 l2 l3 v105 r102 l4 l7)
def fn_J1_put_2_L30 (d : Nat) : Nat → Option Nat → Option Nat → Option Nat → Int32 → Option Nat → Option Nat → mx_M (Option Nat)
  | 0, _, _, _, _, _, _ => mx_fail
  | k + 1, l0, l1, l2, l3, l4, l7 => fn_J1_put_2_L30_b d (fn_J1_put_2_L30 d k) l0 l1 l2 l3 l4 l7
def fn_J1_put_2_J196 (d : Nat) (b123 : Option Nat → Option Nat → Option Nat → Int32 → Option Nat → Option Nat → mx_M (Option Nat)) (l0 : Option Nat) (l1 : Option Nat) (l2 : Option Nat) (l3 : Int32) (l4 : Option Nat) (l5 : Int32) (l6 : Option Nat) (l8 : Option Nat) : mx_M (Option Nat) :=
  mx_ifnull l4 (
    fn_J1_put_2_J201 d l0 l1 l2 l5 l6) (
    b123 l0 l1 l2 l3 l4 l8)
def fn_J1_put_2_L123_b (d : Nat) (b123 : Option Nat → Option Nat → Option Nat → Int32 → Option Nat → Option Nat → mx_M (Option Nat)) (l0 : Option Nat) (l1 : Option Nat) (l2 : Option Nat) (l3 : Int32) (l4 : Option Nat) (l8 : Option Nat) : mx_M (Option Nat) :=
  mx_bind (mx_getR [(19, 0)] l4) fun v101 =>
  mx_bind (mx_is 31 l8 (fn_J27_compareTo d l8 v101)) fun r102 =>
  mx_if ((0 : Int32) ≤ r102) (
    mx_if (r102 ≤ (0 : Int32)) (
      mx_bind (mx_getR [(19, 1)] l4) fun v103 =>
      mx_if (l3 = (0 : Int32)) (
        mx_ifnull v103 (
          mx_bind (mx_put [(19, 1)] l4 (va_rf l2)) fun _ =>
          mx_pure v103) (
          mx_pure v103)) (
        mx_bind (mx_put [(19, 1)] l4 (va_rf l2)) fun _ =>
        mx_pure v103)) (
      mx_bind (mx_getR [(19, 3)] l4) fun v104 =>
      fn_J1_put_2_J196 d b123 l0 l1 l2 l3 v104 r102 l4 l8)) (
    mx_bind (mx_getR [(19, 2)] l4) fun v105 =>
    fn_J1_put_2_J196 d b123 l0 l1 l2 l3 v105 r102 l4 l8)
def fn_J1_put_2_L123 (d : Nat) : Nat → Option Nat → Option Nat → Option Nat → Int32 → Option Nat → Option Nat → mx_M (Option Nat)
  | 0, _, _, _, _, _, _ => mx_fail
  | k + 1, l0, l1, l2, l3, l4, l8 => fn_J1_put_2_L123_b d (fn_J1_put_2_L123 d k) l0 l1 l2 l3 l4 l8
def fn_J1_put_2_B0 (d : Nat) (v0 : Option Nat) (v1 : Option Nat) (v2 : Option Nat) (v3 : Int32) : mx_M (Option Nat) :=
  mx_bind (mx_getR [(18, 3)] v0) fun v101 =>
  mx_ifnull v101 (
    mx_bind (mx_is 18 v0 (fn_J1_addEntryToEmptyMap d v0 v1 v2)) fun _ =>
    mx_pure none) (
    mx_bind (mx_getR [(18, 2)] v0) fun v102 =>
    mx_ifnull v102 (
      mx_bind (fn_J37_requireNonNull d v1) fun r103 =>
      mx_bind (mx_cast [29, 30, 31] v1) fun _ =>
      fn_J1_put_2_L123 d mx_K v0 v1 v2 v3 v101 v1) (
      fn_J1_put_2_L30 d mx_K v0 v1 v2 v3 v101 v102))
def fn_J1_put_2 : Nat → Option Nat → Option Nat → Option Nat → Int32 → mx_M (Option Nat)
  | 0, _, _, _, _ => mx_fail
  | d + 1, v0, v1, v2, v3 => fn_J1_put_2_B0 d v0 v1 v2 v3
def fn_J1_put_B0 (d : Nat) (v0 : Option Nat) (v1 : Option Nat) (v2 : Option Nat) : mx_M (Option Nat) :=
  mx_bind (mx_is 18 v0 (fn_J1_put_2 d v0 v1 v2 (1 : Int32))) fun r101 =>
  mx_pure r101
def fn_J1_put : Nat → Option Nat → Option Nat → Option Nat → mx_M (Option Nat)
  | 0, _, _, _ => mx_fail
  | d + 1, v0, v1, v2 => fn_J1_put_B0 d v0 v1 v2
def fn_X2_draw_J61 (d : Nat) (l0 : Option Nat) (l3 : Option Nat) : mx_M Unit :=
  mx_bind (mx_is 2 l0 (fn_X2_put d l0 l3)) fun _ =>
  mx_pure ()
def fn_X2_draw_B0 (d : Nat) (v0 : Option Nat) (v1 : Option Nat) (v2 : Int32) : mx_M Unit :=
  mx_bind (mx_new (6, [.int 0, .int 0, .int 0]) 3) fun a101 =>
  mx_bind (mx_getI [(2, 5)] v0) fun v102 =>
  mx_bind (mx_getI [(5, 0)] v1) fun v103 =>
  mx_bind (mx_deref (some a101) fun _ => fn_X9_init d (some a101) v102 v103 v2) fun _ =>
  mx_bind (mx_getR [(2, 0)] v0) fun v104 =>
  mx_bind (mx_getI [(5, 0)] v1) fun v105 =>
  mx_bind (fn_J27_valueOf d v105) fun r106 =>
  mx_bind (mx_is 5 v1 (fn_X8_with d v1 (some a101))) fun r107 =>
  mx_bind (mx_is 18 v104 (fn_J1_put d v104 r106 r107)) fun r108 =>
  mx_bind (mx_getI [(2, 5)] v0) fun v109 =>
  mx_bind (mx_put [(2, 5)] v0 (.int (v109 + (1 : Int32)))) fun _ =>
  mx_bind (mx_getI [(2, 3)] v0) fun v110 =>
  mx_if (v110 = (20 : Int32)) (
    mx_bind (mx_is 2 v0 (fn_X2_purge d v0)) fun r111 =>
    fn_X2_draw_J61 d v0 (some a101)) (
    fn_X2_draw_J61 d v0 (some a101))
def fn_X2_draw : Nat → Option Nat → Option Nat → Int32 → mx_M Unit
  | 0, _, _, _ => mx_fail
  | d + 1, v0, v1, v2 => fn_X2_draw_B0 d v0 v1 v2
