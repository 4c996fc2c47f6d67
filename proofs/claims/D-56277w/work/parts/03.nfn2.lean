set_option maxRecDepth 100000
def fn_X15_init_B0 (d : Nat) (v0 : Option Nat) (v1 : Option Nat) : mx_M Unit :=
  mx_deref v0 fun _ =>
  mx_bind (mx_con 236) fun v102 =>
  mx_bind (mx_con 237) fun v103 =>
  mx_bind (mx_con 238) fun v104 =>
  mx_bind (mx_con 239) fun v105 =>
  mx_bind (mx_con 240) fun v106 =>
  mx_bind (mx_con 241) fun v107 =>
  mx_bind (mx_con 242) fun v108 =>
  mx_bind (mx_con 243) fun v109 =>
  mx_bind (mx_con 244) fun v110 =>
  mx_bind (fn_J54_of d v102 v103 v104 v105 v106 v107 v108 v109 v110) fun r111 =>
  mx_bind (mx_put [(12, 0)] v0 (va_rf r111)) fun _ =>
  mx_bind (mx_put [(12, 1)] v0 (va_rf v1)) fun _ =>
  mx_pure ()
def fn_X15_init : Nat → Option Nat → Option Nat → mx_M Unit
  | 0, _, _ => mx_fail
  | d + 1, v0, v1 => fn_X15_init_B0 d v0 v1
def fn_X15_current_B0 (d : Nat) (v0 : Option Nat) : mx_M Int32 :=
  mx_bind (mx_getI [(12, 2)] v0) fun v101 =>
  mx_bind (mx_getR [(12, 1)] v0) fun v102 =>
  mx_bind (mx_is 30 v102 (fn_J9_length d v102)) fun r103 =>
  mx_if (r103 ≤ v101) (
    mx_pure (10 : Int32)) (
    mx_bind (mx_getR [(12, 1)] v0) fun v104 =>
    mx_bind (mx_getI [(12, 2)] v0) fun v105 =>
    mx_bind (mx_is 30 v104 (fn_J9_charAt d v104 v105)) fun r106 =>
    mx_retN .char r106)
def fn_X15_current : Nat → Option Nat → mx_M Int32
  | 0, _ => mx_fail
  | d + 1, v0 => fn_X15_current_B0 d v0
def fn_X15_isAtDigit_B0 (d : Nat) (v0 : Option Nat) : mx_M Int32 :=
  mx_bind (mx_is 12 v0 (fn_X15_current d v0)) fun r101 =>
  mx_if (r101 < (48 : Int32)) (
    mx_pure (0 : Int32)) (
    mx_bind (mx_is 12 v0 (fn_X15_current d v0)) fun r102 =>
    mx_if ((57 : Int32) < r102) (
      mx_pure (0 : Int32)) (
      mx_pure (1 : Int32)))
def fn_X15_isAtDigit : Nat → Option Nat → mx_M Int32
  | 0, _ => mx_fail
  | d + 1, v0 => fn_X15_isAtDigit_B0 d v0
def fn_X16_init_B0 (d : Nat) (v0 : Option Nat) (v1 : Int32) : mx_M Unit :=
  mx_bind (mx_deref v0 fun _ => fn_X6_init d v0 none) fun _ =>
  mx_bind (mx_put [(15, 6)] v0 (.int v1)) fun _ =>
  mx_pure ()
def fn_X16_init : Nat → Option Nat → Int32 → mx_M Unit
  | 0, _, _ => mx_fail
  | d + 1, v0, v1 => fn_X16_init_B0 d v0 v1
def fn_X15_require_B0 (d : Nat) (v0 : Option Nat) (v1 : Int32) : mx_M Unit :=
  mx_if (v1 = (0 : Int32)) (
    mx_bind (mx_new (15, [.null, .null, .null, .null, .null, .int 0, .int 0]) 7) fun a101 =>
    mx_bind (mx_getI [(12, 2)] v0) fun v102 =>
    mx_bind (mx_deref (some a101) fun _ => fn_X16_init d (some a101) v102) fun _ =>
    mx_deref (some a101) fun q103 =>
    mx_thr [13, 14, 15, 34, 35, 36, 37, 38, 39] q103) (
    mx_pure ())
def fn_X15_require : Nat → Option Nat → Int32 → mx_M Unit
  | 0, _, _ => mx_fail
  | d + 1, v0, v1 => fn_X15_require_B0 d v0 v1
def fn_X15_digit_B0 (d : Nat) (v0 : Option Nat) : mx_M Int32 :=
  mx_bind (mx_is 12 v0 (fn_X15_isAtDigit d v0)) fun r101 =>
  mx_bind (mx_is 12 v0 (fn_X15_require d v0 r101)) fun _ =>
  mx_bind (mx_getI [(12, 2)] v0) fun v102 =>
  mx_bind (mx_put [(12, 2)] v0 (.int (v102 + (1 : Int32)))) fun _ =>
  mx_bind (mx_getR [(12, 1)] v0) fun v103 =>
  mx_bind (mx_getI [(12, 2)] v0) fun v104 =>
  mx_bind (mx_is 30 v103 (fn_J9_charAt d v103 (v104 - (1 : Int32)))) fun r105 =>
  mx_pure (r105 - (48 : Int32))
def fn_X15_digit : Nat → Option Nat → mx_M Int32
  | 0, _ => mx_fail
  | d + 1, v0 => fn_X15_digit_B0 d v0
def fn_X15_take_J14 (d : Nat) (l0 : Option Nat) (p0 : Option Nat) (p1 : Int32) : mx_M Unit :=
  mx_bind (mx_is 12 p0 (fn_X15_require d p0 p1)) fun _ =>
  mx_bind (mx_getI [(12, 2)] l0) fun v101 =>
  mx_bind (mx_put [(12, 2)] l0 (.int (v101 + (1 : Int32)))) fun _ =>
  mx_pure ()
def fn_X15_take_B0 (d : Nat) (v0 : Option Nat) (v1 : Int32) : mx_M Unit :=
  mx_bind (mx_is 12 v0 (fn_X15_current d v0)) fun r101 =>
  mx_if (r101 = v1) (
    fn_X15_take_J14 d v0 v0 (1 : Int32)) (
    fn_X15_take_J14 d v0 v0 (0 : Int32))
def fn_X15_take : Nat → Option Nat → Int32 → mx_M Unit
  | 0, _, _ => mx_fail
  | d + 1, v0, v1 => fn_X15_take_B0 d v0 v1
def fn_X15_digitAfterSpace_B0 (d : Nat) (v0 : Option Nat) : mx_M Int32 :=
  mx_bind (mx_is 12 v0 (fn_X15_take d v0 (32 : Int32))) fun _ =>
  mx_bind (mx_is 12 v0 (fn_X15_digit d v0)) fun r101 =>
  mx_pure r101
def fn_X15_digitAfterSpace : Nat → Option Nat → mx_M Int32
  | 0, _ => mx_fail
  | d + 1, v0 => fn_X15_digitAfterSpace_B0 d v0
def fn_X15_numberAfter_L12_b (d : Nat) (b12 : Option Nat → Int32 → Int32 → mx_M Int32) (l0 : Option Nat) (l2 : Int32) (l3 : Int32) : mx_M Int32 :=
  mx_if ((3 : Int32) ≤ l3) (
    mx_pure l2) (
    mx_bind (mx_is 12 l0 (fn_X15_isAtDigit d l0)) fun r101 =>
    mx_if (r101 = (0 : Int32)) (
      mx_pure l2) (
      mx_bind (mx_is 12 l0 (fn_X15_digit d l0)) fun r102 =>
      mx_let (((10 : Int32) * l2) + r102) fun v103 =>
      b12 l0 v103 (l3 + (1 : Int32))))
def fn_X15_numberAfter_L12 (d : Nat) : Nat → Option Nat → Int32 → Int32 → mx_M Int32
  | 0, _, _, _ => mx_fail
  | k + 1, l0, l2, l3 => fn_X15_numberAfter_L12_b d (fn_X15_numberAfter_L12 d k) l0 l2 l3
def fn_X15_numberAfter_B0 (d : Nat) (v0 : Option Nat) (v1 : Int32) : mx_M Int32 :=
  mx_bind (mx_is 12 v0 (fn_X15_take d v0 v1)) fun _ =>
  mx_bind (mx_is 12 v0 (fn_X15_digit d v0)) fun r101 =>
  fn_X15_numberAfter_L12 d mx_K v0 r101 (1 : Int32)
def fn_X15_numberAfter : Nat → Option Nat → Int32 → mx_M Int32
  | 0, _, _ => mx_fail
  | d + 1, v0, v1 => fn_X15_numberAfter_B0 d v0 v1
def fn_J7_charAt_B0 (d : Nat) (v0 : Option Nat) (v1 : Int32) : mx_M Int32 :=
  mx_bind (mx_getI [(29, 1)] v0) fun v101 =>
  mx_bind (mx_getR [(29, 0)] v0) fun v102 =>
  mx_bind (mx_getI [(29, 3)] v0) fun v103 =>
  mx_bind (mx_alen v102) fun v104 =>
  mx_let (if (v104 >>> (v101 &&& 31)) < v103 then (v104 >>> (v101 &&& 31)) else v103) fun v105 =>
  mx_bind (fn_J9_checkIndex d v1 v105) fun _ =>
  mx_if (v101 = (0 : Int32)) (
    mx_bind (mx_aldI 101 v102 v1) fun v106 =>
    mx_retN .char (((v106 &&& (255 : Int32)).toUInt32 % 65536).toInt32)) (
    mx_fail)
def fn_J7_charAt : Nat → Option Nat → Int32 → mx_M Int32
  | 0, _, _ => mx_fail
  | d + 1, v0, v1 => fn_J7_charAt_B0 d v0 v1
def fn_J8_charAt_B0 (d : Nat) (v0 : Option Nat) (v1 : Int32) : mx_M Int32 :=
  mx_bind (mx_is 29 v0 (fn_J7_charAt d v0 v1)) fun r101 =>
  mx_retN .char r101
def fn_J8_charAt : Nat → Option Nat → Int32 → mx_M Int32
  | 0, _, _ => mx_fail
  | d + 1, v0, v1 => fn_J8_charAt_B0 d v0 v1
def fn_X15_begins_J49 (d : Nat) (b19 : Option Nat → Option Nat → Int32 → Int32 → mx_M Int32) (l0 : Option Nat) (l1 : Option Nat) (l3 : Int32) (p0 : Int32) : mx_M Int32 :=
  b19 l0 l1 p0 (l3 + (1 : Int32))
def fn_X15_begins_L19_b (d : Nat) (b19 : Option Nat → Option Nat → Int32 → Int32 → mx_M Int32) (l0 : Option Nat) (l1 : Option Nat) (l2 : Int32) (l3 : Int32) : mx_M Int32 :=
  mx_bind (mx_is 29 l1 (fn_J8_length d l1)) fun r101 =>
  mx_if (r101 ≤ l3) (
    mx_retN .boolean l2) (
    mx_if (l2 = (0 : Int32)) (
      mx_retN .boolean l2) (
      mx_bind (mx_is 30 l0 (fn_J9_charAt d l0 l3)) fun r102 =>
      mx_bind (mx_is 29 l1 (fn_J8_charAt d l1 l3)) fun r103 =>
      mx_if (r102 = r103) (
        fn_X15_begins_J49 d b19 l0 l1 l3 (1 : Int32)) (
        fn_X15_begins_J49 d b19 l0 l1 l3 (0 : Int32))))
def fn_X15_begins_L19 (d : Nat) : Nat → Option Nat → Option Nat → Int32 → Int32 → mx_M Int32
  | 0, _, _, _, _ => mx_fail
  | k + 1, l0, l1, l2, l3 => fn_X15_begins_L19_b d (fn_X15_begins_L19 d k) l0 l1 l2 l3
def fn_X15_begins_J16 (d : Nat) (l0 : Option Nat) (l1 : Option Nat) (p0 : Int32) : mx_M Int32 :=
  fn_X15_begins_L19 d mx_K l0 l1 p0 (0 : Int32)
def fn_X15_begins_B0 (d : Nat) (v0 : Option Nat) (v1 : Option Nat) : mx_M Int32 :=
  mx_bind (mx_is 29 v1 (fn_J8_length d v1)) fun r101 =>
  mx_bind (mx_is 30 v0 (fn_J9_length d v0)) fun r102 =>
  mx_if (r102 < r101) (
    fn_X15_begins_J16 d v0 v1 (0 : Int32)) (
    fn_X15_begins_J16 d v0 v1 (1 : Int32))
def fn_X15_begins : Nat → Option Nat → Option Nat → mx_M Int32
  | 0, _, _ => mx_fail
  | d + 1, v0, v1 => fn_X15_begins_B0 d v0 v1
def fn_J15_init_B0 (d : Nat) (v0 : Option Nat) (v1 : Option Nat) (v2 : Int32) : mx_M Unit :=
  mx_deref v0 fun _ =>
  mx_bind (mx_put [(33, 0)] v0 (va_rf v1)) fun _ =>
  mx_bind (mx_put [(33, 1)] v0 (.int v2)) fun _ =>
  mx_bind (mx_put [(33, 3)] v0 (.int (0 : Int32))) fun _ =>
  mx_bind (mx_put [(33, 2)] v0 (.int (0 : Int32))) fun _ =>
  mx_pure ()
def fn_J15_init : Nat → Option Nat → Option Nat → Int32 → mx_M Unit
  | 0, _, _, _ => mx_fail
  | d + 1, v0, v1, v2 => fn_J15_init_B0 d v0 v1 v2
def fn_J58_size_B0 (d : Nat) (v0 : Option Nat) : mx_M Int32 :=
  mx_bind (mx_getR [(32, 0)] v0) fun v101 =>
  mx_bind (mx_alen v101) fun v102 =>
  mx_pure v102
def fn_J58_size : Nat → Option Nat → mx_M Int32
  | 0, _ => mx_fail
  | d + 1, v0 => fn_J58_size_B0 d v0
def fn_J56_iterator_B0 (d : Nat) (v0 : Option Nat) : mx_M (Option Nat) :=
  mx_bind (mx_new (33, [.null, .int 0, .int 0, .int 0]) 4) fun a101 =>
  mx_bind (mx_is 32 v0 (fn_J58_size d v0)) fun r102 =>
  mx_bind (mx_deref (some a101) fun _ => fn_J15_init d (some a101) v0 r102) fun _ =>
  mx_pure (some a101)
def fn_J56_iterator : Nat → Option Nat → mx_M (Option Nat)
  | 0, _ => mx_fail
  | d + 1, v0 => fn_J56_iterator_B0 d v0
def fn_J15_hasNext_B0 (d : Nat) (v0 : Option Nat) : mx_M Int32 :=
  mx_bind (mx_getI [(33, 3)] v0) fun v101 =>
  mx_bind (mx_getI [(33, 1)] v0) fun v102 =>
  mx_if (v101 = v102) (
    mx_pure (0 : Int32)) (
    mx_pure (1 : Int32))
def fn_J15_hasNext : Nat → Option Nat → mx_M Int32
  | 0, _ => mx_fail
  | d + 1, v0 => fn_J15_hasNext_B0 d v0
def fn_J58_get_B0 (d : Nat) (v0 : Option Nat) (v1 : Int32) : mx_M (Option Nat) :=
  mx_bind (mx_getR [(32, 0)] v0) fun v101 =>
  mx_bind (mx_aldR 104 v101 v1) fun v102 =>
  mx_pure v102
def fn_J58_get : Nat → Option Nat → Int32 → mx_M (Option Nat)
  | 0, _, _ => mx_fail
  | d + 1, v0, v1 => fn_J58_get_B0 d v0 v1
def fn_J15_next_B0 (d : Nat) (v0 : Option Nat) : mx_M (Option Nat) :=
  mx_bind (mx_getI [(33, 3)] v0) fun v101 =>
  mx_bind (mx_getR [(33, 0)] v0) fun v102 =>
  mx_try (mx_is 32 v102 (fn_J58_get d v102 v101)) (fun r103 =>
    mx_bind (mx_put [(33, 3)] v0 (.int (v101 + (1 : Int32)))) fun _ =>
    mx_pure r103) fun q104 =>
    mx_fail

def fn_J15_next : Nat → Option Nat → mx_M (Option Nat)
  | 0, _ => mx_fail
  | d + 1, v0 => fn_J15_next_B0 d v0
def fn_X15_beginsOne_J50 (d : Nat) (b12 : Option Nat → Int32 → Option Nat → mx_M Int32) (l1 : Option Nat) (l3 : Option Nat) (p0 : Int32) : mx_M Int32 :=
  b12 l1 p0 l3
def fn_X15_beginsOne_J45 (d : Nat) (b12 : Option Nat → Int32 → Option Nat → mx_M Int32) (l1 : Option Nat) (l3 : Option Nat) : mx_M Int32 :=
  fn_X15_beginsOne_J50 d b12 l1 l3 (1 : Int32)
def fn_X15_beginsOne_L12_b (d : Nat) (b12 : Option Nat → Int32 → Option Nat → mx_M Int32) (l1 : Option Nat) (l2 : Int32) (l3 : Option Nat) : mx_M Int32 :=
  mx_bind (mx_is 33 l3 (fn_J15_hasNext d l3)) fun r101 =>
  mx_if (r101 = (0 : Int32)) (
    mx_retN .boolean l2) (
    mx_bind (mx_is 33 l3 (fn_J15_next d l3)) fun r102 =>
    mx_bind (mx_cast [30] r102) fun _ =>
    mx_if (l2 = (0 : Int32)) (
      mx_bind (fn_X15_begins d r102 l1) fun r103 =>
      mx_if (r103 = (0 : Int32)) (
        fn_X15_beginsOne_J50 d b12 l1 l3 (0 : Int32)) (
        fn_X15_beginsOne_J45 d b12 l1 l3)) (
      fn_X15_beginsOne_J45 d b12 l1 l3))
def fn_X15_beginsOne_L12 (d : Nat) : Nat → Option Nat → Int32 → Option Nat → mx_M Int32
  | 0, _, _, _ => mx_fail
  | k + 1, l1, l2, l3 => fn_X15_beginsOne_L12_b d (fn_X15_beginsOne_L12 d k) l1 l2 l3
def fn_X15_beginsOne_B0 (d : Nat) (v0 : Option Nat) (v1 : Option Nat) : mx_M Int32 :=
  mx_bind (mx_getR [(12, 0)] v0) fun v101 =>
  mx_bind (mx_is 32 v101 (fn_J56_iterator d v101)) fun r102 =>
  fn_X15_beginsOne_L12 d mx_K v1 (0 : Int32) r102
def fn_X15_beginsOne : Nat → Option Nat → Option Nat → mx_M Int32
  | 0, _, _ => mx_fail
  | d + 1, v0, v1 => fn_X15_beginsOne_B0 d v0 v1
def fn_J25_canEncode_B0 (d : Nat) (v0 : Int32) : mx_M Int32 :=
  mx_if ((255 : Int32) < v0) (
    mx_pure (0 : Int32)) (
    mx_pure (1 : Int32))
def fn_J25_canEncode : Nat → Int32 → mx_M Int32
  | 0, _ => mx_fail
  | d + 1, v0 => fn_J25_canEncode_B0 d v0
def fn_J7_append_3_J45 (d : Nat) (l0 : Option Nat) (l1 : Int32) : mx_M (Option Nat) :=
  mx_bind (mx_is 29 l0 (fn_J7_isLatin1 d l0)) fun r101 =>
  mx_if (r101 = (0 : Int32)) (
    mx_bind (mx_getR [(29, 0)] l0) fun v102 =>
    mx_bind (mx_getI [(29, 3)] l0) fun v103 =>
    mx_bind (mx_put [(29, 3)] l0 (.int (v103 + (1 : Int32)))) fun _ =>
    mx_fail) (
    mx_fail)
def fn_J7_append_3_B0 (d : Nat) (v0 : Option Nat) (v1 : Int32) : mx_M (Option Nat) :=
  mx_bind (mx_getI [(29, 3)] v0) fun v101 =>
  mx_bind (mx_is 29 v0 (fn_J7_ensureCapacityInternal d v0 (v101 + (1 : Int32)))) fun _ =>
  mx_bind (mx_is 29 v0 (fn_J7_isLatin1 d v0)) fun r102 =>
  mx_if (r102 = (0 : Int32)) (
    fn_J7_append_3_J45 d v0 v1) (
    mx_bind (fn_J25_canEncode d v1) fun r103 =>
    mx_if (r103 = (0 : Int32)) (
      fn_J7_append_3_J45 d v0 v1) (
      mx_bind (mx_getR [(29, 0)] v0) fun v104 =>
      mx_bind (mx_getI [(29, 3)] v0) fun v105 =>
      mx_bind (mx_put [(29, 3)] v0 (.int (v105 + (1 : Int32)))) fun _ =>
      mx_bind (mx_ast 101 v104 v105 (.int (v1.toInt8.toInt32).toInt8.toInt32)) fun _ =>
      mx_pure v0))
def fn_J7_append_3 : Nat → Option Nat → Int32 → mx_M (Option Nat)
  | 0, _, _ => mx_fail
  | d + 1, v0, v1 => fn_J7_append_3_B0 d v0 v1
def fn_J8_append_3_B0 (d : Nat) (v0 : Option Nat) (v1 : Int32) : mx_M (Option Nat) :=
  mx_bind (mx_is 29 v0 (fn_J7_append_3 d v0 v1)) fun r101 =>
  mx_pure v0
def fn_J8_append_3 : Nat → Option Nat → Int32 → mx_M (Option Nat)
  | 0, _, _ => mx_fail
  | d + 1, v0, v1 => fn_J8_append_3_B0 d v0 v1
def fn_J37_equals_B0 (d : Nat) (v0 : Option Nat) (v1 : Option Nat) : mx_M Int32 :=
  mx_if (v0 = v1) (
    mx_pure (1 : Int32)) (
    mx_ifnull v0 (
      mx_pure (0 : Int32)) (
      mx_bind (mx_is 30 v0 (fn_J9_equals d v0 v1)) fun r101 =>
      mx_if (r101 = (0 : Int32)) (
        mx_pure (0 : Int32)) (
        mx_pure (1 : Int32))))
def fn_J37_equals : Nat → Option Nat → Option Nat → mx_M Int32
  | 0, _, _ => mx_fail
  | d + 1, v0, v1 => fn_J37_equals_B0 d v0 v1
def fn_J58_indexOf_L26_b (d : Nat) (b26 : Option Nat → Option Nat → Int32 → mx_M Int32) (l1 : Option Nat) (l2 : Option Nat) (l3 : Int32) : mx_M Int32 :=
  mx_bind (mx_alen l2) fun v101 =>
  mx_if (v101 ≤ l3) (
    mx_pure (-1 : Int32)) (
    mx_bind (mx_aldR 104 l2 l3) fun v102 =>
    mx_bind (fn_J37_equals d l1 v102) fun r103 =>
    mx_if (r103 = (0 : Int32)) (
      b26 l1 l2 (l3 + (1 : Int32))) (
      mx_pure l3))
def fn_J58_indexOf_L26 (d : Nat) : Nat → Option Nat → Option Nat → Int32 → mx_M Int32
  | 0, _, _, _ => mx_fail
  | k + 1, l1, l2, l3 => fn_J58_indexOf_L26_b d (fn_J58_indexOf_L26 d k) l1 l2 l3
def fn_J58_indexOf_J19 (d : Nat) (l0 : Option Nat) (l1 : Option Nat) : mx_M Int32 :=
  mx_bind (mx_getR [(32, 0)] l0) fun v101 =>
  fn_J58_indexOf_L26 d mx_K l1 v101 (0 : Int32)
def fn_J58_indexOf_B0 (d : Nat) (v0 : Option Nat) (v1 : Option Nat) : mx_M Int32 :=
  mx_bind (mx_getI [(32, 1)] v0) fun v101 =>
  mx_if (v101 = (0 : Int32)) (
    mx_ifnull v1 (
      mx_fail) (
      fn_J58_indexOf_J19 d v0 v1)) (
    fn_J58_indexOf_J19 d v0 v1)
def fn_J58_indexOf : Nat → Option Nat → Option Nat → mx_M Int32
  | 0, _, _ => mx_fail
  | d + 1, v0, v1 => fn_J58_indexOf_B0 d v0 v1
def fn_J56_contains_B0 (d : Nat) (v0 : Option Nat) (v1 : Option Nat) : mx_M Int32 :=
  mx_bind (mx_is 32 v0 (fn_J58_indexOf d v0 v1)) fun r101 =>
  mx_if (r101 < (0 : Int32)) (
    mx_pure (0 : Int32)) (
    mx_pure (1 : Int32))
def fn_J56_contains : Nat → Option Nat → Option Nat → mx_M Int32
  | 0, _, _ => mx_fail
  | d + 1, v0, v1 => fn_J56_contains_B0 d v0 v1
def fn_X15_word_J57 (d : Nat) (l0 : Option Nat) (l1 : Option Nat) : mx_M (Option Nat) :=
  mx_bind (mx_getR [(12, 0)] l0) fun v101 =>
  mx_bind (mx_is 29 l1 (fn_J8_toString d l1)) fun r102 =>
  mx_bind (mx_is 32 v101 (fn_J56_contains d v101 r102)) fun r103 =>
  mx_bind (mx_is 12 l0 (fn_X15_require d l0 r103)) fun _ =>
  mx_bind (mx_is 29 l1 (fn_J8_toString d l1)) fun r104 =>
  mx_pure r104
def fn_X15_word_L8_b (d : Nat) (b8 : Option Nat → Option Nat → mx_M (Option Nat)) (l0 : Option Nat) (l1 : Option Nat) : mx_M (Option Nat) :=
  mx_bind (mx_is 12 l0 (fn_X15_current d l0)) fun r101 =>
  mx_if (r101 < (97 : Int32)) (
    fn_X15_word_J57 d l0 l1) (
    mx_bind (mx_is 12 l0 (fn_X15_current d l0)) fun r102 =>
    mx_if ((122 : Int32) < r102) (
      fn_X15_word_J57 d l0 l1) (
      mx_bind (mx_is 12 l0 (fn_X15_current d l0)) fun r103 =>
      mx_bind (mx_is 29 l1 (fn_J8_append_3 d l1 r103)) fun r104 =>
      mx_bind (mx_is 12 l0 (fn_X15_beginsOne d l0 l1)) fun r105 =>
      mx_bind (mx_is 12 l0 (fn_X15_require d l0 r105)) fun _ =>
      mx_bind (mx_getI [(12, 2)] l0) fun v106 =>
      mx_bind (mx_put [(12, 2)] l0 (.int (v106 + (1 : Int32)))) fun _ =>
      b8 l0 l1))
def fn_X15_word_L8 (d : Nat) : Nat → Option Nat → Option Nat → mx_M (Option Nat)
  | 0, _, _ => mx_fail
  | k + 1, l0, l1 => fn_X15_word_L8_b d (fn_X15_word_L8 d k) l0 l1
def fn_X15_word_B0 (d : Nat) (v0 : Option Nat) : mx_M (Option Nat) :=
  mx_bind (mx_new (29, [.null, .int 0, .int 0, .int 0]) 4) fun a101 =>
  mx_bind (mx_deref (some a101) fun _ => fn_J8_init d (some a101)) fun _ =>
  fn_X15_word_L8 d mx_K v0 (some a101)
def fn_X15_word : Nat → Option Nat → mx_M (Option Nat)
  | 0, _ => mx_fail
  | d + 1, v0 => fn_X15_word_B0 d v0
def fn_X15_command_J265 (d : Nat) (l0 : Option Nat) (l1 : Option Nat) : mx_M (Option Nat) :=
  mx_bind (mx_is 12 l0 (fn_X15_numberAfter d l0 (32 : Int32))) fun r101 =>
  mx_bind (mx_new (11, [.null, .null]) 2) fun a102 =>
  mx_bind (mx_newa 100 (.int 0) (2 : Int32)) fun a103 =>
  mx_bind (mx_ast 100 (some a103) (0 : Int32) (.int r101)) fun _ =>
  mx_bind (mx_is 12 l0 (fn_X15_numberAfter d l0 (32 : Int32))) fun r104 =>
  mx_bind (mx_ast 100 (some a103) (1 : Int32) (.int r104)) fun _ =>
  mx_bind (mx_deref (some a102) fun _ => fn_X5_init d (some a102) l1 (some a103)) fun _ =>
  mx_pure (some a102)
def fn_X15_command_J352 (d : Nat) (l0 : Option Nat) (l1 : Option Nat) : mx_M (Option Nat) :=
  mx_bind (mx_new (11, [.null, .null]) 2) fun a101 =>
  mx_bind (mx_newa 100 (.int 0) (1 : Int32)) fun a102 =>
  mx_bind (mx_is 12 l0 (fn_X15_numberAfter d l0 (32 : Int32))) fun r103 =>
  mx_bind (mx_ast 100 (some a102) (0 : Int32) (.int r103)) fun _ =>
  mx_bind (mx_deref (some a101) fun _ => fn_X5_init d (some a101) l1 (some a102)) fun _ =>
  mx_pure (some a101)
def fn_X15_command_J176 (d : Nat) (l0 : Option Nat) (l1 : Option Nat) (l3 : Int32) : mx_M (Option Nat) :=
  mx_sw l3 [
    ((0 : Int32),
      mx_bind (mx_is 12 l0 (fn_X15_numberAfter d l0 (32 : Int32))) fun r101 =>
      mx_bind (mx_is 12 l0 (fn_X15_digitAfterSpace d l0)) fun r102 =>
      mx_bind (mx_new (11, [.null, .null]) 2) fun a103 =>
      mx_bind (mx_newa 100 (.int 0) (3 : Int32)) fun a104 =>
      mx_bind (mx_ast 100 (some a104) (0 : Int32) (.int r101)) fun _ =>
      mx_bind (mx_ast 100 (some a104) (1 : Int32) (.int r102)) fun _ =>
      mx_bind (mx_is 12 l0 (fn_X15_numberAfter d l0 (32 : Int32))) fun r105 =>
      mx_bind (mx_ast 100 (some a104) (2 : Int32) (.int r105)) fun _ =>
      mx_bind (mx_deref (some a103) fun _ => fn_X5_init d (some a103) l1 (some a104)) fun _ =>
      mx_pure (some a103)),
    ((1 : Int32),
      fn_X15_command_J265 d l0 l1),
    ((2 : Int32),
      fn_X15_command_J265 d l0 l1),
    ((3 : Int32),
      mx_bind (mx_is 12 l0 (fn_X15_numberAfter d l0 (32 : Int32))) fun r106 =>
      mx_bind (mx_new (11, [.null, .null]) 2) fun a107 =>
      mx_bind (mx_newa 100 (.int 0) (2 : Int32)) fun a108 =>
      mx_bind (mx_ast 100 (some a108) (0 : Int32) (.int r106)) fun _ =>
      mx_bind (mx_is 12 l0 (fn_X15_numberAfter d l0 (45 : Int32))) fun r109 =>
      mx_bind (mx_ast 100 (some a108) (1 : Int32) (.int r109)) fun _ =>
      mx_bind (mx_deref (some a107) fun _ => fn_X5_init d (some a107) l1 (some a108)) fun _ =>
      mx_pure (some a107)),
    ((4 : Int32),
      mx_bind (mx_new (11, [.null, .null]) 2) fun a110 =>
      mx_bind (mx_newa 100 (.int 0) (1 : Int32)) fun a111 =>
      mx_bind (mx_is 12 l0 (fn_X15_digitAfterSpace d l0)) fun r112 =>
      mx_bind (mx_ast 100 (some a111) (0 : Int32) (.int r112)) fun _ =>
      mx_bind (mx_deref (some a110) fun _ => fn_X5_init d (some a110) l1 (some a111)) fun _ =>
      mx_pure (some a110)),
    ((5 : Int32),
      fn_X15_command_J352 d l0 l1),
    ((6 : Int32),
      fn_X15_command_J352 d l0 l1)] (
    mx_bind (mx_new (11, [.null, .null]) 2) fun a113 =>
    mx_bind (mx_newa 100 (.int 0) (0 : Int32)) fun a114 =>
    mx_bind (mx_deref (some a113) fun _ => fn_X5_init d (some a113) l1 (some a114)) fun _ =>
    mx_pure (some a113))
def fn_X15_command_B0 (d : Nat) (v0 : Option Nat) : mx_M (Option Nat) :=
  mx_bind (mx_is 12 v0 (fn_X15_word d v0)) fun r101 =>
  mx_bind (mx_is 30 r101 (fn_J9_hashCode d r101)) fun r102 =>
  mx_sw r102 [
    ((-1135252750 : Int32),
      mx_bind (mx_con 242) fun v103 =>
      mx_bind (mx_is 30 r101 (fn_J9_equals d r101 v103)) fun r104 =>
      mx_if (r104 = (0 : Int32)) (
        fn_X15_command_J176 d v0 r101 (-1 : Int32)) (
        fn_X15_command_J176 d v0 r101 (3 : Int32))),
    ((3321884 : Int32),
      mx_bind (mx_con 236) fun v105 =>
      mx_bind (mx_is 30 r101 (fn_J9_equals d r101 v105)) fun r106 =>
      mx_if (r106 = (0 : Int32)) (
        fn_X15_command_J176 d v0 r101 (-1 : Int32)) (
        fn_X15_command_J176 d v0 r101 (0 : Int32))),
    ((3505966 : Int32),
      mx_bind (mx_con 237) fun v107 =>
      mx_bind (mx_is 30 r101 (fn_J9_equals d r101 v107)) fun r108 =>
      mx_if (r108 = (0 : Int32)) (
        fn_X15_command_J176 d v0 r101 (-1 : Int32)) (
        fn_X15_command_J176 d v0 r101 (1 : Int32))),
    ((3641717 : Int32),
      mx_bind (mx_con 244) fun v109 =>
      mx_bind (mx_is 30 r101 (fn_J9_equals d r101 v109)) fun r110 =>
      mx_if (r110 = (0 : Int32)) (
        fn_X15_command_J176 d v0 r101 (-1 : Int32)) (
        fn_X15_command_J176 d v0 r101 (6 : Int32))),
    ((3701727 : Int32),
      mx_bind (mx_con 238) fun v111 =>
      mx_bind (mx_is 30 r101 (fn_J9_equals d r101 v111)) fun r112 =>
      mx_if (r112 = (0 : Int32)) (
        fn_X15_command_J176 d v0 r101 (-1 : Int32)) (
        fn_X15_command_J176 d v0 r101 (2 : Int32))),
    ((102846135 : Int32),
      mx_bind (mx_con 239) fun v113 =>
      mx_bind (mx_is 30 r101 (fn_J9_equals d r101 v113)) fun r114 =>
      mx_if (r114 = (0 : Int32)) (
        fn_X15_command_J176 d v0 r101 (-1 : Int32)) (
        fn_X15_command_J176 d v0 r101 (5 : Int32))),
    ((1671672458 : Int32),
      mx_bind (mx_con 243) fun v115 =>
      mx_bind (mx_is 30 r101 (fn_J9_equals d r101 v115)) fun r116 =>
      mx_if (r116 = (0 : Int32)) (
        fn_X15_command_J176 d v0 r101 (-1 : Int32)) (
        fn_X15_command_J176 d v0 r101 (4 : Int32)))] (
    fn_X15_command_J176 d v0 r101 (-1 : Int32))
def fn_X15_command : Nat → Option Nat → mx_M (Option Nat)
  | 0, _ => mx_fail
  | d + 1, v0 => fn_X15_command_B0 d v0
def fn_X15_commands_L19_b (d : Nat) (b19 : Option Nat → Option Nat → mx_M (Option Nat)) (l0 : Option Nat) (l1 : Option Nat) : mx_M (Option Nat) :=
  mx_bind (mx_getI [(12, 2)] l0) fun v101 =>
  mx_bind (mx_getR [(12, 1)] l0) fun v102 =>
  mx_bind (mx_is 30 v102 (fn_J9_length d v102)) fun r103 =>
  mx_if (r103 ≤ v101) (
    mx_pure l1) (
    mx_bind (mx_is 12 l0 (fn_X15_take d l0 (59 : Int32))) fun _ =>
    mx_bind (mx_is 12 l0 (fn_X15_command d l0)) fun r104 =>
    mx_bind (mx_is 16 l1 (fn_J4_add d l1 r104)) fun r105 =>
    b19 l0 l1)
def fn_X15_commands_L19 (d : Nat) : Nat → Option Nat → Option Nat → mx_M (Option Nat)
  | 0, _, _ => mx_fail
  | k + 1, l0, l1 => fn_X15_commands_L19_b d (fn_X15_commands_L19 d k) l0 l1
def fn_X15_commands_B0 (d : Nat) (v0 : Option Nat) : mx_M (Option Nat) :=
  mx_bind (mx_new (16, [.int 0, .null, .int 0]) 3) fun a101 =>
  mx_bind (mx_deref (some a101) fun _ => fn_J4_init d (some a101)) fun _ =>
  mx_bind (mx_is 12 v0 (fn_X15_command d v0)) fun r102 =>
  mx_bind (mx_is 16 (some a101) (fn_J4_add d (some a101) r102)) fun r103 =>
  fn_X15_commands_L19 d mx_K v0 (some a101)
def fn_X15_commands : Nat → Option Nat → mx_M (Option Nat)
  | 0, _ => mx_fail
  | d + 1, v0 => fn_X15_commands_B0 d v0
def fn_X16_asPublicException_B0 (d : Nat) (v0 : Option Nat) : mx_M (Option Nat) :=
  mx_bind (mx_ge 6 d (mx_new (35, []) 6)) fun a101 =>
  mx_pure (some a101)
def fn_X16_asPublicException : Nat → Option Nat → mx_M (Option Nat)
  | 0, _ => mx_fail
  | d + 1, v0 => fn_X16_asPublicException_B0 d v0
def fn_J23_rangeCheck_B0 (d : Nat) (v0 : Int32) (v1 : Int32) (v2 : Int32) : mx_M Unit :=
  mx_if (v1 ≤ v2) (
    mx_if ((0 : Int32) ≤ v1) (
      mx_if (v2 ≤ v0) (
        mx_pure ()) (
        mx_fail)) (
      mx_fail)) (
    mx_fail)
def fn_J23_rangeCheck : Nat → Int32 → Int32 → Int32 → mx_M Unit
  | 0, _, _, _ => mx_fail
  | d + 1, v0, v1, v2 => fn_J23_rangeCheck_B0 d v0 v1 v2
def fn_J23_fill_L10_b (d : Nat) (b10 : Option Nat → Int32 → Int32 → Int32 → mx_M Unit) (l0 : Option Nat) (l2 : Int32) (l3 : Int32) (l4 : Int32) : mx_M Unit :=
  mx_if (l2 ≤ l4) (
    mx_pure ()) (
    mx_bind (mx_ast 101 l0 l4 (.int l3.toInt8.toInt32)) fun _ =>
    b10 l0 l2 l3 (l4 + (1 : Int32)))
def fn_J23_fill_L10 (d : Nat) : Nat → Option Nat → Int32 → Int32 → Int32 → mx_M Unit
  | 0, _, _, _, _ => mx_fail
  | k + 1, l0, l2, l3, l4 => fn_J23_fill_L10_b d (fn_J23_fill_L10 d k) l0 l2 l3 l4
def fn_J23_fill_B0 (d : Nat) (v0 : Option Nat) (v1 : Int32) (v2 : Int32) (v3 : Int32) : mx_M Unit :=
  mx_bind (mx_alen v0) fun v101 =>
  mx_bind (fn_J23_rangeCheck d v101 v1 v2) fun _ =>
  fn_J23_fill_L10 d mx_K v0 v2 v3 v1
def fn_J23_fill : Nat → Option Nat → Int32 → Int32 → Int32 → mx_M Unit
  | 0, _, _, _, _ => mx_fail
  | d + 1, v0, v1, v2, v3 => fn_J23_fill_B0 d v0 v1 v2 v3
def fn_J25_fillNull_B0 (d : Nat) (v0 : Option Nat) (v1 : Int32) (v2 : Int32) : mx_M Unit :=
  mx_bind (fn_J23_fill d v0 v1 v2 (0 : Int32)) fun _ =>
  mx_pure ()
def fn_J25_fillNull : Nat → Option Nat → Int32 → Int32 → mx_M Unit
  | 0, _, _, _ => mx_fail
  | d + 1, v0, v1, v2 => fn_J25_fillNull_B0 d v0 v1 v2
def fn_J7_setLength_B0 (d : Nat) (v0 : Option Nat) (v1 : Int32) : mx_M Unit :=
  mx_if ((0 : Int32) ≤ v1) (
    mx_bind (mx_is 29 v0 (fn_J7_ensureCapacityInternal d v0 v1)) fun _ =>
    mx_bind (mx_getI [(29, 3)] v0) fun v101 =>
    mx_if (v1 ≤ v101) (
      mx_bind (mx_getI [(29, 3)] v0) fun v102 =>
      mx_if (v102 ≤ v1) (
        mx_bind (mx_put [(29, 3)] v0 (.int v1)) fun _ =>
        mx_pure ()) (
        mx_bind (mx_put [(29, 2)] v0 (.int (1 : Int32))) fun _ =>
        mx_bind (mx_put [(29, 3)] v0 (.int v1)) fun _ =>
        mx_pure ())) (
      mx_bind (mx_is 29 v0 (fn_J7_isLatin1 d v0)) fun r103 =>
      mx_if (r103 = (0 : Int32)) (
        mx_bind (mx_getR [(29, 0)] v0) fun v104 =>
        mx_bind (mx_getI [(29, 3)] v0) fun v105 =>
        mx_fail) (
        mx_bind (mx_getR [(29, 0)] v0) fun v106 =>
        mx_bind (mx_getI [(29, 3)] v0) fun v107 =>
        mx_bind (fn_J25_fillNull d v106 v107 v1) fun _ =>
        mx_bind (mx_put [(29, 3)] v0 (.int v1)) fun _ =>
        mx_pure ()))) (
    mx_fail)
def fn_J7_setLength : Nat → Option Nat → Int32 → mx_M Unit
  | 0, _, _ => mx_fail
  | d + 1, v0, v1 => fn_J7_setLength_B0 d v0 v1
def fn_J8_setLength_B0 (d : Nat) (v0 : Option Nat) (v1 : Int32) : mx_M Unit :=
  mx_bind (mx_is 29 v0 (fn_J7_setLength d v0 v1)) fun _ =>
  mx_pure ()
def fn_J8_setLength : Nat → Option Nat → Int32 → mx_M Unit
  | 0, _, _ => mx_fail
  | d + 1, v0, v1 => fn_J8_setLength_B0 d v0 v1
def fn_X1_runScript_J45 (d : Nat) (l0 : Option Nat) (p0 : Option Nat) : mx_M Int32 :=
  mx_bind (mx_getR [(0, 3)] l0) fun v101 =>
  mx_bind (mx_is 29 v101 (fn_J8_setLength d v101 (0 : Int32))) fun _ =>
  mx_deref p0 fun q102 =>
  mx_thr [13, 14, 15, 34, 35, 36, 37, 38, 39] q102
def fn_X1_runScript_J34 (d : Nat) (l0 : Option Nat) (p0 : Option Nat) : mx_M Int32 :=
  mx_try (mx_is 0 l0 (fn_X1_note d l0 p0)) (fun _ =>
    mx_try (mx_or 15 p0 (mx_is 15 p0 (fn_X16_asPublicException d p0)) (mx_is 14 p0 (fn_X17_asPublicException d p0))) (fun r102 =>
    mx_deref r102 fun q103 =>
    mx_in [13, 14, 15, 34, 35, 36, 37, 38, 39] q103 (
      fn_X1_runScript_J45 d l0 (some q103)) (
    mx_fail)) fun _ => mx_fail
) fun q101 =>
    mx_in [13, 14, 15, 34, 35, 36, 37, 38, 39] q101 (
      fn_X1_runScript_J45 d l0 (some q101)) (
    mx_fail)

def fn_X1_runScript_B0 (d : Nat) (v0 : Option Nat) : mx_M Int32 :=
  mx_bind (mx_getR [(0, 3)] v0) fun v101 =>
  mx_bind (mx_is 29 v101 (fn_J8_toString d v101)) fun r102 =>
  mx_bind (mx_new (12, [.null, .null, .int 0]) 3) fun a103 =>
  mx_try (mx_deref (some a103) fun _ => fn_X15_init d (some a103) r102) (fun _ =>
    mx_try (mx_is 12 (some a103) (fn_X15_commands d (some a103))) (fun r105 =>
      mx_try (mx_is 0 v0 (fn_X1_execute d v0 r105)) (fun r107 =>
        mx_bind (mx_getR [(0, 3)] v0) fun v109 =>
        mx_bind (mx_is 29 v109 (fn_J8_setLength d v109 (0 : Int32))) fun _ =>
        mx_pure r107) fun q108 =>
        mx_in [15] q108 (
          fn_X1_runScript_J34 d v0 (some q108)) (
        mx_in [14] q108 (
          fn_X1_runScript_J34 d v0 (some q108)) (
        mx_in [] q108 (
          fn_X1_runScript_J45 d v0 (some q108)) (
        mx_fail)))
) fun q106 =>
      mx_in [15] q106 (
        fn_X1_runScript_J34 d v0 (some q106)) (
      mx_in [14] q106 (
        fn_X1_runScript_J34 d v0 (some q106)) (
      mx_in [] q106 (
        fn_X1_runScript_J45 d v0 (some q106)) (
      mx_fail)))
) fun q104 =>
    mx_in [15] q104 (
      fn_X1_runScript_J34 d v0 (some q104)) (
    mx_in [14] q104 (
      fn_X1_runScript_J34 d v0 (some q104)) (
    mx_in [] q104 (
      fn_X1_runScript_J45 d v0 (some q104)) (
    mx_fail)))

def fn_X1_runScript : Nat → Option Nat → mx_M Int32
  | 0, _ => mx_fail
  | d + 1, v0 => fn_X1_runScript_B0 d v0
def fn_X0_runScript_B0 (d : Nat) (v0 : Option Nat) (v1 : Option Nat) : mx_M Int32 :=
  mx_try (mx_is 0 v0 (fn_X1_runScript d v0)) (fun r101 =>
    mx_bind (mx_ast 102 v1 (0 : Int32) (.long (r101.toInt64))) fun _ =>
    mx_pure (0 : Int32)) fun q102 =>
    mx_in [35] q102 (
      mx_pure (1 : Int32)) (
    mx_in [36] q102 (
      mx_pure (2 : Int32)) (
    mx_fail))

def fn_X0_runScript : Nat → Option Nat → Option Nat → mx_M Int32
  | 0, _, _ => mx_fail
  | d + 1, v0, v1 => fn_X0_runScript_B0 d v0 v1
def fn_X1_serve_B0 (d : Nat) (v0 : Option Nat) : mx_M Int32 :=
  mx_bind (mx_con 228) fun v101 =>
  mx_bind (mx_newa 100 (.int 0) (0 : Int32)) fun a102 =>
  mx_bind (mx_is 0 v0 (fn_X1_change d v0 v101 (some a102))) fun r103 =>
  mx_pure r103
def fn_X1_serve : Nat → Option Nat → mx_M Int32
  | 0, _ => mx_fail
  | d + 1, v0 => fn_X1_serve_B0 d v0
def fn_X0_serve_B0 (d : Nat) (v0 : Option Nat) (v1 : Option Nat) : mx_M Int32 :=
  mx_try (mx_is 0 v0 (fn_X1_serve d v0)) (fun r101 =>
    mx_bind (mx_ast 102 v1 (0 : Int32) (.long (r101.toInt64))) fun _ =>
    mx_pure (0 : Int32)) fun q102 =>
    mx_in [34] q102 (
      mx_pure (1 : Int32)) (
    mx_in [38] q102 (
      mx_pure (2 : Int32)) (
    mx_fail))

def fn_X0_serve : Nat → Option Nat → Option Nat → mx_M Int32
  | 0, _, _ => mx_fail
  | d + 1, v0, v1 => fn_X0_serve_B0 d v0 v1
def fn_X1_startOf_B0 (d : Nat) (v0 : Option Nat) (v1 : Int32) : mx_M Int32 :=
  mx_bind (mx_is 0 v0 (fn_X1_keeperWith d v0 v1)) fun r101 =>
  mx_bind (mx_getI [(4, 0)] r101) fun v102 =>
  mx_pure v102
def fn_X1_startOf : Nat → Option Nat → Int32 → mx_M Int32
  | 0, _, _ => mx_fail
  | d + 1, v0, v1 => fn_X1_startOf_B0 d v0 v1
def fn_X0_startOf_B0 (d : Nat) (v0 : Option Nat) (v1 : Int32) (v2 : Option Nat) : mx_M Int32 :=
  mx_try (mx_is 0 v0 (fn_X1_startOf d v0 v1)) (fun r101 =>
    mx_bind (mx_ast 102 v2 (0 : Int32) (.long (r101.toInt64))) fun _ =>
    mx_pure (0 : Int32)) fun q102 =>
    mx_in [37] q102 (
      mx_pure (1 : Int32)) (
    mx_fail)

def fn_X0_startOf : Nat → Option Nat → Int32 → Option Nat → mx_M Int32
  | 0, _, _, _ => mx_fail
  | d + 1, v0, v1, v2 => fn_X0_startOf_B0 d v0 v1 v2
def fn_X1_ticketAtRank_B0 (d : Nat) (v0 : Option Nat) (v1 : Int32) : mx_M Int32 :=
  mx_bind (mx_is 0 v0 (fn_X1_ticketWith d v0 v1)) fun r101 =>
  mx_bind (mx_getI [(6, 0)] r101) fun v102 =>
  mx_pure v102
def fn_X1_ticketAtRank : Nat → Option Nat → Int32 → mx_M Int32
  | 0, _, _ => mx_fail
  | d + 1, v0, v1 => fn_X1_ticketAtRank_B0 d v0 v1
def fn_X0_ticketAtRank_B0 (d : Nat) (v0 : Option Nat) (v1 : Int32) (v2 : Option Nat) : mx_M Int32 :=
  mx_try (mx_is 0 v0 (fn_X1_ticketAtRank d v0 v1)) (fun r101 =>
    mx_bind (mx_ast 102 v2 (0 : Int32) (.long (r101.toInt64))) fun _ =>
    mx_pure (0 : Int32)) fun q102 =>
    mx_in [34] q102 (
      mx_pure (1 : Int32)) (
    mx_fail)

def fn_X0_ticketAtRank : Nat → Option Nat → Int32 → Option Nat → mx_M Int32
  | 0, _, _, _ => mx_fail
  | d + 1, v0, v1, v2 => fn_X0_ticketAtRank_B0 d v0 v1 v2
def fn_X1_ticketOf_B0 (d : Nat) (v0 : Option Nat) (v1 : Int32) : mx_M Int32 :=
  mx_bind (mx_is 0 v0 (fn_X1_lionWith d v0 v1)) fun r101 =>
  mx_bind (mx_getR [(5, 3)] r101) fun v102 =>
  mx_bind (mx_getI [(6, 0)] v102) fun v103 =>
  mx_pure v103
def fn_X1_ticketOf : Nat → Option Nat → Int32 → mx_M Int32
  | 0, _, _ => mx_fail
  | d + 1, v0, v1 => fn_X1_ticketOf_B0 d v0 v1
def fn_X0_ticketOf_B0 (d : Nat) (v0 : Option Nat) (v1 : Int32) (v2 : Option Nat) : mx_M Int32 :=
  mx_try (mx_is 0 v0 (fn_X1_ticketOf d v0 v1)) (fun r101 =>
    mx_bind (mx_ast 102 v2 (0 : Int32) (.long (r101.toInt64))) fun _ =>
    mx_pure (0 : Int32)) fun q102 =>
    mx_in [34] q102 (
      mx_pure (1 : Int32)) (
    mx_fail)

def fn_X0_ticketOf : Nat → Option Nat → Int32 → Option Nat → mx_M Int32
  | 0, _, _, _ => mx_fail
  | d + 1, v0, v1, v2 => fn_X0_ticketOf_B0 d v0 v1 v2
def fn_X1_type_J28 (d : Nat) (l0 : Option Nat) (l1 : Int32) (p0 : Int32) : mx_M Int32 :=
  mx_bind (fn_X1_checkState d p0) fun _ =>
  mx_bind (mx_getR [(0, 3)] l0) fun v101 =>
  mx_bind (mx_is 29 v101 (fn_J8_append_3 d v101 l1)) fun r102 =>
  mx_bind (mx_getR [(0, 3)] l0) fun v103 =>
  mx_bind (mx_is 29 v103 (fn_J8_length d v103)) fun r104 =>
  mx_pure r104
def fn_X1_type_B0 (d : Nat) (v0 : Option Nat) (v1 : Int32) : mx_M Int32 :=
  mx_bind (fn_X1_isBetween d v1 (32 : Int32) (126 : Int32)) fun r101 =>
  mx_bind (fn_X1_checkArgument d r101) fun _ =>
  mx_bind (mx_getR [(0, 3)] v0) fun v102 =>
  mx_bind (mx_is 29 v102 (fn_J8_length d v102)) fun r103 =>
  mx_if ((60 : Int32) ≤ r103) (
    fn_X1_type_J28 d v0 v1 (0 : Int32)) (
    fn_X1_type_J28 d v0 v1 (1 : Int32))
def fn_X1_type : Nat → Option Nat → Int32 → mx_M Int32
  | 0, _, _ => mx_fail
  | d + 1, v0, v1 => fn_X1_type_B0 d v0 v1
def fn_X0_type_B0 (d : Nat) (v0 : Option Nat) (v1 : Int32) (v2 : Option Nat) : mx_M Int32 :=
  mx_try (mx_is 0 v0 (fn_X1_type d v0 v1)) (fun r101 =>
    mx_bind (mx_ast 102 v2 (0 : Int32) (.long (r101.toInt64))) fun _ =>
    mx_pure (0 : Int32)) fun q102 =>
    mx_in [35] q102 (
      mx_pure (1 : Int32)) (
    mx_in [36] q102 (
      mx_pure (2 : Int32)) (
    mx_fail))

def fn_X0_type : Nat → Option Nat → Int32 → Option Nat → mx_M Int32
  | 0, _, _, _ => mx_fail
  | d + 1, v0, v1, v2 => fn_X0_type_B0 d v0 v1 v2
def fn_J2_isEmpty_B0 (d : Nat) (v0 : Option Nat) : mx_M Int32 :=
  mx_bind (mx_is 24 v0 (fn_J6_size d v0)) fun r101 =>
  mx_if (r101 = (0 : Int32)) (
    mx_pure (1 : Int32)) (
    mx_pure (0 : Int32))
def fn_J2_isEmpty : Nat → Option Nat → mx_M Int32
  | 0, _ => mx_fail
  | d + 1, v0 => fn_J2_isEmpty_B0 d v0
def fn_J6_unlinkLast_J42 (d : Nat) (l0 : Option Nat) (l2 : Option Nat) : mx_M (Option Nat) :=
  mx_bind (mx_getI [(24, 1)] l0) fun v101 =>
  mx_bind (mx_put [(24, 1)] l0 (.int (v101 - (1 : Int32)))) fun _ =>
  mx_bind (mx_getI [(24, 0)] l0) fun v102 =>
  mx_bind (mx_put [(24, 0)] l0 (.int (v102 + (1 : Int32)))) fun _ =>
  mx_pure l2
def fn_J6_unlinkLast_B0 (d : Nat) (v0 : Option Nat) (v1 : Option Nat) : mx_M (Option Nat) :=
  mx_bind (mx_getR [(25, 0)] v1) fun v101 =>
  mx_bind (mx_getR [(25, 2)] v1) fun v102 =>
  mx_bind (mx_put [(25, 0)] v1 (va_rf none)) fun _ =>
  mx_bind (mx_put [(25, 2)] v1 (va_rf none)) fun _ =>
  mx_bind (mx_put [(24, 3)] v0 (va_rf v102)) fun _ =>
  mx_ifnull v102 (
    mx_bind (mx_put [(24, 2)] v0 (va_rf none)) fun _ =>
    fn_J6_unlinkLast_J42 d v0 v101) (
    mx_bind (mx_put [(25, 1)] v102 (va_rf none)) fun _ =>
    fn_J6_unlinkLast_J42 d v0 v101)
def fn_J6_unlinkLast : Nat → Option Nat → Option Nat → mx_M (Option Nat)
  | 0, _, _ => mx_fail
  | d + 1, v0, v1 => fn_J6_unlinkLast_B0 d v0 v1
def fn_J6_removeLast_B0 (d : Nat) (v0 : Option Nat) : mx_M (Option Nat) :=
  mx_bind (mx_getR [(24, 3)] v0) fun v101 =>
  mx_ifnull v101 (
    mx_fail) (
    mx_bind (mx_is 24 v0 (fn_J6_unlinkLast d v0 v101)) fun r102 =>
    mx_pure r102)
def fn_J6_removeLast : Nat → Option Nat → mx_M (Option Nat)
  | 0, _ => mx_fail
  | d + 1, v0 => fn_J6_removeLast_B0 d v0
def fn_X1_undo_J15 (d : Nat) (l0 : Option Nat) (p0 : Int32) : mx_M Int32 :=
  mx_bind (fn_X1_checkElement d p0) fun _ =>
  mx_bind (mx_getR [(0, 2)] l0) fun v101 =>
  mx_bind (mx_is 24 v101 (fn_J6_removeLast d v101)) fun r102 =>
  mx_bind (mx_cast [2] r102) fun _ =>
  mx_bind (mx_put [(0, 0)] l0 (va_rf r102)) fun _ =>
  mx_bind (mx_getR [(0, 2)] l0) fun v103 =>
  mx_bind (mx_is 24 v103 (fn_J6_size d v103)) fun r104 =>
  mx_pure r104
def fn_X1_undo_B0 (d : Nat) (v0 : Option Nat) : mx_M Int32 :=
  mx_bind (mx_getR [(0, 2)] v0) fun v101 =>
  mx_bind (mx_is 24 v101 (fn_J2_isEmpty d v101)) fun r102 =>
  mx_if (r102 = (0 : Int32)) (
    fn_X1_undo_J15 d v0 (1 : Int32)) (
    fn_X1_undo_J15 d v0 (0 : Int32))
def fn_X1_undo : Nat → Option Nat → mx_M Int32
  | 0, _ => mx_fail
  | d + 1, v0 => fn_X1_undo_B0 d v0
def fn_X0_undo_B0 (d : Nat) (v0 : Option Nat) (v1 : Option Nat) : mx_M Int32 :=
  mx_try (mx_is 0 v0 (fn_X1_undo d v0)) (fun r101 =>
    mx_bind (mx_ast 102 v1 (0 : Int32) (.long (r101.toInt64))) fun _ =>
    mx_pure (0 : Int32)) fun q102 =>
    mx_in [34] q102 (
      mx_pure (1 : Int32)) (
    mx_fail)

def fn_X0_undo : Nat → Option Nat → Option Nat → mx_M Int32
  | 0, _, _ => mx_fail
  | d + 1, v0, v1 => fn_X0_undo_B0 d v0 v1
def fn_X1_yawn_B0 (d : Nat) (v0 : Option Nat) (v1 : Int32) (v2 : Int32) : mx_M Int32 :=
  mx_bind (mx_con 226) fun v101 =>
  mx_bind (mx_newa 100 (.int 0) (2 : Int32)) fun a102 =>
  mx_bind (mx_ast 100 (some a102) (0 : Int32) (.int v1)) fun _ =>
  mx_bind (mx_ast 100 (some a102) (1 : Int32) (.int v2)) fun _ =>
  mx_bind (mx_is 0 v0 (fn_X1_change d v0 v101 (some a102))) fun r103 =>
  mx_pure r103
def fn_X1_yawn : Nat → Option Nat → Int32 → Int32 → mx_M Int32
  | 0, _, _, _ => mx_fail
  | d + 1, v0, v1, v2 => fn_X1_yawn_B0 d v0 v1 v2
def fn_X0_yawn_B0 (d : Nat) (v0 : Option Nat) (v1 : Int32) (v2 : Int32) (v3 : Option Nat) : mx_M Int32 :=
  mx_try (mx_is 0 v0 (fn_X1_yawn d v0 v1 v2)) (fun r101 =>
    mx_bind (mx_ast 102 v3 (0 : Int32) (.long (r101.toInt64))) fun _ =>
    mx_pure (0 : Int32)) fun q102 =>
    mx_in [34] q102 (
      mx_pure (1 : Int32)) (
    mx_in [35] q102 (
      mx_pure (2 : Int32)) (
    mx_fail))

def fn_X0_yawn : Nat → Option Nat → Int32 → Int32 → Option Nat → mx_M Int32
  | 0, _, _, _, _ => mx_fail
  | d + 1, v0, v1, v2, v3 => fn_X0_yawn_B0 d v0 v1 v2 v3
def fn_X4_init_B0 (d : Nat) (v0 : Option Nat) : mx_M Unit :=
  mx_deref v0 fun _ =>
  mx_bind (mx_put [(1, 2)] v0 (.int (-1 : Int32))) fun _ =>
  mx_bind (mx_put [(1, 3)] v0 (.int (-1 : Int32))) fun _ =>
  mx_bind (mx_newa 100 (.int 0) (112 : Int32)) fun a102 =>
  mx_bind (mx_put [(1, 6)] v0 (va_rf (some a102))) fun _ =>
  mx_bind (mx_newa 100 (.int 0) (112 : Int32)) fun a103 =>
  mx_bind (mx_put [(1, 7)] v0 (va_rf (some a103))) fun _ =>
  mx_bind (mx_newa 100 (.int 0) (112 : Int32)) fun a104 =>
  mx_bind (mx_put [(1, 8)] v0 (va_rf (some a104))) fun _ =>
  mx_bind (mx_newa 100 (.int 0) (896 : Int32)) fun a105 =>
  mx_bind (mx_put [(1, 9)] v0 (va_rf (some a105))) fun _ =>
  mx_bind (mx_newa 100 (.int 0) (10 : Int32)) fun a106 =>
  mx_bind (mx_put [(1, 10)] v0 (va_rf (some a106))) fun _ =>
  mx_bind (mx_newa 100 (.int 0) (60 : Int32)) fun a107 =>
  mx_bind (mx_put [(1, 11)] v0 (va_rf (some a107))) fun _ =>
  mx_bind (mx_newa 100 (.int 0) (96 : Int32)) fun a108 =>
  mx_bind (mx_put [(1, 12)] v0 (va_rf (some a108))) fun _ =>
  mx_bind (mx_newa 100 (.int 0) (9 : Int32)) fun a109 =>
  mx_bind (mx_put [(1, 13)] v0 (va_rf (some a109))) fun _ =>
  mx_bind (mx_newa 100 (.int 0) (51 : Int32)) fun a110 =>
  mx_bind (mx_ast 100 (some a110) (0 : Int32) (.int (108 : Int32))) fun _ =>
  mx_bind (mx_ast 100 (some a110) (1 : Int32) (.int (105 : Int32))) fun _ =>
  mx_bind (mx_ast 100 (some a110) (2 : Int32) (.int (111 : Int32))) fun _ =>
  mx_bind (mx_ast 100 (some a110) (3 : Int32) (.int (110 : Int32))) fun _ =>
  mx_bind (mx_ast 100 (some a110) (4 : Int32) (.int (32 : Int32))) fun _ =>
  mx_bind (mx_ast 100 (some a110) (5 : Int32) (.int (114 : Int32))) fun _ =>
  mx_bind (mx_ast 100 (some a110) (6 : Int32) (.int (111 : Int32))) fun _ =>
  mx_bind (mx_ast 100 (some a110) (7 : Int32) (.int (97 : Int32))) fun _ =>
  mx_bind (mx_ast 100 (some a110) (8 : Int32) (.int (114 : Int32))) fun _ =>
  mx_bind (mx_ast 100 (some a110) (9 : Int32) (.int (32 : Int32))) fun _ =>
  mx_bind (mx_ast 100 (some a110) (10 : Int32) (.int (121 : Int32))) fun _ =>
  mx_bind (mx_ast 100 (some a110) (11 : Int32) (.int (97 : Int32))) fun _ =>
  mx_bind (mx_ast 100 (some a110) (12 : Int32) (.int (119 : Int32))) fun _ =>
  mx_bind (mx_ast 100 (some a110) (13 : Int32) (.int (110 : Int32))) fun _ =>
  mx_bind (mx_ast 100 (some a110) (14 : Int32) (.int (32 : Int32))) fun _ =>
  mx_bind (mx_ast 100 (some a110) (15 : Int32) (.int (108 : Int32))) fun _ =>
  mx_bind (mx_ast 100 (some a110) (16 : Int32) (.int (101 : Int32))) fun _ =>
  mx_bind (mx_ast 100 (some a110) (17 : Int32) (.int (97 : Int32))) fun _ =>
  mx_bind (mx_ast 100 (some a110) (18 : Int32) (.int (118 : Int32))) fun _ =>
  mx_bind (mx_ast 100 (some a110) (19 : Int32) (.int (101 : Int32))) fun _ =>
  mx_bind (mx_ast 100 (some a110) (20 : Int32) (.int (32 : Int32))) fun _ =>
  mx_bind (mx_ast 100 (some a110) (21 : Int32) (.int (115 : Int32))) fun _ =>
  mx_bind (mx_ast 100 (some a110) (22 : Int32) (.int (101 : Int32))) fun _ =>
  mx_bind (mx_ast 100 (some a110) (23 : Int32) (.int (114 : Int32))) fun _ =>
  mx_bind (mx_ast 100 (some a110) (24 : Int32) (.int (118 : Int32))) fun _ =>
  mx_bind (mx_ast 100 (some a110) (25 : Int32) (.int (101 : Int32))) fun _ =>
  mx_bind (mx_ast 100 (some a110) (26 : Int32) (.int (112 : Int32))) fun _ =>
  mx_bind (mx_ast 100 (some a110) (27 : Int32) (.int (117 : Int32))) fun _ =>
  mx_bind (mx_ast 100 (some a110) (28 : Int32) (.int (114 : Int32))) fun _ =>
  mx_bind (mx_ast 100 (some a110) (29 : Int32) (.int (103 : Int32))) fun _ =>
  mx_bind (mx_ast 100 (some a110) (30 : Int32) (.int (101 : Int32))) fun _ =>
  mx_bind (mx_ast 100 (some a110) (31 : Int32) (.int (107 : Int32))) fun _ =>
  mx_bind (mx_ast 100 (some a110) (32 : Int32) (.int (101 : Int32))) fun _ =>
  mx_bind (mx_ast 100 (some a110) (33 : Int32) (.int (101 : Int32))) fun _ =>
  mx_bind (mx_ast 100 (some a110) (34 : Int32) (.int (112 : Int32))) fun _ =>
  mx_bind (mx_ast 100 (some a110) (35 : Int32) (.int (101 : Int32))) fun _ =>
  mx_bind (mx_ast 100 (some a110) (36 : Int32) (.int (114 : Int32))) fun _ =>
  mx_bind (mx_ast 100 (some a110) (37 : Int32) (.int (32 : Int32))) fun _ =>
  mx_bind (mx_ast 100 (some a110) (38 : Int32) (.int (100 : Int32))) fun _ =>
  mx_bind (mx_ast 100 (some a110) (39 : Int32) (.int (105 : Int32))) fun _ =>
  mx_bind (mx_ast 100 (some a110) (40 : Int32) (.int (115 : Int32))) fun _ =>
  mx_bind (mx_ast 100 (some a110) (41 : Int32) (.int (109 : Int32))) fun _ =>
  mx_bind (mx_ast 100 (some a110) (42 : Int32) (.int (105 : Int32))) fun _ =>
  mx_bind (mx_ast 100 (some a110) (43 : Int32) (.int (115 : Int32))) fun _ =>
  mx_bind (mx_ast 100 (some a110) (44 : Int32) (.int (115 : Int32))) fun _ =>
  mx_bind (mx_ast 100 (some a110) (45 : Int32) (.int (32 : Int32))) fun _ =>
  mx_bind (mx_ast 100 (some a110) (46 : Int32) (.int (119 : Int32))) fun _ =>
  mx_bind (mx_ast 100 (some a110) (47 : Int32) (.int (97 : Int32))) fun _ =>
  mx_bind (mx_ast 100 (some a110) (48 : Int32) (.int (105 : Int32))) fun _ =>
  mx_bind (mx_ast 100 (some a110) (49 : Int32) (.int (116 : Int32))) fun _ =>
  mx_bind (mx_ast 100 (some a110) (50 : Int32) (.int (32 : Int32))) fun _ =>
  mx_bind (mx_put [(1, 14)] v0 (va_rf (some a110))) fun _ =>
  mx_bind (mx_newa 100 (.int 0) (10 : Int32)) fun a111 =>
  mx_bind (mx_ast 100 (some a111) (0 : Int32) (.int (0 : Int32))) fun _ =>
  mx_bind (mx_ast 100 (some a111) (1 : Int32) (.int (5 : Int32))) fun _ =>
  mx_bind (mx_ast 100 (some a111) (2 : Int32) (.int (10 : Int32))) fun _ =>
  mx_bind (mx_ast 100 (some a111) (3 : Int32) (.int (15 : Int32))) fun _ =>
  mx_bind (mx_ast 100 (some a111) (4 : Int32) (.int (21 : Int32))) fun _ =>
  mx_bind (mx_ast 100 (some a111) (5 : Int32) (.int (26 : Int32))) fun _ =>
  mx_bind (mx_ast 100 (some a111) (6 : Int32) (.int (31 : Int32))) fun _ =>
  mx_bind (mx_ast 100 (some a111) (7 : Int32) (.int (38 : Int32))) fun _ =>
  mx_bind (mx_ast 100 (some a111) (8 : Int32) (.int (46 : Int32))) fun _ =>
  mx_bind (mx_ast 100 (some a111) (9 : Int32) (.int (51 : Int32))) fun _ =>
  mx_bind (mx_put [(1, 15)] v0 (va_rf (some a111))) fun _ =>
  mx_bind (mx_newa 100 (.int 0) (18 : Int32)) fun a112 =>
  mx_bind (mx_ast 100 (some a112) (0 : Int32) (.int (97 : Int32))) fun _ =>
  mx_bind (mx_ast 100 (some a112) (1 : Int32) (.int (115 : Int32))) fun _ =>
  mx_bind (mx_ast 100 (some a112) (2 : Int32) (.int (101 : Int32))) fun _ =>
  mx_bind (mx_ast 100 (some a112) (3 : Int32) (.int (97 : Int32))) fun _ =>
  mx_bind (mx_ast 100 (some a112) (4 : Int32) (.int (101 : Int32))) fun _ =>
  mx_bind (mx_ast 100 (some a112) (5 : Int32) (.int (97 : Int32))) fun _ =>
  mx_bind (mx_ast 100 (some a112) (6 : Int32) (.int (101 : Int32))) fun _ =>
  mx_bind (mx_ast 100 (some a112) (7 : Int32) (.int (101 : Int32))) fun _ =>
  mx_bind (mx_ast 100 (some a112) (8 : Int32) (.int (101 : Int32))) fun _ =>
  mx_bind (mx_ast 100 (some a112) (9 : Int32) (.int (117 : Int32))) fun _ =>
  mx_bind (mx_ast 100 (some a112) (10 : Int32) (.int (97 : Int32))) fun _ =>
  mx_bind (mx_ast 100 (some a112) (11 : Int32) (.int (97 : Int32))) fun _ =>
  mx_bind (mx_ast 100 (some a112) (12 : Int32) (.int (97 : Int32))) fun _ =>
  mx_bind (mx_ast 100 (some a112) (13 : Int32) (.int (115 : Int32))) fun _ =>
  mx_bind (mx_ast 100 (some a112) (14 : Int32) (.int (105 : Int32))) fun _ =>
  mx_bind (mx_ast 100 (some a112) (15 : Int32) (.int (105 : Int32))) fun _ =>
  mx_bind (mx_ast 100 (some a112) (16 : Int32) (.int (97 : Int32))) fun _ =>
  mx_bind (mx_ast 100 (some a112) (17 : Int32) (.int (97 : Int32))) fun _ =>
  mx_bind (mx_put [(1, 16)] v0 (va_rf (some a112))) fun _ =>
  mx_pure ()
def fn_X4_init : Nat → Option Nat → mx_M Unit
  | 0, _ => mx_fail
  | d + 1, v0 => fn_X4_init_B0 d v0
def fn_X4_of_B0 (d : Nat) (v0 : Int32) (v1 : Int32) : mx_M Int32 :=
  mx_pure (((10 : Int32) + ((5 : Int32) * v0)) + v1)
def fn_X4_of : Nat → Int32 → Int32 → mx_M Int32
  | 0, _, _ => mx_fail
  | d + 1, v0, v1 => fn_X4_of_B0 d v0 v1
def fn_X4_pile_B0 (d : Nat) (v0 : Int32) : mx_M Int32 :=
  mx_pure ((72 : Int32) + ((2 : Int32) * v0))
def fn_X4_pile : Nat → Int32 → mx_M Int32
  | 0, _ => mx_fail
  | d + 1, v0 => fn_X4_pile_B0 d v0
def fn_X4_owner_L2_b (d : Nat) (b2 : Option Nat → Int32 → Int32 → mx_M Int32) (l0 : Option Nat) (l1 : Int32) (l2 : Int32) : mx_M Int32 :=
  mx_bind (mx_getR [(1, 6)] l0) fun v101 =>
  mx_bind (mx_aldI 100 v101 (3 : Int32)) fun v102 =>
  mx_if (v102 ≤ l2) (
    mx_pure (-1 : Int32)) (
    mx_bind (mx_getR [(1, 6)] l0) fun v103 =>
    mx_bind (fn_X4_of d l2 (4 : Int32)) fun r104 =>
    mx_bind (mx_aldI 100 v103 r104) fun v105 =>
    mx_bind (mx_getR [(1, 6)] l0) fun v106 =>
    mx_bind (fn_X4_pile d l1) fun r107 =>
    mx_bind (mx_aldI 100 v106 r107) fun v108 =>
    mx_if (v105 = v108) (
      mx_pure l2) (
      b2 l0 l1 (l2 + (1 : Int32))))
def fn_X4_owner_L2 (d : Nat) : Nat → Option Nat → Int32 → Int32 → mx_M Int32
  | 0, _, _, _ => mx_fail
  | k + 1, l0, l1, l2 => fn_X4_owner_L2_b d (fn_X4_owner_L2 d k) l0 l1 l2
def fn_X4_owner_B0 (d : Nat) (v0 : Option Nat) (v1 : Int32) : mx_M Int32 :=
  fn_X4_owner_L2 d mx_K v0 v1 (0 : Int32)
def fn_X4_owner : Nat → Option Nat → Int32 → mx_M Int32
  | 0, _, _ => mx_fail
  | d + 1, v0, v1 => fn_X4_owner_B0 d v0 v1
def fn_X4_takesOut_J36 (d : Nat) (b5 : Option Nat → Int32 → mx_M Unit) (l0 : Option Nat) (l2 : Int32) (p0 : Option Nat) (p1 : Int32) (p2 : Int32) : mx_M Unit :=
  mx_bind (mx_ast 100 p0 p1 (.int p2)) fun _ =>
  b5 l0 (l2 + (1 : Int32))
def fn_X4_takesOut_L5_b (d : Nat) (b5 : Option Nat → Int32 → mx_M Unit) (l0 : Option Nat) (l2 : Int32) : mx_M Unit :=
  mx_if ((112 : Int32) ≤ l2) (
    mx_bind (mx_getR [(1, 6)] l0) fun v101 =>
    mx_bind (mx_aldI 100 v101 (5 : Int32)) fun v102 =>
    mx_bind (mx_ast 100 v101 (5 : Int32) (.int (v102 - (1 : Int32)))) fun _ =>
    mx_pure ()) (
    mx_bind (mx_getR [(1, 6)] l0) fun v103 =>
    mx_if ((112 : Int32) ≤ (l2 + (2 : Int32))) (
      fn_X4_takesOut_J36 d b5 l0 l2 v103 l2 (0 : Int32)) (
      mx_bind (mx_getR [(1, 6)] l0) fun v104 =>
      mx_bind (mx_aldI 100 v104 (l2 + (2 : Int32))) fun v105 =>
      fn_X4_takesOut_J36 d b5 l0 l2 v103 l2 v105))
def fn_X4_takesOut_L5 (d : Nat) : Nat → Option Nat → Int32 → mx_M Unit
  | 0, _, _ => mx_fail
  | k + 1, l0, l2 => fn_X4_takesOut_L5_b d (fn_X4_takesOut_L5 d k) l0 l2
def fn_X4_takesOut_B0 (d : Nat) (v0 : Option Nat) (v1 : Int32) : mx_M Unit :=
  mx_bind (fn_X4_pile d v1) fun r101 =>
  fn_X4_takesOut_L5 d mx_K v0 r101
def fn_X4_takesOut : Nat → Option Nat → Int32 → mx_M Unit
  | 0, _, _ => mx_fail
  | d + 1, v0, v1 => fn_X4_takesOut_B0 d v0 v1
def fn_X4_clears_J34 (d : Nat) (b11 : Option Nat → Int32 → Int32 → mx_M Int32) (l0 : Option Nat) (l1 : Int32) (l2 : Int32) : mx_M Int32 :=
  b11 l0 l1 (l2 + (-1 : Int32))
def fn_X4_clears_L11_b (d : Nat) (b11 : Option Nat → Int32 → Int32 → mx_M Int32) (l0 : Option Nat) (l1 : Int32) (l2 : Int32) : mx_M Int32 :=
  mx_if (l2 < (0 : Int32)) (
    mx_bind (mx_getR [(1, 6)] l0) fun v101 =>
    mx_bind (mx_aldI 100 v101 (9 : Int32)) fun v102 =>
    mx_bind (mx_ast 100 v101 (9 : Int32) (.int (v102 + l1))) fun _ =>
    mx_pure l1) (
    mx_bind (mx_is 1 l0 (fn_X4_owner d l0 l2)) fun r103 =>
    mx_if (r103 < (0 : Int32)) (
      mx_bind (mx_is 1 l0 (fn_X4_takesOut d l0 l2)) fun _ =>
      fn_X4_clears_J34 d b11 l0 (l1 + (1 : Int32)) l2) (
      fn_X4_clears_J34 d b11 l0 l1 l2))
def fn_X4_clears_L11 (d : Nat) : Nat → Option Nat → Int32 → Int32 → mx_M Int32
  | 0, _, _, _ => mx_fail
  | k + 1, l0, l1, l2 => fn_X4_clears_L11_b d (fn_X4_clears_L11 d k) l0 l1 l2
def fn_X4_clears_B0 (d : Nat) (v0 : Option Nat) : mx_M Int32 :=
  mx_bind (mx_getR [(1, 6)] v0) fun v101 =>
  mx_bind (mx_aldI 100 v101 (5 : Int32)) fun v102 =>
  mx_let (v102 - (1 : Int32)) fun v103 =>
  fn_X4_clears_L11 d mx_K v0 (0 : Int32) v103
def fn_X4_clears : Nat → Option Nat → mx_M Int32
  | 0, _ => mx_fail
  | d + 1, v0 => fn_X4_clears_B0 d v0
def fn_X4_draws_J121 (d : Nat) (l0 : Option Nat) (l2 : Int32) (l3 : Int32) : mx_M Unit :=
  mx_bind (mx_getR [(1, 6)] l0) fun v101 =>
  mx_bind (fn_X4_pile d l2) fun r102 =>
  mx_bind (mx_getR [(1, 6)] l0) fun v103 =>
  mx_bind (mx_aldI 100 v103 (2 : Int32)) fun v104 =>
  mx_bind (mx_ast 100 v101 r102 (.int v104)) fun _ =>
  mx_bind (mx_getR [(1, 6)] l0) fun v105 =>
  mx_bind (fn_X4_pile d l2) fun r106 =>
  mx_bind (mx_ast 100 v105 (r106 + (1 : Int32)) (.int l3)) fun _ =>
  mx_bind (mx_getR [(1, 6)] l0) fun v107 =>
  mx_bind (mx_aldI 100 v107 (5 : Int32)) fun v108 =>
  mx_bind (mx_ast 100 v107 (5 : Int32) (.int (v108 + (1 : Int32)))) fun _ =>
  mx_bind (mx_getR [(1, 6)] l0) fun v109 =>
  mx_bind (mx_aldI 100 v109 (2 : Int32)) fun v110 =>
  mx_bind (mx_ast 100 v109 (2 : Int32) (.int (v110 + (1 : Int32)))) fun _ =>
  mx_pure ()
def fn_X4_draws_L50_b (d : Nat) (b50 : Option Nat → Int32 → Int32 → mx_M Unit) (l0 : Option Nat) (l2 : Int32) (l3 : Int32) : mx_M Unit :=
  mx_if (l2 ≤ (0 : Int32)) (
    fn_X4_draws_J121 d l0 l2 l3) (
    mx_bind (mx_getR [(1, 6)] l0) fun v101 =>
    mx_bind (fn_X4_pile d (l2 - (1 : Int32))) fun r102 =>
    mx_bind (mx_aldI 100 v101 (r102 + (1 : Int32))) fun v103 =>
    mx_if (l3 ≤ v103) (
      fn_X4_draws_J121 d l0 l2 l3) (
      mx_bind (mx_getR [(1, 6)] l0) fun v104 =>
      mx_bind (fn_X4_pile d l2) fun r105 =>
      mx_bind (mx_getR [(1, 6)] l0) fun v106 =>
      mx_bind (fn_X4_pile d (l2 - (1 : Int32))) fun r107 =>
      mx_bind (mx_aldI 100 v106 r107) fun v108 =>
      mx_bind (mx_ast 100 v104 r105 (.int v108)) fun _ =>
      mx_bind (mx_getR [(1, 6)] l0) fun v109 =>
      mx_bind (fn_X4_pile d l2) fun r110 =>
      mx_bind (mx_getR [(1, 6)] l0) fun v111 =>
      mx_bind (fn_X4_pile d (l2 - (1 : Int32))) fun r112 =>
      mx_bind (mx_aldI 100 v111 (r112 + (1 : Int32))) fun v113 =>
      mx_bind (mx_ast 100 v109 (r110 + (1 : Int32)) (.int v113)) fun _ =>
      b50 l0 (l2 + (-1 : Int32)) l3))
def fn_X4_draws_L50 (d : Nat) : Nat → Option Nat → Int32 → Int32 → mx_M Unit
  | 0, _, _, _ => mx_fail
  | k + 1, l0, l2, l3 => fn_X4_draws_L50_b d (fn_X4_draws_L50 d k) l0 l2 l3
def fn_X4_draws_J32 (d : Nat) (l0 : Option Nat) (l1 : Int32) : mx_M Unit :=
  mx_bind (mx_getR [(1, 6)] l0) fun v101 =>
  mx_bind (mx_aldI 100 v101 (5 : Int32)) fun v102 =>
  mx_bind (mx_getR [(1, 6)] l0) fun v103 =>
  mx_bind (fn_X4_of d l1 (1 : Int32)) fun r104 =>
  mx_bind (mx_aldI 100 v103 r104) fun v105 =>
  fn_X4_draws_L50 d mx_K l0 v102 v105
def fn_X4_draws_B0 (d : Nat) (v0 : Option Nat) (v1 : Int32) : mx_M Unit :=
  mx_bind (mx_getR [(1, 6)] v0) fun v101 =>
  mx_bind (fn_X4_of d v1 (4 : Int32)) fun r102 =>
  mx_bind (mx_getR [(1, 6)] v0) fun v103 =>
  mx_bind (mx_aldI 100 v103 (2 : Int32)) fun v104 =>
  mx_bind (mx_ast 100 v101 r102 (.int v104)) fun _ =>
  mx_bind (mx_getR [(1, 6)] v0) fun v105 =>
  mx_bind (mx_aldI 100 v105 (5 : Int32)) fun v106 =>
  mx_if (v106 = (20 : Int32)) (
    mx_bind (mx_is 1 v0 (fn_X4_clears d v0)) fun r107 =>
    fn_X4_draws_J32 d v0 v1) (
    fn_X4_draws_J32 d v0 v1)
def fn_X4_draws : Nat → Option Nat → Int32 → mx_M Unit
  | 0, _, _ => mx_fail
  | d + 1, v0, v1 => fn_X4_draws_B0 d v0 v1
def fn_X4_fail_B0 (d : Nat) (v0 : Option Nat) (v1 : Int32) : mx_M Int32 :=
  mx_bind (mx_put [(1, 0)] v0 (.int v1)) fun _ =>
  mx_pure (0 : Int32)
def fn_X4_fail : Nat → Option Nat → Int32 → mx_M Int32
  | 0, _, _ => mx_fail
  | d + 1, v0, v1 => fn_X4_fail_B0 d v0 v1
def fn_X4_isIn_B0 (d : Nat) (v0 : Int32) (v1 : Int32) (v2 : Int32) : mx_M Int32 :=
  mx_if (v0 < v1) (
    mx_pure (0 : Int32)) (
    mx_if (v2 < v0) (
      mx_pure (0 : Int32)) (
      mx_pure (1 : Int32)))
def fn_X4_isIn : Nat → Int32 → Int32 → Int32 → mx_M Int32
  | 0, _, _, _ => mx_fail
  | d + 1, v0, v1, v2 => fn_X4_isIn_B0 d v0 v1 v2
def fn_X4_adds_J31 (d : Nat) (l0 : Option Nat) : mx_M Int32 :=
  mx_bind (mx_is 1 l0 (fn_X4_fail d l0 (1 : Int32))) fun r101 =>
  mx_pure r101
def fn_X4_adds_B0 (d : Nat) (v0 : Option Nat) (v1 : Int32) (v2 : Int32) (v3 : Int32) : mx_M Int32 :=
  mx_bind (fn_X4_isIn d v1 (0 : Int32) (99 : Int32)) fun r101 =>
  mx_if (r101 = (0 : Int32)) (
    fn_X4_adds_J31 d v0) (
    mx_bind (fn_X4_isIn d v2 (1 : Int32) (9 : Int32)) fun r102 =>
    mx_if (r102 = (0 : Int32)) (
      fn_X4_adds_J31 d v0) (
      mx_bind (fn_X4_isIn d v3 (0 : Int32) (999 : Int32)) fun r103 =>
      mx_if (r103 = (0 : Int32)) (
        fn_X4_adds_J31 d v0) (
        mx_bind (mx_getR [(1, 6)] v0) fun v104 =>
        mx_bind (mx_aldI 100 v104 (3 : Int32)) fun v105 =>
        mx_if (v105 = (10 : Int32)) (
          mx_bind (mx_is 1 v0 (fn_X4_fail d v0 (2 : Int32))) fun r106 =>
          mx_pure r106) (
          mx_bind (mx_getR [(1, 6)] v0) fun v107 =>
          mx_bind (fn_X4_of d v105 (0 : Int32)) fun r108 =>
          mx_bind (mx_getR [(1, 6)] v0) fun v109 =>
          mx_bind (mx_aldI 100 v109 (1 : Int32)) fun v110 =>
          mx_bind (mx_ast 100 v107 r108 (.int v110)) fun _ =>
          mx_bind (mx_getR [(1, 6)] v0) fun v111 =>
          mx_bind (fn_X4_of d v105 (1 : Int32)) fun r112 =>
          mx_bind (mx_ast 100 v111 r112 (.int v1)) fun _ =>
          mx_bind (mx_getR [(1, 6)] v0) fun v113 =>
          mx_bind (fn_X4_of d v105 (2 : Int32)) fun r114 =>
          mx_bind (mx_ast 100 v113 r114 (.int v2)) fun _ =>
          mx_bind (mx_getR [(1, 6)] v0) fun v115 =>
          mx_bind (fn_X4_of d v105 (3 : Int32)) fun r116 =>
          mx_bind (mx_ast 100 v115 r116 (.int v3)) fun _ =>
          mx_bind (mx_getR [(1, 6)] v0) fun v117 =>
          mx_bind (mx_aldI 100 v117 (3 : Int32)) fun v118 =>
          mx_bind (mx_ast 100 v117 (3 : Int32) (.int (v118 + (1 : Int32)))) fun _ =>
          mx_bind (mx_getR [(1, 6)] v0) fun v119 =>
          mx_bind (mx_aldI 100 v119 (1 : Int32)) fun v120 =>
          mx_bind (mx_ast 100 v119 (1 : Int32) (.int (v120 + (1 : Int32)))) fun _ =>
          mx_bind (mx_is 1 v0 (fn_X4_draws d v0 v105)) fun _ =>
          mx_bind (mx_getR [(1, 6)] v0) fun v121 =>
          mx_bind (fn_X4_of d v105 (0 : Int32)) fun r122 =>
          mx_bind (mx_aldI 100 v121 r122) fun v123 =>
          mx_pure v123))))
def fn_X4_adds : Nat → Option Nat → Int32 → Int32 → Int32 → mx_M Int32
  | 0, _, _, _, _ => mx_fail
  | d + 1, v0, v1, v2, v3 => fn_X4_adds_B0 d v0 v1 v2 v3
def fn_X4_lays_L2_b (d : Nat) (b2 : Option Nat → Option Nat → Int32 → mx_M Unit) (l0 : Option Nat) (l1 : Option Nat) (l2 : Int32) : mx_M Unit :=
  mx_if ((112 : Int32) ≤ l2) (
    mx_pure ()) (
    mx_bind (mx_aldI 100 l1 l2) fun v101 =>
    mx_bind (mx_ast 100 l0 l2 (.int v101)) fun _ =>
    b2 l0 l1 (l2 + (1 : Int32)))
def fn_X4_lays_L2 (d : Nat) : Nat → Option Nat → Option Nat → Int32 → mx_M Unit
  | 0, _, _, _ => mx_fail
  | k + 1, l0, l1, l2 => fn_X4_lays_L2_b d (fn_X4_lays_L2 d k) l0 l1 l2
def fn_X4_lays_B0 (d : Nat) (v0 : Option Nat) (v1 : Option Nat) : mx_M Unit :=
  fn_X4_lays_L2 d mx_K v0 v1 (0 : Int32)
def fn_X4_lays : Nat → Option Nat → Option Nat → mx_M Unit
  | 0, _, _ => mx_fail
  | d + 1, v0, v1 => fn_X4_lays_B0 d v0 v1
def fn_X4_begins_B0 (d : Nat) (v0 : Option Nat) : mx_M Unit :=
  mx_bind (mx_put [(1, 0)] v0 (.int (0 : Int32))) fun _ =>
  mx_bind (mx_getR [(1, 7)] v0) fun v101 =>
  mx_bind (mx_getR [(1, 6)] v0) fun v102 =>
  mx_bind (fn_X4_lays d v101 v102) fun _ =>
  mx_pure ()
def fn_X4_begins : Nat → Option Nat → mx_M Unit
  | 0, _ => mx_fail
  | d + 1, v0 => fn_X4_begins_B0 d v0
def fn_X4_ends_L71_b (d : Nat) (b71 : Option Nat → Int32 → Int32 → mx_M Int32) (l0 : Option Nat) (l1 : Int32) (l2 : Int32) : mx_M Int32 :=
  mx_if ((112 : Int32) ≤ l2) (
    mx_bind (mx_getI [(1, 1)] l0) fun v101 =>
    mx_bind (mx_put [(1, 1)] l0 (.int (v101 + (1 : Int32)))) fun _ =>
    mx_pure l1) (
    mx_bind (mx_getR [(1, 9)] l0) fun v102 =>
    mx_bind (mx_getI [(1, 1)] l0) fun v103 =>
    mx_bind (mx_getR [(1, 7)] l0) fun v104 =>
    mx_bind (mx_aldI 100 v104 l2) fun v105 =>
    mx_bind (mx_ast 100 v102 ((v103 * (112 : Int32)) + l2) (.int v105)) fun _ =>
    b71 l0 l1 (l2 + (1 : Int32)))
def fn_X4_ends_L71 (d : Nat) : Nat → Option Nat → Int32 → Int32 → mx_M Int32
  | 0, _, _, _ => mx_fail
  | k + 1, l0, l1, l2 => fn_X4_ends_L71_b d (fn_X4_ends_L71 d k) l0 l1 l2
def fn_X4_ends_J69 (d : Nat) (l0 : Option Nat) (l1 : Int32) : mx_M Int32 :=
  fn_X4_ends_L71 d mx_K l0 l1 (0 : Int32)
def fn_X4_ends_L31_b (d : Nat) (b31 : Option Nat → Int32 → Int32 → mx_M Int32) (l0 : Option Nat) (l1 : Int32) (l2 : Int32) : mx_M Int32 :=
  mx_if ((784 : Int32) ≤ l2) (
    mx_bind (mx_getI [(1, 1)] l0) fun v101 =>
    mx_bind (mx_put [(1, 1)] l0 (.int (v101 - (1 : Int32)))) fun _ =>
    fn_X4_ends_J69 d l0 l1) (
    mx_bind (mx_getR [(1, 9)] l0) fun v102 =>
    mx_bind (mx_getR [(1, 9)] l0) fun v103 =>
    mx_bind (mx_aldI 100 v103 (l2 + (112 : Int32))) fun v104 =>
    mx_bind (mx_ast 100 v102 l2 (.int v104)) fun _ =>
    b31 l0 l1 (l2 + (1 : Int32)))
def fn_X4_ends_L31 (d : Nat) : Nat → Option Nat → Int32 → Int32 → mx_M Int32
  | 0, _, _, _ => mx_fail
  | k + 1, l0, l1, l2 => fn_X4_ends_L31_b d (fn_X4_ends_L31 d k) l0 l1 l2
def fn_X4_ends_B0 (d : Nat) (v0 : Option Nat) (v1 : Int32) : mx_M Int32 :=
  mx_bind (mx_getI [(1, 0)] v0) fun v101 =>
  mx_if (v101 = (0 : Int32)) (
    mx_bind (mx_getI [(1, 1)] v0) fun v102 =>
    mx_if (v102 = (8 : Int32)) (
      fn_X4_ends_L31 d mx_K v0 v1 (0 : Int32)) (
      fn_X4_ends_J69 d v0 v1)) (
    mx_bind (mx_getR [(1, 6)] v0) fun v103 =>
    mx_bind (mx_getR [(1, 7)] v0) fun v104 =>
    mx_bind (fn_X4_lays d v103 v104) fun _ =>
    mx_pure (0 : Int32))
def fn_X4_ends : Nat → Option Nat → Int32 → mx_M Int32
  | 0, _, _ => mx_fail
  | d + 1, v0, v1 => fn_X4_ends_B0 d v0 v1
def fn_X4_addLion_B0 (d : Nat) (v0 : Option Nat) (v1 : Int32) (v2 : Int32) (v3 : Int32) : mx_M Int32 :=
  mx_bind (mx_is 1 v0 (fn_X4_begins d v0)) fun _ =>
  mx_bind (mx_is 1 v0 (fn_X4_adds d v0 v1 v2 v3)) fun r101 =>
  mx_bind (mx_is 1 v0 (fn_X4_ends d v0 r101)) fun r102 =>
  mx_pure r102
def fn_X4_addLion : Nat → Option Nat → Int32 → Int32 → Int32 → mx_M Int32
  | 0, _, _, _, _ => mx_fail
  | d + 1, v0, v1, v2, v3 => fn_X4_addLion_B0 d v0 v1 v2 v3
def fn_X4_isInTime_J74 (d : Nat) (b9 : Option Nat → Int32 → Int32 → Int32 → mx_M Int32) (l0 : Option Nat) (l1 : Int32) (l2 : Int32) (l3 : Int32) : mx_M Int32 :=
  b9 l0 l1 l2 (l3 + (1 : Int32))
def fn_X4_isInTime_L9_b (d : Nat) (b9 : Option Nat → Int32 → Int32 → Int32 → mx_M Int32) (l0 : Option Nat) (l1 : Int32) (l2 : Int32) (l3 : Int32) : mx_M Int32 :=
  mx_bind (mx_getR [(1, 6)] l0) fun v101 =>
  mx_bind (mx_aldI 100 v101 (3 : Int32)) fun v102 =>
  mx_if (v102 ≤ l3) (
    mx_pure (1 : Int32)) (
    mx_bind (mx_getR [(1, 10)] l0) fun v103 =>
    mx_bind (mx_aldI 100 v103 l3) fun v104 =>
    mx_if (((l1 >>> (v104 &&& 31)) &&& (1 : Int32)) = (0 : Int32)) (
      fn_X4_isInTime_J74 d b9 l0 l1 l2 l3) (
      mx_bind (mx_getR [(1, 6)] l0) fun v105 =>
      mx_bind (mx_getR [(1, 10)] l0) fun v106 =>
      mx_bind (mx_aldI 100 v106 l3) fun v107 =>
      mx_bind (fn_X4_of d v107 (2 : Int32)) fun r108 =>
      mx_bind (mx_aldI 100 v105 r108) fun v109 =>
      mx_let (l2 + v109) fun v110 =>
      mx_bind (mx_getR [(1, 6)] l0) fun v111 =>
      mx_bind (mx_getR [(1, 10)] l0) fun v112 =>
      mx_bind (mx_aldI 100 v112 l3) fun v113 =>
      mx_bind (fn_X4_of d v113 (3 : Int32)) fun r114 =>
      mx_bind (mx_aldI 100 v111 r114) fun v115 =>
      mx_if (v110 ≤ v115) (
        fn_X4_isInTime_J74 d b9 l0 l1 v110 l3) (
        mx_pure (0 : Int32))))
def fn_X4_isInTime_L9 (d : Nat) : Nat → Option Nat → Int32 → Int32 → Int32 → mx_M Int32
  | 0, _, _, _, _ => mx_fail
  | k + 1, l0, l1, l2, l3 => fn_X4_isInTime_L9_b d (fn_X4_isInTime_L9 d k) l0 l1 l2 l3
def fn_X4_isInTime_B0 (d : Nat) (v0 : Option Nat) (v1 : Int32) : mx_M Int32 :=
  mx_bind (mx_getR [(1, 6)] v0) fun v101 =>
  mx_bind (mx_aldI 100 v101 (0 : Int32)) fun v102 =>
  fn_X4_isInTime_L9 d mx_K v0 v1 v102 (0 : Int32)
def fn_X4_isInTime : Nat → Option Nat → Int32 → mx_M Int32
  | 0, _, _ => mx_fail
  | d + 1, v0, v1 => fn_X4_isInTime_B0 d v0 v1
def fn_X4_sorts_J68 (d : Nat) (b2 : Option Nat → Int32 → mx_M Unit) (l0 : Option Nat) (l1 : Int32) (l2 : Int32) : mx_M Unit :=
  mx_bind (mx_getR [(1, 10)] l0) fun v101 =>
  mx_bind (mx_ast 100 v101 l2 (.int l1)) fun _ =>
  b2 l0 (l1 + (1 : Int32))
def fn_X4_sorts_L14_b (d : Nat) (b2 : Option Nat → Int32 → mx_M Unit) (b14 : Option Nat → Int32 → Int32 → mx_M Unit) (l0 : Option Nat) (l1 : Int32) (l2 : Int32) : mx_M Unit :=
  mx_if (l2 ≤ (0 : Int32)) (
    fn_X4_sorts_J68 d b2 l0 l1 l2) (
    mx_bind (mx_getR [(1, 6)] l0) fun v101 =>
    mx_bind (mx_getR [(1, 10)] l0) fun v102 =>
    mx_bind (mx_aldI 100 v102 (l2 - (1 : Int32))) fun v103 =>
    mx_bind (fn_X4_of d v103 (3 : Int32)) fun r104 =>
    mx_bind (mx_aldI 100 v101 r104) fun v105 =>
    mx_bind (mx_getR [(1, 6)] l0) fun v106 =>
    mx_bind (fn_X4_of d l1 (3 : Int32)) fun r107 =>
    mx_bind (mx_aldI 100 v106 r107) fun v108 =>
    mx_if (v105 ≤ v108) (
      fn_X4_sorts_J68 d b2 l0 l1 l2) (
      mx_bind (mx_getR [(1, 10)] l0) fun v109 =>
      mx_bind (mx_getR [(1, 10)] l0) fun v110 =>
      mx_bind (mx_aldI 100 v110 (l2 - (1 : Int32))) fun v111 =>
      mx_bind (mx_ast 100 v109 l2 (.int v111)) fun _ =>
      b14 l0 l1 (l2 + (-1 : Int32))))
def fn_X4_sorts_L14 (d : Nat) (b2 : Option Nat → Int32 → mx_M Unit) : Nat → Option Nat → Int32 → Int32 → mx_M Unit
  | 0, _, _, _ => mx_fail
  | k + 1, l0, l1, l2 => fn_X4_sorts_L14_b d b2 (fn_X4_sorts_L14 d b2 k) l0 l1 l2
def fn_X4_sorts_L2_b (d : Nat) (b2 : Option Nat → Int32 → mx_M Unit) (l0 : Option Nat) (l1 : Int32) : mx_M Unit :=
  mx_bind (mx_getR [(1, 6)] l0) fun v101 =>
  mx_bind (mx_aldI 100 v101 (3 : Int32)) fun v102 =>
  mx_if (v102 ≤ l1) (
    mx_pure ()) (
    fn_X4_sorts_L14 d b2 mx_K l0 l1 l1)
def fn_X4_sorts_L2 (d : Nat) : Nat → Option Nat → Int32 → mx_M Unit
  | 0, _, _ => mx_fail
  | k + 1, l0, l1 => fn_X4_sorts_L2_b d (fn_X4_sorts_L2 d k) l0 l1
def fn_X4_sorts_B0 (d : Nat) (v0 : Option Nat) : mx_M Unit :=
  fn_X4_sorts_L2 d mx_K v0 (0 : Int32)
def fn_X4_sorts : Nat → Option Nat → mx_M Unit
  | 0, _ => mx_fail
  | d + 1, v0 => fn_X4_sorts_B0 d v0
def fn_X4_areAllInTime_B0 (d : Nat) (v0 : Option Nat) : mx_M Int32 :=
  mx_bind (mx_put [(1, 0)] v0 (.int (0 : Int32))) fun _ =>
  mx_bind (mx_is 1 v0 (fn_X4_sorts d v0)) fun _ =>
  mx_bind (mx_getR [(1, 6)] v0) fun v101 =>
  mx_bind (mx_aldI 100 v101 (3 : Int32)) fun v102 =>
  mx_bind (mx_is 1 v0 (fn_X4_isInTime d v0 (((1 : Int32) <<< (v102 &&& 31)) - (1 : Int32)))) fun r103 =>
  mx_retN .boolean r103
def fn_X4_areAllInTime : Nat → Option Nat → mx_M Int32
  | 0, _ => mx_fail
  | d + 1, v0 => fn_X4_areAllInTime_B0 d v0
def fn_X4_lion_L2_b (d : Nat) (b2 : Option Nat → Int32 → Int32 → mx_M Int32) (l0 : Option Nat) (l1 : Int32) (l2 : Int32) : mx_M Int32 :=
  mx_bind (mx_getR [(1, 6)] l0) fun v101 =>
  mx_bind (mx_aldI 100 v101 (3 : Int32)) fun v102 =>
  mx_if (v102 ≤ l2) (
    mx_pure (-1 : Int32)) (
    mx_bind (mx_getR [(1, 6)] l0) fun v103 =>
    mx_bind (fn_X4_of d l2 (0 : Int32)) fun r104 =>
    mx_bind (mx_aldI 100 v103 r104) fun v105 =>
    mx_if (v105 = l1) (
      mx_pure l2) (
      b2 l0 l1 (l2 + (1 : Int32))))
def fn_X4_lion_L2 (d : Nat) : Nat → Option Nat → Int32 → Int32 → mx_M Int32
  | 0, _, _, _ => mx_fail
  | k + 1, l0, l1, l2 => fn_X4_lion_L2_b d (fn_X4_lion_L2 d k) l0 l1 l2
def fn_X4_lion_B0 (d : Nat) (v0 : Option Nat) (v1 : Int32) : mx_M Int32 :=
  fn_X4_lion_L2 d mx_K v0 v1 (0 : Int32)
def fn_X4_lion : Nat → Option Nat → Int32 → mx_M Int32
  | 0, _, _ => mx_fail
  | d + 1, v0, v1 => fn_X4_lion_B0 d v0 v1
def fn_X4_about_J16 (d : Nat) (l0 : Option Nat) (l2 : Int32) (l3 : Int32) (p0 : Option Nat) (p1 : Int32) : mx_M Int32 :=
  mx_bind (mx_put [(1, 0)] p0 (.int p1)) fun _ =>
  mx_bind (mx_getI [(1, 0)] l0) fun v101 =>
  mx_if (v101 = (0 : Int32)) (
    mx_bind (mx_getR [(1, 6)] l0) fun v102 =>
    mx_bind (fn_X4_of d l3 l2) fun r103 =>
    mx_bind (mx_aldI 100 v102 r103) fun v104 =>
    mx_pure v104) (
    mx_pure (0 : Int32))
def fn_X4_about_B0 (d : Nat) (v0 : Option Nat) (v1 : Int32) (v2 : Int32) : mx_M Int32 :=
  mx_bind (mx_is 1 v0 (fn_X4_lion d v0 v1)) fun r101 =>
  mx_if ((0 : Int32) ≤ r101) (
    fn_X4_about_J16 d v0 v2 r101 v0 (0 : Int32)) (
    fn_X4_about_J16 d v0 v2 r101 v0 (1 : Int32))
def fn_X4_about : Nat → Option Nat → Int32 → Int32 → mx_M Int32
  | 0, _, _, _ => mx_fail
  | d + 1, v0, v1, v2 => fn_X4_about_B0 d v0 v1 v2
def fn_X4_deadlineOf_B0 (d : Nat) (v0 : Option Nat) (v1 : Int32) : mx_M Int32 :=
  mx_bind (mx_is 1 v0 (fn_X4_about d v0 v1 (3 : Int32))) fun r101 =>
  mx_pure r101
def fn_X4_deadlineOf : Nat → Option Nat → Int32 → mx_M Int32
  | 0, _, _ => mx_fail
  | d + 1, v0, v1 => fn_X4_deadlineOf_B0 d v0 v1
def fn_X4_dismisses_J60 (d : Nat) (b29 : Option Nat → Int32 → mx_M Int32) (l0 : Option Nat) (l2 : Int32) (p0 : Option Nat) (p1 : Int32) (p2 : Int32) : mx_M Int32 :=
  mx_bind (mx_ast 100 p0 p1 (.int p2)) fun _ =>
  b29 l0 (l2 + (1 : Int32))
def fn_X4_dismisses_L29_b (d : Nat) (b29 : Option Nat → Int32 → mx_M Int32) (l0 : Option Nat) (l2 : Int32) : mx_M Int32 :=
  mx_if ((72 : Int32) ≤ l2) (
    mx_bind (mx_getR [(1, 6)] l0) fun v101 =>
    mx_bind (mx_aldI 100 v101 (4 : Int32)) fun v102 =>
    mx_bind (mx_ast 100 v101 (4 : Int32) (.int (v102 - (1 : Int32)))) fun _ =>
    mx_bind (mx_getR [(1, 6)] l0) fun v103 =>
    mx_bind (mx_aldI 100 v103 (4 : Int32)) fun v104 =>
    mx_pure v104) (
    mx_bind (mx_getR [(1, 6)] l0) fun v105 =>
    mx_if ((72 : Int32) ≤ (l2 + (2 : Int32))) (
      fn_X4_dismisses_J60 d b29 l0 l2 v105 l2 (0 : Int32)) (
      mx_bind (mx_getR [(1, 6)] l0) fun v106 =>
      mx_bind (mx_aldI 100 v106 (l2 + (2 : Int32))) fun v107 =>
      fn_X4_dismisses_J60 d b29 l0 l2 v105 l2 v107))
def fn_X4_dismisses_L29 (d : Nat) : Nat → Option Nat → Int32 → mx_M Int32
  | 0, _, _ => mx_fail
  | k + 1, l0, l2 => fn_X4_dismisses_L29_b d (fn_X4_dismisses_L29 d k) l0 l2
def fn_X4_dismisses_B0 (d : Nat) (v0 : Option Nat) (v1 : Int32) : mx_M Int32 :=
  mx_bind (mx_getR [(1, 6)] v0) fun v101 =>
  mx_bind (mx_aldI 100 v101 (4 : Int32)) fun v102 =>
  mx_bind (fn_X4_isIn d v1 (0 : Int32) (v102 - (1 : Int32))) fun r103 =>
  mx_if (r103 = (0 : Int32)) (
    mx_bind (mx_is 1 v0 (fn_X4_fail d v0 (1 : Int32))) fun r104 =>
    mx_pure r104) (
    mx_let ((60 : Int32) + ((2 : Int32) * v1)) fun v105 =>
    fn_X4_dismisses_L29 d mx_K v0 v105)
def fn_X4_dismisses : Nat → Option Nat → Int32 → mx_M Int32
  | 0, _, _ => mx_fail
  | d + 1, v0, v1 => fn_X4_dismisses_B0 d v0 v1
def fn_X4_dismissKeeper_B0 (d : Nat) (v0 : Option Nat) (v1 : Int32) : mx_M Int32 :=
  mx_bind (mx_is 1 v0 (fn_X4_begins d v0)) fun _ =>
  mx_bind (mx_is 1 v0 (fn_X4_dismisses d v0 v1)) fun r101 =>
  mx_bind (mx_is 1 v0 (fn_X4_ends d v0 r101)) fun r102 =>
  mx_pure r102
def fn_X4_dismissKeeper : Nat → Option Nat → Int32 → mx_M Int32
  | 0, _, _ => mx_fail
  | d + 1, v0, v1 => fn_X4_dismissKeeper_B0 d v0 v1
def fn_X4_tells_B0 (d : Nat) (v0 : Option Nat) (v1 : Int32) : mx_M Int32 :=
  mx_bind (mx_put [(1, 0)] v0 (.int (0 : Int32))) fun _ =>
  mx_bind (mx_getR [(1, 6)] v0) fun v101 =>
  mx_bind (mx_aldI 100 v101 v1) fun v102 =>
  mx_pure v102
def fn_X4_tells : Nat → Option Nat → Int32 → mx_M Int32
  | 0, _, _ => mx_fail
  | d + 1, v0, v1 => fn_X4_tells_B0 d v0 v1
def fn_X4_drawnTotal_B0 (d : Nat) (v0 : Option Nat) : mx_M Int32 :=
  mx_bind (mx_is 1 v0 (fn_X4_tells d v0 (2 : Int32))) fun r101 =>
  mx_pure r101
def fn_X4_drawnTotal : Nat → Option Nat → mx_M Int32
  | 0, _ => mx_fail
  | d + 1, v0 => fn_X4_drawnTotal_B0 d v0
def fn_X4_shift_J22 (d : Nat) (l0 : Option Nat) (l1 : Int32) (l2 : Int32) (p0 : Option Nat) (p1 : Int32) : mx_M Int32 :=
  mx_bind (mx_put [(1, 0)] p0 (.int p1)) fun _ =>
  mx_bind (mx_getI [(1, 0)] l0) fun v101 =>
  mx_if (v101 = (0 : Int32)) (
    mx_bind (mx_getR [(1, 6)] l0) fun v102 =>
    mx_bind (mx_aldI 100 v102 (((60 : Int32) + ((2 : Int32) * l1)) + l2)) fun v103 =>
    mx_pure v103) (
    mx_pure (0 : Int32))
def fn_X4_shift_B0 (d : Nat) (v0 : Option Nat) (v1 : Int32) (v2 : Int32) : mx_M Int32 :=
  mx_bind (mx_getR [(1, 6)] v0) fun v101 =>
  mx_bind (mx_aldI 100 v101 (4 : Int32)) fun v102 =>
  mx_bind (fn_X4_isIn d v1 (0 : Int32) (v102 - (1 : Int32))) fun r103 =>
  mx_if (r103 = (0 : Int32)) (
    fn_X4_shift_J22 d v0 v1 v2 v0 (1 : Int32)) (
    fn_X4_shift_J22 d v0 v1 v2 v0 (0 : Int32))
def fn_X4_shift : Nat → Option Nat → Int32 → Int32 → mx_M Int32
  | 0, _, _, _ => mx_fail
  | d + 1, v0, v1, v2 => fn_X4_shift_B0 d v0 v1 v2
def fn_X4_endOf_B0 (d : Nat) (v0 : Option Nat) (v1 : Int32) : mx_M Int32 :=
  mx_bind (mx_is 1 v0 (fn_X4_shift d v0 v1 (1 : Int32))) fun r101 =>
  mx_pure r101
def fn_X4_endOf : Nat → Option Nat → Int32 → mx_M Int32
  | 0, _, _ => mx_fail
  | d + 1, v0, v1 => fn_X4_endOf_B0 d v0 v1
def fn_X4_errorPosition_J13 (d : Nat) (l0 : Option Nat) (p0 : Option Nat) (p1 : Int32) : mx_M Int32 :=
  mx_bind (mx_put [(1, 0)] p0 (.int p1)) fun _ =>
  mx_bind (mx_getI [(1, 0)] l0) fun v101 =>
  mx_if (v101 = (0 : Int32)) (
    mx_bind (mx_getI [(1, 2)] l0) fun v102 =>
    mx_pure v102) (
    mx_pure (0 : Int32))
def fn_X4_errorPosition_B0 (d : Nat) (v0 : Option Nat) : mx_M Int32 :=
  mx_bind (mx_getI [(1, 2)] v0) fun v101 =>
  mx_if ((0 : Int32) ≤ v101) (
    fn_X4_errorPosition_J13 d v0 v0 (0 : Int32)) (
    fn_X4_errorPosition_J13 d v0 v0 (1 : Int32))
def fn_X4_errorPosition : Nat → Option Nat → mx_M Int32
  | 0, _ => mx_fail
  | d + 1, v0 => fn_X4_errorPosition_B0 d v0
def fn_X4_failedCommand_J13 (d : Nat) (l0 : Option Nat) (p0 : Option Nat) (p1 : Int32) : mx_M Int32 :=
  mx_bind (mx_put [(1, 0)] p0 (.int p1)) fun _ =>
  mx_bind (mx_getI [(1, 0)] l0) fun v101 =>
  mx_if (v101 = (0 : Int32)) (
    mx_bind (mx_getI [(1, 3)] l0) fun v102 =>
    mx_pure v102) (
    mx_pure (0 : Int32))
def fn_X4_failedCommand_B0 (d : Nat) (v0 : Option Nat) : mx_M Int32 :=
  mx_bind (mx_getI [(1, 3)] v0) fun v101 =>
  mx_if ((0 : Int32) ≤ v101) (
    fn_X4_failedCommand_J13 d v0 v0 (0 : Int32)) (
    fn_X4_failedCommand_J13 d v0 v0 (1 : Int32))
def fn_X4_failedCommand : Nat → Option Nat → mx_M Int32
  | 0, _ => mx_fail
  | d + 1, v0 => fn_X4_failedCommand_B0 d v0
def fn_X4_failureKind_J13 (d : Nat) (l0 : Option Nat) (p0 : Option Nat) (p1 : Int32) : mx_M Int32 :=
  mx_bind (mx_put [(1, 0)] p0 (.int p1)) fun _ =>
  mx_bind (mx_getI [(1, 0)] l0) fun v101 =>
  mx_if (v101 = (0 : Int32)) (
    mx_bind (mx_getI [(1, 4)] l0) fun v102 =>
    mx_retN .char ((v102.toUInt32 % 65536).toInt32)) (
    mx_pure (97 : Int32))
def fn_X4_failureKind_B0 (d : Nat) (v0 : Option Nat) : mx_M Int32 :=
  mx_bind (mx_getI [(1, 3)] v0) fun v101 =>
  mx_if ((0 : Int32) ≤ v101) (
    fn_X4_failureKind_J13 d v0 v0 (0 : Int32)) (
    fn_X4_failureKind_J13 d v0 v0 (1 : Int32))
def fn_X4_failureKind : Nat → Option Nat → mx_M Int32
  | 0, _ => mx_fail
  | d + 1, v0 => fn_X4_failureKind_B0 d v0
def fn_X4_count_L4_b (d : Nat) (b4 : Int32 → Int32 → mx_M Int32) (l1 : Int32) (l2 : Int32) : mx_M Int32 :=
  mx_if (l2 = (0 : Int32)) (
    mx_pure l1) (
    mx_let (l2 &&& (l2 - (1 : Int32))) fun v101 =>
    b4 (l1 + (1 : Int32)) v101)
def fn_X4_count_L4 (d : Nat) : Nat → Int32 → Int32 → mx_M Int32
  | 0, _, _ => mx_fail
  | k + 1, l1, l2 => fn_X4_count_L4_b d (fn_X4_count_L4 d k) l1 l2
def fn_X4_count_B0 (d : Nat) (v0 : Int32) : mx_M Int32 :=
  fn_X4_count_L4 d mx_K (0 : Int32) v0
def fn_X4_count : Nat → Int32 → mx_M Int32
  | 0, _ => mx_fail
  | d + 1, v0 => fn_X4_count_B0 d v0
def fn_X4_covers_J79 (d : Nat) (b3 : Option Nat → Int32 → Int32 → Int32 → mx_M Int32) (b15 : Option Nat → Int32 → Int32 → Int32 → Int32 → Int32 → mx_M Int32) (l0 : Option Nat) (l1 : Int32) (l3 : Int32) (l4 : Int32) (l6 : Int32) (p0 : Int32) (p1 : Int32) : mx_M Int32 :=
  mx_let (p0 ||| p1) fun v101 =>
  b15 l0 l1 l3 l4 v101 (l6 + (1 : Int32))
def fn_X4_covers_J78 (d : Nat) (b3 : Option Nat → Int32 → Int32 → Int32 → mx_M Int32) (b15 : Option Nat → Int32 → Int32 → Int32 → Int32 → Int32 → mx_M Int32) (l0 : Option Nat) (l1 : Int32) (l3 : Int32) (l4 : Int32) (l6 : Int32) (p0 : Int32) : mx_M Int32 :=
  fn_X4_covers_J79 d b3 b15 l0 l1 l3 l4 l6 p0 (0 : Int32)
def fn_X4_covers_L15_b (d : Nat) (b3 : Option Nat → Int32 → Int32 → Int32 → mx_M Int32) (b15 : Option Nat → Int32 → Int32 → Int32 → Int32 → Int32 → mx_M Int32) (l0 : Option Nat) (l1 : Int32) (l3 : Int32) (l4 : Int32) (l5 : Int32) (l6 : Int32) : mx_M Int32 :=
  mx_bind (mx_getR [(1, 6)] l0) fun v101 =>
  mx_bind (mx_aldI 100 v101 (4 : Int32)) fun v102 =>
  mx_if (v102 ≤ l6) (
    mx_if (l5 = (0 : Int32)) (
      mx_pure (0 : Int32)) (
      b3 l0 l1 l3 (l4 + (1 : Int32)))) (
    mx_if (((l1 >>> (l6 &&& 31)) &&& (1 : Int32)) = (1 : Int32)) (
      mx_bind (mx_getR [(1, 6)] l0) fun v103 =>
      mx_bind (mx_aldI 100 v103 ((60 : Int32) + ((2 : Int32) * l6))) fun v104 =>
      mx_if (l4 < v104) (
        fn_X4_covers_J78 d b3 b15 l0 l1 l3 l4 l6 l5) (
        mx_bind (mx_getR [(1, 6)] l0) fun v105 =>
        mx_bind (mx_aldI 100 v105 (((60 : Int32) + ((2 : Int32) * l6)) + (1 : Int32))) fun v106 =>
        mx_if (v106 ≤ l4) (
          fn_X4_covers_J78 d b3 b15 l0 l1 l3 l4 l6 l5) (
          fn_X4_covers_J79 d b3 b15 l0 l1 l3 l4 l6 l5 (1 : Int32)))) (
      fn_X4_covers_J78 d b3 b15 l0 l1 l3 l4 l6 l5))
def fn_X4_covers_L15 (d : Nat) (b3 : Option Nat → Int32 → Int32 → Int32 → mx_M Int32) : Nat → Option Nat → Int32 → Int32 → Int32 → Int32 → Int32 → mx_M Int32
  | 0, _, _, _, _, _, _ => mx_fail
  | k + 1, l0, l1, l3, l4, l5, l6 => fn_X4_covers_L15_b d b3 (fn_X4_covers_L15 d b3 k) l0 l1 l3 l4 l5 l6
def fn_X4_covers_L3_b (d : Nat) (b3 : Option Nat → Int32 → Int32 → Int32 → mx_M Int32) (l0 : Option Nat) (l1 : Int32) (l3 : Int32) (l4 : Int32) : mx_M Int32 :=
  mx_if (l3 ≤ l4) (
    mx_pure (1 : Int32)) (
    fn_X4_covers_L15 d b3 mx_K l0 l1 l3 l4 (0 : Int32) (0 : Int32))
def fn_X4_covers_L3 (d : Nat) : Nat → Option Nat → Int32 → Int32 → Int32 → mx_M Int32
  | 0, _, _, _, _ => mx_fail
  | k + 1, l0, l1, l3, l4 => fn_X4_covers_L3_b d (fn_X4_covers_L3 d k) l0 l1 l3 l4
def fn_X4_covers_B0 (d : Nat) (v0 : Option Nat) (v1 : Int32) (v2 : Int32) (v3 : Int32) : mx_M Int32 :=
  fn_X4_covers_L3 d mx_K v0 v1 v3 v2
def fn_X4_covers : Nat → Option Nat → Int32 → Int32 → Int32 → mx_M Int32
  | 0, _, _, _, _ => mx_fail
  | d + 1, v0, v1, v2, v3 => fn_X4_covers_B0 d v0 v1 v2 v3
def fn_X4_isCovered_J28 (d : Nat) (l0 : Option Nat) (l1 : Int32) (l2 : Int32) (p0 : Option Nat) (p1 : Int32) : mx_M Int32 :=
  mx_bind (mx_put [(1, 0)] p0 (.int p1)) fun _ =>
  mx_bind (mx_getI [(1, 0)] l0) fun v101 =>
  mx_if (v101 = (0 : Int32)) (
    mx_bind (mx_getR [(1, 6)] l0) fun v102 =>
    mx_bind (mx_aldI 100 v102 (4 : Int32)) fun v103 =>
    mx_bind (mx_is 1 l0 (fn_X4_covers d l0 (((1 : Int32) <<< (v103 &&& 31)) - (1 : Int32)) l1 l2)) fun r104 =>
    mx_if (r104 = (0 : Int32)) (
      mx_pure (0 : Int32)) (
      mx_pure (1 : Int32))) (
    mx_pure (0 : Int32))
def fn_X4_isCovered_J27 (d : Nat) (l0 : Option Nat) (l1 : Int32) (l2 : Int32) (p0 : Option Nat) : mx_M Int32 :=
  fn_X4_isCovered_J28 d l0 l1 l2 p0 (1 : Int32)
def fn_X4_isCovered_B0 (d : Nat) (v0 : Option Nat) (v1 : Int32) (v2 : Int32) : mx_M Int32 :=
  mx_bind (fn_X4_isIn d v1 (0 : Int32) (23 : Int32)) fun r101 =>
  mx_if (r101 = (0 : Int32)) (
    fn_X4_isCovered_J27 d v0 v1 v2 v0) (
    mx_bind (fn_X4_isIn d v2 (v1 + (1 : Int32)) (24 : Int32)) fun r102 =>
    mx_if (r102 = (0 : Int32)) (
      fn_X4_isCovered_J27 d v0 v1 v2 v0) (
      fn_X4_isCovered_J28 d v0 v1 v2 v0 (0 : Int32)))
def fn_X4_isCovered : Nat → Option Nat → Int32 → Int32 → mx_M Int32
  | 0, _, _, _ => mx_fail
  | d + 1, v0, v1, v2 => fn_X4_isCovered_B0 d v0 v1 v2
def fn_X4_fewestKeepers_J22 (d : Nat) (p0 : Option Nat) (p1 : Int32) : mx_M Int32 :=
  mx_bind (mx_is 1 p0 (fn_X4_fail d p0 p1)) fun r101 =>
  mx_pure r101
def fn_X4_fewestKeepers_J71 (d : Nat) (b32 : Option Nat → Int32 → Int32 → Int32 → Int32 → mx_M Int32) (l0 : Option Nat) (l1 : Int32) (l2 : Int32) (l3 : Int32) (l4 : Int32) : mx_M Int32 :=
  b32 l0 l1 l2 l3 (l4 + (1 : Int32))
def fn_X4_fewestKeepers_L32_b (d : Nat) (b32 : Option Nat → Int32 → Int32 → Int32 → Int32 → mx_M Int32) (l0 : Option Nat) (l1 : Int32) (l2 : Int32) (l3 : Int32) (l4 : Int32) : mx_M Int32 :=
  mx_bind (mx_getR [(1, 6)] l0) fun v101 =>
  mx_bind (mx_aldI 100 v101 (4 : Int32)) fun v102 =>
  mx_if (((1 : Int32) <<< (v102 &&& 31)) ≤ l4) (
    mx_pure l3) (
    mx_bind (fn_X4_count d l4) fun r103 =>
    mx_if (l3 ≤ r103) (
      fn_X4_fewestKeepers_J71 d b32 l0 l1 l2 l3 l4) (
      mx_bind (mx_is 1 l0 (fn_X4_covers d l0 l4 l1 l2)) fun r104 =>
      mx_if (r104 = (0 : Int32)) (
        fn_X4_fewestKeepers_J71 d b32 l0 l1 l2 l3 l4) (
        mx_bind (fn_X4_count d l4) fun r105 =>
        fn_X4_fewestKeepers_J71 d b32 l0 l1 l2 r105 l4)))
def fn_X4_fewestKeepers_L32 (d : Nat) : Nat → Option Nat → Int32 → Int32 → Int32 → Int32 → mx_M Int32
  | 0, _, _, _, _, _ => mx_fail
  | k + 1, l0, l1, l2, l3, l4 => fn_X4_fewestKeepers_L32_b d (fn_X4_fewestKeepers_L32 d k) l0 l1 l2 l3 l4
def fn_X4_fewestKeepers_B0 (d : Nat) (v0 : Option Nat) (v1 : Int32) (v2 : Int32) : mx_M Int32 :=
  mx_bind (mx_is 1 v0 (fn_X4_isCovered d v0 v1 v2)) fun r101 =>
  mx_if (r101 = (0 : Int32)) (
    mx_bind (mx_getI [(1, 0)] v0) fun v102 =>
    mx_if (v102 = (0 : Int32)) (
      fn_X4_fewestKeepers_J22 d v0 (2 : Int32)) (
      fn_X4_fewestKeepers_J22 d v0 (1 : Int32))) (
    fn_X4_fewestKeepers_L32 d mx_K v0 v1 v2 (6 : Int32) (1 : Int32))
def fn_X4_fewestKeepers : Nat → Option Nat → Int32 → Int32 → mx_M Int32
  | 0, _, _, _ => mx_fail
  | d + 1, v0, v1, v2 => fn_X4_fewestKeepers_B0 d v0 v1 v2
def fn_X4_fewestKeepersBySets_B0 (d : Nat) (v0 : Option Nat) (v1 : Int32) (v2 : Int32) : mx_M Int32 :=
  mx_bind (mx_is 1 v0 (fn_X4_fewestKeepers d v0 v1 v2)) fun r101 =>
  mx_pure r101
def fn_X4_fewestKeepersBySets : Nat → Option Nat → Int32 → Int32 → mx_M Int32
  | 0, _, _, _ => mx_fail
  | d + 1, v0, v1, v2 => fn_X4_fewestKeepersBySets_B0 d v0 v1 v2
def fn_X4_hires_J22 (d : Nat) (l0 : Option Nat) : mx_M Int32 :=
  mx_bind (mx_is 1 l0 (fn_X4_fail d l0 (1 : Int32))) fun r101 =>
  mx_pure r101
def fn_X4_hires_B0 (d : Nat) (v0 : Option Nat) (v1 : Int32) (v2 : Int32) : mx_M Int32 :=
  mx_bind (fn_X4_isIn d v1 (0 : Int32) (23 : Int32)) fun r101 =>
  mx_if (r101 = (0 : Int32)) (
    fn_X4_hires_J22 d v0) (
    mx_bind (fn_X4_isIn d v2 (v1 + (1 : Int32)) (24 : Int32)) fun r102 =>
    mx_if (r102 = (0 : Int32)) (
      fn_X4_hires_J22 d v0) (
      mx_bind (mx_getR [(1, 6)] v0) fun v103 =>
      mx_bind (mx_aldI 100 v103 (4 : Int32)) fun v104 =>
      mx_if (v104 = (6 : Int32)) (
        mx_bind (mx_is 1 v0 (fn_X4_fail d v0 (2 : Int32))) fun r105 =>
        mx_pure r105) (
        mx_bind (mx_getR [(1, 6)] v0) fun v106 =>
        mx_bind (mx_ast 100 v106 ((60 : Int32) + ((2 : Int32) * v104)) (.int v1)) fun _ =>
        mx_bind (mx_getR [(1, 6)] v0) fun v107 =>
        mx_bind (mx_ast 100 v107 (((60 : Int32) + ((2 : Int32) * v104)) + (1 : Int32)) (.int v2)) fun _ =>
        mx_bind (mx_getR [(1, 6)] v0) fun v108 =>
        mx_bind (mx_aldI 100 v108 (4 : Int32)) fun v109 =>
        mx_bind (mx_ast 100 v108 (4 : Int32) (.int (v109 + (1 : Int32)))) fun _ =>
        mx_pure v104)))
def fn_X4_hires : Nat → Option Nat → Int32 → Int32 → mx_M Int32
  | 0, _, _, _ => mx_fail
  | d + 1, v0, v1, v2 => fn_X4_hires_B0 d v0 v1 v2
def fn_X4_hireKeeper_B0 (d : Nat) (v0 : Option Nat) (v1 : Int32) (v2 : Int32) : mx_M Int32 :=
  mx_bind (mx_is 1 v0 (fn_X4_begins d v0)) fun _ =>
  mx_bind (mx_is 1 v0 (fn_X4_hires d v0 v1 v2)) fun r101 =>
  mx_bind (mx_is 1 v0 (fn_X4_ends d v0 r101)) fun r102 =>
  mx_pure r102
def fn_X4_hireKeeper : Nat → Option Nat → Int32 → Int32 → mx_M Int32
  | 0, _, _, _ => mx_fail
  | d + 1, v0, v1, v2 => fn_X4_hireKeeper_B0 d v0 v1 v2
def fn_X4_hour_B0 (d : Nat) (v0 : Option Nat) : mx_M Int32 :=
  mx_bind (mx_is 1 v0 (fn_X4_tells d v0 (0 : Int32))) fun r101 =>
  mx_pure r101
def fn_X4_hour : Nat → Option Nat → mx_M Int32
  | 0, _ => mx_fail
  | d + 1, v0 => fn_X4_hour_B0 d v0
def fn_X4_hungerOf_B0 (d : Nat) (v0 : Option Nat) (v1 : Int32) : mx_M Int32 :=
  mx_bind (mx_is 1 v0 (fn_X4_about d v0 v1 (1 : Int32))) fun r101 =>
  mx_pure r101
def fn_X4_hungerOf : Nat → Option Nat → Int32 → mx_M Int32
  | 0, _, _ => mx_fail
  | d + 1, v0, v1 => fn_X4_hungerOf_B0 d v0 v1
def fn_X4_lionAtRank_J53 (d : Nat) (b9 : Option Nat → Int32 → Int32 → Int32 → mx_M Int32) (l0 : Option Nat) (l1 : Int32) (l2 : Int32) (l3 : Int32) : mx_M Int32 :=
  b9 l0 l1 l2 (l3 + (1 : Int32))
def fn_X4_lionAtRank_L9_b (d : Nat) (b9 : Option Nat → Int32 → Int32 → Int32 → mx_M Int32) (l0 : Option Nat) (l1 : Int32) (l2 : Int32) (l3 : Int32) : mx_M Int32 :=
  mx_bind (mx_getR [(1, 6)] l0) fun v101 =>
  mx_bind (mx_aldI 100 v101 (5 : Int32)) fun v102 =>
  mx_if (v102 ≤ l3) (
    mx_bind (mx_is 1 l0 (fn_X4_fail d l0 (1 : Int32))) fun r103 =>
    mx_pure r103) (
    mx_bind (mx_is 1 l0 (fn_X4_owner d l0 l3)) fun r104 =>
    mx_if ((0 : Int32) ≤ r104) (
      mx_if (l2 = l1) (
        mx_bind (mx_getR [(1, 6)] l0) fun v105 =>
        mx_bind (mx_is 1 l0 (fn_X4_owner d l0 l3)) fun r106 =>
        mx_bind (fn_X4_of d r106 (0 : Int32)) fun r107 =>
        mx_bind (mx_aldI 100 v105 r107) fun v108 =>
        mx_pure v108) (
        fn_X4_lionAtRank_J53 d b9 l0 l1 (l2 + (1 : Int32)) l3)) (
      fn_X4_lionAtRank_J53 d b9 l0 l1 l2 l3))
def fn_X4_lionAtRank_L9 (d : Nat) : Nat → Option Nat → Int32 → Int32 → Int32 → mx_M Int32
  | 0, _, _, _, _ => mx_fail
  | k + 1, l0, l1, l2, l3 => fn_X4_lionAtRank_L9_b d (fn_X4_lionAtRank_L9 d k) l0 l1 l2 l3
def fn_X4_lionAtRank_B0 (d : Nat) (v0 : Option Nat) (v1 : Int32) : mx_M Int32 :=
  mx_bind (mx_put [(1, 0)] v0 (.int (0 : Int32))) fun _ =>
  fn_X4_lionAtRank_L9 d mx_K v0 v1 (0 : Int32) (0 : Int32)
def fn_X4_lionAtRank : Nat → Option Nat → Int32 → mx_M Int32
  | 0, _, _ => mx_fail
  | d + 1, v0, v1 => fn_X4_lionAtRank_B0 d v0 v1
def fn_X4_hungriest_B0 (d : Nat) (v0 : Option Nat) : mx_M Int32 :=
  mx_bind (mx_is 1 v0 (fn_X4_lionAtRank d v0 (0 : Int32))) fun r101 =>
  mx_pure r101
def fn_X4_hungriest : Nat → Option Nat → mx_M Int32
  | 0, _ => mx_fail
  | d + 1, v0 => fn_X4_hungriest_B0 d v0
def fn_X4_hungriestByLooking_B0 (d : Nat) (v0 : Option Nat) : mx_M Int32 :=
  mx_bind (mx_is 1 v0 (fn_X4_lionAtRank d v0 (0 : Int32))) fun r101 =>
  mx_pure r101
def fn_X4_hungriestByLooking : Nat → Option Nat → mx_M Int32
  | 0, _ => mx_fail
  | d + 1, v0 => fn_X4_hungriestByLooking_B0 d v0
def fn_X4_isConsistent_B0 (d : Nat) (v0 : Option Nat) : mx_M Int32 :=
  mx_bind (mx_put [(1, 0)] v0 (.int (0 : Int32))) fun _ =>
  mx_bind (mx_getR [(1, 6)] v0) fun v101 =>
  mx_bind (mx_aldI 100 v101 (5 : Int32)) fun v102 =>
  mx_bind (mx_getR [(1, 6)] v0) fun v103 =>
  mx_bind (mx_aldI 100 v103 (2 : Int32)) fun v104 =>
  mx_bind (mx_getR [(1, 6)] v0) fun v105 =>
  mx_bind (mx_aldI 100 v105 (9 : Int32)) fun v106 =>
  mx_bind (mx_getR [(1, 6)] v0) fun v107 =>
  mx_bind (mx_aldI 100 v107 (6 : Int32)) fun v108 =>
  mx_if (v102 = ((v104 - v106) - v108)) (
    mx_bind (mx_getR [(1, 6)] v0) fun v109 =>
    mx_bind (mx_aldI 100 v109 (5 : Int32)) fun v110 =>
    mx_bind (mx_getR [(1, 6)] v0) fun v111 =>
    mx_bind (mx_aldI 100 v111 (3 : Int32)) fun v112 =>
    mx_if (v110 < v112) (
      mx_pure (0 : Int32)) (
      mx_pure (1 : Int32))) (
    mx_pure (0 : Int32))
def fn_X4_isConsistent : Nat → Option Nat → mx_M Int32
  | 0, _ => mx_fail
  | d + 1, v0 => fn_X4_isConsistent_B0 d v0
def fn_X4_isStaleAtRank_J22 (d : Nat) (l0 : Option Nat) (l1 : Int32) (p0 : Option Nat) (p1 : Int32) : mx_M Int32 :=
  mx_bind (mx_put [(1, 0)] p0 (.int p1)) fun _ =>
  mx_bind (mx_getI [(1, 0)] l0) fun v101 =>
  mx_if (v101 = (0 : Int32)) (
    mx_bind (mx_is 1 l0 (fn_X4_owner d l0 l1)) fun r102 =>
    mx_if ((0 : Int32) ≤ r102) (
      mx_pure (0 : Int32)) (
      mx_pure (1 : Int32))) (
    mx_pure (0 : Int32))
def fn_X4_isStaleAtRank_B0 (d : Nat) (v0 : Option Nat) (v1 : Int32) : mx_M Int32 :=
  mx_bind (mx_getR [(1, 6)] v0) fun v101 =>
  mx_bind (mx_aldI 100 v101 (5 : Int32)) fun v102 =>
  mx_bind (fn_X4_isIn d v1 (0 : Int32) (v102 - (1 : Int32))) fun r103 =>
  mx_if (r103 = (0 : Int32)) (
    fn_X4_isStaleAtRank_J22 d v0 v1 v0 (1 : Int32)) (
    fn_X4_isStaleAtRank_J22 d v0 v1 v0 (0 : Int32))
def fn_X4_isStaleAtRank : Nat → Option Nat → Int32 → mx_M Int32
  | 0, _, _ => mx_fail
  | d + 1, v0, v1 => fn_X4_isStaleAtRank_B0 d v0 v1
def fn_X4_keeperCount_B0 (d : Nat) (v0 : Option Nat) : mx_M Int32 :=
  mx_bind (mx_is 1 v0 (fn_X4_tells d v0 (4 : Int32))) fun r101 =>
  mx_pure r101
def fn_X4_keeperCount : Nat → Option Nat → mx_M Int32
  | 0, _ => mx_fail
  | d + 1, v0 => fn_X4_keeperCount_B0 d v0
def fn_X4_lateShare_J16 (d : Nat) (l0 : Option Nat) (p0 : Option Nat) (p1 : Int32) : mx_M UInt32 :=
  mx_bind (mx_put [(1, 0)] p0 (.int p1)) fun _ =>
  mx_bind (mx_getI [(1, 0)] l0) fun v101 =>
  mx_if (v101 = (0 : Int32)) (
    mx_bind (mx_getR [(1, 6)] l0) fun v102 =>
    mx_bind (mx_aldI 100 v102 (7 : Int32)) fun v103 =>
    mx_bind (mx_getR [(1, 6)] l0) fun v104 =>
    mx_bind (mx_aldI 100 v104 (6 : Int32)) fun v105 =>
    mx_bind (mx_fdiv (FP.i2f v103) (FP.i2f v105)) fun v106 =>
    mx_pure v106) (
    mx_pure FP.fconst0)
def fn_X4_lateShare_B0 (d : Nat) (v0 : Option Nat) : mx_M UInt32 :=
  mx_bind (mx_getR [(1, 6)] v0) fun v101 =>
  mx_bind (mx_aldI 100 v101 (6 : Int32)) fun v102 =>
  mx_if (v102 = (0 : Int32)) (
    fn_X4_lateShare_J16 d v0 v0 (1 : Int32)) (
    fn_X4_lateShare_J16 d v0 v0 (0 : Int32))
def fn_X4_lateShare : Nat → Option Nat → mx_M UInt32
  | 0, _ => mx_fail
  | d + 1, v0 => fn_X4_lateShare_B0 d v0
def fn_X4_lateTotal_B0 (d : Nat) (v0 : Option Nat) : mx_M Int32 :=
  mx_bind (mx_is 1 v0 (fn_X4_tells d v0 (7 : Int32))) fun r101 =>
  mx_pure r101
def fn_X4_lateTotal : Nat → Option Nat → mx_M Int32
  | 0, _ => mx_fail
  | d + 1, v0 => fn_X4_lateTotal_B0 d v0
def fn_X4_goes_J37 (d : Nat) (b6 : Option Nat → Int32 → mx_M Unit) (l0 : Option Nat) (l2 : Int32) (p0 : Option Nat) (p1 : Int32) (p2 : Int32) : mx_M Unit :=
  mx_bind (mx_ast 100 p0 p1 (.int p2)) fun _ =>
  b6 l0 (l2 + (1 : Int32))
def fn_X4_goes_L6_b (d : Nat) (b6 : Option Nat → Int32 → mx_M Unit) (l0 : Option Nat) (l2 : Int32) : mx_M Unit :=
  mx_if ((60 : Int32) ≤ l2) (
    mx_bind (mx_getR [(1, 6)] l0) fun v101 =>
    mx_bind (mx_aldI 100 v101 (3 : Int32)) fun v102 =>
    mx_bind (mx_ast 100 v101 (3 : Int32) (.int (v102 - (1 : Int32)))) fun _ =>
    mx_pure ()) (
    mx_bind (mx_getR [(1, 6)] l0) fun v103 =>
    mx_if ((60 : Int32) ≤ (l2 + (5 : Int32))) (
      fn_X4_goes_J37 d b6 l0 l2 v103 l2 (0 : Int32)) (
      mx_bind (mx_getR [(1, 6)] l0) fun v104 =>
      mx_bind (mx_aldI 100 v104 (l2 + (5 : Int32))) fun v105 =>
      fn_X4_goes_J37 d b6 l0 l2 v103 l2 v105))
def fn_X4_goes_L6 (d : Nat) : Nat → Option Nat → Int32 → mx_M Unit
  | 0, _, _ => mx_fail
  | k + 1, l0, l2 => fn_X4_goes_L6_b d (fn_X4_goes_L6 d k) l0 l2
def fn_X4_goes_B0 (d : Nat) (v0 : Option Nat) (v1 : Int32) : mx_M Unit :=
  mx_bind (fn_X4_of d v1 (0 : Int32)) fun r101 =>
  fn_X4_goes_L6 d mx_K v0 r101
def fn_X4_goes : Nat → Option Nat → Int32 → mx_M Unit
  | 0, _, _ => mx_fail
  | d + 1, v0, v1 => fn_X4_goes_B0 d v0 v1
def fn_X4_leaves_B0 (d : Nat) (v0 : Option Nat) (v1 : Int32) : mx_M Int32 :=
  mx_bind (mx_is 1 v0 (fn_X4_lion d v0 v1)) fun r101 =>
  mx_if ((0 : Int32) ≤ r101) (
    mx_bind (mx_is 1 v0 (fn_X4_goes d v0 r101)) fun _ =>
    mx_bind (mx_getR [(1, 6)] v0) fun v102 =>
    mx_bind (mx_aldI 100 v102 (3 : Int32)) fun v103 =>
    mx_pure v103) (
    mx_bind (mx_is 1 v0 (fn_X4_fail d v0 (1 : Int32))) fun r104 =>
    mx_pure r104)
def fn_X4_leaves : Nat → Option Nat → Int32 → mx_M Int32
  | 0, _, _ => mx_fail
  | d + 1, v0, v1 => fn_X4_leaves_B0 d v0 v1
def fn_X4_leave_B0 (d : Nat) (v0 : Option Nat) (v1 : Int32) : mx_M Int32 :=
  mx_bind (mx_is 1 v0 (fn_X4_begins d v0)) fun _ =>
  mx_bind (mx_is 1 v0 (fn_X4_leaves d v0 v1)) fun r101 =>
  mx_bind (mx_is 1 v0 (fn_X4_ends d v0 r101)) fun r102 =>
  mx_pure r102
def fn_X4_leave : Nat → Option Nat → Int32 → mx_M Int32
  | 0, _, _ => mx_fail
  | d + 1, v0, v1 => fn_X4_leave_B0 d v0 v1
def fn_X4_lionAt_J22 (d : Nat) (l0 : Option Nat) (l1 : Int32) (p0 : Option Nat) (p1 : Int32) : mx_M Int32 :=
  mx_bind (mx_put [(1, 0)] p0 (.int p1)) fun _ =>
  mx_bind (mx_getI [(1, 0)] l0) fun v101 =>
  mx_if (v101 = (0 : Int32)) (
    mx_bind (mx_getR [(1, 6)] l0) fun v102 =>
    mx_bind (fn_X4_of d l1 (0 : Int32)) fun r103 =>
    mx_bind (mx_aldI 100 v102 r103) fun v104 =>
    mx_pure v104) (
    mx_pure (0 : Int32))
def fn_X4_lionAt_B0 (d : Nat) (v0 : Option Nat) (v1 : Int32) : mx_M Int32 :=
  mx_bind (mx_getR [(1, 6)] v0) fun v101 =>
  mx_bind (mx_aldI 100 v101 (3 : Int32)) fun v102 =>
  mx_bind (fn_X4_isIn d v1 (0 : Int32) (v102 - (1 : Int32))) fun r103 =>
  mx_if (r103 = (0 : Int32)) (
    fn_X4_lionAt_J22 d v0 v1 v0 (1 : Int32)) (
    fn_X4_lionAt_J22 d v0 v1 v0 (0 : Int32))
def fn_X4_lionAt : Nat → Option Nat → Int32 → mx_M Int32
  | 0, _, _ => mx_fail
  | d + 1, v0, v1 => fn_X4_lionAt_B0 d v0 v1
def fn_X4_lionCount_B0 (d : Nat) (v0 : Option Nat) : mx_M Int32 :=
  mx_bind (mx_is 1 v0 (fn_X4_tells d v0 (3 : Int32))) fun r101 =>
  mx_pure r101
def fn_X4_lionCount : Nat → Option Nat → mx_M Int32
  | 0, _ => mx_fail
  | d + 1, v0 => fn_X4_lionCount_B0 d v0
def fn_X4_meanHunger_L22_b (d : Nat) (b22 : Option Nat → Int32 → Int32 → mx_M UInt64) (l0 : Option Nat) (l1 : Int32) (l2 : Int32) : mx_M UInt64 :=
  mx_bind (mx_getR [(1, 6)] l0) fun v101 =>
  mx_bind (mx_aldI 100 v101 (3 : Int32)) fun v102 =>
  mx_if (v102 ≤ l2) (
    mx_bind (mx_getI [(1, 0)] l0) fun v103 =>
    mx_if (v103 = (0 : Int32)) (
      mx_bind (mx_getR [(1, 6)] l0) fun v104 =>
      mx_bind (mx_aldI 100 v104 (3 : Int32)) fun v105 =>
      mx_bind (mx_ddiv (FP.i2d l1) (FP.i2d v105)) fun v106 =>
      mx_pure v106) (
      mx_pure FP.dconst0)) (
    mx_bind (mx_getR [(1, 6)] l0) fun v107 =>
    mx_bind (fn_X4_of d l2 (1 : Int32)) fun r108 =>
    mx_bind (mx_aldI 100 v107 r108) fun v109 =>
    mx_let (l1 + v109) fun v110 =>
    b22 l0 v110 (l2 + (1 : Int32)))
def fn_X4_meanHunger_L22 (d : Nat) : Nat → Option Nat → Int32 → Int32 → mx_M UInt64
  | 0, _, _, _ => mx_fail
  | k + 1, l0, l1, l2 => fn_X4_meanHunger_L22_b d (fn_X4_meanHunger_L22 d k) l0 l1 l2
def fn_X4_meanHunger_J15 (d : Nat) (l0 : Option Nat) (p0 : Option Nat) (p1 : Int32) : mx_M UInt64 :=
  mx_bind (mx_put [(1, 0)] p0 (.int p1)) fun _ =>
  fn_X4_meanHunger_L22 d mx_K l0 (0 : Int32) (0 : Int32)
def fn_X4_meanHunger_B0 (d : Nat) (v0 : Option Nat) : mx_M UInt64 :=
  mx_bind (mx_getR [(1, 6)] v0) fun v101 =>
  mx_bind (mx_aldI 100 v101 (3 : Int32)) fun v102 =>
  mx_if (v102 = (0 : Int32)) (
    fn_X4_meanHunger_J15 d v0 v0 (1 : Int32)) (
    fn_X4_meanHunger_J15 d v0 v0 (0 : Int32))
def fn_X4_meanHunger : Nat → Option Nat → mx_M UInt64
  | 0, _ => mx_fail
  | d + 1, v0 => fn_X4_meanHunger_B0 d v0
def fn_X4_mostInTime_J46 (d : Nat) (b13 : Option Nat → Int32 → Int32 → mx_M Int32) (l0 : Option Nat) (l1 : Int32) (l2 : Int32) : mx_M Int32 :=
  b13 l0 l1 (l2 + (1 : Int32))
def fn_X4_mostInTime_L13_b (d : Nat) (b13 : Option Nat → Int32 → Int32 → mx_M Int32) (l0 : Option Nat) (l1 : Int32) (l2 : Int32) : mx_M Int32 :=
  mx_bind (mx_getR [(1, 6)] l0) fun v101 =>
  mx_bind (mx_aldI 100 v101 (3 : Int32)) fun v102 =>
  mx_if (((1 : Int32) <<< (v102 &&& 31)) ≤ l2) (
    mx_pure l1) (
    mx_bind (fn_X4_count d l2) fun r103 =>
    mx_if (r103 ≤ l1) (
      fn_X4_mostInTime_J46 d b13 l0 l1 l2) (
      mx_bind (mx_is 1 l0 (fn_X4_isInTime d l0 l2)) fun r104 =>
      mx_if (r104 = (0 : Int32)) (
        fn_X4_mostInTime_J46 d b13 l0 l1 l2) (
        mx_bind (fn_X4_count d l2) fun r105 =>
        fn_X4_mostInTime_J46 d b13 l0 r105 l2)))
def fn_X4_mostInTime_L13 (d : Nat) : Nat → Option Nat → Int32 → Int32 → mx_M Int32
  | 0, _, _, _ => mx_fail
  | k + 1, l0, l1, l2 => fn_X4_mostInTime_L13_b d (fn_X4_mostInTime_L13 d k) l0 l1 l2
def fn_X4_mostInTime_B0 (d : Nat) (v0 : Option Nat) : mx_M Int32 :=
  mx_bind (mx_put [(1, 0)] v0 (.int (0 : Int32))) fun _ =>
  mx_bind (mx_is 1 v0 (fn_X4_sorts d v0)) fun _ =>
  fn_X4_mostInTime_L13 d mx_K v0 (0 : Int32) (1 : Int32)
def fn_X4_mostInTime : Nat → Option Nat → mx_M Int32
  | 0, _ => mx_fail
  | d + 1, v0 => fn_X4_mostInTime_B0 d v0
def fn_X4_mostInTimeBySets_B0 (d : Nat) (v0 : Option Nat) : mx_M Int32 :=
  mx_bind (mx_is 1 v0 (fn_X4_mostInTime d v0)) fun r101 =>
  mx_pure r101
def fn_X4_mostInTimeBySets : Nat → Option Nat → mx_M Int32
  | 0, _ => mx_fail
  | d + 1, v0 => fn_X4_mostInTimeBySets_B0 d v0
def fn_X4_onDutyAt_J52 (d : Nat) (b4 : Option Nat → Int32 → Int32 → Int32 → mx_M Int32) (l0 : Option Nat) (l1 : Int32) (l3 : Int32) (p0 : Int32) (p1 : Int32) : mx_M Int32 :=
  mx_let (p0 + p1) fun v101 =>
  b4 l0 l1 v101 (l3 + (1 : Int32))
def fn_X4_onDutyAt_J51 (d : Nat) (b4 : Option Nat → Int32 → Int32 → Int32 → mx_M Int32) (l0 : Option Nat) (l1 : Int32) (l3 : Int32) (p0 : Int32) : mx_M Int32 :=
  fn_X4_onDutyAt_J52 d b4 l0 l1 l3 p0 (0 : Int32)
def fn_X4_onDutyAt_L4_b (d : Nat) (b4 : Option Nat → Int32 → Int32 → Int32 → mx_M Int32) (l0 : Option Nat) (l1 : Int32) (l2 : Int32) (l3 : Int32) : mx_M Int32 :=
  mx_bind (mx_getR [(1, 6)] l0) fun v101 =>
  mx_bind (mx_aldI 100 v101 (4 : Int32)) fun v102 =>
  mx_if (v102 ≤ l3) (
    mx_pure l2) (
    mx_bind (mx_getR [(1, 6)] l0) fun v103 =>
    mx_bind (mx_aldI 100 v103 ((60 : Int32) + ((2 : Int32) * l3))) fun v104 =>
    mx_if (l1 < v104) (
      fn_X4_onDutyAt_J51 d b4 l0 l1 l3 l2) (
      mx_bind (mx_getR [(1, 6)] l0) fun v105 =>
      mx_bind (mx_aldI 100 v105 (((60 : Int32) + ((2 : Int32) * l3)) + (1 : Int32))) fun v106 =>
      mx_if (v106 ≤ l1) (
        fn_X4_onDutyAt_J51 d b4 l0 l1 l3 l2) (
        fn_X4_onDutyAt_J52 d b4 l0 l1 l3 l2 (1 : Int32))))
def fn_X4_onDutyAt_L4 (d : Nat) : Nat → Option Nat → Int32 → Int32 → Int32 → mx_M Int32
  | 0, _, _, _, _ => mx_fail
  | k + 1, l0, l1, l2, l3 => fn_X4_onDutyAt_L4_b d (fn_X4_onDutyAt_L4 d k) l0 l1 l2 l3
def fn_X4_onDutyAt_B0 (d : Nat) (v0 : Option Nat) (v1 : Int32) : mx_M Int32 :=
  fn_X4_onDutyAt_L4 d mx_K v0 v1 (0 : Int32) (0 : Int32)
def fn_X4_onDutyAt : Nat → Option Nat → Int32 → mx_M Int32
  | 0, _, _ => mx_fail
  | d + 1, v0, v1 => fn_X4_onDutyAt_B0 d v0 v1
def fn_X4_onDuty_J16 (d : Nat) (l0 : Option Nat) (l1 : Int32) (p0 : Option Nat) (p1 : Int32) : mx_M Int32 :=
  mx_bind (mx_put [(1, 0)] p0 (.int p1)) fun _ =>
  mx_bind (mx_getI [(1, 0)] l0) fun v101 =>
  mx_if (v101 = (0 : Int32)) (
    mx_bind (mx_is 1 l0 (fn_X4_onDutyAt d l0 l1)) fun r102 =>
    mx_pure r102) (
    mx_pure (0 : Int32))
def fn_X4_onDuty_B0 (d : Nat) (v0 : Option Nat) (v1 : Int32) : mx_M Int32 :=
  mx_bind (fn_X4_isIn d v1 (0 : Int32) (23 : Int32)) fun r101 =>
  mx_if (r101 = (0 : Int32)) (
    fn_X4_onDuty_J16 d v0 v1 v0 (1 : Int32)) (
    fn_X4_onDuty_J16 d v0 v1 v0 (0 : Int32))
def fn_X4_onDuty : Nat → Option Nat → Int32 → mx_M Int32
  | 0, _, _ => mx_fail
  | d + 1, v0, v1 => fn_X4_onDuty_B0 d v0 v1
def fn_X4_outputAt_J20 (d : Nat) (l0 : Option Nat) (l1 : Int32) (p0 : Option Nat) (p1 : Int32) : mx_M Int32 :=
  mx_bind (mx_put [(1, 0)] p0 (.int p1)) fun _ =>
  mx_bind (mx_getI [(1, 0)] l0) fun v101 =>
  mx_if (v101 = (0 : Int32)) (
    mx_bind (mx_getR [(1, 12)] l0) fun v102 =>
    mx_bind (mx_aldI 100 v102 l1) fun v103 =>
    mx_retN .char ((v103.toUInt32 % 65536).toInt32)) (
    mx_pure (97 : Int32))
def fn_X4_outputAt_B0 (d : Nat) (v0 : Option Nat) (v1 : Int32) : mx_M Int32 :=
  mx_bind (mx_getI [(1, 20)] v0) fun v101 =>
  mx_bind (fn_X4_isIn d v1 (0 : Int32) (v101 - (1 : Int32))) fun r102 =>
  mx_if (r102 = (0 : Int32)) (
    fn_X4_outputAt_J20 d v0 v1 v0 (1 : Int32)) (
    fn_X4_outputAt_J20 d v0 v1 v0 (0 : Int32))
def fn_X4_outputAt : Nat → Option Nat → Int32 → mx_M Int32
  | 0, _, _ => mx_fail
  | d + 1, v0, v1 => fn_X4_outputAt_B0 d v0 v1
def fn_X4_starves_J39 (d : Nat) (l0 : Option Nat) (l1 : Int32) (l3 : Int32) (p0 : Int32) : mx_M Int32 :=
  mx_bind (mx_getR [(1, 6)] l0) fun v101 =>
  mx_bind (fn_X4_of d l1 (1 : Int32)) fun r102 =>
  mx_bind (mx_ast 100 v101 r102 (.int p0)) fun _ =>
  mx_if (p0 = l3) (
    mx_pure p0) (
    mx_bind (mx_is 1 l0 (fn_X4_draws d l0 l1)) fun _ =>
    mx_pure p0)
def fn_X4_starves_B0 (d : Nat) (v0 : Option Nat) (v1 : Int32) (v2 : Int32) : mx_M Int32 :=
  mx_bind (mx_getR [(1, 6)] v0) fun v101 =>
  mx_bind (fn_X4_of d v1 (1 : Int32)) fun r102 =>
  mx_bind (mx_aldI 100 v101 r102) fun v103 =>
  mx_let (v103 + v2) fun v104 =>
  mx_if (v104 ≤ (99 : Int32)) (
    mx_if ((0 : Int32) ≤ v104) (
      fn_X4_starves_J39 d v0 v1 v103 v104) (
      fn_X4_starves_J39 d v0 v1 v103 (0 : Int32))) (
    fn_X4_starves_J39 d v0 v1 v103 (99 : Int32))
def fn_X4_starves : Nat → Option Nat → Int32 → Int32 → mx_M Int32
  | 0, _, _, _ => mx_fail
  | d + 1, v0, v1, v2 => fn_X4_starves_B0 d v0 v1 v2
def fn_X4_passes_L35_b (d : Nat) (b18 : Option Nat → Int32 → Int32 → mx_M Int32) (b35 : Option Nat → Int32 → Int32 → Int32 → mx_M Int32) (l0 : Option Nat) (l1 : Int32) (l2 : Int32) (l3 : Int32) : mx_M Int32 :=
  mx_bind (mx_getR [(1, 6)] l0) fun v101 =>
  mx_bind (mx_aldI 100 v101 (3 : Int32)) fun v102 =>
  mx_if (v102 ≤ l3) (
    b18 l0 l1 (l2 + (1 : Int32))) (
    mx_bind (mx_is 1 l0 (fn_X4_starves d l0 l3 (1 : Int32))) fun r103 =>
    b35 l0 l1 l2 (l3 + (1 : Int32)))
def fn_X4_passes_L35 (d : Nat) (b18 : Option Nat → Int32 → Int32 → mx_M Int32) : Nat → Option Nat → Int32 → Int32 → Int32 → mx_M Int32
  | 0, _, _, _, _ => mx_fail
  | k + 1, l0, l1, l2, l3 => fn_X4_passes_L35_b d b18 (fn_X4_passes_L35 d b18 k) l0 l1 l2 l3
def fn_X4_passes_L18_b (d : Nat) (b18 : Option Nat → Int32 → Int32 → mx_M Int32) (l0 : Option Nat) (l1 : Int32) (l2 : Int32) : mx_M Int32 :=
  mx_if (l1 ≤ l2) (
    mx_bind (mx_getR [(1, 6)] l0) fun v101 =>
    mx_bind (mx_aldI 100 v101 (0 : Int32)) fun v102 =>
    mx_pure v102) (
    mx_bind (mx_getR [(1, 6)] l0) fun v103 =>
    mx_bind (mx_aldI 100 v103 (0 : Int32)) fun v104 =>
    mx_bind (mx_ast 100 v103 (0 : Int32) (.int (v104 + (1 : Int32)))) fun _ =>
    fn_X4_passes_L35 d b18 mx_K l0 l1 l2 (0 : Int32))
def fn_X4_passes_L18 (d : Nat) : Nat → Option Nat → Int32 → Int32 → mx_M Int32
  | 0, _, _, _ => mx_fail
  | k + 1, l0, l1, l2 => fn_X4_passes_L18_b d (fn_X4_passes_L18 d k) l0 l1 l2
def fn_X4_passes_B0 (d : Nat) (v0 : Option Nat) (v1 : Int32) : mx_M Int32 :=
  mx_bind (fn_X4_isIn d v1 (1 : Int32) (24 : Int32)) fun r101 =>
  mx_if (r101 = (0 : Int32)) (
    mx_bind (mx_is 1 v0 (fn_X4_fail d v0 (1 : Int32))) fun r102 =>
    mx_pure r102) (
    fn_X4_passes_L18 d mx_K v0 v1 (0 : Int32))
def fn_X4_passes : Nat → Option Nat → Int32 → mx_M Int32
  | 0, _, _ => mx_fail
  | d + 1, v0, v1 => fn_X4_passes_B0 d v0 v1
def fn_X4_passHours_B0 (d : Nat) (v0 : Option Nat) (v1 : Int32) : mx_M Int32 :=
  mx_bind (mx_is 1 v0 (fn_X4_begins d v0)) fun _ =>
  mx_bind (mx_is 1 v0 (fn_X4_passes d v0 v1)) fun r101 =>
  mx_bind (mx_is 1 v0 (fn_X4_ends d v0 r101)) fun r102 =>
  mx_pure r102
def fn_X4_passHours : Nat → Option Nat → Int32 → mx_M Int32
  | 0, _, _ => mx_fail
  | d + 1, v0, v1 => fn_X4_passHours_B0 d v0 v1
def fn_X4_portionOf_B0 (d : Nat) (v0 : Option Nat) (v1 : Int32) : mx_M Int32 :=
  mx_bind (mx_is 1 v0 (fn_X4_about d v0 v1 (2 : Int32))) fun r101 =>
  mx_pure r101
def fn_X4_portionOf : Nat → Option Nat → Int32 → mx_M Int32
  | 0, _, _ => mx_fail
  | d + 1, v0, v1 => fn_X4_portionOf_B0 d v0 v1
def fn_X4_portionTotal_B0 (d : Nat) (v0 : Option Nat) : mx_M Int32 :=
  mx_bind (mx_is 1 v0 (fn_X4_tells d v0 (8 : Int32))) fun r101 =>
  mx_pure r101
def fn_X4_portionTotal : Nat → Option Nat → mx_M Int32
  | 0, _ => mx_fail
  | d + 1, v0 => fn_X4_portionTotal_B0 d v0
def fn_X4_purge_B0 (d : Nat) (v0 : Option Nat) : mx_M Int32 :=
  mx_bind (mx_is 1 v0 (fn_X4_begins d v0)) fun _ =>
  mx_bind (mx_is 1 v0 (fn_X4_clears d v0)) fun r101 =>
  mx_bind (mx_is 1 v0 (fn_X4_ends d v0 r101)) fun r102 =>
  mx_pure r102
def fn_X4_purge : Nat → Option Nat → mx_M Int32
  | 0, _ => mx_fail
  | d + 1, v0 => fn_X4_purge_B0 d v0
def fn_X4_writes_B0 (d : Nat) (v0 : Option Nat) (v1 : Int32) : mx_M Unit :=
  mx_bind (mx_getR [(1, 12)] v0) fun v101 =>
  mx_bind (mx_getI [(1, 20)] v0) fun v102 =>
  mx_bind (mx_ast 100 v101 v102 (.int v1)) fun _ =>
  mx_bind (mx_getI [(1, 20)] v0) fun v103 =>
  mx_bind (mx_put [(1, 20)] v0 (.int (v103 + (1 : Int32)))) fun _ =>
  mx_pure ()
def fn_X4_writes : Nat → Option Nat → Int32 → mx_M Unit
  | 0, _, _ => mx_fail
  | d + 1, v0, v1 => fn_X4_writes_B0 d v0 v1
def fn_X4_writesNumber_L18_b (d : Nat) (b18 : Option Nat → Int32 → Int32 → mx_M Unit) (l0 : Option Nat) (l1 : Int32) (l2 : Int32) : mx_M Unit :=
  mx_if (l2 ≤ (0 : Int32)) (
    mx_pure ()) (
    mx_bind (mx_div l1 l2) fun v101 =>
    mx_bind (mx_rem v101 (10 : Int32)) fun v102 =>
    mx_bind (mx_is 1 l0 (fn_X4_writes d l0 ((48 : Int32) + v102))) fun _ =>
    mx_bind (mx_div l2 (10 : Int32)) fun v103 =>
    b18 l0 l1 v103)
def fn_X4_writesNumber_L18 (d : Nat) : Nat → Option Nat → Int32 → Int32 → mx_M Unit
  | 0, _, _, _ => mx_fail
  | k + 1, l0, l1, l2 => fn_X4_writesNumber_L18_b d (fn_X4_writesNumber_L18 d k) l0 l1 l2
def fn_X4_writesNumber_L2_b (d : Nat) (b2 : Option Nat → Int32 → Int32 → mx_M Unit) (l0 : Option Nat) (l1 : Int32) (l2 : Int32) : mx_M Unit :=
  mx_bind (mx_div l1 l2) fun v101 =>
  mx_if (v101 < (10 : Int32)) (
    fn_X4_writesNumber_L18 d mx_K l0 l1 l2) (
    mx_let (l2 * (10 : Int32)) fun v102 =>
    b2 l0 l1 v102)
def fn_X4_writesNumber_L2 (d : Nat) : Nat → Option Nat → Int32 → Int32 → mx_M Unit
  | 0, _, _, _ => mx_fail
  | k + 1, l0, l1, l2 => fn_X4_writesNumber_L2_b d (fn_X4_writesNumber_L2 d k) l0 l1 l2
def fn_X4_writesNumber_B0 (d : Nat) (v0 : Option Nat) (v1 : Int32) : mx_M Unit :=
  fn_X4_writesNumber_L2 d mx_K v0 v1 (1 : Int32)
def fn_X4_writesNumber : Nat → Option Nat → Int32 → mx_M Unit
  | 0, _, _ => mx_fail
  | d + 1, v0, v1 => fn_X4_writesNumber_B0 d v0 v1
def fn_X4_writesBehind_B0 (d : Nat) (v0 : Option Nat) (v1 : Int32) (v2 : Int32) : mx_M Unit :=
  mx_bind (mx_is 1 v0 (fn_X4_writes d v0 v1)) fun _ =>
  mx_bind (mx_is 1 v0 (fn_X4_writesNumber d v0 v2)) fun _ =>
  mx_pure ()
def fn_X4_writesBehind : Nat → Option Nat → Int32 → Int32 → mx_M Unit
  | 0, _, _, _ => mx_fail
  | d + 1, v0, v1, v2 => fn_X4_writesBehind_B0 d v0 v1 v2
def fn_X4_renderLion_J16 (d : Nat) (l0 : Option Nat) (l1 : Int32) (l2 : Int32) (p0 : Option Nat) (p1 : Int32) : mx_M Int32 :=
  mx_bind (mx_put [(1, 0)] p0 (.int p1)) fun _ =>
  mx_bind (mx_getI [(1, 0)] l0) fun v101 =>
  mx_if (v101 = (0 : Int32)) (
    mx_bind (mx_put [(1, 20)] l0 (.int (0 : Int32))) fun _ =>
    mx_bind (mx_is 1 l0 (fn_X4_writesNumber d l0 l1)) fun _ =>
    mx_bind (mx_getR [(1, 6)] l0) fun v102 =>
    mx_bind (fn_X4_of d l2 (1 : Int32)) fun r103 =>
    mx_bind (mx_aldI 100 v102 r103) fun v104 =>
    mx_bind (mx_is 1 l0 (fn_X4_writesBehind d l0 (104 : Int32) v104)) fun _ =>
    mx_bind (mx_getR [(1, 6)] l0) fun v105 =>
    mx_bind (fn_X4_of d l2 (2 : Int32)) fun r106 =>
    mx_bind (mx_aldI 100 v105 r106) fun v107 =>
    mx_bind (mx_is 1 l0 (fn_X4_writesBehind d l0 (112 : Int32) v107)) fun _ =>
    mx_bind (mx_getR [(1, 6)] l0) fun v108 =>
    mx_bind (fn_X4_of d l2 (3 : Int32)) fun r109 =>
    mx_bind (mx_aldI 100 v108 r109) fun v110 =>
    mx_bind (mx_is 1 l0 (fn_X4_writesBehind d l0 (100 : Int32) v110)) fun _ =>
    mx_bind (mx_getR [(1, 6)] l0) fun v111 =>
    mx_bind (fn_X4_of d l2 (4 : Int32)) fun r112 =>
    mx_bind (mx_aldI 100 v111 r112) fun v113 =>
    mx_bind (mx_is 1 l0 (fn_X4_writesBehind d l0 (116 : Int32) v113)) fun _ =>
    mx_bind (mx_getI [(1, 20)] l0) fun v114 =>
    mx_pure v114) (
    mx_pure (0 : Int32))
def fn_X4_renderLion_B0 (d : Nat) (v0 : Option Nat) (v1 : Int32) : mx_M Int32 :=
  mx_bind (mx_is 1 v0 (fn_X4_lion d v0 v1)) fun r101 =>
  mx_if ((0 : Int32) ≤ r101) (
    fn_X4_renderLion_J16 d v0 v1 r101 v0 (0 : Int32)) (
    fn_X4_renderLion_J16 d v0 v1 r101 v0 (1 : Int32))
def fn_X4_renderLion : Nat → Option Nat → Int32 → mx_M Int32
  | 0, _, _ => mx_fail
  | d + 1, v0, v1 => fn_X4_renderLion_B0 d v0 v1
def fn_X4_renderTickets_J65 (d : Nat) (b12 : Option Nat → Int32 → mx_M Int32) (l0 : Option Nat) (l1 : Int32) : mx_M Int32 :=
  b12 l0 (l1 + (1 : Int32))
def fn_X4_renderTickets_J38 (d : Nat) (b12 : Option Nat → Int32 → mx_M Int32) (l0 : Option Nat) (l1 : Int32) : mx_M Int32 :=
  mx_bind (mx_getR [(1, 6)] l0) fun v101 =>
  mx_bind (fn_X4_pile d l1) fun r102 =>
  mx_bind (mx_aldI 100 v101 r102) fun v103 =>
  mx_bind (mx_is 1 l0 (fn_X4_writesNumber d l0 v103)) fun _ =>
  mx_bind (mx_is 1 l0 (fn_X4_owner d l0 l1)) fun r104 =>
  mx_if ((0 : Int32) ≤ r104) (
    fn_X4_renderTickets_J65 d b12 l0 l1) (
    mx_bind (mx_is 1 l0 (fn_X4_writes d l0 (42 : Int32))) fun _ =>
    fn_X4_renderTickets_J65 d b12 l0 l1)
def fn_X4_renderTickets_L12_b (d : Nat) (b12 : Option Nat → Int32 → mx_M Int32) (l0 : Option Nat) (l1 : Int32) : mx_M Int32 :=
  mx_bind (mx_getR [(1, 6)] l0) fun v101 =>
  mx_bind (mx_aldI 100 v101 (5 : Int32)) fun v102 =>
  mx_if (v102 ≤ l1) (
    mx_bind (mx_getI [(1, 20)] l0) fun v103 =>
    mx_pure v103) (
    mx_if ((6 : Int32) ≤ l1) (
      mx_bind (mx_getI [(1, 20)] l0) fun v104 =>
      mx_pure v104) (
      mx_if (l1 ≤ (0 : Int32)) (
        fn_X4_renderTickets_J38 d b12 l0 l1) (
        mx_bind (mx_is 1 l0 (fn_X4_writes d l0 (32 : Int32))) fun _ =>
        fn_X4_renderTickets_J38 d b12 l0 l1)))
def fn_X4_renderTickets_L12 (d : Nat) : Nat → Option Nat → Int32 → mx_M Int32
  | 0, _, _ => mx_fail
  | k + 1, l0, l1 => fn_X4_renderTickets_L12_b d (fn_X4_renderTickets_L12 d k) l0 l1
def fn_X4_renderTickets_B0 (d : Nat) (v0 : Option Nat) : mx_M Int32 :=
  mx_bind (mx_put [(1, 0)] v0 (.int (0 : Int32))) fun _ =>
  mx_bind (mx_put [(1, 20)] v0 (.int (0 : Int32))) fun _ =>
  fn_X4_renderTickets_L12 d mx_K v0 (0 : Int32)
def fn_X4_renderTickets : Nat → Option Nat → mx_M Int32
  | 0, _ => mx_fail
  | d + 1, v0 => fn_X4_renderTickets_B0 d v0
def fn_X4_restore_J13 (d : Nat) (l0 : Option Nat) (p0 : Option Nat) (p1 : Int32) : mx_M Int32 :=
  mx_bind (mx_put [(1, 0)] p0 (.int p1)) fun _ =>
  mx_bind (mx_getI [(1, 0)] l0) fun v101 =>
  mx_if (v101 = (0 : Int32)) (
    mx_bind (mx_getR [(1, 6)] l0) fun v102 =>
    mx_bind (mx_getR [(1, 8)] l0) fun v103 =>
    mx_bind (fn_X4_lays d v102 v103) fun _ =>
    mx_bind (mx_put [(1, 1)] l0 (.int (0 : Int32))) fun _ =>
    mx_bind (mx_getR [(1, 6)] l0) fun v104 =>
    mx_bind (mx_aldI 100 v104 (3 : Int32)) fun v105 =>
    mx_pure v105) (
    mx_pure (0 : Int32))
def fn_X4_restore_B0 (d : Nat) (v0 : Option Nat) : mx_M Int32 :=
  mx_bind (mx_getI [(1, 5)] v0) fun v101 =>
  mx_if (v101 = (0 : Int32)) (
    fn_X4_restore_J13 d v0 v0 (1 : Int32)) (
    fn_X4_restore_J13 d v0 v0 (0 : Int32))
def fn_X4_restore : Nat → Option Nat → mx_M Int32
  | 0, _ => mx_fail
  | d + 1, v0 => fn_X4_restore_B0 d v0
def fn_X4_roars_B0 (d : Nat) (v0 : Option Nat) (v1 : Int32) (v2 : Int32) (v3 : Int32) : mx_M Int32 :=
  mx_bind (mx_is 1 v0 (fn_X4_lion d v0 v1)) fun r101 =>
  mx_if ((0 : Int32) ≤ r101) (
    mx_bind (fn_X4_isIn d v2 (1 : Int32) (50 : Int32)) fun r102 =>
    mx_if (r102 = (0 : Int32)) (
      mx_bind (mx_is 1 v0 (fn_X4_fail d v0 (2 : Int32))) fun r103 =>
      mx_pure r103) (
      mx_bind (mx_is 1 v0 (fn_X4_starves d v0 r101 (v3 * v2))) fun r104 =>
      mx_pure r104)) (
    mx_bind (mx_is 1 v0 (fn_X4_fail d v0 (1 : Int32))) fun r105 =>
    mx_pure r105)
def fn_X4_roars : Nat → Option Nat → Int32 → Int32 → Int32 → mx_M Int32
  | 0, _, _, _, _ => mx_fail
  | d + 1, v0, v1, v2, v3 => fn_X4_roars_B0 d v0 v1 v2 v3
def fn_X4_roar_B0 (d : Nat) (v0 : Option Nat) (v1 : Int32) (v2 : Int32) : mx_M Int32 :=
  mx_bind (mx_is 1 v0 (fn_X4_begins d v0)) fun _ =>
  mx_bind (mx_is 1 v0 (fn_X4_roars d v0 v1 v2 (1 : Int32))) fun r101 =>
  mx_bind (mx_is 1 v0 (fn_X4_ends d v0 r101)) fun r102 =>
  mx_pure r102
def fn_X4_roar : Nat → Option Nat → Int32 → Int32 → mx_M Int32
  | 0, _, _, _ => mx_fail
  | d + 1, v0, v1, v2 => fn_X4_roar_B0 d v0 v1 v2
def fn_X4_sign_B0 (d : Nat) (v0 : Option Nat) : mx_M Int32 :=
  mx_bind (mx_getI [(1, 18)] v0) fun v101 =>
  mx_bind (mx_getI [(1, 19)] v0) fun v102 =>
  mx_if (v102 ≤ v101) (
    mx_pure (-1 : Int32)) (
    mx_bind (mx_getR [(1, 11)] v0) fun v103 =>
    mx_bind (mx_getI [(1, 18)] v0) fun v104 =>
    mx_bind (mx_aldI 100 v103 v104) fun v105 =>
    mx_pure v105)
def fn_X4_sign : Nat → Option Nat → mx_M Int32
  | 0, _ => mx_fail
  | d + 1, v0 => fn_X4_sign_B0 d v0
def fn_X4_digits_J59 (d : Nat) (l0 : Option Nat) (l2 : Int32) (l3 : Int32) : mx_M Int32 :=
  mx_bind (mx_getI [(1, 22)] l0) fun v101 =>
  mx_if (l3 = (0 : Int32)) (
    mx_bind (mx_putN .boolean [(1, 22)] l0 (v101 ||| (1 : Int32))) fun _ =>
    mx_pure l2) (
    mx_bind (mx_putN .boolean [(1, 22)] l0 (v101 ||| (0 : Int32))) fun _ =>
    mx_pure l2)
def fn_X4_digits_L4_b (d : Nat) (b4 : Option Nat → Int32 → Int32 → Int32 → mx_M Int32) (l0 : Option Nat) (l1 : Int32) (l2 : Int32) (l3 : Int32) : mx_M Int32 :=
  mx_bind (mx_getI [(1, 22)] l0) fun v101 =>
  mx_if (v101 = (0 : Int32)) (
    mx_if (l1 ≤ l3) (
      fn_X4_digits_J59 d l0 l2 l3) (
      mx_bind (mx_is 1 l0 (fn_X4_sign d l0)) fun r102 =>
      mx_bind (fn_X4_isIn d r102 (48 : Int32) (57 : Int32)) fun r103 =>
      mx_if (r103 = (0 : Int32)) (
        fn_X4_digits_J59 d l0 l2 l3) (
        mx_bind (mx_is 1 l0 (fn_X4_sign d l0)) fun r104 =>
        mx_let ((((10 : Int32) * l2) + r104) - (48 : Int32)) fun v105 =>
        mx_bind (mx_getI [(1, 18)] l0) fun v106 =>
        mx_bind (mx_put [(1, 18)] l0 (.int (v106 + (1 : Int32)))) fun _ =>
        b4 l0 l1 v105 (l3 + (1 : Int32))))) (
    fn_X4_digits_J59 d l0 l2 l3)
def fn_X4_digits_L4 (d : Nat) : Nat → Option Nat → Int32 → Int32 → Int32 → mx_M Int32
  | 0, _, _, _, _ => mx_fail
  | k + 1, l0, l1, l2, l3 => fn_X4_digits_L4_b d (fn_X4_digits_L4 d k) l0 l1 l2 l3
def fn_X4_digits_B0 (d : Nat) (v0 : Option Nat) (v1 : Int32) : mx_M Int32 :=
  fn_X4_digits_L4 d mx_K v0 v1 (0 : Int32) (0 : Int32)
def fn_X4_digits : Nat → Option Nat → Int32 → mx_M Int32
  | 0, _, _ => mx_fail
  | d + 1, v0, v1 => fn_X4_digits_B0 d v0 v1
def fn_X4_expects_J22 (d : Nat) (l0 : Option Nat) (p0 : Option Nat) (p1 : Int32) : mx_M Unit :=
  mx_bind (mx_putN .boolean [(1, 22)] p0 p1) fun _ =>
  mx_bind (mx_getI [(1, 18)] l0) fun v101 =>
  mx_bind (mx_getI [(1, 22)] l0) fun v102 =>
  mx_if (v102 = (0 : Int32)) (
    mx_bind (mx_put [(1, 18)] l0 (.int (v101 + (1 : Int32)))) fun _ =>
    mx_pure ()) (
    mx_bind (mx_put [(1, 18)] l0 (.int (v101 + (0 : Int32)))) fun _ =>
    mx_pure ())
def fn_X4_expects_B0 (d : Nat) (v0 : Option Nat) (v1 : Int32) : mx_M Unit :=
  mx_bind (mx_getI [(1, 22)] v0) fun v101 =>
  mx_if (v101 = (0 : Int32)) (
    mx_bind (mx_is 1 v0 (fn_X4_sign d v0)) fun r102 =>
    mx_if (r102 = v1) (
      fn_X4_expects_J22 d v0 v0 (0 : Int32)) (
      fn_X4_expects_J22 d v0 v0 (1 : Int32))) (
    mx_pure ())
def fn_X4_expects : Nat → Option Nat → Int32 → mx_M Unit
  | 0, _, _ => mx_fail
  | d + 1, v0, v1 => fn_X4_expects_B0 d v0 v1
def fn_X4_behind_B0 (d : Nat) (v0 : Option Nat) (v1 : Int32) (v2 : Int32) : mx_M Int32 :=
  mx_bind (mx_is 1 v0 (fn_X4_expects d v0 v1)) fun _ =>
  mx_bind (mx_getI [(1, 22)] v0) fun v101 =>
  mx_if (v101 = (0 : Int32)) (
    mx_bind (mx_is 1 v0 (fn_X4_digits d v0 v2)) fun r102 =>
    mx_pure r102) (
    mx_pure (0 : Int32))
def fn_X4_behind : Nat → Option Nat → Int32 → Int32 → mx_M Int32
  | 0, _, _, _ => mx_fail
  | d + 1, v0, v1, v2 => fn_X4_behind_B0 d v0 v1 v2
def fn_X4_serves_J168 (d : Nat) (l0 : Option Nat) (l1 : Int32) (l2 : Int32) (p0 : Option Nat) (p1 : Int32) (p2 : Int32) (p3 : Int32) : mx_M Int32 :=
  mx_bind (mx_ast 100 p0 p1 (.int (p2 + p3))) fun _ =>
  mx_bind (mx_is 1 l0 (fn_X4_goes d l0 l1)) fun _ =>
  mx_pure l2
def fn_X4_serves_L37_b (d : Nat) (b37 : Option Nat → mx_M Int32) (l0 : Option Nat) : mx_M Int32 :=
  mx_bind (mx_is 1 l0 (fn_X4_owner d l0 (0 : Int32))) fun r101 =>
  mx_if ((0 : Int32) ≤ r101) (
    mx_bind (mx_is 1 l0 (fn_X4_owner d l0 (0 : Int32))) fun r102 =>
    mx_bind (mx_getR [(1, 6)] l0) fun v103 =>
    mx_bind (fn_X4_of d r102 (0 : Int32)) fun r104 =>
    mx_bind (mx_aldI 100 v103 r104) fun v105 =>
    mx_bind (mx_is 1 l0 (fn_X4_takesOut d l0 (0 : Int32))) fun _ =>
    mx_bind (mx_getR [(1, 6)] l0) fun v106 =>
    mx_bind (mx_aldI 100 v106 (0 : Int32)) fun v107 =>
    mx_bind (mx_getR [(1, 6)] l0) fun v108 =>
    mx_bind (fn_X4_of d r102 (2 : Int32)) fun r109 =>
    mx_bind (mx_aldI 100 v108 r109) fun v110 =>
    mx_bind (mx_ast 100 v106 (0 : Int32) (.int (v107 + v110))) fun _ =>
    mx_bind (mx_getR [(1, 6)] l0) fun v111 =>
    mx_bind (mx_aldI 100 v111 (8 : Int32)) fun v112 =>
    mx_bind (mx_getR [(1, 6)] l0) fun v113 =>
    mx_bind (fn_X4_of d r102 (2 : Int32)) fun r114 =>
    mx_bind (mx_aldI 100 v113 r114) fun v115 =>
    mx_bind (mx_ast 100 v111 (8 : Int32) (.int (v112 + v115))) fun _ =>
    mx_bind (mx_getR [(1, 6)] l0) fun v116 =>
    mx_bind (mx_aldI 100 v116 (6 : Int32)) fun v117 =>
    mx_bind (mx_ast 100 v116 (6 : Int32) (.int (v117 + (1 : Int32)))) fun _ =>
    mx_bind (mx_getR [(1, 6)] l0) fun v118 =>
    mx_bind (mx_aldI 100 v118 (7 : Int32)) fun v119 =>
    mx_bind (mx_getR [(1, 6)] l0) fun v120 =>
    mx_bind (mx_aldI 100 v120 (0 : Int32)) fun v121 =>
    mx_bind (mx_getR [(1, 6)] l0) fun v122 =>
    mx_bind (fn_X4_of d r102 (3 : Int32)) fun r123 =>
    mx_bind (mx_aldI 100 v122 r123) fun v124 =>
    mx_if (v121 ≤ v124) (
      fn_X4_serves_J168 d l0 r102 v105 v118 (7 : Int32) v119 (0 : Int32)) (
      fn_X4_serves_J168 d l0 r102 v105 v118 (7 : Int32) v119 (1 : Int32))) (
    mx_bind (mx_is 1 l0 (fn_X4_takesOut d l0 (0 : Int32))) fun _ =>
    mx_bind (mx_getR [(1, 6)] l0) fun v125 =>
    mx_bind (mx_aldI 100 v125 (9 : Int32)) fun v126 =>
    mx_bind (mx_ast 100 v125 (9 : Int32) (.int (v126 + (1 : Int32)))) fun _ =>
    b37 l0)
def fn_X4_serves_L37 (d : Nat) : Nat → Option Nat → mx_M Int32
  | 0, _ => mx_fail
  | k + 1, l0 => fn_X4_serves_L37_b d (fn_X4_serves_L37 d k) l0
def fn_X4_serves_B0 (d : Nat) (v0 : Option Nat) : mx_M Int32 :=
  mx_bind (mx_getR [(1, 6)] v0) fun v101 =>
  mx_bind (mx_aldI 100 v101 (3 : Int32)) fun v102 =>
  mx_if (v102 = (0 : Int32)) (
    mx_bind (mx_is 1 v0 (fn_X4_fail d v0 (1 : Int32))) fun r103 =>
    mx_pure r103) (
    mx_bind (mx_getR [(1, 6)] v0) fun v104 =>
    mx_bind (mx_aldI 100 v104 (0 : Int32)) fun v105 =>
    mx_bind (mx_rem v105 (24 : Int32)) fun v106 =>
    mx_bind (mx_is 1 v0 (fn_X4_onDutyAt d v0 v106)) fun r107 =>
    mx_if (r107 = (0 : Int32)) (
      mx_bind (mx_is 1 v0 (fn_X4_fail d v0 (2 : Int32))) fun r108 =>
      mx_pure r108) (
      fn_X4_serves_L37 d mx_K v0))
def fn_X4_serves : Nat → Option Nat → mx_M Int32
  | 0, _ => mx_fail
  | d + 1, v0 => fn_X4_serves_B0 d v0
def fn_X4_does_B0 (d : Nat) (v0 : Option Nat) (v1 : Int32) (v2 : Int32) (v3 : Int32) (v4 : Int32) : mx_M Int32 :=
  mx_sw v1 [
    ((0 : Int32),
      mx_bind (mx_is 1 v0 (fn_X4_adds d v0 v2 v3 v4)) fun r101 =>
      mx_pure r101),
    ((1 : Int32),
      mx_bind (mx_is 1 v0 (fn_X4_roars d v0 v2 v3 (1 : Int32))) fun r102 =>
      mx_pure r102),
    ((2 : Int32),
      mx_bind (mx_is 1 v0 (fn_X4_roars d v0 v2 v3 (-1 : Int32))) fun r103 =>
      mx_pure r103),
    ((3 : Int32),
      mx_bind (mx_is 1 v0 (fn_X4_leaves d v0 v2)) fun r104 =>
      mx_pure r104),
    ((4 : Int32),
      mx_bind (mx_is 1 v0 (fn_X4_serves d v0)) fun r105 =>
      mx_pure r105),
    ((5 : Int32),
      mx_bind (mx_is 1 v0 (fn_X4_clears d v0)) fun r106 =>
      mx_pure r106),
    ((6 : Int32),
      mx_bind (mx_is 1 v0 (fn_X4_hires d v0 v2 v3)) fun r107 =>
      mx_pure r107),
    ((7 : Int32),
      mx_bind (mx_is 1 v0 (fn_X4_dismisses d v0 v2)) fun r108 =>
      mx_pure r108)] (
    mx_bind (mx_is 1 v0 (fn_X4_passes d v0 v2)) fun r109 =>
    mx_pure r109)
def fn_X4_does : Nat → Option Nat → Int32 → Int32 → Int32 → Int32 → mx_M Int32
  | 0, _, _, _, _, _ => mx_fail
  | d + 1, v0, v1, v2, v3, v4 => fn_X4_does_B0 d v0 v1 v2 v3 v4
