set_option maxRecDepth 100000
def fn_X2_addLion_J60 (d : Nat) (l0 : Option Nat) (l1 : Int32) (l2 : Int32) (l3 : Int32) (p0 : Int32) : mx_M Int32 :=
  mx_bind (fn_X1_demand d p0 (115 : Int32)) fun _ =>
  mx_bind (mx_new (5, [.int 0, .int 0, .int 0, .null]) 4) fun a101 =>
  mx_bind (mx_getI [(2, 4)] l0) fun v102 =>
  mx_bind (mx_deref (some a101) fun _ => fn_X8_init d (some a101) v102 l2 l3 none) fun _ =>
  mx_bind (mx_is 2 l0 (fn_X2_draw d l0 (some a101) l1)) fun _ =>
  mx_bind (mx_getI [(2, 4)] l0) fun v103 =>
  mx_bind (mx_put [(2, 4)] l0 (.int (v103 + (1 : Int32)))) fun _ =>
  mx_bind (mx_getI [(2, 4)] l0) fun v104 =>
  mx_pure (v104 - (1 : Int32))
def fn_X2_addLion_J25 (d : Nat) (l0 : Option Nat) (l1 : Int32) (l2 : Int32) (l3 : Int32) (p0 : Int32) : mx_M Int32 :=
  mx_bind (fn_X1_demand d p0 (97 : Int32)) fun _ =>
  mx_bind (fn_X1_isBetween d l3 (0 : Int32) (999 : Int32)) fun r101 =>
  mx_bind (fn_X1_demand d r101 (97 : Int32)) fun _ =>
  mx_bind (mx_getR [(2, 0)] l0) fun v102 =>
  mx_bind (mx_is 18 v102 (fn_J1_size d v102)) fun r103 =>
  mx_if ((10 : Int32) ≤ r103) (
    fn_X2_addLion_J60 d l0 l1 l2 l3 (0 : Int32)) (
    fn_X2_addLion_J60 d l0 l1 l2 l3 (1 : Int32))
def fn_X2_addLion_J24 (d : Nat) (l0 : Option Nat) (l1 : Int32) (l2 : Int32) (l3 : Int32) : mx_M Int32 :=
  fn_X2_addLion_J25 d l0 l1 l2 l3 (0 : Int32)
def fn_X2_addLion_B0 (d : Nat) (v0 : Option Nat) (v1 : Int32) (v2 : Int32) (v3 : Int32) : mx_M Int32 :=
  mx_bind (fn_X1_isBetween d v1 (0 : Int32) (99 : Int32)) fun r101 =>
  mx_if (r101 = (0 : Int32)) (
    fn_X2_addLion_J24 d v0 v1 v2 v3) (
    mx_bind (fn_X1_isBetween d v2 (1 : Int32) (9 : Int32)) fun r102 =>
    mx_if (r102 = (0 : Int32)) (
      fn_X2_addLion_J24 d v0 v1 v2 v3) (
      fn_X2_addLion_J25 d v0 v1 v2 v3 (1 : Int32)))
def fn_X2_addLion : Nat → Option Nat → Int32 → Int32 → Int32 → mx_M Int32
  | 0, _, _, _, _ => mx_fail
  | d + 1, v0, v1, v2, v3 => fn_X2_addLion_B0 d v0 v1 v2 v3
def fn_X8_hunger_B0 (d : Nat) (v0 : Option Nat) : mx_M Int32 :=
  mx_bind (mx_getR [(5, 3)] v0) fun v101 =>
  mx_bind (mx_getI [(6, 2)] v101) fun v102 =>
  mx_pure v102
def fn_X8_hunger : Nat → Option Nat → mx_M Int32
  | 0, _ => mx_fail
  | d + 1, v0 => fn_X8_hunger_B0 d v0
def fn_X2_changeHunger_2_B0 (d : Nat) (v0 : Option Nat) (v1 : Option Nat) (v2 : Int32) : mx_M Unit :=
  mx_bind (mx_is 5 v1 (fn_X8_hunger d v1)) fun r101 =>
  mx_if (v2 = r101) (
    mx_pure ()) (
    mx_bind (mx_is 2 v0 (fn_X2_draw d v0 v1 v2)) fun _ =>
    mx_pure ())
def fn_X2_changeHunger_2 : Nat → Option Nat → Option Nat → Int32 → mx_M Unit
  | 0, _, _, _ => mx_fail
  | d + 1, v0, v1, v2 => fn_X2_changeHunger_2_B0 d v0 v1 v2
def fn_X2_changeHunger_J65 (d : Nat) (l0 : Option Nat) (l1 : Int32) (p0 : Int32) : mx_M Int32 :=
  mx_bind (mx_getR [(2, 0)] l0) fun v101 =>
  mx_bind (fn_J27_valueOf d l1) fun r102 =>
  mx_bind (mx_is 18 v101 (fn_J1_get d v101 r102)) fun r103 =>
  mx_bind (mx_cast [5] r103) fun _ =>
  mx_bind (mx_is 2 l0 (fn_X2_changeHunger_2 d l0 r103 p0)) fun _ =>
  mx_pure p0
def fn_X2_changeHunger_B0 (d : Nat) (v0 : Option Nat) (v1 : Int32) (v2 : Int32) (v3 : Int32) : mx_M Int32 :=
  mx_bind (mx_is 2 v0 (fn_X2_hasLion d v0 v1)) fun r101 =>
  mx_bind (fn_X1_demand d r101 (101 : Int32)) fun _ =>
  mx_bind (fn_X1_isBetween d v2 (1 : Int32) (50 : Int32)) fun r102 =>
  mx_bind (fn_X1_demand d r102 (97 : Int32)) fun _ =>
  mx_bind (mx_getR [(2, 0)] v0) fun v103 =>
  mx_bind (fn_J27_valueOf d v1) fun r104 =>
  mx_bind (mx_is 18 v103 (fn_J1_get d v103 r104)) fun r105 =>
  mx_bind (mx_cast [5] r105) fun _ =>
  mx_bind (mx_is 5 r105 (fn_X8_hunger d r105)) fun r106 =>
  mx_if (v3 = (0 : Int32)) (
    fn_X2_changeHunger_J65 d v0 v1 (if (0 : Int32) < (r106 - v2) then (r106 - v2) else (0 : Int32))) (
    fn_X2_changeHunger_J65 d v0 v1 (if (r106 + v2) < (99 : Int32) then (r106 + v2) else (99 : Int32)))
def fn_X2_changeHunger : Nat → Option Nat → Int32 → Int32 → Int32 → mx_M Int32
  | 0, _, _, _, _ => mx_fail
  | d + 1, v0, v1, v2, v3 => fn_X2_changeHunger_B0 d v0 v1 v2 v3
def fn_X3_has_B0 (d : Nat) (v0 : Option Nat) (v1 : Int32) : mx_M Int32 :=
  mx_bind (mx_getR [(3, 0)] v0) fun v101 =>
  mx_bind (mx_is 16 v101 (fn_J4_size d v101)) fun r102 =>
  mx_bind (fn_X1_isBetween d v1 (0 : Int32) (r102 - (1 : Int32))) fun r103 =>
  mx_retN .boolean r103
def fn_X3_has : Nat → Option Nat → Int32 → mx_M Int32
  | 0, _, _ => mx_fail
  | d + 1, v0, v1 => fn_X3_has_B0 d v0 v1
def fn_X2_dismissKeeper_B0 (d : Nat) (v0 : Option Nat) (v1 : Int32) : mx_M Int32 :=
  mx_bind (mx_getR [(2, 1)] v0) fun v101 =>
  mx_bind (mx_is 3 v101 (fn_X3_has d v101 v1)) fun r102 =>
  mx_bind (fn_X1_demand d r102 (105 : Int32)) fun _ =>
  mx_bind (mx_getR [(2, 1)] v0) fun v103 =>
  mx_bind (mx_getR [(3, 0)] v103) fun v104 =>
  mx_bind (mx_is 16 v104 (fn_J4_remove d v104 v1)) fun r105 =>
  mx_bind (mx_getR [(2, 1)] v0) fun v106 =>
  mx_bind (mx_is 3 v106 (fn_X3_count d v106)) fun r107 =>
  mx_pure r107
def fn_X2_dismissKeeper : Nat → Option Nat → Int32 → mx_M Int32
  | 0, _, _ => mx_fail
  | d + 1, v0, v1 => fn_X2_dismissKeeper_B0 d v0 v1
def fn_X11_init_B0 (d : Nat) (v0 : Option Nat) (v1 : Int32) (v2 : Int32) : mx_M Unit :=
  mx_deref v0 fun _ =>
  mx_bind (mx_put [(4, 0)] v0 (.int v1)) fun _ =>
  mx_bind (mx_put [(4, 1)] v0 (.int v2)) fun _ =>
  mx_pure ()
def fn_X11_init : Nat → Option Nat → Int32 → Int32 → mx_M Unit
  | 0, _, _, _ => mx_fail
  | d + 1, v0, v1, v2 => fn_X11_init_B0 d v0 v1 v2
def fn_X2_areHours_B0 (d : Nat) (v0 : Int32) (v1 : Int32) : mx_M Int32 :=
  mx_bind (fn_X1_isBetween d v0 (0 : Int32) (23 : Int32)) fun r101 =>
  mx_if (r101 = (0 : Int32)) (
    mx_pure (0 : Int32)) (
    mx_bind (fn_X1_isBetween d v1 (v0 + (1 : Int32)) (24 : Int32)) fun r102 =>
    mx_if (r102 = (0 : Int32)) (
      mx_pure (0 : Int32)) (
      mx_pure (1 : Int32)))
def fn_X2_areHours : Nat → Int32 → Int32 → mx_M Int32
  | 0, _, _ => mx_fail
  | d + 1, v0, v1 => fn_X2_areHours_B0 d v0 v1
def fn_J4_add_2_J11 (d : Nat) (l0 : Option Nat) (l1 : Option Nat) (l2 : Option Nat) (l3 : Int32) : mx_M Unit :=
  mx_bind (mx_astR l2 l3 l1) fun _ =>
  mx_bind (mx_put [(16, 2)] l0 (.int (l3 + (1 : Int32)))) fun _ =>
  mx_pure ()
def fn_J4_add_2_B0 (d : Nat) (v0 : Option Nat) (v1 : Option Nat) (v2 : Option Nat) (v3 : Int32) : mx_M Unit :=
  mx_bind (mx_alen v2) fun v101 =>
  mx_if (v3 = v101) (
    mx_bind (mx_is 16 v0 (fn_J4_grow d v0)) fun r102 =>
    fn_J4_add_2_J11 d v0 v1 r102 v3) (
    fn_J4_add_2_J11 d v0 v1 v2 v3)
def fn_J4_add_2 : Nat → Option Nat → Option Nat → Option Nat → Int32 → mx_M Unit
  | 0, _, _, _, _ => mx_fail
  | d + 1, v0, v1, v2, v3 => fn_J4_add_2_B0 d v0 v1 v2 v3
def fn_J4_add_B0 (d : Nat) (v0 : Option Nat) (v1 : Option Nat) : mx_M Int32 :=
  mx_bind (mx_getI [(16, 0)] v0) fun v101 =>
  mx_bind (mx_put [(16, 0)] v0 (.int (v101 + (1 : Int32)))) fun _ =>
  mx_bind (mx_getR [(16, 1)] v0) fun v102 =>
  mx_bind (mx_getI [(16, 2)] v0) fun v103 =>
  mx_bind (mx_is 16 v0 (fn_J4_add_2 d v0 v1 v102 v103)) fun _ =>
  mx_pure (1 : Int32)
def fn_J4_add : Nat → Option Nat → Option Nat → mx_M Int32
  | 0, _, _ => mx_fail
  | d + 1, v0, v1 => fn_J4_add_B0 d v0 v1
def fn_X2_hireKeeper_J27 (d : Nat) (l0 : Option Nat) (l1 : Int32) (l2 : Int32) (p0 : Int32) : mx_M Int32 :=
  mx_bind (fn_X1_demand d p0 (115 : Int32)) fun _ =>
  mx_bind (mx_getR [(2, 1)] l0) fun v101 =>
  mx_bind (mx_getR [(3, 0)] v101) fun v102 =>
  mx_bind (mx_new (4, [.int 0, .int 0]) 2) fun a103 =>
  mx_bind (mx_deref (some a103) fun _ => fn_X11_init d (some a103) l1 l2) fun _ =>
  mx_bind (mx_is 16 v102 (fn_J4_add d v102 (some a103))) fun r104 =>
  mx_bind (mx_getR [(2, 1)] l0) fun v105 =>
  mx_bind (mx_is 3 v105 (fn_X3_count d v105)) fun r106 =>
  mx_pure (r106 - (1 : Int32))
def fn_X2_hireKeeper_B0 (d : Nat) (v0 : Option Nat) (v1 : Int32) (v2 : Int32) : mx_M Int32 :=
  mx_bind (fn_X2_areHours d v1 v2) fun r101 =>
  mx_bind (fn_X1_demand d r101 (97 : Int32)) fun _ =>
  mx_bind (mx_getR [(2, 1)] v0) fun v102 =>
  mx_bind (mx_is 3 v102 (fn_X3_count d v102)) fun r103 =>
  mx_if ((6 : Int32) ≤ r103) (
    fn_X2_hireKeeper_J27 d v0 v1 v2 (0 : Int32)) (
    fn_X2_hireKeeper_J27 d v0 v1 v2 (1 : Int32))
def fn_X2_hireKeeper : Nat → Option Nat → Int32 → Int32 → mx_M Int32
  | 0, _, _, _ => mx_fail
  | d + 1, v0, v1, v2 => fn_X2_hireKeeper_B0 d v0 v1 v2
def fn_J1_fixAfterDeletion_J183 (d : Nat) (b0 : Option Nat → Option Nat → mx_M Unit) (l0 : Option Nat) (l1 : Option Nat) : mx_M Unit :=
  b0 l0 l1
def fn_J1_fixAfterDeletion_J143 (d : Nat) (b0 : Option Nat → Option Nat → mx_M Unit) (l0 : Option Nat) (l1 : Option Nat) (l2 : Option Nat) : mx_M Unit :=
  mx_bind (fn_J1_parentOf d l1) fun r101 =>
  mx_bind (fn_J1_colorOf d r101) fun r102 =>
  mx_bind (fn_J1_setColor d l2 r102) fun _ =>
  mx_bind (fn_J1_parentOf d l1) fun r103 =>
  mx_bind (fn_J1_setColor d r103 (1 : Int32)) fun _ =>
  mx_bind (fn_J1_rightOf d l2) fun r104 =>
  mx_bind (fn_J1_setColor d r104 (1 : Int32)) fun _ =>
  mx_bind (fn_J1_parentOf d l1) fun r105 =>
  mx_bind (mx_is 18 l0 (fn_J1_rotateLeft d l0 r105)) fun _ =>
  mx_bind (mx_getR [(18, 3)] l0) fun v106 =>
  fn_J1_fixAfterDeletion_J183 d b0 l0 v106
def fn_J1_fixAfterDeletion_J106 (d : Nat) (b0 : Option Nat → Option Nat → mx_M Unit) (l0 : Option Nat) (l1 : Option Nat) (l2 : Option Nat) : mx_M Unit :=
  mx_bind (fn_J1_rightOf d l2) fun r101 =>
  mx_bind (fn_J1_colorOf d r101) fun r102 =>
  mx_if (r102 = (1 : Int32)) (
    mx_bind (fn_J1_leftOf d l2) fun r103 =>
    mx_bind (fn_J1_setColor d r103 (1 : Int32)) fun _ =>
    mx_bind (fn_J1_setColor d l2 (0 : Int32)) fun _ =>
    mx_bind (mx_is 18 l0 (fn_J1_rotateRight d l0 l2)) fun _ =>
    mx_bind (fn_J1_parentOf d l1) fun r104 =>
    mx_bind (fn_J1_rightOf d r104) fun r105 =>
    fn_J1_fixAfterDeletion_J143 d b0 l0 l1 r105) (
    fn_J1_fixAfterDeletion_J143 d b0 l0 l1 l2)
def fn_J1_fixAfterDeletion_J71 (d : Nat) (b0 : Option Nat → Option Nat → mx_M Unit) (l0 : Option Nat) (l1 : Option Nat) (l2 : Option Nat) : mx_M Unit :=
  mx_bind (fn_J1_leftOf d l2) fun r101 =>
  mx_bind (fn_J1_colorOf d r101) fun r102 =>
  mx_if (r102 = (1 : Int32)) (
    mx_bind (fn_J1_rightOf d l2) fun r103 =>
    mx_bind (fn_J1_colorOf d r103) fun r104 =>
    mx_if (r104 = (1 : Int32)) (
      mx_bind (fn_J1_setColor d l2 (0 : Int32)) fun _ =>
      mx_bind (fn_J1_parentOf d l1) fun r105 =>
      fn_J1_fixAfterDeletion_J183 d b0 l0 r105) (
      fn_J1_fixAfterDeletion_J106 d b0 l0 l1 l2)) (
    fn_J1_fixAfterDeletion_J106 d b0 l0 l1 l2)
def fn_J1_fixAfterDeletion_J342 (d : Nat) (b0 : Option Nat → Option Nat → mx_M Unit) (l0 : Option Nat) (l1 : Option Nat) : mx_M Unit :=
  b0 l0 l1
def fn_J1_fixAfterDeletion_J302 (d : Nat) (b0 : Option Nat → Option Nat → mx_M Unit) (l0 : Option Nat) (l1 : Option Nat) (l2 : Option Nat) : mx_M Unit :=
  mx_bind (fn_J1_parentOf d l1) fun r101 =>
  mx_bind (fn_J1_colorOf d r101) fun r102 =>
  mx_bind (fn_J1_setColor d l2 r102) fun _ =>
  mx_bind (fn_J1_parentOf d l1) fun r103 =>
  mx_bind (fn_J1_setColor d r103 (1 : Int32)) fun _ =>
  mx_bind (fn_J1_leftOf d l2) fun r104 =>
  mx_bind (fn_J1_setColor d r104 (1 : Int32)) fun _ =>
  mx_bind (fn_J1_parentOf d l1) fun r105 =>
  mx_bind (mx_is 18 l0 (fn_J1_rotateRight d l0 r105)) fun _ =>
  mx_bind (mx_getR [(18, 3)] l0) fun v106 =>
  fn_J1_fixAfterDeletion_J342 d b0 l0 v106
def fn_J1_fixAfterDeletion_J265 (d : Nat) (b0 : Option Nat → Option Nat → mx_M Unit) (l0 : Option Nat) (l1 : Option Nat) (l2 : Option Nat) : mx_M Unit :=
  mx_bind (fn_J1_leftOf d l2) fun r101 =>
  mx_bind (fn_J1_colorOf d r101) fun r102 =>
  mx_if (r102 = (1 : Int32)) (
    mx_bind (fn_J1_rightOf d l2) fun r103 =>
    mx_bind (fn_J1_setColor d r103 (1 : Int32)) fun _ =>
    mx_bind (fn_J1_setColor d l2 (0 : Int32)) fun _ =>
    mx_bind (mx_is 18 l0 (fn_J1_rotateLeft d l0 l2)) fun _ =>
    mx_bind (fn_J1_parentOf d l1) fun r104 =>
    mx_bind (fn_J1_leftOf d r104) fun r105 =>
    fn_J1_fixAfterDeletion_J302 d b0 l0 l1 r105) (
    fn_J1_fixAfterDeletion_J302 d b0 l0 l1 l2)
def fn_J1_fixAfterDeletion_J230 (d : Nat) (b0 : Option Nat → Option Nat → mx_M Unit) (l0 : Option Nat) (l1 : Option Nat) (l2 : Option Nat) : mx_M Unit :=
  mx_bind (fn_J1_rightOf d l2) fun r101 =>
  mx_bind (fn_J1_colorOf d r101) fun r102 =>
  mx_if (r102 = (1 : Int32)) (
    mx_bind (fn_J1_leftOf d l2) fun r103 =>
    mx_bind (fn_J1_colorOf d r103) fun r104 =>
    mx_if (r104 = (1 : Int32)) (
      mx_bind (fn_J1_setColor d l2 (0 : Int32)) fun _ =>
      mx_bind (fn_J1_parentOf d l1) fun r105 =>
      fn_J1_fixAfterDeletion_J342 d b0 l0 r105) (
      fn_J1_fixAfterDeletion_J265 d b0 l0 l1 l2)) (
    fn_J1_fixAfterDeletion_J265 d b0 l0 l1 l2)
def fn_J1_fixAfterDeletion_J345 (d : Nat) (l1 : Option Nat) : mx_M Unit :=
  mx_bind (fn_J1_setColor d l1 (1 : Int32)) fun _ =>
  mx_pure ()
def fn_J1_fixAfterDeletion_L0_b (d : Nat) (b0 : Option Nat → Option Nat → mx_M Unit) (l0 : Option Nat) (l1 : Option Nat) : mx_M Unit :=
  mx_bind (mx_getR [(18, 3)] l0) fun v101 =>
  mx_if (l1 = v101) (
    fn_J1_fixAfterDeletion_J345 d l1) (
    mx_bind (fn_J1_colorOf d l1) fun r102 =>
    mx_if (r102 = (1 : Int32)) (
      mx_bind (fn_J1_parentOf d l1) fun r103 =>
      mx_bind (fn_J1_leftOf d r103) fun r104 =>
      mx_if (l1 = r104) (
        mx_bind (fn_J1_parentOf d l1) fun r105 =>
        mx_bind (fn_J1_rightOf d r105) fun r106 =>
        mx_bind (fn_J1_colorOf d r106) fun r107 =>
        mx_if (r107 = (0 : Int32)) (
          mx_bind (fn_J1_setColor d r106 (1 : Int32)) fun _ =>
          mx_bind (fn_J1_parentOf d l1) fun r108 =>
          mx_bind (fn_J1_setColor d r108 (0 : Int32)) fun _ =>
          mx_bind (fn_J1_parentOf d l1) fun r109 =>
          mx_bind (mx_is 18 l0 (fn_J1_rotateLeft d l0 r109)) fun _ =>
          mx_bind (fn_J1_parentOf d l1) fun r110 =>
          mx_bind (fn_J1_rightOf d r110) fun r111 =>
          fn_J1_fixAfterDeletion_J71 d b0 l0 l1 r111) (
          fn_J1_fixAfterDeletion_J71 d b0 l0 l1 r106)) (
        mx_bind (fn_J1_parentOf d l1) fun r112 =>
        mx_bind (fn_J1_leftOf d r112) fun r113 =>
        mx_bind (fn_J1_colorOf d r113) fun r114 =>
        mx_if (r114 = (0 : Int32)) (
          mx_bind (fn_J1_setColor d r113 (1 : Int32)) fun _ =>
          mx_bind (fn_J1_parentOf d l1) fun r115 =>
          mx_bind (fn_J1_setColor d r115 (0 : Int32)) fun _ =>
          mx_bind (fn_J1_parentOf d l1) fun r116 =>
          mx_bind (mx_is 18 l0 (fn_J1_rotateRight d l0 r116)) fun _ =>
          mx_bind (fn_J1_parentOf d l1) fun r117 =>
          mx_bind (fn_J1_leftOf d r117) fun r118 =>
          fn_J1_fixAfterDeletion_J230 d b0 l0 l1 r118) (
          fn_J1_fixAfterDeletion_J230 d b0 l0 l1 r113))) (
      fn_J1_fixAfterDeletion_J345 d l1))
def fn_J1_fixAfterDeletion_L0 (d : Nat) : Nat → Option Nat → Option Nat → mx_M Unit
  | 0, _, _ => mx_fail
  | k + 1, l0, l1 => fn_J1_fixAfterDeletion_L0_b d (fn_J1_fixAfterDeletion_L0 d k) l0 l1
def fn_J1_fixAfterDeletion_E (d : Nat) (v0 : Option Nat) (v1 : Option Nat) : mx_M Unit :=
  fn_J1_fixAfterDeletion_L0 d mx_K v0 v1
def fn_J1_fixAfterDeletion : Nat → Option Nat → Option Nat → mx_M Unit
  | 0, _, _ => mx_fail
  | d + 1, v0, v1 => fn_J1_fixAfterDeletion_E d v0 v1
def fn_J1_deleteEntry_J133 (d : Nat) (l0 : Option Nat) (l1 : Option Nat) (l2 : Option Nat) : mx_M Unit :=
  mx_bind (mx_put [(19, 4)] l1 (va_rf none)) fun _ =>
  mx_bind (mx_put [(19, 3)] l1 (va_rf none)) fun _ =>
  mx_bind (mx_put [(19, 2)] l1 (va_rf none)) fun _ =>
  mx_bind (mx_getI [(19, 5)] l1) fun v101 =>
  mx_if (v101 = (1 : Int32)) (
    mx_bind (mx_is 18 l0 (fn_J1_fixAfterDeletion d l0 l2)) fun _ =>
    mx_pure ()) (
    mx_pure ())
def fn_J1_deleteEntry_J192 (d : Nat) (l1 : Option Nat) : mx_M Unit :=
  mx_bind (mx_getR [(19, 4)] l1) fun v101 =>
  mx_ifnull v101 (
    mx_pure ()) (
    mx_bind (mx_getR [(19, 4)] l1) fun v102 =>
    mx_bind (mx_getR [(19, 2)] v102) fun v103 =>
    mx_if (l1 = v103) (
      mx_bind (mx_getR [(19, 4)] l1) fun v104 =>
      mx_bind (mx_put [(19, 2)] v104 (va_rf none)) fun _ =>
      mx_bind (mx_put [(19, 4)] l1 (va_rf none)) fun _ =>
      mx_pure ()) (
      mx_bind (mx_getR [(19, 4)] l1) fun v105 =>
      mx_bind (mx_getR [(19, 3)] v105) fun v106 =>
      mx_if (l1 = v106) (
        mx_bind (mx_getR [(19, 4)] l1) fun v107 =>
        mx_bind (mx_put [(19, 3)] v107 (va_rf none)) fun _ =>
        mx_bind (mx_put [(19, 4)] l1 (va_rf none)) fun _ =>
        mx_pure ()) (
        mx_bind (mx_put [(19, 4)] l1 (va_rf none)) fun _ =>
        mx_pure ())))
def fn_J1_deleteEntry_J75 (d : Nat) (l0 : Option Nat) (l1 : Option Nat) (p0 : Option Nat) : mx_M Unit :=
  mx_ifnull p0 (
    mx_bind (mx_getR [(19, 4)] l1) fun v101 =>
    mx_ifnull v101 (
      mx_bind (mx_put [(18, 3)] l0 (va_rf none)) fun _ =>
      mx_pure ()) (
      mx_bind (mx_getI [(19, 5)] l1) fun v102 =>
      mx_if (v102 = (1 : Int32)) (
        mx_bind (mx_is 18 l0 (fn_J1_fixAfterDeletion d l0 l1)) fun _ =>
        fn_J1_deleteEntry_J192 d l1) (
        fn_J1_deleteEntry_J192 d l1))) (
    mx_bind (mx_getR [(19, 4)] l1) fun v103 =>
    mx_bind (mx_put [(19, 4)] p0 (va_rf v103)) fun _ =>
    mx_bind (mx_getR [(19, 4)] l1) fun v104 =>
    mx_ifnull v104 (
      mx_bind (mx_put [(18, 3)] l0 (va_rf p0)) fun _ =>
      fn_J1_deleteEntry_J133 d l0 l1 p0) (
      mx_bind (mx_getR [(19, 4)] l1) fun v105 =>
      mx_bind (mx_getR [(19, 2)] v105) fun v106 =>
      mx_if (l1 = v106) (
        mx_bind (mx_getR [(19, 4)] l1) fun v107 =>
        mx_bind (mx_put [(19, 2)] v107 (va_rf p0)) fun _ =>
        fn_J1_deleteEntry_J133 d l0 l1 p0) (
        mx_bind (mx_getR [(19, 4)] l1) fun v108 =>
        mx_bind (mx_put [(19, 3)] v108 (va_rf p0)) fun _ =>
        fn_J1_deleteEntry_J133 d l0 l1 p0)))
def fn_J1_deleteEntry_J57 (d : Nat) (l0 : Option Nat) (l1 : Option Nat) : mx_M Unit :=
  mx_bind (mx_getR [(19, 2)] l1) fun v101 =>
  mx_ifnull v101 (
    mx_bind (mx_getR [(19, 3)] l1) fun v102 =>
    fn_J1_deleteEntry_J75 d l0 l1 v102) (
    mx_bind (mx_getR [(19, 2)] l1) fun v103 =>
    fn_J1_deleteEntry_J75 d l0 l1 v103)
def fn_J1_deleteEntry_B0 (d : Nat) (v0 : Option Nat) (v1 : Option Nat) : mx_M Unit :=
  mx_bind (mx_getI [(18, 5)] v0) fun v101 =>
  mx_bind (mx_put [(18, 5)] v0 (.int (v101 + (1 : Int32)))) fun _ =>
  mx_bind (mx_getI [(18, 4)] v0) fun v102 =>
  mx_bind (mx_put [(18, 4)] v0 (.int (v102 - (1 : Int32)))) fun _ =>
  mx_bind (mx_getR [(19, 2)] v1) fun v103 =>
  mx_ifnull v103 (
    fn_J1_deleteEntry_J57 d v0 v1) (
    mx_bind (mx_getR [(19, 3)] v1) fun v104 =>
    mx_ifnull v104 (
      fn_J1_deleteEntry_J57 d v0 v1) (
      mx_bind (fn_J1_successor d v1) fun r105 =>
      mx_bind (mx_getR [(19, 0)] r105) fun v106 =>
      mx_bind (mx_put [(19, 0)] v1 (va_rf v106)) fun _ =>
      mx_bind (mx_getR [(19, 1)] r105) fun v107 =>
      mx_bind (mx_put [(19, 1)] v1 (va_rf v107)) fun _ =>
      fn_J1_deleteEntry_J57 d v0 r105))
def fn_J1_deleteEntry : Nat → Option Nat → Option Nat → mx_M Unit
  | 0, _, _ => mx_fail
  | d + 1, v0, v1 => fn_J1_deleteEntry_B0 d v0 v1
def fn_J1_remove_B0 (d : Nat) (v0 : Option Nat) (v1 : Option Nat) : mx_M (Option Nat) :=
  mx_bind (mx_is 18 v0 (fn_J1_getEntry d v0 v1)) fun r101 =>
  mx_ifnull r101 (
    mx_pure none) (
    mx_bind (mx_getR [(19, 1)] r101) fun v102 =>
    mx_bind (mx_is 18 v0 (fn_J1_deleteEntry d v0 r101)) fun _ =>
    mx_pure v102)
def fn_J1_remove : Nat → Option Nat → Option Nat → mx_M (Option Nat)
  | 0, _, _ => mx_fail
  | d + 1, v0, v1 => fn_J1_remove_B0 d v0 v1
def fn_X2_leave_B0 (d : Nat) (v0 : Option Nat) (v1 : Int32) : mx_M Int32 :=
  mx_bind (mx_is 2 v0 (fn_X2_hasLion d v0 v1)) fun r101 =>
  mx_bind (fn_X1_demand d r101 (101 : Int32)) fun _ =>
  mx_bind (mx_getR [(2, 0)] v0) fun v102 =>
  mx_bind (fn_J27_valueOf d v1) fun r103 =>
  mx_bind (mx_is 18 v102 (fn_J1_remove d v102 r103)) fun r104 =>
  mx_bind (mx_getR [(2, 0)] v0) fun v105 =>
  mx_bind (mx_is 18 v105 (fn_J1_size d v105)) fun r106 =>
  mx_pure r106
def fn_X2_leave : Nat → Option Nat → Int32 → mx_M Int32
  | 0, _, _ => mx_fail
  | d + 1, v0, v1 => fn_X2_leave_B0 d v0 v1
def fn_J35_next_B0 (d : Nat) (v0 : Option Nat) : mx_M (Option Nat) :=
  mx_bind (mx_is 23 v0 (fn_J33_nextEntry d v0)) fun r101 =>
  mx_bind (mx_getR [(19, 0)] r101) fun v102 =>
  mx_pure v102
def fn_J35_next : Nat → Option Nat → mx_M (Option Nat)
  | 0, _ => mx_fail
  | d + 1, v0 => fn_J35_next_B0 d v0
def fn_J35_init_B0 (d : Nat) (v0 : Option Nat) (v1 : Option Nat) (v2 : Option Nat) : mx_M Unit :=
  mx_bind (mx_deref v0 fun _ => fn_J33_init d v0 v1 v2) fun _ =>
  mx_pure ()
def fn_J35_init : Nat → Option Nat → Option Nat → Option Nat → mx_M Unit
  | 0, _, _, _ => mx_fail
  | d + 1, v0, v1, v2 => fn_J35_init_B0 d v0 v1 v2
def fn_J1_keyIterator_B0 (d : Nat) (v0 : Option Nat) : mx_M (Option Nat) :=
  mx_bind (mx_new (23, [.null, .null, .int 0, .null]) 4) fun a101 =>
  mx_bind (mx_is 18 v0 (fn_J1_getFirstEntry d v0)) fun r102 =>
  mx_bind (mx_deref (some a101) fun _ => fn_J35_init d (some a101) v0 r102) fun _ =>
  mx_pure (some a101)
def fn_J1_keyIterator : Nat → Option Nat → mx_M (Option Nat)
  | 0, _ => mx_fail
  | d + 1, v0 => fn_J1_keyIterator_B0 d v0
def fn_J51_iterator_B0 (d : Nat) (v0 : Option Nat) : mx_M (Option Nat) :=
  mx_bind (mx_getR [(21, 0)] v0) fun v101 =>
  mx_bind (mx_inst [18] [] v101) fun v102 =>
  mx_if (v102 = (0 : Int32)) (
    mx_bind (mx_getR [(21, 0)] v0) fun v103 =>
    mx_fail) (
    mx_bind (mx_getR [(21, 0)] v0) fun v104 =>
    mx_bind (mx_cast [18] v104) fun _ =>
    mx_bind (mx_is 18 v104 (fn_J1_keyIterator d v104)) fun r105 =>
    mx_pure r105)
def fn_J51_iterator : Nat → Option Nat → mx_M (Option Nat)
  | 0, _ => mx_fail
  | d + 1, v0 => fn_J51_iterator_B0 d v0
def fn_J51_size_B0 (d : Nat) (v0 : Option Nat) : mx_M Int32 :=
  mx_bind (mx_getR [(21, 0)] v0) fun v101 =>
  mx_bind (mx_is 18 v101 (fn_J1_size d v101)) fun r102 =>
  mx_pure r102
def fn_J51_size : Nat → Option Nat → mx_M Int32
  | 0, _ => mx_fail
  | d + 1, v0 => fn_J51_size_B0 d v0
def fn_J11_size_B0 (d : Nat) (v0 : Option Nat) : mx_M Int32 :=
  mx_bind (mx_getR [(20, 0)] v0) fun v101 =>
  mx_bind (mx_is 18 v101 (fn_J1_size d v101)) fun r102 =>
  mx_pure r102
def fn_J11_size : Nat → Option Nat → mx_M Int32
  | 0, _ => mx_fail
  | d + 1, v0 => fn_J11_size_B0 d v0
def fn_J2_toArray_L15_b (d : Nat) (b15 : Option Nat → Option Nat → Int32 → mx_M (Option Nat)) (l1 : Option Nat) (l2 : Option Nat) (l3 : Int32) : mx_M (Option Nat) :=
  mx_bind (mx_alen l1) fun v101 =>
  mx_if (v101 ≤ l3) (
    mx_bind (mx_or 22 l2 (mx_is 22 l2 (fn_J33_hasNext d l2)) (mx_is 23 l2 (fn_J33_hasNext d l2))) fun r102 =>
    mx_if (r102 = (0 : Int32)) (
      mx_pure l1) (
      mx_fail)) (
    mx_bind (mx_or 22 l2 (mx_is 22 l2 (fn_J33_hasNext d l2)) (mx_is 23 l2 (fn_J33_hasNext d l2))) fun r103 =>
    mx_if (r103 = (0 : Int32)) (
      mx_bind (fn_J23_copyOf_2 d l1 l3) fun r104 =>
      mx_pure r104) (
      mx_bind (mx_or 22 l2 (mx_is 22 l2 (fn_J36_next d l2)) (mx_is 23 l2 (fn_J35_next d l2))) fun r105 =>
      mx_bind (mx_astR l1 l3 r105) fun _ =>
      b15 l1 l2 (l3 + (1 : Int32))))
def fn_J2_toArray_L15 (d : Nat) : Nat → Option Nat → Option Nat → Int32 → mx_M (Option Nat)
  | 0, _, _, _ => mx_fail
  | k + 1, l1, l2, l3 => fn_J2_toArray_L15_b d (fn_J2_toArray_L15 d k) l1 l2 l3
def fn_J2_toArray_B0 (d : Nat) (v0 : Option Nat) : mx_M (Option Nat) :=
  mx_bind (mx_or 20 v0 (mx_is 20 v0 (fn_J11_size d v0)) (mx_is 21 v0 (fn_J51_size d v0))) fun r101 =>
  mx_bind (mx_newa 104 .null r101) fun a102 =>
  mx_bind (mx_or 20 v0 (mx_is 20 v0 (fn_J11_iterator d v0)) (mx_is 21 v0 (fn_J51_iterator d v0))) fun r103 =>
  fn_J2_toArray_L15 d mx_K (some a102) r103 (0 : Int32)
def fn_J2_toArray : Nat → Option Nat → mx_M (Option Nat)
  | 0, _ => mx_fail
  | d + 1, v0 => fn_J2_toArray_B0 d v0
def fn_J4_init_2_B0 (d : Nat) (v0 : Option Nat) (v1 : Option Nat) : mx_M Unit :=
  mx_bind (mx_deref v0 fun _ => fn_J3_init d v0) fun _ =>
  mx_bind (mx_or 20 v1 (mx_is 20 v1 (fn_J2_toArray d v1)) (mx_is 21 v1 (fn_J2_toArray d v1))) fun r101 =>
  mx_bind (mx_alen r101) fun v102 =>
  mx_bind (mx_put [(16, 2)] v0 (.int v102)) fun _ =>
  mx_if (v102 = (0 : Int32)) (
    mx_bind (mx_con 1) fun v103 =>
    mx_bind (mx_put [(16, 1)] v0 (va_rf v103)) fun _ =>
    mx_pure ()) (
    mx_bind (mx_cls [20, 21] v1) fun v104 =>
    mx_bind (mx_con 1016) fun v105 =>
    mx_if (v104 = v105) (
      mx_bind (mx_put [(16, 1)] v0 (va_rf r101)) fun _ =>
      mx_pure ()) (
      mx_bind (mx_getI [(16, 2)] v0) fun v106 =>
      mx_bind (mx_con 1104) fun v107 =>
      mx_bind (fn_J23_copyOf_3 d r101 v106 v107) fun r108 =>
      mx_bind (mx_put [(16, 1)] v0 (va_rf r108)) fun _ =>
      mx_pure ()))
def fn_J4_init_2 : Nat → Option Nat → Option Nat → mx_M Unit
  | 0, _, _ => mx_fail
  | d + 1, v0, v1 => fn_J4_init_2_B0 d v0 v1
def fn_X2_passHours_L47_b (d : Nat) (b14 : Option Nat → Int32 → Int32 → mx_M Int32) (b47 : Option Nat → Int32 → Int32 → Option Nat → mx_M Int32) (l0 : Option Nat) (l1 : Int32) (l2 : Int32) (l3 : Option Nat) : mx_M Int32 :=
  mx_bind (mx_is 17 l3 (fn_J14_hasNext d l3)) fun r101 =>
  mx_if (r101 = (0 : Int32)) (
    b14 l0 l1 (l2 + (1 : Int32))) (
    mx_bind (mx_is 17 l3 (fn_J14_next d l3)) fun r102 =>
    mx_bind (mx_cast [5] r102) fun _ =>
    mx_bind (mx_is 5 r102 (fn_X8_hunger d r102)) fun r103 =>
    mx_bind (mx_is 2 l0 (fn_X2_changeHunger_2 d l0 r102 (if (r103 + (1 : Int32)) < (99 : Int32) then (r103 + (1 : Int32)) else (99 : Int32)))) fun _ =>
    b47 l0 l1 l2 l3)
def fn_X2_passHours_L47 (d : Nat) (b14 : Option Nat → Int32 → Int32 → mx_M Int32) : Nat → Option Nat → Int32 → Int32 → Option Nat → mx_M Int32
  | 0, _, _, _, _ => mx_fail
  | k + 1, l0, l1, l2, l3 => fn_X2_passHours_L47_b d b14 (fn_X2_passHours_L47 d b14 k) l0 l1 l2 l3
def fn_X2_passHours_L14_b (d : Nat) (b14 : Option Nat → Int32 → Int32 → mx_M Int32) (l0 : Option Nat) (l1 : Int32) (l2 : Int32) : mx_M Int32 :=
  mx_if (l1 ≤ l2) (
    mx_bind (mx_getI [(2, 7)] l0) fun v101 =>
    mx_pure v101) (
    mx_bind (mx_getI [(2, 7)] l0) fun v102 =>
    mx_bind (mx_put [(2, 7)] l0 (.int (v102 + (1 : Int32)))) fun _ =>
    mx_bind (mx_new (16, [.int 0, .null, .int 0]) 3) fun a103 =>
    mx_bind (mx_getR [(2, 0)] l0) fun v104 =>
    mx_bind (mx_is 18 v104 (fn_J1_values d v104)) fun r105 =>
    mx_bind (mx_deref (some a103) fun _ => fn_J4_init_2 d (some a103) r105) fun _ =>
    mx_bind (mx_is 16 (some a103) (fn_J4_iterator d (some a103))) fun r106 =>
    fn_X2_passHours_L47 d b14 mx_K l0 l1 l2 r106)
def fn_X2_passHours_L14 (d : Nat) : Nat → Option Nat → Int32 → Int32 → mx_M Int32
  | 0, _, _, _ => mx_fail
  | k + 1, l0, l1, l2 => fn_X2_passHours_L14_b d (fn_X2_passHours_L14 d k) l0 l1 l2
def fn_X2_passHours_B0 (d : Nat) (v0 : Option Nat) (v1 : Int32) : mx_M Int32 :=
  mx_bind (fn_X1_isBetween d v1 (1 : Int32) (24 : Int32)) fun r101 =>
  mx_bind (fn_X1_demand d r101 (97 : Int32)) fun _ =>
  fn_X2_passHours_L14 d mx_K v0 v1 (0 : Int32)
def fn_X2_passHours : Nat → Option Nat → Int32 → mx_M Int32
  | 0, _, _ => mx_fail
  | d + 1, v0, v1 => fn_X2_passHours_B0 d v0 v1
def fn_X3_onDuty_J47 (d : Nat) (b12 : Int32 → Int32 → Option Nat → mx_M Int32) (l1 : Int32) (l3 : Option Nat) (p0 : Int32) (p1 : Int32) : mx_M Int32 :=
  mx_let (p0 + p1) fun v101 =>
  b12 l1 v101 l3
def fn_X3_onDuty_L12_b (d : Nat) (b12 : Int32 → Int32 → Option Nat → mx_M Int32) (l1 : Int32) (l2 : Int32) (l3 : Option Nat) : mx_M Int32 :=
  mx_bind (mx_is 17 l3 (fn_J14_hasNext d l3)) fun r101 =>
  mx_if (r101 = (0 : Int32)) (
    mx_pure l2) (
    mx_bind (mx_is 17 l3 (fn_J14_next d l3)) fun r102 =>
    mx_bind (mx_cast [4] r102) fun _ =>
    mx_bind (mx_is 4 r102 (fn_X11_isOnDuty d r102 l1)) fun r103 =>
    mx_if (r103 = (0 : Int32)) (
      fn_X3_onDuty_J47 d b12 l1 l3 l2 (0 : Int32)) (
      fn_X3_onDuty_J47 d b12 l1 l3 l2 (1 : Int32)))
def fn_X3_onDuty_L12 (d : Nat) : Nat → Int32 → Int32 → Option Nat → mx_M Int32
  | 0, _, _, _ => mx_fail
  | k + 1, l1, l2, l3 => fn_X3_onDuty_L12_b d (fn_X3_onDuty_L12 d k) l1 l2 l3
def fn_X3_onDuty_B0 (d : Nat) (v0 : Option Nat) (v1 : Int32) : mx_M Int32 :=
  mx_bind (mx_getR [(3, 0)] v0) fun v101 =>
  mx_bind (mx_is 16 v101 (fn_J4_iterator d v101)) fun r102 =>
  fn_X3_onDuty_L12 d mx_K v1 (0 : Int32) r102
def fn_X3_onDuty : Nat → Option Nat → Int32 → mx_M Int32
  | 0, _, _ => mx_fail
  | d + 1, v0, v1 => fn_X3_onDuty_B0 d v0 v1
def fn_X2_take_B0 (d : Nat) (v0 : Option Nat) : mx_M (Option Nat) :=
  mx_bind (mx_getR [(2, 2)] v0) fun v101 =>
  mx_bind (mx_getR [(7, 0)] v101) fun v102 =>
  mx_bind (mx_getR [(2, 2)] v0) fun v103 =>
  mx_bind (mx_is 7 v103 (fn_X10_withoutTop d v103)) fun r104 =>
  mx_bind (mx_put [(2, 2)] v0 (va_rf r104)) fun _ =>
  mx_bind (mx_getI [(2, 3)] v0) fun v105 =>
  mx_bind (mx_put [(2, 3)] v0 (.int (v105 - (1 : Int32)))) fun _ =>
  mx_pure v102
def fn_X2_take : Nat → Option Nat → mx_M (Option Nat)
  | 0, _ => mx_fail
  | d + 1, v0 => fn_X2_take_B0 d v0
def fn_X2_throwStale_L0_b (d : Nat) (b0 : Option Nat → mx_M Unit) (l0 : Option Nat) : mx_M Unit :=
  mx_bind (mx_getR [(2, 2)] l0) fun v101 =>
  mx_bind (mx_getR [(7, 0)] v101) fun v102 =>
  mx_bind (mx_is 2 l0 (fn_X2_isValid d l0 v102)) fun r103 =>
  mx_if (r103 = (0 : Int32)) (
    mx_bind (mx_is 2 l0 (fn_X2_take d l0)) fun r104 =>
    mx_bind (mx_getI [(2, 6)] l0) fun v105 =>
    mx_bind (mx_put [(2, 6)] l0 (.int (v105 + (1 : Int32)))) fun _ =>
    b0 l0) (
    mx_pure ())
def fn_X2_throwStale_L0 (d : Nat) : Nat → Option Nat → mx_M Unit
  | 0, _ => mx_fail
  | k + 1, l0 => fn_X2_throwStale_L0_b d (fn_X2_throwStale_L0 d k) l0
def fn_X2_throwStale_E (d : Nat) (v0 : Option Nat) : mx_M Unit :=
  fn_X2_throwStale_L0 d mx_K v0
def fn_X2_throwStale : Nat → Option Nat → mx_M Unit
  | 0, _ => mx_fail
  | d + 1, v0 => fn_X2_throwStale_E d v0
def fn_J0_isEmpty_B0 (d : Nat) (v0 : Option Nat) : mx_M Int32 :=
  mx_bind (mx_is 18 v0 (fn_J1_size d v0)) fun r101 =>
  mx_if (r101 = (0 : Int32)) (
    mx_pure (1 : Int32)) (
    mx_pure (0 : Int32))
def fn_J0_isEmpty : Nat → Option Nat → mx_M Int32
  | 0, _ => mx_fail
  | d + 1, v0 => fn_J0_isEmpty_B0 d v0
def fn_X2_serve_J42 (d : Nat) (l0 : Option Nat) (p0 : Int32) : mx_M Int32 :=
  mx_bind (fn_X1_demand d p0 (117 : Int32)) fun _ =>
  mx_bind (mx_is 2 l0 (fn_X2_throwStale d l0)) fun _ =>
  mx_bind (mx_getR [(2, 0)] l0) fun v101 =>
  mx_bind (mx_is 2 l0 (fn_X2_take d l0)) fun r102 =>
  mx_bind (mx_getI [(6, 1)] r102) fun v103 =>
  mx_bind (fn_J27_valueOf d v103) fun r104 =>
  mx_bind (mx_is 18 v101 (fn_J1_remove d v101 r104)) fun r105 =>
  mx_bind (mx_cast [5] r105) fun _ =>
  mx_bind (mx_getI [(2, 7)] l0) fun v106 =>
  mx_bind (mx_getI [(5, 1)] r105) fun v107 =>
  mx_bind (mx_put [(2, 7)] l0 (.int (v106 + v107))) fun _ =>
  mx_bind (mx_getI [(2, 8)] l0) fun v108 =>
  mx_bind (mx_put [(2, 8)] l0 (.int (v108 + (1 : Int32)))) fun _ =>
  mx_bind (mx_getI [(2, 10)] l0) fun v109 =>
  mx_bind (mx_getI [(5, 1)] r105) fun v110 =>
  mx_bind (mx_put [(2, 10)] l0 (.int (v109 + v110))) fun _ =>
  mx_bind (mx_getI [(2, 9)] l0) fun v111 =>
  mx_bind (mx_getI [(2, 7)] l0) fun v112 =>
  mx_bind (mx_getI [(5, 2)] r105) fun v113 =>
  mx_if (v112 ≤ v113) (
    mx_bind (mx_put [(2, 9)] l0 (.int (v111 + (0 : Int32)))) fun _ =>
    mx_bind (mx_getI [(5, 0)] r105) fun v114 =>
    mx_pure v114) (
    mx_bind (mx_put [(2, 9)] l0 (.int (v111 + (1 : Int32)))) fun _ =>
    mx_bind (mx_getI [(5, 0)] r105) fun v115 =>
    mx_pure v115)
def fn_X2_serve_J15 (d : Nat) (l0 : Option Nat) (p0 : Int32) : mx_M Int32 :=
  mx_bind (fn_X1_demand d p0 (101 : Int32)) fun _ =>
  mx_bind (mx_getR [(2, 1)] l0) fun v101 =>
  mx_bind (mx_getI [(2, 7)] l0) fun v102 =>
  mx_bind (mx_rem v102 (24 : Int32)) fun v103 =>
  mx_bind (mx_is 3 v101 (fn_X3_onDuty d v101 v103)) fun r104 =>
  mx_if (r104 ≤ (0 : Int32)) (
    fn_X2_serve_J42 d l0 (0 : Int32)) (
    fn_X2_serve_J42 d l0 (1 : Int32))
def fn_X2_serve_B0 (d : Nat) (v0 : Option Nat) : mx_M Int32 :=
  mx_bind (mx_getR [(2, 0)] v0) fun v101 =>
  mx_bind (mx_is 18 v101 (fn_J0_isEmpty d v101)) fun r102 =>
  mx_if (r102 = (0 : Int32)) (
    fn_X2_serve_J15 d v0 (1 : Int32)) (
    fn_X2_serve_J15 d v0 (0 : Int32))
def fn_X2_serve : Nat → Option Nat → mx_M Int32
  | 0, _ => mx_fail
  | d + 1, v0 => fn_X2_serve_B0 d v0
def fn_J25_equals_L9_b (d : Nat) (b9 : Option Nat → Option Nat → Int32 → mx_M Int32) (l0 : Option Nat) (l1 : Option Nat) (l2 : Int32) : mx_M Int32 :=
  mx_bind (mx_alen l0) fun v101 =>
  mx_if (v101 ≤ l2) (
    mx_pure (1 : Int32)) (
    mx_bind (mx_aldI 101 l0 l2) fun v102 =>
    mx_bind (mx_aldI 101 l1 l2) fun v103 =>
    mx_if (v102 = v103) (
      b9 l0 l1 (l2 + (1 : Int32))) (
      mx_pure (0 : Int32)))
def fn_J25_equals_L9 (d : Nat) : Nat → Option Nat → Option Nat → Int32 → mx_M Int32
  | 0, _, _, _ => mx_fail
  | k + 1, l0, l1, l2 => fn_J25_equals_L9_b d (fn_J25_equals_L9 d k) l0 l1 l2
def fn_J25_equals_B0 (d : Nat) (v0 : Option Nat) (v1 : Option Nat) : mx_M Int32 :=
  mx_bind (mx_alen v0) fun v101 =>
  mx_bind (mx_alen v1) fun v102 =>
  mx_if (v101 = v102) (
    fn_J25_equals_L9 d mx_K v0 v1 (0 : Int32)) (
    mx_pure (0 : Int32))
def fn_J25_equals : Nat → Option Nat → Option Nat → mx_M Int32
  | 0, _, _ => mx_fail
  | d + 1, v0, v1 => fn_J25_equals_B0 d v0 v1
def fn_J9_equals_J36 (d : Nat) (l0 : Option Nat) (l2 : Option Nat) : mx_M Int32 :=
  mx_bind (mx_getR [(30, 0)] l0) fun v101 =>
  mx_bind (mx_getR [(30, 0)] l2) fun v102 =>
  mx_bind (fn_J25_equals d v101 v102) fun r103 =>
  mx_if (r103 = (0 : Int32)) (
    mx_pure (0 : Int32)) (
    mx_pure (1 : Int32))
def fn_J9_equals_B0 (d : Nat) (v0 : Option Nat) (v1 : Option Nat) : mx_M Int32 :=
  mx_if (v0 = v1) (
    mx_pure (1 : Int32)) (
    mx_bind (mx_inst [30] [] v1) fun v101 =>
    mx_if (v101 = (0 : Int32)) (
      mx_pure (0 : Int32)) (
      mx_bind (mx_cast [30] v1) fun _ =>
      mx_if ((1 : Int32) = (0 : Int32)) (
        fn_J9_equals_J36 d v0 v1) (
        mx_bind (mx_getI [(30, 1)] v0) fun v102 =>
        mx_bind (mx_getI [(30, 1)] v1) fun v103 =>
        mx_if (v102 = v103) (
          fn_J9_equals_J36 d v0 v1) (
          mx_pure (0 : Int32)))))
def fn_J9_equals : Nat → Option Nat → Option Nat → mx_M Int32
  | 0, _, _ => mx_fail
  | d + 1, v0, v1 => fn_J9_equals_B0 d v0 v1
def fn_J9_isLatin1_B0 (d : Nat) (v0 : Option Nat) : mx_M Int32 :=
  mx_if ((1 : Int32) = (0 : Int32)) (
    mx_pure (0 : Int32)) (
    mx_bind (mx_getI [(30, 1)] v0) fun v101 =>
    mx_if (v101 = (0 : Int32)) (
      mx_pure (1 : Int32)) (
      mx_pure (0 : Int32)))
def fn_J9_isLatin1 : Nat → Option Nat → mx_M Int32
  | 0, _ => mx_fail
  | d + 1, v0 => fn_J9_isLatin1_B0 d v0
def fn_J21_hashCode_2_L8_b (d : Nat) (b8 : Int32 → Option Nat → Int32 → Int32 → mx_M Int32) (l0 : Int32) (l1 : Option Nat) (l4 : Int32) (l5 : Int32) : mx_M Int32 :=
  mx_if (l4 ≤ l5) (
    mx_pure l0) (
    mx_bind (mx_aldI 101 l1 l5) fun v101 =>
    mx_let (((31 : Int32) * l0) + v101) fun v102 =>
    b8 v102 l1 l4 (l5 + (1 : Int32)))
def fn_J21_hashCode_2_L8 (d : Nat) : Nat → Int32 → Option Nat → Int32 → Int32 → mx_M Int32
  | 0, _, _, _, _ => mx_fail
  | k + 1, l0, l1, l4, l5 => fn_J21_hashCode_2_L8_b d (fn_J21_hashCode_2_L8 d k) l0 l1 l4 l5
def fn_J21_hashCode_2_B0 (d : Nat) (v0 : Int32) (v1 : Option Nat) (v2 : Int32) (v3 : Int32) : mx_M Int32 :=
  mx_let (v2 + v3) fun v101 =>
  fn_J21_hashCode_2_L8 d mx_K v0 v1 v101 v2
def fn_J21_hashCode_2 : Nat → Int32 → Option Nat → Int32 → Int32 → mx_M Int32
  | 0, _, _, _, _ => mx_fail
  | d + 1, v0, v1, v2, v3 => fn_J21_hashCode_2_B0 d v0 v1 v2 v3
def fn_J21_hashCode_4_L8_b (d : Nat) (b8 : Int32 → Option Nat → Int32 → Int32 → mx_M Int32) (l0 : Int32) (l1 : Option Nat) (l4 : Int32) (l5 : Int32) : mx_M Int32 :=
  mx_if (l4 ≤ l5) (
    mx_pure l0) (
    mx_bind (mx_aldI 100 l1 l5) fun v101 =>
    mx_let (((31 : Int32) * l0) + v101) fun v102 =>
    b8 v102 l1 l4 (l5 + (1 : Int32)))
def fn_J21_hashCode_4_L8 (d : Nat) : Nat → Int32 → Option Nat → Int32 → Int32 → mx_M Int32
  | 0, _, _, _, _ => mx_fail
  | k + 1, l0, l1, l4, l5 => fn_J21_hashCode_4_L8_b d (fn_J21_hashCode_4_L8 d k) l0 l1 l4 l5
def fn_J21_hashCode_4_B0 (d : Nat) (v0 : Int32) (v1 : Option Nat) (v2 : Int32) (v3 : Int32) : mx_M Int32 :=
  mx_let (v2 + v3) fun v101 =>
  fn_J21_hashCode_4_L8 d mx_K v0 v1 v101 v2
def fn_J21_hashCode_4 : Nat → Int32 → Option Nat → Int32 → Int32 → mx_M Int32
  | 0, _, _, _, _ => mx_fail
  | d + 1, v0, v1, v2, v3 => fn_J21_hashCode_4_B0 d v0 v1 v2 v3
def fn_J21_signedHashCode_L8_b (d : Nat) (b8 : Int32 → Option Nat → Int32 → Int32 → mx_M Int32) (l0 : Int32) (l1 : Option Nat) (l4 : Int32) (l5 : Int32) : mx_M Int32 :=
  mx_if (l4 ≤ l5) (
    mx_pure l0) (
    mx_bind (mx_aldI 101 l1 l5) fun v101 =>
    mx_let (((31 : Int32) * l0) + (v101 &&& (255 : Int32))) fun v102 =>
    b8 v102 l1 l4 (l5 + (1 : Int32)))
def fn_J21_signedHashCode_L8 (d : Nat) : Nat → Int32 → Option Nat → Int32 → Int32 → mx_M Int32
  | 0, _, _, _, _ => mx_fail
  | k + 1, l0, l1, l4, l5 => fn_J21_signedHashCode_L8_b d (fn_J21_signedHashCode_L8 d k) l0 l1 l4 l5
def fn_J21_signedHashCode_B0 (d : Nat) (v0 : Int32) (v1 : Option Nat) (v2 : Int32) (v3 : Int32) : mx_M Int32 :=
  mx_let (v2 + v3) fun v101 =>
  fn_J21_signedHashCode_L8 d mx_K v0 v1 v101 v2
def fn_J21_signedHashCode : Nat → Int32 → Option Nat → Int32 → Int32 → mx_M Int32
  | 0, _, _, _, _ => mx_fail
  | d + 1, v0, v1, v2, v3 => fn_J21_signedHashCode_B0 d v0 v1 v2 v3
def fn_J21_vectorizedHashCode_B0 (d : Nat) (v0 : Option Nat) (v1 : Int32) (v2 : Int32) (v3 : Int32) (v4 : Int32) : mx_M Int32 :=
  mx_sw v4 [
    ((4 : Int32),
      mx_bind (mx_cast [101] v0) fun _ =>
      mx_bind (fn_J21_signedHashCode d v3 v0 v1 v2) fun r101 =>
      mx_pure r101),
    ((5 : Int32),
      mx_bind (mx_inst [101] [] v0) fun v102 =>
      mx_if (v102 = (0 : Int32)) (
        mx_fail) (
        mx_bind (mx_cast [101] v0) fun _ =>
        mx_fail)),
    ((6 : Int32),
      mx_fail),
    ((7 : Int32),
      mx_fail),
    ((8 : Int32),
      mx_bind (mx_cast [101] v0) fun _ =>
      mx_bind (fn_J21_hashCode_2 d v3 v0 v1 v2) fun r103 =>
      mx_pure r103),
    ((9 : Int32),
      mx_fail),
    ((10 : Int32),
      mx_bind (mx_cast [100] v0) fun _ =>
      mx_bind (fn_J21_hashCode_4 d v3 v0 v1 v2) fun r104 =>
      mx_pure r104)] (
    mx_fail)
def fn_J21_vectorizedHashCode : Nat → Option Nat → Int32 → Int32 → Int32 → Int32 → mx_M Int32
  | 0, _, _, _, _, _ => mx_fail
  | d + 1, v0, v1, v2, v3, v4 => fn_J21_vectorizedHashCode_B0 d v0 v1 v2 v3 v4
def fn_J25_hashCode_B0 (d : Nat) (v0 : Option Nat) : mx_M Int32 :=
  mx_bind (mx_alen v0) fun v101 =>
  mx_sw v101 [
    ((0 : Int32),
      mx_pure (0 : Int32)),
    ((1 : Int32),
      mx_bind (mx_aldI 101 v0 (0 : Int32)) fun v102 =>
      mx_pure (v102 &&& (255 : Int32)))] (
    mx_bind (mx_alen v0) fun v103 =>
    mx_bind (fn_J21_vectorizedHashCode d v0 (0 : Int32) v103 (0 : Int32) (4 : Int32)) fun r104 =>
    mx_pure r104)
def fn_J25_hashCode : Nat → Option Nat → mx_M Int32
  | 0, _ => mx_fail
  | d + 1, v0 => fn_J25_hashCode_B0 d v0
def fn_J9_hashCode_B0 (d : Nat) (v0 : Option Nat) : mx_M Int32 :=
  mx_bind (mx_getI [(30, 2)] v0) fun v101 =>
  mx_if (v101 = (0 : Int32)) (
    mx_bind (mx_getI [(30, 3)] v0) fun v102 =>
    mx_if (v102 = (0 : Int32)) (
      mx_bind (mx_is 30 v0 (fn_J9_isLatin1 d v0)) fun r103 =>
      mx_if (r103 = (0 : Int32)) (
        mx_bind (mx_getR [(30, 0)] v0) fun v104 =>
        mx_fail) (
        mx_bind (mx_getR [(30, 0)] v0) fun v105 =>
        mx_bind (fn_J25_hashCode d v105) fun r106 =>
        mx_if (r106 = (0 : Int32)) (
          mx_bind (mx_put [(30, 3)] v0 (.int (1 : Int32))) fun _ =>
          mx_pure r106) (
          mx_bind (mx_put [(30, 2)] v0 (.int r106)) fun _ =>
          mx_pure r106))) (
      mx_pure v101)) (
    mx_pure v101)
def fn_J9_hashCode : Nat → Option Nat → mx_M Int32
  | 0, _ => mx_fail
  | d + 1, v0 => fn_J9_hashCode_B0 d v0
def fn_X5_applyTo_J195 (d : Nat) (l0 : Option Nat) (l1 : Option Nat) (l3 : Int32) : mx_M Int32 :=
  mx_sw l3 [
    ((0 : Int32),
      mx_bind (mx_is 11 l0 (fn_X5_at d l0 (0 : Int32))) fun r101 =>
      mx_bind (mx_is 11 l0 (fn_X5_at d l0 (1 : Int32))) fun r102 =>
      mx_bind (mx_is 11 l0 (fn_X5_at d l0 (2 : Int32))) fun r103 =>
      mx_bind (mx_is 2 l1 (fn_X2_addLion d l1 r101 r102 r103)) fun r104 =>
      mx_pure r104),
    ((1 : Int32),
      mx_bind (mx_is 11 l0 (fn_X5_at d l0 (0 : Int32))) fun r105 =>
      mx_bind (mx_is 11 l0 (fn_X5_at d l0 (1 : Int32))) fun r106 =>
      mx_bind (mx_is 2 l1 (fn_X2_changeHunger d l1 r105 r106 (1 : Int32))) fun r107 =>
      mx_pure r107),
    ((2 : Int32),
      mx_bind (mx_is 11 l0 (fn_X5_at d l0 (0 : Int32))) fun r108 =>
      mx_bind (mx_is 11 l0 (fn_X5_at d l0 (1 : Int32))) fun r109 =>
      mx_bind (mx_is 2 l1 (fn_X2_changeHunger d l1 r108 r109 (0 : Int32))) fun r110 =>
      mx_pure r110),
    ((3 : Int32),
      mx_bind (mx_is 11 l0 (fn_X5_at d l0 (0 : Int32))) fun r111 =>
      mx_bind (mx_is 2 l1 (fn_X2_leave d l1 r111)) fun r112 =>
      mx_pure r112),
    ((4 : Int32),
      mx_bind (mx_is 2 l1 (fn_X2_serve d l1)) fun r113 =>
      mx_pure r113),
    ((5 : Int32),
      mx_bind (mx_is 2 l1 (fn_X2_purge d l1)) fun r114 =>
      mx_pure r114),
    ((6 : Int32),
      mx_bind (mx_is 11 l0 (fn_X5_at d l0 (0 : Int32))) fun r115 =>
      mx_bind (mx_is 11 l0 (fn_X5_at d l0 (1 : Int32))) fun r116 =>
      mx_bind (mx_is 2 l1 (fn_X2_hireKeeper d l1 r115 r116)) fun r117 =>
      mx_pure r117),
    ((7 : Int32),
      mx_bind (mx_is 11 l0 (fn_X5_at d l0 (0 : Int32))) fun r118 =>
      mx_bind (mx_is 2 l1 (fn_X2_dismissKeeper d l1 r118)) fun r119 =>
      mx_pure r119)] (
    mx_bind (mx_is 11 l0 (fn_X5_at d l0 (0 : Int32))) fun r120 =>
    mx_bind (mx_is 2 l1 (fn_X2_passHours d l1 r120)) fun r121 =>
    mx_pure r121)
def fn_X5_applyTo_B0 (d : Nat) (v0 : Option Nat) (v1 : Option Nat) : mx_M Int32 :=
  mx_bind (mx_getR [(11, 0)] v0) fun v101 =>
  mx_bind (mx_is 30 v101 (fn_J9_hashCode d v101)) fun r102 =>
  mx_sw r102 [
    ((-1135252750 : Int32),
      mx_bind (mx_con 217) fun v103 =>
      mx_bind (mx_is 30 v101 (fn_J9_equals d v101 v103)) fun r104 =>
      mx_if (r104 = (0 : Int32)) (
        fn_X5_applyTo_J195 d v0 v1 (-1 : Int32)) (
        fn_X5_applyTo_J195 d v0 v1 (6 : Int32))),
    ((3321884 : Int32),
      mx_bind (mx_con 211) fun v105 =>
      mx_bind (mx_is 30 v101 (fn_J9_equals d v101 v105)) fun r106 =>
      mx_if (r106 = (0 : Int32)) (
        fn_X5_applyTo_J195 d v0 v1 (-1 : Int32)) (
        fn_X5_applyTo_J195 d v0 v1 (0 : Int32))),
    ((3505966 : Int32),
      mx_bind (mx_con 212) fun v107 =>
      mx_bind (mx_is 30 v101 (fn_J9_equals d v101 v107)) fun r108 =>
      mx_if (r108 = (0 : Int32)) (
        fn_X5_applyTo_J195 d v0 v1 (-1 : Int32)) (
        fn_X5_applyTo_J195 d v0 v1 (1 : Int32))),
    ((3701727 : Int32),
      mx_bind (mx_con 213) fun v109 =>
      mx_bind (mx_is 30 v101 (fn_J9_equals d v101 v109)) fun r110 =>
      mx_if (r110 = (0 : Int32)) (
        fn_X5_applyTo_J195 d v0 v1 (-1 : Int32)) (
        fn_X5_applyTo_J195 d v0 v1 (2 : Int32))),
    ((102846135 : Int32),
      mx_bind (mx_con 214) fun v111 =>
      mx_bind (mx_is 30 v101 (fn_J9_equals d v101 v111)) fun r112 =>
      mx_if (r112 = (0 : Int32)) (
        fn_X5_applyTo_J195 d v0 v1 (-1 : Int32)) (
        fn_X5_applyTo_J195 d v0 v1 (3 : Int32))),
    ((107032747 : Int32),
      mx_bind (mx_con 216) fun v113 =>
      mx_bind (mx_is 30 v101 (fn_J9_equals d v101 v113)) fun r114 =>
      mx_if (r114 = (0 : Int32)) (
        fn_X5_applyTo_J195 d v0 v1 (-1 : Int32)) (
        fn_X5_applyTo_J195 d v0 v1 (5 : Int32))),
    ((109327119 : Int32),
      mx_bind (mx_con 215) fun v115 =>
      mx_bind (mx_is 30 v101 (fn_J9_equals d v101 v115)) fun r116 =>
      mx_if (r116 = (0 : Int32)) (
        fn_X5_applyTo_J195 d v0 v1 (-1 : Int32)) (
        fn_X5_applyTo_J195 d v0 v1 (4 : Int32))),
    ((1671672458 : Int32),
      mx_bind (mx_con 218) fun v117 =>
      mx_bind (mx_is 30 v101 (fn_J9_equals d v101 v117)) fun r118 =>
      mx_if (r118 = (0 : Int32)) (
        fn_X5_applyTo_J195 d v0 v1 (-1 : Int32)) (
        fn_X5_applyTo_J195 d v0 v1 (7 : Int32)))] (
    fn_X5_applyTo_J195 d v0 v1 (-1 : Int32))
def fn_X5_applyTo : Nat → Option Nat → Option Nat → mx_M Int32
  | 0, _, _ => mx_fail
  | d + 1, v0, v1 => fn_X5_applyTo_B0 d v0 v1
def fn_X7_asPublicException_B0 (d : Nat) (v0 : Option Nat) : mx_M (Option Nat) :=
  mx_bind (mx_getI [(13, 6)] v0) fun v101 =>
  mx_sw v101 [
    ((97 : Int32),
      mx_bind (mx_ge 6 d (mx_new (35, []) 6)) fun a102 =>
      mx_pure (some a102)),
    ((101 : Int32),
      mx_bind (mx_ge 6 d (mx_new (34, []) 6)) fun a103 =>
      mx_pure (some a103)),
    ((105 : Int32),
      mx_bind (mx_ge 6 d (mx_new (37, []) 6)) fun a104 =>
      mx_pure (some a104)),
    ((115 : Int32),
      mx_bind (mx_ge 6 d (mx_new (36, []) 6)) fun a105 =>
      mx_pure (some a105))] (
    mx_bind (mx_ge 6 d (mx_new (38, []) 6)) fun a106 =>
    mx_pure (some a106))
def fn_X7_asPublicException : Nat → Option Nat → mx_M (Option Nat)
  | 0, _ => mx_fail
  | d + 1, v0 => fn_X7_asPublicException_B0 d v0
def fn_X3_copy_L18_b (d : Nat) (b18 : Option Nat → Option Nat → mx_M (Option Nat)) (l1 : Option Nat) (l2 : Option Nat) : mx_M (Option Nat) :=
  mx_bind (mx_is 17 l2 (fn_J14_hasNext d l2)) fun r101 =>
  mx_if (r101 = (0 : Int32)) (
    mx_pure l1) (
    mx_bind (mx_is 17 l2 (fn_J14_next d l2)) fun r102 =>
    mx_bind (mx_cast [4] r102) fun _ =>
    mx_bind (mx_getR [(3, 0)] l1) fun v103 =>
    mx_bind (mx_is 16 v103 (fn_J4_add d v103 r102)) fun r104 =>
    b18 l1 l2)
def fn_X3_copy_L18 (d : Nat) : Nat → Option Nat → Option Nat → mx_M (Option Nat)
  | 0, _, _ => mx_fail
  | k + 1, l1, l2 => fn_X3_copy_L18_b d (fn_X3_copy_L18 d k) l1 l2
def fn_X3_copy_B0 (d : Nat) (v0 : Option Nat) : mx_M (Option Nat) :=
  mx_bind (mx_new (3, [.null]) 1) fun a101 =>
  mx_bind (mx_deref (some a101) fun _ => fn_X3_init d (some a101)) fun _ =>
  mx_bind (mx_getR [(3, 0)] v0) fun v102 =>
  mx_bind (mx_is 16 v102 (fn_J4_iterator d v102)) fun r103 =>
  fn_X3_copy_L18 d mx_K (some a101) r103
def fn_X3_copy : Nat → Option Nat → mx_M (Option Nat)
  | 0, _ => mx_fail
  | d + 1, v0 => fn_X3_copy_B0 d v0
def fn_X2_copy_L21_b (d : Nat) (b21 : Option Nat → Option Nat → Option Nat → mx_M (Option Nat)) (l0 : Option Nat) (l1 : Option Nat) (l2 : Option Nat) : mx_M (Option Nat) :=
  mx_bind (mx_is 22 l2 (fn_J33_hasNext d l2)) fun r101 =>
  mx_if (r101 = (0 : Int32)) (
    mx_bind (mx_getR [(2, 1)] l0) fun v102 =>
    mx_bind (mx_is 3 v102 (fn_X3_copy d v102)) fun r103 =>
    mx_bind (mx_put [(2, 1)] l1 (va_rf r103)) fun _ =>
    mx_bind (mx_getR [(2, 2)] l0) fun v104 =>
    mx_bind (mx_put [(2, 2)] l1 (va_rf v104)) fun _ =>
    mx_bind (mx_getI [(2, 3)] l0) fun v105 =>
    mx_bind (mx_put [(2, 3)] l1 (.int v105)) fun _ =>
    mx_bind (mx_getI [(2, 4)] l0) fun v106 =>
    mx_bind (mx_put [(2, 4)] l1 (.int v106)) fun _ =>
    mx_bind (mx_getI [(2, 5)] l0) fun v107 =>
    mx_bind (mx_put [(2, 5)] l1 (.int v107)) fun _ =>
    mx_bind (mx_getI [(2, 6)] l0) fun v108 =>
    mx_bind (mx_put [(2, 6)] l1 (.int v108)) fun _ =>
    mx_bind (mx_getI [(2, 7)] l0) fun v109 =>
    mx_bind (mx_put [(2, 7)] l1 (.int v109)) fun _ =>
    mx_bind (mx_getI [(2, 8)] l0) fun v110 =>
    mx_bind (mx_put [(2, 8)] l1 (.int v110)) fun _ =>
    mx_bind (mx_getI [(2, 9)] l0) fun v111 =>
    mx_bind (mx_put [(2, 9)] l1 (.int v111)) fun _ =>
    mx_bind (mx_getI [(2, 10)] l0) fun v112 =>
    mx_bind (mx_put [(2, 10)] l1 (.int v112)) fun _ =>
    mx_pure l1) (
    mx_bind (mx_is 22 l2 (fn_J36_next d l2)) fun r113 =>
    mx_bind (mx_cast [5] r113) fun _ =>
    mx_bind (mx_getR [(2, 0)] l1) fun v114 =>
    mx_bind (mx_getI [(5, 0)] r113) fun v115 =>
    mx_bind (fn_J27_valueOf d v115) fun r116 =>
    mx_bind (mx_is 18 v114 (fn_J1_put d v114 r116 r113)) fun r117 =>
    b21 l0 l1 l2)
def fn_X2_copy_L21 (d : Nat) : Nat → Option Nat → Option Nat → Option Nat → mx_M (Option Nat)
  | 0, _, _, _ => mx_fail
  | k + 1, l0, l1, l2 => fn_X2_copy_L21_b d (fn_X2_copy_L21 d k) l0 l1 l2
def fn_X2_copy_B0 (d : Nat) (v0 : Option Nat) : mx_M (Option Nat) :=
  mx_bind (mx_new (2, [.null, .null, .null, .int 0, .int 0, .int 0, .int 0, .int 0, .int 0, .int 0, .int 0]) 11) fun a101 =>
  mx_bind (mx_deref (some a101) fun _ => fn_X2_init d (some a101)) fun _ =>
  mx_bind (mx_getR [(2, 0)] v0) fun v102 =>
  mx_bind (mx_is 18 v102 (fn_J1_values d v102)) fun r103 =>
  mx_bind (mx_is 20 r103 (fn_J11_iterator d r103)) fun r104 =>
  fn_X2_copy_L21 d mx_K v0 (some a101) r104
def fn_X2_copy : Nat → Option Nat → mx_M (Option Nat)
  | 0, _ => mx_fail
  | d + 1, v0 => fn_X2_copy_B0 d v0
def fn_X1_change_J27 (d : Nat) (p0 : Option Nat) : mx_M Int32 :=
  mx_bind (mx_is 13 p0 (fn_X7_asPublicException d p0)) fun r101 =>
  mx_deref r101 fun q102 =>
  mx_thr [13, 14, 15, 34, 35, 36, 37, 38, 39] q102
def fn_X1_change_B0 (d : Nat) (v0 : Option Nat) (v1 : Option Nat) (v2 : Option Nat) : mx_M Int32 :=
  mx_bind (mx_getR [(0, 0)] v0) fun v101 =>
  mx_bind (mx_is 2 v101 (fn_X2_copy d v101)) fun r102 =>
  mx_bind (mx_new (11, [.null, .null]) 2) fun a103 =>
  mx_try (mx_deref (some a103) fun _ => fn_X5_init d (some a103) v1 v2) (fun _ =>
    mx_try (mx_is 11 (some a103) (fn_X5_applyTo d (some a103) r102)) (fun r105 =>
      mx_try (mx_is 0 v0 (fn_X1_commit d v0 r102 r105)) (fun r107 =>
        mx_pure r107) fun q108 =>
        mx_in [13] q108 (
          fn_X1_change_J27 d (some q108)) (
        mx_fail)
) fun q106 =>
      mx_in [13] q106 (
        fn_X1_change_J27 d (some q106)) (
      mx_fail)
) fun q104 =>
    mx_in [13] q104 (
      fn_X1_change_J27 d (some q104)) (
    mx_fail)

def fn_X1_change : Nat → Option Nat → Option Nat → Option Nat → mx_M Int32
  | 0, _, _, _ => mx_fail
  | d + 1, v0, v1, v2 => fn_X1_change_B0 d v0 v1 v2
def fn_X1_purge_B0 (d : Nat) (v0 : Option Nat) : mx_M Int32 :=
  mx_bind (mx_con 201) fun v101 =>
  mx_bind (mx_newa 100 (.int 0) (0 : Int32)) fun a102 =>
  mx_bind (mx_is 0 v0 (fn_X1_change d v0 v101 (some a102))) fun r103 =>
  mx_pure r103
def fn_X1_purge : Nat → Option Nat → mx_M Int32
  | 0, _ => mx_fail
  | d + 1, v0 => fn_X1_purge_B0 d v0
def fn_J9_coder_B0 (d : Nat) (v0 : Option Nat) : mx_M Int32 :=
  mx_if ((1 : Int32) = (0 : Int32)) (
    mx_pure (1 : Int32)) (
    mx_bind (mx_getI [(30, 1)] v0) fun v101 =>
    mx_retN .byte v101)
def fn_J9_coder : Nat → Option Nat → mx_M Int32
  | 0, _ => mx_fail
  | d + 1, v0 => fn_J9_coder_B0 d v0
def fn_J9_length_B0 (d : Nat) (v0 : Option Nat) : mx_M Int32 :=
  mx_bind (mx_getR [(30, 0)] v0) fun v101 =>
  mx_bind (mx_alen v101) fun v102 =>
  mx_bind (mx_is 30 v0 (fn_J9_coder d v0)) fun r103 =>
  mx_pure (v102 >>> (r103 &&& 31))
def fn_J9_length : Nat → Option Nat → mx_M Int32
  | 0, _ => mx_fail
  | d + 1, v0 => fn_J9_length_B0 d v0
def fn_X1_write_B0 (d : Nat) (v0 : Option Nat) (v1 : Option Nat) : mx_M Int32 :=
  mx_bind (mx_put [(0, 7)] v0 (va_rf v1)) fun _ =>
  mx_bind (mx_getR [(0, 7)] v0) fun v101 =>
  mx_bind (mx_is 30 v101 (fn_J9_length d v101)) fun r102 =>
  mx_pure r102
def fn_X1_write : Nat → Option Nat → Option Nat → mx_M Int32
  | 0, _, _ => mx_fail
  | d + 1, v0, v1 => fn_X1_write_B0 d v0 v1
def fn_J7_newCapacity_B0 (d : Nat) (v0 : Option Nat) (v1 : Int32) : mx_M Int32 :=
  mx_bind (mx_getR [(29, 0)] v0) fun v101 =>
  mx_bind (mx_alen v101) fun v102 =>
  mx_bind (mx_getI [(29, 1)] v0) fun v103 =>
  mx_let (v1 <<< (v103 &&& 31)) fun v104 =>
  mx_let (v104 - v102) fun v105 =>
  mx_bind (mx_getI [(29, 1)] v0) fun v106 =>
  mx_bind (fn_J21_newLength d v102 v105 (v102 + ((2 : Int32) <<< (v106 &&& 31)))) fun r107 =>
  mx_if (r107 = (2147483647 : Int32)) (
    mx_fail) (
    mx_bind (mx_getI [(29, 1)] v0) fun v108 =>
    mx_pure (r107 >>> (v108 &&& 31)))
def fn_J7_newCapacity : Nat → Option Nat → Int32 → mx_M Int32
  | 0, _, _ => mx_fail
  | d + 1, v0, v1 => fn_J7_newCapacity_B0 d v0 v1
def fn_J23_copyOf_B0 (d : Nat) (v0 : Option Nat) (v1 : Int32) : mx_M (Option Nat) :=
  mx_bind (mx_alen v0) fun v101 =>
  mx_if (v1 = v101) (
    mx_bind (mx_cloneP 101 (fun w => fits .byte w) v0) fun a102 =>
    mx_bind (mx_cast [101] (some a102)) fun _ =>
    mx_pure (some a102)) (
    mx_bind (mx_newa 101 (.int 0) v1) fun a103 =>
    mx_bind (mx_alen v0) fun v104 =>
    mx_bind (mx_copyP 101 (fun _ w => fits .byte w) v0 (0 : Int32) (some a103) (0 : Int32) (if v1 < v104 then v1 else v104)) fun _ =>
    mx_pure (some a103))
def fn_J23_copyOf : Nat → Option Nat → Int32 → mx_M (Option Nat)
  | 0, _, _ => mx_fail
  | d + 1, v0, v1 => fn_J23_copyOf_B0 d v0 v1
def fn_J7_ensureCapacityInternal_B0 (d : Nat) (v0 : Option Nat) (v1 : Int32) : mx_M Unit :=
  mx_bind (mx_getR [(29, 0)] v0) fun v101 =>
  mx_bind (mx_alen v101) fun v102 =>
  mx_bind (mx_getI [(29, 1)] v0) fun v103 =>
  mx_let (v102 >>> (v103 &&& 31)) fun v104 =>
  mx_if ((v1 - v104) ≤ (0 : Int32)) (
    mx_pure ()) (
    mx_bind (mx_getR [(29, 0)] v0) fun v105 =>
    mx_bind (mx_is 29 v0 (fn_J7_newCapacity d v0 v1)) fun r106 =>
    mx_bind (mx_getI [(29, 1)] v0) fun v107 =>
    mx_bind (fn_J23_copyOf d v105 (r106 <<< (v107 &&& 31))) fun r108 =>
    mx_bind (mx_put [(29, 0)] v0 (va_rf r108)) fun _ =>
    mx_pure ())
def fn_J7_ensureCapacityInternal : Nat → Option Nat → Int32 → mx_M Unit
  | 0, _, _ => mx_fail
  | d + 1, v0, v1 => fn_J7_ensureCapacityInternal_B0 d v0 v1
def fn_J7_isLatin1_B0 (d : Nat) (v0 : Option Nat) : mx_M Int32 :=
  mx_if ((1 : Int32) = (0 : Int32)) (
    mx_pure (0 : Int32)) (
    mx_bind (mx_getI [(29, 1)] v0) fun v101 =>
    mx_if (v101 = (0 : Int32)) (
      mx_pure (1 : Int32)) (
      mx_pure (0 : Int32)))
def fn_J7_isLatin1 : Nat → Option Nat → mx_M Int32
  | 0, _ => mx_fail
  | d + 1, v0 => fn_J7_isLatin1_B0 d v0
def fn_J27_getChars_J104 (d : Nat) (l2 : Option Nat) (l5 : Int32) (l6 : Int32) : mx_M Int32 :=
  mx_if (l6 = (0 : Int32)) (
    mx_pure l5) (
    mx_bind (mx_ast 101 l2 (l5 + (-1 : Int32)) (.int (45 : Int32).toInt8.toInt32)) fun _ =>
    mx_pure (l5 + (-1 : Int32)))
def fn_J27_getChars_L22_b (d : Nat) (b22 : Int32 → Option Nat → Int32 → Int32 → mx_M Int32) (l0 : Int32) (l2 : Option Nat) (l5 : Int32) (l6 : Int32) : mx_M Int32 :=
  mx_if ((-100 : Int32) < l0) (
    mx_bind (mx_con 5) fun v101 =>
    mx_bind (mx_aldI 101 v101 (-l0)) fun v102 =>
    mx_bind (mx_ast 101 l2 (l5 + (-1 : Int32)) (.int v102.toInt8.toInt32)) fun _ =>
    mx_if ((-9 : Int32) ≤ l0) (
      fn_J27_getChars_J104 d l2 (l5 + (-1 : Int32)) l6) (
      mx_bind (mx_con 6) fun v103 =>
      mx_bind (mx_aldI 101 v103 (-l0)) fun v104 =>
      mx_bind (mx_ast 101 l2 ((l5 + (-1 : Int32)) + (-1 : Int32)) (.int v104.toInt8.toInt32)) fun _ =>
      fn_J27_getChars_J104 d l2 ((l5 + (-1 : Int32)) + (-1 : Int32)) l6)) (
    mx_bind (mx_div l0 (100 : Int32)) fun v105 =>
    mx_let ((v105 * (100 : Int32)) - l0) fun v106 =>
    mx_bind (mx_con 5) fun v107 =>
    mx_bind (mx_aldI 101 v107 v106) fun v108 =>
    mx_bind (mx_ast 101 l2 (l5 + (-1 : Int32)) (.int v108.toInt8.toInt32)) fun _ =>
    mx_bind (mx_con 6) fun v109 =>
    mx_bind (mx_aldI 101 v109 v106) fun v110 =>
    mx_bind (mx_ast 101 l2 ((l5 + (-1 : Int32)) + (-1 : Int32)) (.int v110.toInt8.toInt32)) fun _ =>
    b22 v105 l2 ((l5 + (-1 : Int32)) + (-1 : Int32)) l6)
def fn_J27_getChars_L22 (d : Nat) : Nat → Int32 → Option Nat → Int32 → Int32 → mx_M Int32
  | 0, _, _, _, _ => mx_fail
  | k + 1, l0, l2, l5, l6 => fn_J27_getChars_L22_b d (fn_J27_getChars_L22 d k) l0 l2 l5 l6
def fn_J27_getChars_J12 (d : Nat) (l0 : Int32) (l2 : Option Nat) (l5 : Int32) (p0 : Int32) : mx_M Int32 :=
  mx_if (p0 = (0 : Int32)) (
    mx_let (-l0) fun v101 =>
    fn_J27_getChars_L22 d mx_K v101 l2 l5 p0) (
    fn_J27_getChars_L22 d mx_K l0 l2 l5 p0)
def fn_J27_getChars_B0 (d : Nat) (v0 : Int32) (v1 : Int32) (v2 : Option Nat) : mx_M Int32 :=
  mx_if ((0 : Int32) ≤ v0) (
    fn_J27_getChars_J12 d v0 v2 v1 (0 : Int32)) (
    fn_J27_getChars_J12 d v0 v2 v1 (1 : Int32))
def fn_J27_getChars : Nat → Int32 → Int32 → Option Nat → mx_M Int32
  | 0, _, _, _ => mx_fail
  | d + 1, v0, v1, v2 => fn_J27_getChars_B0 d v0 v1 v2
def fn_J27_stringSize_L16_b (d : Nat) (b16 : Int32 → Int32 → Int32 → Int32 → mx_M Int32) (l0 : Int32) (l1 : Int32) (l2 : Int32) (l3 : Int32) : mx_M Int32 :=
  mx_if ((10 : Int32) ≤ l3) (
    mx_pure ((10 : Int32) + l1)) (
    mx_if (l0 ≤ l2) (
      mx_let ((10 : Int32) * l2) fun v101 =>
      b16 l0 l1 v101 (l3 + (1 : Int32))) (
      mx_pure (l3 + l1)))
def fn_J27_stringSize_L16 (d : Nat) : Nat → Int32 → Int32 → Int32 → Int32 → mx_M Int32
  | 0, _, _, _, _ => mx_fail
  | k + 1, l0, l1, l2, l3 => fn_J27_stringSize_L16_b d (fn_J27_stringSize_L16 d k) l0 l1 l2 l3
def fn_J27_stringSize_J11 (d : Nat) (l0 : Int32) (l1 : Int32) : mx_M Int32 :=
  fn_J27_stringSize_L16 d mx_K l0 l1 (-10 : Int32) (1 : Int32)
def fn_J27_stringSize_B0 (d : Nat) (v0 : Int32) : mx_M Int32 :=
  mx_if (v0 < (0 : Int32)) (
    fn_J27_stringSize_J11 d v0 (1 : Int32)) (
    mx_let (-v0) fun v101 =>
    fn_J27_stringSize_J11 d v101 (0 : Int32))
def fn_J27_stringSize : Nat → Int32 → mx_M Int32
  | 0, _ => mx_fail
  | d + 1, v0 => fn_J27_stringSize_B0 d v0
def fn_J7_append_2_B0 (d : Nat) (v0 : Option Nat) (v1 : Int32) : mx_M (Option Nat) :=
  mx_bind (mx_getI [(29, 3)] v0) fun v101 =>
  mx_bind (fn_J27_stringSize d v1) fun r102 =>
  mx_let (v101 + r102) fun v103 =>
  mx_bind (mx_is 29 v0 (fn_J7_ensureCapacityInternal d v0 v103)) fun _ =>
  mx_bind (mx_is 29 v0 (fn_J7_isLatin1 d v0)) fun r104 =>
  mx_if (r104 = (0 : Int32)) (
    mx_bind (mx_getR [(29, 0)] v0) fun v105 =>
    mx_fail) (
    mx_bind (mx_getR [(29, 0)] v0) fun v106 =>
    mx_bind (fn_J27_getChars d v1 v103 v106) fun r107 =>
    mx_bind (mx_put [(29, 3)] v0 (.int v103)) fun _ =>
    mx_pure v0)
def fn_J7_append_2 : Nat → Option Nat → Int32 → mx_M (Option Nat)
  | 0, _, _ => mx_fail
  | d + 1, v0, v1 => fn_J7_append_2_B0 d v0 v1
def fn_J8_append_2_B0 (d : Nat) (v0 : Option Nat) (v1 : Int32) : mx_M (Option Nat) :=
  mx_bind (mx_is 29 v0 (fn_J7_append_2 d v0 v1)) fun r101 =>
  mx_pure v0
def fn_J8_append_2 : Nat → Option Nat → Int32 → mx_M (Option Nat)
  | 0, _, _ => mx_fail
  | d + 1, v0, v1 => fn_J8_append_2_B0 d v0 v1
def fn_J7_inflateIfNeededFor_B0 (d : Nat) (v0 : Option Nat) (v1 : Option Nat) : mx_M Unit :=
  mx_if ((1 : Int32) = (0 : Int32)) (
    mx_pure ()) (
    mx_bind (mx_getI [(29, 1)] v0) fun v101 =>
    mx_bind (mx_is 30 v1 (fn_J9_coder d v1)) fun r102 =>
    mx_if (v101 = r102) (
      mx_pure ()) (
      mx_fail))
def fn_J7_inflateIfNeededFor : Nat → Option Nat → Option Nat → mx_M Unit
  | 0, _, _ => mx_fail
  | d + 1, v0, v1 => fn_J7_inflateIfNeededFor_B0 d v0 v1
def fn_J9_getBytes_B0 (d : Nat) (v0 : Option Nat) (v1 : Option Nat) (v2 : Int32) (v3 : Int32) : mx_M Unit :=
  mx_bind (mx_is 30 v0 (fn_J9_coder d v0)) fun r101 =>
  mx_if (r101 = v3) (
    mx_bind (mx_getR [(30, 0)] v0) fun v102 =>
    mx_bind (mx_getR [(30, 0)] v0) fun v103 =>
    mx_bind (mx_alen v103) fun v104 =>
    mx_bind (mx_copyP 101 (fun _ w => fits .byte w) v102 (0 : Int32) v1 (v2 <<< (v3 &&& 31)) v104) fun _ =>
    mx_pure ()) (
    mx_bind (mx_getR [(30, 0)] v0) fun v105 =>
    mx_bind (mx_getR [(30, 0)] v0) fun v106 =>
    mx_bind (mx_alen v106) fun v107 =>
    mx_fail)
def fn_J9_getBytes : Nat → Option Nat → Option Nat → Int32 → Int32 → mx_M Unit
  | 0, _, _, _, _ => mx_fail
  | d + 1, v0, v1, v2, v3 => fn_J9_getBytes_B0 d v0 v1 v2 v3
def fn_J7_putStringAt_B0 (d : Nat) (v0 : Option Nat) (v1 : Int32) (v2 : Option Nat) : mx_M Unit :=
  mx_bind (mx_is 29 v0 (fn_J7_inflateIfNeededFor d v0 v2)) fun _ =>
  mx_bind (mx_getR [(29, 0)] v0) fun v101 =>
  mx_bind (mx_getI [(29, 1)] v0) fun v102 =>
  mx_bind (mx_is 30 v2 (fn_J9_getBytes d v2 v101 v1 v102)) fun _ =>
  mx_pure ()
def fn_J7_putStringAt : Nat → Option Nat → Int32 → Option Nat → mx_M Unit
  | 0, _, _, _ => mx_fail
  | d + 1, v0, v1, v2 => fn_J7_putStringAt_B0 d v0 v1 v2
def fn_J7_append_B0 (d : Nat) (v0 : Option Nat) (v1 : Option Nat) : mx_M (Option Nat) :=
  mx_ifnull v1 (
    mx_fail) (
    mx_bind (mx_is 30 v1 (fn_J9_length d v1)) fun r101 =>
    mx_bind (mx_getI [(29, 3)] v0) fun v102 =>
    mx_bind (mx_is 29 v0 (fn_J7_ensureCapacityInternal d v0 (v102 + r101))) fun _ =>
    mx_bind (mx_getI [(29, 3)] v0) fun v103 =>
    mx_bind (mx_is 29 v0 (fn_J7_putStringAt d v0 v103 v1)) fun _ =>
    mx_bind (mx_getI [(29, 3)] v0) fun v104 =>
    mx_bind (mx_put [(29, 3)] v0 (.int (v104 + r101))) fun _ =>
    mx_pure v0)
def fn_J7_append : Nat → Option Nat → Option Nat → mx_M (Option Nat)
  | 0, _, _ => mx_fail
  | d + 1, v0, v1 => fn_J7_append_B0 d v0 v1
def fn_J8_append_B0 (d : Nat) (v0 : Option Nat) (v1 : Option Nat) : mx_M (Option Nat) :=
  mx_bind (mx_is 29 v0 (fn_J7_append d v0 v1)) fun r101 =>
  mx_pure v0
def fn_J8_append : Nat → Option Nat → Option Nat → mx_M (Option Nat)
  | 0, _, _ => mx_fail
  | d + 1, v0, v1 => fn_J8_append_B0 d v0 v1
def fn_J7_getValue_B0 (d : Nat) (v0 : Option Nat) : mx_M (Option Nat) :=
  mx_bind (mx_getR [(29, 0)] v0) fun v101 =>
  mx_pure v101
def fn_J7_getValue : Nat → Option Nat → mx_M (Option Nat)
  | 0, _ => mx_fail
  | d + 1, v0 => fn_J7_getValue_B0 d v0
def fn_J7_length_B0 (d : Nat) (v0 : Option Nat) : mx_M Int32 :=
  mx_bind (mx_getI [(29, 3)] v0) fun v101 =>
  mx_pure v101
def fn_J7_length : Nat → Option Nat → mx_M Int32
  | 0, _ => mx_fail
  | d + 1, v0 => fn_J7_length_B0 d v0
def fn_J8_length_B0 (d : Nat) (v0 : Option Nat) : mx_M Int32 :=
  mx_bind (mx_is 29 v0 (fn_J7_length d v0)) fun r101 =>
  mx_pure r101
def fn_J8_length : Nat → Option Nat → mx_M Int32
  | 0, _ => mx_fail
  | d + 1, v0 => fn_J8_length_B0 d v0
def fn_J23_checkLength_B0 (d : Nat) (v0 : Int32) (v1 : Int32) : mx_M Unit :=
  mx_if (v0 ≤ v1) (
    mx_pure ()) (
    mx_fail)
def fn_J23_checkLength : Nat → Int32 → Int32 → mx_M Unit
  | 0, _, _ => mx_fail
  | d + 1, v0, v1 => fn_J23_checkLength_B0 d v0 v1
def fn_J23_copyOfRangeByte_B0 (d : Nat) (v0 : Option Nat) (v1 : Int32) (v2 : Int32) : mx_M (Option Nat) :=
  mx_bind (fn_J23_checkLength d v1 v2) fun _ =>
  mx_let (v2 - v1) fun v101 =>
  mx_bind (mx_newa 101 (.int 0) v101) fun a102 =>
  mx_bind (mx_alen v0) fun v103 =>
  mx_bind (mx_copyP 101 (fun _ w => fits .byte w) v0 v1 (some a102) (0 : Int32) (if v101 < (v103 - v1) then v101 else (v103 - v1))) fun _ =>
  mx_pure (some a102)
def fn_J23_copyOfRangeByte : Nat → Option Nat → Int32 → Int32 → mx_M (Option Nat)
  | 0, _, _, _ => mx_fail
  | d + 1, v0, v1, v2 => fn_J23_copyOfRangeByte_B0 d v0 v1 v2
def fn_J23_copyOfRange_J10 (d : Nat) (l0 : Option Nat) (l1 : Int32) (l2 : Int32) : mx_M (Option Nat) :=
  mx_bind (fn_J23_copyOfRangeByte d l0 l1 l2) fun r101 =>
  mx_pure r101
def fn_J23_copyOfRange_B0 (d : Nat) (v0 : Option Nat) (v1 : Int32) (v2 : Int32) : mx_M (Option Nat) :=
  mx_if (v1 = (0 : Int32)) (
    mx_bind (mx_alen v0) fun v101 =>
    mx_if (v2 = v101) (
      mx_bind (mx_cloneP 101 (fun w => fits .byte w) v0) fun a102 =>
      mx_bind (mx_cast [101] (some a102)) fun _ =>
      mx_pure (some a102)) (
      fn_J23_copyOfRange_J10 d v0 v1 v2)) (
    fn_J23_copyOfRange_J10 d v0 v1 v2)
def fn_J23_copyOfRange : Nat → Option Nat → Int32 → Int32 → mx_M (Option Nat)
  | 0, _, _, _ => mx_fail
  | d + 1, v0, v1, v2 => fn_J23_copyOfRange_B0 d v0 v1 v2
def fn_J9_init_2_J79 (d : Nat) (l0 : Option Nat) (l3 : Option Nat) (l4 : Int32) : mx_M Unit :=
  mx_bind (mx_put [(30, 1)] l0 (.int (1 : Int32))) fun _ =>
  mx_bind (fn_J23_copyOfRange d l3 (0 : Int32) (l4 <<< ((1 : Int32) &&& 31))) fun r101 =>
  mx_bind (mx_put [(30, 0)] l0 (va_rf r101)) fun _ =>
  mx_pure ()
def fn_J9_init_2_B0 (d : Nat) (v0 : Option Nat) (v1 : Option Nat) (v2 : Option Nat) : mx_M Unit :=
  mx_deref v0 fun _ =>
  mx_bind (mx_is 29 v1 (fn_J7_getValue d v1)) fun r102 =>
  mx_bind (mx_is 29 v1 (fn_J8_length d v1)) fun r103 =>
  mx_bind (mx_is 29 v1 (fn_J7_isLatin1 d v1)) fun r104 =>
  mx_if (r104 = (0 : Int32)) (
    mx_if ((1 : Int32) = (0 : Int32)) (
      fn_J9_init_2_J79 d v0 r102 r103) (
      mx_bind (mx_getI [(29, 2)] v1) fun v105 =>
      mx_if (v105 = (0 : Int32)) (
        fn_J9_init_2_J79 d v0 r102 r103) (
        mx_fail))) (
    mx_bind (mx_put [(30, 1)] v0 (.int (0 : Int32))) fun _ =>
    mx_bind (fn_J23_copyOfRange d r102 (0 : Int32) r103) fun r106 =>
    mx_bind (mx_put [(30, 0)] v0 (va_rf r106)) fun _ =>
    mx_pure ())
def fn_J9_init_2 : Nat → Option Nat → Option Nat → Option Nat → mx_M Unit
  | 0, _, _, _ => mx_fail
  | d + 1, v0, v1, v2 => fn_J9_init_2_B0 d v0 v1 v2
def fn_J9_init_B0 (d : Nat) (v0 : Option Nat) (v1 : Option Nat) : mx_M Unit :=
  mx_bind (mx_deref v0 fun _ => fn_J9_init_2 d v0 v1 none) fun _ =>
  mx_pure ()
def fn_J9_init : Nat → Option Nat → Option Nat → mx_M Unit
  | 0, _, _ => mx_fail
  | d + 1, v0, v1 => fn_J9_init_B0 d v0 v1
def fn_J8_toString_B0 (d : Nat) (v0 : Option Nat) : mx_M (Option Nat) :=
  mx_bind (mx_new (30, [.null, .int 0, .int 0, .int 0]) 4) fun a101 =>
  mx_bind (mx_deref (some a101) fun _ => fn_J9_init d (some a101) v0) fun _ =>
  mx_pure (some a101)
def fn_J8_toString : Nat → Option Nat → mx_M (Option Nat)
  | 0, _ => mx_fail
  | d + 1, v0 => fn_J8_toString_B0 d v0
def fn_X2_ticketsText_J90 (d : Nat) (b18 : Option Nat → Option Nat → Option Nat → Int32 → mx_M (Option Nat)) (l0 : Option Nat) (l1 : Option Nat) (l2 : Option Nat) (l3 : Int32) (p0 : Option Nat) (p1 : Option Nat) : mx_M (Option Nat) :=
  mx_bind (mx_is 29 p0 (fn_J8_append d p0 p1)) fun r101 =>
  b18 l0 l1 l2 (l3 + (1 : Int32))
def fn_X2_ticketsText_J46 (d : Nat) (b18 : Option Nat → Option Nat → Option Nat → Int32 → mx_M (Option Nat)) (l0 : Option Nat) (l1 : Option Nat) (l2 : Option Nat) (l3 : Int32) (p0 : Option Nat) (p1 : Option Nat) : mx_M (Option Nat) :=
  mx_bind (mx_is 29 p0 (fn_J8_append d p0 p1)) fun r101 =>
  mx_bind (mx_is 16 l2 (fn_J4_get d l2 l3)) fun r102 =>
  mx_bind (mx_cast [6] r102) fun _ =>
  mx_bind (mx_getI [(6, 0)] r102) fun v103 =>
  mx_bind (mx_is 29 r101 (fn_J8_append_2 d r101 v103)) fun r104 =>
  mx_bind (mx_is 16 l2 (fn_J4_get d l2 l3)) fun r105 =>
  mx_bind (mx_cast [6] r105) fun _ =>
  mx_bind (mx_is 2 l0 (fn_X2_isValid d l0 r105)) fun r106 =>
  mx_if (r106 = (0 : Int32)) (
    mx_bind (mx_con 223) fun v107 =>
    fn_X2_ticketsText_J90 d b18 l0 l1 l2 l3 r104 v107) (
    mx_bind (mx_con 221) fun v108 =>
    fn_X2_ticketsText_J90 d b18 l0 l1 l2 l3 r104 v108)
def fn_X2_ticketsText_L18_b (d : Nat) (b18 : Option Nat → Option Nat → Option Nat → Int32 → mx_M (Option Nat)) (l0 : Option Nat) (l1 : Option Nat) (l2 : Option Nat) (l3 : Int32) : mx_M (Option Nat) :=
  mx_bind (mx_is 16 l2 (fn_J4_size d l2)) fun r101 =>
  mx_if ((if r101 < (6 : Int32) then r101 else (6 : Int32)) ≤ l3) (
    mx_bind (mx_is 29 l1 (fn_J8_toString d l1)) fun r102 =>
    mx_pure r102) (
    mx_if (l3 = (0 : Int32)) (
      mx_bind (mx_con 221) fun v103 =>
      fn_X2_ticketsText_J46 d b18 l0 l1 l2 l3 l1 v103) (
      mx_bind (mx_con 222) fun v104 =>
      fn_X2_ticketsText_J46 d b18 l0 l1 l2 l3 l1 v104))
def fn_X2_ticketsText_L18 (d : Nat) : Nat → Option Nat → Option Nat → Option Nat → Int32 → mx_M (Option Nat)
  | 0, _, _, _, _ => mx_fail
  | k + 1, l0, l1, l2, l3 => fn_X2_ticketsText_L18_b d (fn_X2_ticketsText_L18 d k) l0 l1 l2 l3
def fn_X2_ticketsText_B0 (d : Nat) (v0 : Option Nat) : mx_M (Option Nat) :=
  mx_bind (mx_new (29, [.null, .int 0, .int 0, .int 0]) 4) fun a101 =>
  mx_bind (mx_deref (some a101) fun _ => fn_J8_init d (some a101)) fun _ =>
  mx_bind (mx_getR [(2, 2)] v0) fun v102 =>
  mx_bind (fn_X1_inOrder d v102) fun r103 =>
  fn_X2_ticketsText_L18 d mx_K v0 (some a101) r103 (0 : Int32)
def fn_X2_ticketsText : Nat → Option Nat → mx_M (Option Nat)
  | 0, _ => mx_fail
  | d + 1, v0 => fn_X2_ticketsText_B0 d v0
def fn_X1_renderTickets_B0 (d : Nat) (v0 : Option Nat) : mx_M Int32 :=
  mx_bind (mx_getR [(0, 0)] v0) fun v101 =>
  mx_bind (mx_is 2 v101 (fn_X2_ticketsText d v101)) fun r102 =>
  mx_bind (mx_is 0 v0 (fn_X1_write d v0 r102)) fun r103 =>
  mx_pure r103
def fn_X1_renderTickets : Nat → Option Nat → mx_M Int32
  | 0, _ => mx_fail
  | d + 1, v0 => fn_X1_renderTickets_B0 d v0
def fn_X1_save_B0 (d : Nat) (v0 : Option Nat) : mx_M Int32 :=
  mx_bind (mx_getR [(0, 0)] v0) fun v101 =>
  mx_bind (mx_put [(0, 1)] v0 (va_rf v101)) fun _ =>
  mx_bind (mx_is 0 v0 (fn_X1_lionCount d v0)) fun r102 =>
  mx_pure r102
def fn_X1_save : Nat → Option Nat → mx_M Int32
  | 0, _ => mx_fail
  | d + 1, v0 => fn_X1_save_B0 d v0
def fn_X1_servedTotal_B0 (d : Nat) (v0 : Option Nat) : mx_M Int32 :=
  mx_bind (mx_getR [(0, 0)] v0) fun v101 =>
  mx_bind (mx_getI [(2, 8)] v101) fun v102 =>
  mx_pure v102
def fn_X1_servedTotal : Nat → Option Nat → mx_M Int32
  | 0, _ => mx_fail
  | d + 1, v0 => fn_X1_servedTotal_B0 d v0
def fn_X2_staleCount_B0 (d : Nat) (v0 : Option Nat) : mx_M Int32 :=
  mx_bind (mx_getI [(2, 3)] v0) fun v101 =>
  mx_bind (mx_getR [(2, 0)] v0) fun v102 =>
  mx_bind (mx_is 18 v102 (fn_J1_size d v102)) fun r103 =>
  mx_pure (v101 - r103)
def fn_X2_staleCount : Nat → Option Nat → mx_M Int32
  | 0, _ => mx_fail
  | d + 1, v0 => fn_X2_staleCount_B0 d v0
def fn_X1_staleCount_B0 (d : Nat) (v0 : Option Nat) : mx_M Int32 :=
  mx_bind (mx_getR [(0, 0)] v0) fun v101 =>
  mx_bind (mx_is 2 v101 (fn_X2_staleCount d v101)) fun r102 =>
  mx_pure r102
def fn_X1_staleCount : Nat → Option Nat → mx_M Int32
  | 0, _ => mx_fail
  | d + 1, v0 => fn_X1_staleCount_B0 d v0
def fn_X1_thrownTotal_B0 (d : Nat) (v0 : Option Nat) : mx_M Int32 :=
  mx_bind (mx_getR [(0, 0)] v0) fun v101 =>
  mx_bind (mx_getI [(2, 6)] v101) fun v102 =>
  mx_pure v102
def fn_X1_thrownTotal : Nat → Option Nat → mx_M Int32
  | 0, _ => mx_fail
  | d + 1, v0 => fn_X1_thrownTotal_B0 d v0
def fn_X1_ticketCount_B0 (d : Nat) (v0 : Option Nat) : mx_M Int32 :=
  mx_bind (mx_getR [(0, 0)] v0) fun v101 =>
  mx_bind (mx_getI [(2, 3)] v101) fun v102 =>
  mx_pure v102
def fn_X1_ticketCount : Nat → Option Nat → mx_M Int32
  | 0, _ => mx_fail
  | d + 1, v0 => fn_X1_ticketCount_B0 d v0
def fn_X1_ticketsByAccounts_B0 (d : Nat) (v0 : Option Nat) : mx_M Int32 :=
  mx_bind (mx_getR [(0, 0)] v0) fun v101 =>
  mx_bind (mx_is 2 v101 (fn_X2_ticketsByAccounts d v101)) fun r102 =>
  mx_pure r102
def fn_X1_ticketsByAccounts : Nat → Option Nat → mx_M Int32
  | 0, _ => mx_fail
  | d + 1, v0 => fn_X1_ticketsByAccounts_B0 d v0
def fn_X1_addLion_B0 (d : Nat) (v0 : Option Nat) (v1 : Int32) (v2 : Int32) (v3 : Int32) : mx_M Int32 :=
  mx_bind (mx_con 224) fun v101 =>
  mx_bind (mx_newa 100 (.int 0) (3 : Int32)) fun a102 =>
  mx_bind (mx_ast 100 (some a102) (0 : Int32) (.int v1)) fun _ =>
  mx_bind (mx_ast 100 (some a102) (1 : Int32) (.int v2)) fun _ =>
  mx_bind (mx_ast 100 (some a102) (2 : Int32) (.int v3)) fun _ =>
  mx_bind (mx_is 0 v0 (fn_X1_change d v0 v101 (some a102))) fun r103 =>
  mx_pure r103
def fn_X1_addLion : Nat → Option Nat → Int32 → Int32 → Int32 → mx_M Int32
  | 0, _, _, _, _ => mx_fail
  | d + 1, v0, v1, v2, v3 => fn_X1_addLion_B0 d v0 v1 v2 v3
def fn_X0_addLion_B0 (d : Nat) (v0 : Option Nat) (v1 : Int32) (v2 : Int32) (v3 : Int32) (v4 : Option Nat) : mx_M Int32 :=
  mx_try (mx_is 0 v0 (fn_X1_addLion d v0 v1 v2 v3)) (fun r101 =>
    mx_bind (mx_ast 102 v4 (0 : Int32) (.long (r101.toInt64))) fun _ =>
    mx_pure (0 : Int32)) fun q102 =>
    mx_in [35] q102 (
      mx_pure (1 : Int32)) (
    mx_in [36] q102 (
      mx_pure (2 : Int32)) (
    mx_fail))

def fn_X0_addLion : Nat → Option Nat → Int32 → Int32 → Int32 → Option Nat → mx_M Int32
  | 0, _, _, _, _, _ => mx_fail
  | d + 1, v0, v1, v2, v3, v4 => fn_X0_addLion_B0 d v0 v1 v2 v3 v4
def fn_X1_checkElement_B0 (d : Nat) (v0 : Int32) : mx_M Unit :=
  mx_if (v0 = (0 : Int32)) (
    mx_bind (mx_ge 6 d (mx_new (34, []) 6)) fun a101 =>
    mx_deref (some a101) fun q102 =>
    mx_thr [13, 14, 15, 34, 35, 36, 37, 38, 39] q102) (
    mx_pure ())
def fn_X1_checkElement : Nat → Int32 → mx_M Unit
  | 0, _ => mx_fail
  | d + 1, v0 => fn_X1_checkElement_B0 d v0
def fn_X1_lionWith_B0 (d : Nat) (v0 : Option Nat) (v1 : Int32) : mx_M (Option Nat) :=
  mx_bind (mx_getR [(0, 0)] v0) fun v101 =>
  mx_bind (mx_is 2 v101 (fn_X2_hasLion d v101 v1)) fun r102 =>
  mx_bind (fn_X1_checkElement d r102) fun _ =>
  mx_bind (mx_getR [(0, 0)] v0) fun v103 =>
  mx_bind (mx_getR [(2, 0)] v103) fun v104 =>
  mx_bind (fn_J27_valueOf d v1) fun r105 =>
  mx_bind (mx_is 18 v104 (fn_J1_get d v104 r105)) fun r106 =>
  mx_bind (mx_cast [5] r106) fun _ =>
  mx_pure r106
def fn_X1_lionWith : Nat → Option Nat → Int32 → mx_M (Option Nat)
  | 0, _, _ => mx_fail
  | d + 1, v0, v1 => fn_X1_lionWith_B0 d v0 v1
def fn_X1_deadlineOf_B0 (d : Nat) (v0 : Option Nat) (v1 : Int32) : mx_M Int32 :=
  mx_bind (mx_is 0 v0 (fn_X1_lionWith d v0 v1)) fun r101 =>
  mx_bind (mx_getI [(5, 2)] r101) fun v102 =>
  mx_pure v102
def fn_X1_deadlineOf : Nat → Option Nat → Int32 → mx_M Int32
  | 0, _, _ => mx_fail
  | d + 1, v0, v1 => fn_X1_deadlineOf_B0 d v0 v1
def fn_X0_deadlineOf_B0 (d : Nat) (v0 : Option Nat) (v1 : Int32) (v2 : Option Nat) : mx_M Int32 :=
  mx_try (mx_is 0 v0 (fn_X1_deadlineOf d v0 v1)) (fun r101 =>
    mx_bind (mx_ast 102 v2 (0 : Int32) (.long (r101.toInt64))) fun _ =>
    mx_pure (0 : Int32)) fun q102 =>
    mx_in [34] q102 (
      mx_pure (1 : Int32)) (
    mx_fail)

def fn_X0_deadlineOf : Nat → Option Nat → Int32 → Option Nat → mx_M Int32
  | 0, _, _, _ => mx_fail
  | d + 1, v0, v1, v2 => fn_X0_deadlineOf_B0 d v0 v1 v2
def fn_X1_dismissKeeper_B0 (d : Nat) (v0 : Option Nat) (v1 : Int32) : mx_M Int32 :=
  mx_bind (mx_con 230) fun v101 =>
  mx_bind (mx_newa 100 (.int 0) (1 : Int32)) fun a102 =>
  mx_bind (mx_ast 100 (some a102) (0 : Int32) (.int v1)) fun _ =>
  mx_bind (mx_is 0 v0 (fn_X1_change d v0 v101 (some a102))) fun r103 =>
  mx_pure r103
def fn_X1_dismissKeeper : Nat → Option Nat → Int32 → mx_M Int32
  | 0, _, _ => mx_fail
  | d + 1, v0, v1 => fn_X1_dismissKeeper_B0 d v0 v1
def fn_X0_dismissKeeper_B0 (d : Nat) (v0 : Option Nat) (v1 : Int32) (v2 : Option Nat) : mx_M Int32 :=
  mx_try (mx_is 0 v0 (fn_X1_dismissKeeper d v0 v1)) (fun r101 =>
    mx_bind (mx_ast 102 v2 (0 : Int32) (.long (r101.toInt64))) fun _ =>
    mx_pure (0 : Int32)) fun q102 =>
    mx_in [37] q102 (
      mx_pure (1 : Int32)) (
    mx_fail)

def fn_X0_dismissKeeper : Nat → Option Nat → Int32 → Option Nat → mx_M Int32
  | 0, _, _, _ => mx_fail
  | d + 1, v0, v1, v2 => fn_X0_dismissKeeper_B0 d v0 v1 v2
def fn_X1_checkIndex_B0 (d : Nat) (v0 : Int32) : mx_M Unit :=
  mx_if (v0 = (0 : Int32)) (
    mx_bind (mx_ge 6 d (mx_new (37, []) 6)) fun a101 =>
    mx_deref (some a101) fun q102 =>
    mx_thr [13, 14, 15, 34, 35, 36, 37, 38, 39] q102) (
    mx_pure ())
def fn_X1_checkIndex : Nat → Int32 → mx_M Unit
  | 0, _ => mx_fail
  | d + 1, v0 => fn_X1_checkIndex_B0 d v0
def fn_X3_get_B0 (d : Nat) (v0 : Option Nat) (v1 : Int32) : mx_M (Option Nat) :=
  mx_bind (mx_getR [(3, 0)] v0) fun v101 =>
  mx_bind (mx_is 16 v101 (fn_J4_get d v101 v1)) fun r102 =>
  mx_bind (mx_cast [4] r102) fun _ =>
  mx_pure r102
def fn_X3_get : Nat → Option Nat → Int32 → mx_M (Option Nat)
  | 0, _, _ => mx_fail
  | d + 1, v0, v1 => fn_X3_get_B0 d v0 v1
def fn_X1_keeperWith_B0 (d : Nat) (v0 : Option Nat) (v1 : Int32) : mx_M (Option Nat) :=
  mx_bind (mx_getR [(0, 0)] v0) fun v101 =>
  mx_bind (mx_getR [(2, 1)] v101) fun v102 =>
  mx_bind (mx_is 3 v102 (fn_X3_has d v102 v1)) fun r103 =>
  mx_bind (fn_X1_checkIndex d r103) fun _ =>
  mx_bind (mx_getR [(0, 0)] v0) fun v104 =>
  mx_bind (mx_getR [(2, 1)] v104) fun v105 =>
  mx_bind (mx_is 3 v105 (fn_X3_get d v105 v1)) fun r106 =>
  mx_pure r106
def fn_X1_keeperWith : Nat → Option Nat → Int32 → mx_M (Option Nat)
  | 0, _, _ => mx_fail
  | d + 1, v0, v1 => fn_X1_keeperWith_B0 d v0 v1
def fn_X1_endOf_B0 (d : Nat) (v0 : Option Nat) (v1 : Int32) : mx_M Int32 :=
  mx_bind (mx_is 0 v0 (fn_X1_keeperWith d v0 v1)) fun r101 =>
  mx_bind (mx_getI [(4, 1)] r101) fun v102 =>
  mx_pure v102
def fn_X1_endOf : Nat → Option Nat → Int32 → mx_M Int32
  | 0, _, _ => mx_fail
  | d + 1, v0, v1 => fn_X1_endOf_B0 d v0 v1
def fn_X0_endOf_B0 (d : Nat) (v0 : Option Nat) (v1 : Int32) (v2 : Option Nat) : mx_M Int32 :=
  mx_try (mx_is 0 v0 (fn_X1_endOf d v0 v1)) (fun r101 =>
    mx_bind (mx_ast 102 v2 (0 : Int32) (.long (r101.toInt64))) fun _ =>
    mx_pure (0 : Int32)) fun q102 =>
    mx_in [37] q102 (
      mx_pure (1 : Int32)) (
    mx_fail)

def fn_X0_endOf : Nat → Option Nat → Int32 → Option Nat → mx_M Int32
  | 0, _, _, _ => mx_fail
  | d + 1, v0, v1, v2 => fn_X0_endOf_B0 d v0 v1 v2
def fn_X1_found_J10 (d : Nat) (l0 : Int32) (p0 : Int32) : mx_M Int32 :=
  mx_bind (fn_X1_checkElement d p0) fun _ =>
  mx_pure l0
def fn_X1_found_B0 (d : Nat) (v0 : Int32) : mx_M Int32 :=
  mx_if (v0 = (-1 : Int32)) (
    fn_X1_found_J10 d v0 (0 : Int32)) (
    fn_X1_found_J10 d v0 (1 : Int32))
def fn_X1_found : Nat → Int32 → mx_M Int32
  | 0, _ => mx_fail
  | d + 1, v0 => fn_X1_found_B0 d v0
def fn_X1_errorPosition_B0 (d : Nat) (v0 : Option Nat) : mx_M Int32 :=
  mx_bind (mx_getI [(0, 4)] v0) fun v101 =>
  mx_bind (fn_X1_found d v101) fun r102 =>
  mx_pure r102
def fn_X1_errorPosition : Nat → Option Nat → mx_M Int32
  | 0, _ => mx_fail
  | d + 1, v0 => fn_X1_errorPosition_B0 d v0
def fn_X0_errorPosition_B0 (d : Nat) (v0 : Option Nat) (v1 : Option Nat) : mx_M Int32 :=
  mx_try (mx_is 0 v0 (fn_X1_errorPosition d v0)) (fun r101 =>
    mx_bind (mx_ast 102 v1 (0 : Int32) (.long (r101.toInt64))) fun _ =>
    mx_pure (0 : Int32)) fun q102 =>
    mx_in [34] q102 (
      mx_pure (1 : Int32)) (
    mx_fail)

def fn_X0_errorPosition : Nat → Option Nat → Option Nat → mx_M Int32
  | 0, _, _ => mx_fail
  | d + 1, v0, v1 => fn_X0_errorPosition_B0 d v0 v1
def fn_X1_failedCommand_B0 (d : Nat) (v0 : Option Nat) : mx_M Int32 :=
  mx_bind (mx_getI [(0, 5)] v0) fun v101 =>
  mx_bind (fn_X1_found d v101) fun r102 =>
  mx_pure r102
def fn_X1_failedCommand : Nat → Option Nat → mx_M Int32
  | 0, _ => mx_fail
  | d + 1, v0 => fn_X1_failedCommand_B0 d v0
def fn_X0_failedCommand_B0 (d : Nat) (v0 : Option Nat) (v1 : Option Nat) : mx_M Int32 :=
  mx_try (mx_is 0 v0 (fn_X1_failedCommand d v0)) (fun r101 =>
    mx_bind (mx_ast 102 v1 (0 : Int32) (.long (r101.toInt64))) fun _ =>
    mx_pure (0 : Int32)) fun q102 =>
    mx_in [34] q102 (
      mx_pure (1 : Int32)) (
    mx_fail)

def fn_X0_failedCommand : Nat → Option Nat → Option Nat → mx_M Int32
  | 0, _, _ => mx_fail
  | d + 1, v0, v1 => fn_X0_failedCommand_B0 d v0 v1
def fn_X1_failureKind_B0 (d : Nat) (v0 : Option Nat) : mx_M Int32 :=
  mx_bind (mx_getI [(0, 5)] v0) fun v101 =>
  mx_bind (fn_X1_found d v101) fun r102 =>
  mx_bind (mx_getI [(0, 6)] v0) fun v103 =>
  mx_retN .char v103
def fn_X1_failureKind : Nat → Option Nat → mx_M Int32
  | 0, _ => mx_fail
  | d + 1, v0 => fn_X1_failureKind_B0 d v0
def fn_X0_failureKind_B0 (d : Nat) (v0 : Option Nat) (v1 : Option Nat) : mx_M Int32 :=
  mx_try (mx_is 0 v0 (fn_X1_failureKind d v0)) (fun r101 =>
    mx_bind (mx_ast 102 v1 (0 : Int32) (.long (r101.toInt64))) fun _ =>
    mx_pure (0 : Int32)) fun q102 =>
    mx_in [34] q102 (
      mx_pure (1 : Int32)) (
    mx_fail)

def fn_X0_failureKind : Nat → Option Nat → Option Nat → mx_M Int32
  | 0, _, _ => mx_fail
  | d + 1, v0, v1 => fn_X0_failureKind_B0 d v0 v1
def fn_X1_checkSupport_B0 (d : Nat) (v0 : Int32) : mx_M Unit :=
  mx_if (v0 = (0 : Int32)) (
    mx_bind (mx_ge 6 d (mx_new (38, []) 6)) fun a101 =>
    mx_deref (some a101) fun q102 =>
    mx_thr [13, 14, 15, 34, 35, 36, 37, 38, 39] q102) (
    mx_pure ())
def fn_X1_checkSupport : Nat → Int32 → mx_M Unit
  | 0, _ => mx_fail
  | d + 1, v0 => fn_X1_checkSupport_B0 d v0
def fn_X1_checkArgument_B0 (d : Nat) (v0 : Int32) : mx_M Unit :=
  mx_if (v0 = (0 : Int32)) (
    mx_bind (mx_ge 6 d (mx_new (35, []) 6)) fun a101 =>
    mx_deref (some a101) fun q102 =>
    mx_thr [13, 14, 15, 34, 35, 36, 37, 38, 39] q102) (
    mx_pure ())
def fn_X1_checkArgument : Nat → Int32 → mx_M Unit
  | 0, _ => mx_fail
  | d + 1, v0 => fn_X1_checkArgument_B0 d v0
def fn_X3_isCovered_J36 (d : Nat) (b11 : Int32 → Option Nat → Int32 → Int32 → mx_M Int32) (l2 : Int32) (l3 : Option Nat) (l5 : Int32) (p0 : Int32) : mx_M Int32 :=
  b11 l2 l3 p0 (l5 + (1 : Int32))
def fn_X3_isCovered_J35 (d : Nat) (b11 : Int32 → Option Nat → Int32 → Int32 → mx_M Int32) (l2 : Int32) (l3 : Option Nat) (l5 : Int32) : mx_M Int32 :=
  fn_X3_isCovered_J36 d b11 l2 l3 l5 (0 : Int32)
def fn_X3_isCovered_L11_b (d : Nat) (b11 : Int32 → Option Nat → Int32 → Int32 → mx_M Int32) (l2 : Int32) (l3 : Option Nat) (l4 : Int32) (l5 : Int32) : mx_M Int32 :=
  mx_if (l2 ≤ l5) (
    mx_retN .boolean l4) (
    mx_if (l4 = (0 : Int32)) (
      fn_X3_isCovered_J35 d b11 l2 l3 l5) (
      mx_bind (mx_is 28 l3 (fn_J52_get d l3 l5)) fun r101 =>
      mx_if (r101 = (0 : Int32)) (
        fn_X3_isCovered_J35 d b11 l2 l3 l5) (
        fn_X3_isCovered_J36 d b11 l2 l3 l5 (1 : Int32))))
def fn_X3_isCovered_L11 (d : Nat) : Nat → Int32 → Option Nat → Int32 → Int32 → mx_M Int32
  | 0, _, _, _, _ => mx_fail
  | k + 1, l2, l3, l4, l5 => fn_X3_isCovered_L11_b d (fn_X3_isCovered_L11 d k) l2 l3 l4 l5
def fn_X3_isCovered_B0 (d : Nat) (v0 : Option Nat) (v1 : Int32) (v2 : Int32) : mx_M Int32 :=
  mx_bind (mx_is 3 v0 (fn_X3_hours d v0)) fun r101 =>
  fn_X3_isCovered_L11 d mx_K v2 r101 (1 : Int32) v1
def fn_X3_isCovered : Nat → Option Nat → Int32 → Int32 → mx_M Int32
  | 0, _, _, _ => mx_fail
  | d + 1, v0, v1, v2 => fn_X3_isCovered_B0 d v0 v1 v2
def fn_X1_isCovered_B0 (d : Nat) (v0 : Option Nat) (v1 : Int32) (v2 : Int32) : mx_M Int32 :=
  mx_bind (fn_X2_areHours d v1 v2) fun r101 =>
  mx_bind (fn_X1_checkArgument d r101) fun _ =>
  mx_bind (mx_getR [(0, 0)] v0) fun v102 =>
  mx_bind (mx_getR [(2, 1)] v102) fun v103 =>
  mx_bind (mx_is 3 v103 (fn_X3_isCovered d v103 v1 v2)) fun r104 =>
  mx_retN .boolean r104
def fn_X1_isCovered : Nat → Option Nat → Int32 → Int32 → mx_M Int32
  | 0, _, _, _ => mx_fail
  | d + 1, v0, v1, v2 => fn_X1_isCovered_B0 d v0 v1 v2
def fn_X1_fewestKeepers_B0 (d : Nat) (v0 : Option Nat) (v1 : Int32) (v2 : Int32) : mx_M Int32 :=
  mx_bind (mx_is 0 v0 (fn_X1_isCovered d v0 v1 v2)) fun r101 =>
  mx_bind (fn_X1_checkSupport d r101) fun _ =>
  mx_bind (mx_getR [(0, 0)] v0) fun v102 =>
  mx_bind (mx_getR [(2, 1)] v102) fun v103 =>
  mx_bind (mx_is 3 v103 (fn_X3_fewest d v103 v1 v2)) fun r104 =>
  mx_pure r104
def fn_X1_fewestKeepers : Nat → Option Nat → Int32 → Int32 → mx_M Int32
  | 0, _, _, _ => mx_fail
  | d + 1, v0, v1, v2 => fn_X1_fewestKeepers_B0 d v0 v1 v2
def fn_X0_fewestKeepers_B0 (d : Nat) (v0 : Option Nat) (v1 : Int32) (v2 : Int32) (v3 : Option Nat) : mx_M Int32 :=
  mx_try (mx_is 0 v0 (fn_X1_fewestKeepers d v0 v1 v2)) (fun r101 =>
    mx_bind (mx_ast 102 v3 (0 : Int32) (.long (r101.toInt64))) fun _ =>
    mx_pure (0 : Int32)) fun q102 =>
    mx_in [35] q102 (
      mx_pure (1 : Int32)) (
    mx_in [38] q102 (
      mx_pure (2 : Int32)) (
    mx_fail))

def fn_X0_fewestKeepers : Nat → Option Nat → Int32 → Int32 → Option Nat → mx_M Int32
  | 0, _, _, _, _ => mx_fail
  | d + 1, v0, v1, v2, v3 => fn_X0_fewestKeepers_B0 d v0 v1 v2 v3
def fn_X1_fewestKeepersBySets_B0 (d : Nat) (v0 : Option Nat) (v1 : Int32) (v2 : Int32) : mx_M Int32 :=
  mx_bind (mx_is 0 v0 (fn_X1_isCovered d v0 v1 v2)) fun r101 =>
  mx_bind (fn_X1_checkSupport d r101) fun _ =>
  mx_bind (mx_getR [(0, 0)] v0) fun v102 =>
  mx_bind (mx_getR [(2, 1)] v102) fun v103 =>
  mx_bind (mx_is 3 v103 (fn_X3_fewestBySets d v103 v1 v2)) fun r104 =>
  mx_pure r104
def fn_X1_fewestKeepersBySets : Nat → Option Nat → Int32 → Int32 → mx_M Int32
  | 0, _, _, _ => mx_fail
  | d + 1, v0, v1, v2 => fn_X1_fewestKeepersBySets_B0 d v0 v1 v2
def fn_X0_fewestKeepersBySets_B0 (d : Nat) (v0 : Option Nat) (v1 : Int32) (v2 : Int32) (v3 : Option Nat) : mx_M Int32 :=
  mx_try (mx_is 0 v0 (fn_X1_fewestKeepersBySets d v0 v1 v2)) (fun r101 =>
    mx_bind (mx_ast 102 v3 (0 : Int32) (.long (r101.toInt64))) fun _ =>
    mx_pure (0 : Int32)) fun q102 =>
    mx_in [35] q102 (
      mx_pure (1 : Int32)) (
    mx_in [38] q102 (
      mx_pure (2 : Int32)) (
    mx_fail))

def fn_X0_fewestKeepersBySets : Nat → Option Nat → Int32 → Int32 → Option Nat → mx_M Int32
  | 0, _, _, _, _ => mx_fail
  | d + 1, v0, v1, v2, v3 => fn_X0_fewestKeepersBySets_B0 d v0 v1 v2 v3
def fn_X1_hireKeeper_B0 (d : Nat) (v0 : Option Nat) (v1 : Int32) (v2 : Int32) : mx_M Int32 :=
  mx_bind (mx_con 229) fun v101 =>
  mx_bind (mx_newa 100 (.int 0) (2 : Int32)) fun a102 =>
  mx_bind (mx_ast 100 (some a102) (0 : Int32) (.int v1)) fun _ =>
  mx_bind (mx_ast 100 (some a102) (1 : Int32) (.int v2)) fun _ =>
  mx_bind (mx_is 0 v0 (fn_X1_change d v0 v101 (some a102))) fun r103 =>
  mx_pure r103
def fn_X1_hireKeeper : Nat → Option Nat → Int32 → Int32 → mx_M Int32
  | 0, _, _, _ => mx_fail
  | d + 1, v0, v1, v2 => fn_X1_hireKeeper_B0 d v0 v1 v2
def fn_X0_hireKeeper_B0 (d : Nat) (v0 : Option Nat) (v1 : Int32) (v2 : Int32) (v3 : Option Nat) : mx_M Int32 :=
  mx_try (mx_is 0 v0 (fn_X1_hireKeeper d v0 v1 v2)) (fun r101 =>
    mx_bind (mx_ast 102 v3 (0 : Int32) (.long (r101.toInt64))) fun _ =>
    mx_pure (0 : Int32)) fun q102 =>
    mx_in [35] q102 (
      mx_pure (1 : Int32)) (
    mx_in [36] q102 (
      mx_pure (2 : Int32)) (
    mx_fail))

def fn_X0_hireKeeper : Nat → Option Nat → Int32 → Int32 → Option Nat → mx_M Int32
  | 0, _, _, _, _ => mx_fail
  | d + 1, v0, v1, v2, v3 => fn_X0_hireKeeper_B0 d v0 v1 v2 v3
def fn_X1_hungerOf_B0 (d : Nat) (v0 : Option Nat) (v1 : Int32) : mx_M Int32 :=
  mx_bind (mx_is 0 v0 (fn_X1_lionWith d v0 v1)) fun r101 =>
  mx_bind (mx_is 5 r101 (fn_X8_hunger d r101)) fun r102 =>
  mx_pure r102
def fn_X1_hungerOf : Nat → Option Nat → Int32 → mx_M Int32
  | 0, _, _ => mx_fail
  | d + 1, v0, v1 => fn_X1_hungerOf_B0 d v0 v1
def fn_X0_hungerOf_B0 (d : Nat) (v0 : Option Nat) (v1 : Int32) (v2 : Option Nat) : mx_M Int32 :=
  mx_try (mx_is 0 v0 (fn_X1_hungerOf d v0 v1)) (fun r101 =>
    mx_bind (mx_ast 102 v2 (0 : Int32) (.long (r101.toInt64))) fun _ =>
    mx_pure (0 : Int32)) fun q102 =>
    mx_in [34] q102 (
      mx_pure (1 : Int32)) (
    mx_fail)

def fn_X0_hungerOf : Nat → Option Nat → Int32 → Option Nat → mx_M Int32
  | 0, _, _, _ => mx_fail
  | d + 1, v0, v1, v2 => fn_X0_hungerOf_B0 d v0 v1 v2
def fn_X1_hungriest_B0 (d : Nat) (v0 : Option Nat) : mx_M Int32 :=
  mx_bind (mx_getR [(0, 0)] v0) fun v101 =>
  mx_bind (mx_is 2 v101 (fn_X2_hungriest d v101)) fun r102 =>
  mx_bind (fn_X1_found d r102) fun r103 =>
  mx_pure r103
def fn_X1_hungriest : Nat → Option Nat → mx_M Int32
  | 0, _ => mx_fail
  | d + 1, v0 => fn_X1_hungriest_B0 d v0
def fn_X0_hungriest_B0 (d : Nat) (v0 : Option Nat) (v1 : Option Nat) : mx_M Int32 :=
  mx_try (mx_is 0 v0 (fn_X1_hungriest d v0)) (fun r101 =>
    mx_bind (mx_ast 102 v1 (0 : Int32) (.long (r101.toInt64))) fun _ =>
    mx_pure (0 : Int32)) fun q102 =>
    mx_in [34] q102 (
      mx_pure (1 : Int32)) (
    mx_fail)

def fn_X0_hungriest : Nat → Option Nat → Option Nat → mx_M Int32
  | 0, _, _ => mx_fail
  | d + 1, v0, v1 => fn_X0_hungriest_B0 d v0 v1
def fn_X1_hungriestByLooking_B0 (d : Nat) (v0 : Option Nat) : mx_M Int32 :=
  mx_bind (mx_getR [(0, 0)] v0) fun v101 =>
  mx_bind (mx_is 2 v101 (fn_X2_hungriestByLooking d v101)) fun r102 =>
  mx_bind (fn_X1_found d r102) fun r103 =>
  mx_pure r103
def fn_X1_hungriestByLooking : Nat → Option Nat → mx_M Int32
  | 0, _ => mx_fail
  | d + 1, v0 => fn_X1_hungriestByLooking_B0 d v0
def fn_X0_hungriestByLooking_B0 (d : Nat) (v0 : Option Nat) (v1 : Option Nat) : mx_M Int32 :=
  mx_try (mx_is 0 v0 (fn_X1_hungriestByLooking d v0)) (fun r101 =>
    mx_bind (mx_ast 102 v1 (0 : Int32) (.long (r101.toInt64))) fun _ =>
    mx_pure (0 : Int32)) fun q102 =>
    mx_in [34] q102 (
      mx_pure (1 : Int32)) (
    mx_fail)

def fn_X0_hungriestByLooking : Nat → Option Nat → Option Nat → mx_M Int32
  | 0, _, _ => mx_fail
  | d + 1, v0, v1 => fn_X0_hungriestByLooking_B0 d v0 v1
def fn_X0_isCovered_B0 (d : Nat) (v0 : Option Nat) (v1 : Int32) (v2 : Int32) (v3 : Option Nat) : mx_M Int32 :=
  mx_try (mx_is 0 v0 (fn_X1_isCovered d v0 v1 v2)) (fun r101 =>
    mx_if (r101 = (0 : Int32)) (
      mx_bind (mx_ast 102 v3 (0 : Int32) (.long (0 : Int64))) fun _ =>
      mx_pure (0 : Int32)) (
      mx_bind (mx_ast 102 v3 (0 : Int32) (.long (1 : Int64))) fun _ =>
      mx_pure (0 : Int32))) fun q102 =>
    mx_in [35] q102 (
      mx_pure (1 : Int32)) (
    mx_fail)

def fn_X0_isCovered : Nat → Option Nat → Int32 → Int32 → Option Nat → mx_M Int32
  | 0, _, _, _, _ => mx_fail
  | d + 1, v0, v1, v2, v3 => fn_X0_isCovered_B0 d v0 v1 v2 v3
def fn_X1_ticketWith_B0 (d : Nat) (v0 : Option Nat) (v1 : Int32) : mx_M (Option Nat) :=
  mx_bind (mx_getR [(0, 0)] v0) fun v101 =>
  mx_bind (mx_getI [(2, 3)] v101) fun v102 =>
  mx_bind (fn_X1_isBetween d v1 (0 : Int32) (v102 - (1 : Int32))) fun r103 =>
  mx_bind (fn_X1_checkElement d r103) fun _ =>
  mx_bind (mx_getR [(0, 0)] v0) fun v104 =>
  mx_bind (mx_getR [(2, 2)] v104) fun v105 =>
  mx_bind (fn_X1_inOrder d v105) fun r106 =>
  mx_bind (mx_is 16 r106 (fn_J4_get d r106 v1)) fun r107 =>
  mx_bind (mx_cast [6] r107) fun _ =>
  mx_pure r107
def fn_X1_ticketWith : Nat → Option Nat → Int32 → mx_M (Option Nat)
  | 0, _, _ => mx_fail
  | d + 1, v0, v1 => fn_X1_ticketWith_B0 d v0 v1
def fn_X1_isStaleAtRank_B0 (d : Nat) (v0 : Option Nat) (v1 : Int32) : mx_M Int32 :=
  mx_bind (mx_getR [(0, 0)] v0) fun v101 =>
  mx_bind (mx_is 0 v0 (fn_X1_ticketWith d v0 v1)) fun r102 =>
  mx_bind (mx_is 2 v101 (fn_X2_isValid d v101 r102)) fun r103 =>
  mx_if (r103 = (0 : Int32)) (
    mx_pure (1 : Int32)) (
    mx_pure (0 : Int32))
def fn_X1_isStaleAtRank : Nat → Option Nat → Int32 → mx_M Int32
  | 0, _, _ => mx_fail
  | d + 1, v0, v1 => fn_X1_isStaleAtRank_B0 d v0 v1
def fn_X0_isStaleAtRank_B0 (d : Nat) (v0 : Option Nat) (v1 : Int32) (v2 : Option Nat) : mx_M Int32 :=
  mx_try (mx_is 0 v0 (fn_X1_isStaleAtRank d v0 v1)) (fun r101 =>
    mx_if (r101 = (0 : Int32)) (
      mx_bind (mx_ast 102 v2 (0 : Int32) (.long (0 : Int64))) fun _ =>
      mx_pure (0 : Int32)) (
      mx_bind (mx_ast 102 v2 (0 : Int32) (.long (1 : Int64))) fun _ =>
      mx_pure (0 : Int32))) fun q102 =>
    mx_in [34] q102 (
      mx_pure (1 : Int32)) (
    mx_fail)

def fn_X0_isStaleAtRank : Nat → Option Nat → Int32 → Option Nat → mx_M Int32
  | 0, _, _, _ => mx_fail
  | d + 1, v0, v1, v2 => fn_X0_isStaleAtRank_B0 d v0 v1 v2
def fn_X1_divisor_B0 (d : Nat) (v0 : Int32) : mx_M Int32 :=
  mx_if (v0 = (0 : Int32)) (
    mx_bind (mx_ge 6 d (mx_new (39, []) 6)) fun a101 =>
    mx_deref (some a101) fun q102 =>
    mx_thr [13, 14, 15, 34, 35, 36, 37, 38, 39] q102) (
    mx_pure v0)
def fn_X1_divisor : Nat → Int32 → mx_M Int32
  | 0, _ => mx_fail
  | d + 1, v0 => fn_X1_divisor_B0 d v0
def fn_X1_lateShare_B0 (d : Nat) (v0 : Option Nat) : mx_M UInt32 :=
  mx_bind (mx_getR [(0, 0)] v0) fun v101 =>
  mx_bind (mx_getI [(2, 8)] v101) fun v102 =>
  mx_bind (fn_X1_divisor d v102) fun r103 =>
  mx_bind (mx_getR [(0, 0)] v0) fun v104 =>
  mx_bind (mx_getI [(2, 9)] v104) fun v105 =>
  mx_bind (mx_fdiv (FP.i2f v105) (FP.i2f r103)) fun v106 =>
  mx_pure v106
def fn_X1_lateShare : Nat → Option Nat → mx_M UInt32
  | 0, _ => mx_fail
  | d + 1, v0 => fn_X1_lateShare_B0 d v0
def fn_X0_lateShare_B0 (d : Nat) (v0 : Option Nat) (v1 : Option Nat) : mx_M Int32 :=
  mx_try (mx_is 0 v0 (fn_X1_lateShare d v0)) (fun r101 =>
    mx_bind (mx_f2d r101) fun v103 =>
    mx_bind (mx_ast 103 v1 (0 : Int32) (.double v103)) fun _ =>
    mx_pure (0 : Int32)) fun q102 =>
    mx_in [39] q102 (
      mx_pure (1 : Int32)) (
    mx_fail)

def fn_X0_lateShare : Nat → Option Nat → Option Nat → mx_M Int32
  | 0, _, _ => mx_fail
  | d + 1, v0, v1 => fn_X0_lateShare_B0 d v0 v1
def fn_X1_leave_B0 (d : Nat) (v0 : Option Nat) (v1 : Int32) : mx_M Int32 :=
  mx_bind (mx_con 227) fun v101 =>
  mx_bind (mx_newa 100 (.int 0) (1 : Int32)) fun a102 =>
  mx_bind (mx_ast 100 (some a102) (0 : Int32) (.int v1)) fun _ =>
  mx_bind (mx_is 0 v0 (fn_X1_change d v0 v101 (some a102))) fun r103 =>
  mx_pure r103
def fn_X1_leave : Nat → Option Nat → Int32 → mx_M Int32
  | 0, _, _ => mx_fail
  | d + 1, v0, v1 => fn_X1_leave_B0 d v0 v1
def fn_X0_leave_B0 (d : Nat) (v0 : Option Nat) (v1 : Int32) (v2 : Option Nat) : mx_M Int32 :=
  mx_try (mx_is 0 v0 (fn_X1_leave d v0 v1)) (fun r101 =>
    mx_bind (mx_ast 102 v2 (0 : Int32) (.long (r101.toInt64))) fun _ =>
    mx_pure (0 : Int32)) fun q102 =>
    mx_in [34] q102 (
      mx_pure (1 : Int32)) (
    mx_fail)

def fn_X0_leave : Nat → Option Nat → Int32 → Option Nat → mx_M Int32
  | 0, _, _, _ => mx_fail
  | d + 1, v0, v1, v2 => fn_X0_leave_B0 d v0 v1 v2
def fn_J27_intValue_B0 (d : Nat) (v0 : Option Nat) : mx_M Int32 :=
  mx_bind (mx_getI [(31, 0)] v0) fun v101 =>
  mx_pure v101
def fn_J27_intValue : Nat → Option Nat → mx_M Int32
  | 0, _ => mx_fail
  | d + 1, v0 => fn_J27_intValue_B0 d v0
def fn_J48_init_B0 (d : Nat) (v0 : Option Nat) : mx_M Unit :=
  mx_bind (mx_deref v0 fun _ => fn_J2_init d v0) fun _ =>
  mx_pure ()
def fn_J48_init : Nat → Option Nat → mx_M Unit
  | 0, _ => mx_fail
  | d + 1, v0 => fn_J48_init_B0 d v0
def fn_J51_init_B0 (d : Nat) (v0 : Option Nat) (v1 : Option Nat) : mx_M Unit :=
  mx_bind (mx_deref v0 fun _ => fn_J48_init d v0) fun _ =>
  mx_bind (mx_put [(21, 0)] v0 (va_rf v1)) fun _ =>
  mx_pure ()
def fn_J51_init : Nat → Option Nat → Option Nat → mx_M Unit
  | 0, _, _ => mx_fail
  | d + 1, v0, v1 => fn_J51_init_B0 d v0 v1
def fn_J1_navigableKeySet_B0 (d : Nat) (v0 : Option Nat) : mx_M (Option Nat) :=
  mx_bind (mx_getR [(18, 7)] v0) fun v101 =>
  mx_ifnull v101 (
    mx_bind (mx_new (21, [.null]) 1) fun a102 =>
    mx_bind (mx_deref (some a102) fun _ => fn_J51_init d (some a102) v0) fun _ =>
    mx_bind (mx_put [(18, 7)] v0 (va_rf (some a102))) fun _ =>
    mx_pure (some a102)) (
    mx_pure v101)
def fn_J1_navigableKeySet : Nat → Option Nat → mx_M (Option Nat)
  | 0, _ => mx_fail
  | d + 1, v0 => fn_J1_navigableKeySet_B0 d v0
def fn_J1_keySet_B0 (d : Nat) (v0 : Option Nat) : mx_M (Option Nat) :=
  mx_bind (mx_is 18 v0 (fn_J1_navigableKeySet d v0)) fun r101 =>
  mx_pure r101
def fn_J1_keySet : Nat → Option Nat → mx_M (Option Nat)
  | 0, _ => mx_fail
  | d + 1, v0 => fn_J1_keySet_B0 d v0
def fn_X1_lionAt_B0 (d : Nat) (v0 : Option Nat) (v1 : Int32) : mx_M Int32 :=
  mx_bind (mx_is 0 v0 (fn_X1_lionCount d v0)) fun r101 =>
  mx_bind (fn_X1_isBetween d v1 (0 : Int32) (r101 - (1 : Int32))) fun r102 =>
  mx_bind (fn_X1_checkElement d r102) fun _ =>
  mx_bind (mx_new (16, [.int 0, .null, .int 0]) 3) fun a103 =>
  mx_bind (mx_getR [(0, 0)] v0) fun v104 =>
  mx_bind (mx_getR [(2, 0)] v104) fun v105 =>
  mx_bind (mx_is 18 v105 (fn_J1_keySet d v105)) fun r106 =>
  mx_bind (mx_deref (some a103) fun _ => fn_J4_init_2 d (some a103) r106) fun _ =>
  mx_bind (mx_is 16 (some a103) (fn_J4_get d (some a103) v1)) fun r107 =>
  mx_bind (mx_cast [31] r107) fun _ =>
  mx_bind (mx_is 31 r107 (fn_J27_intValue d r107)) fun r108 =>
  mx_pure r108
def fn_X1_lionAt : Nat → Option Nat → Int32 → mx_M Int32
  | 0, _, _ => mx_fail
  | d + 1, v0, v1 => fn_X1_lionAt_B0 d v0 v1
def fn_X0_lionAt_B0 (d : Nat) (v0 : Option Nat) (v1 : Int32) (v2 : Option Nat) : mx_M Int32 :=
  mx_try (mx_is 0 v0 (fn_X1_lionAt d v0 v1)) (fun r101 =>
    mx_bind (mx_ast 102 v2 (0 : Int32) (.long (r101.toInt64))) fun _ =>
    mx_pure (0 : Int32)) fun q102 =>
    mx_in [34] q102 (
      mx_pure (1 : Int32)) (
    mx_fail)

def fn_X0_lionAt : Nat → Option Nat → Int32 → Option Nat → mx_M Int32
  | 0, _, _, _ => mx_fail
  | d + 1, v0, v1, v2 => fn_X0_lionAt_B0 d v0 v1 v2
def fn_X2_lionAt_J93 (d : Nat) (b13 : Option Nat → Int32 → Option Nat → mx_M Int32) (b49 : Option Nat → Int32 → Option Nat → Option Nat → Int32 → Option Nat → mx_M Int32) (l0 : Option Nat) (l1 : Int32) (l2 : Option Nat) (l3 : Option Nat) (l5 : Option Nat) (p0 : Int32) (p1 : Int32) : mx_M Int32 :=
  mx_let (p0 + p1) fun v101 =>
  b49 l0 l1 l2 l3 v101 l5
def fn_X2_lionAt_L49_b (d : Nat) (b13 : Option Nat → Int32 → Option Nat → mx_M Int32) (b49 : Option Nat → Int32 → Option Nat → Option Nat → Int32 → Option Nat → mx_M Int32) (l0 : Option Nat) (l1 : Int32) (l2 : Option Nat) (l3 : Option Nat) (l4 : Int32) (l5 : Option Nat) : mx_M Int32 :=
  mx_bind (mx_is 22 l5 (fn_J33_hasNext d l5)) fun r101 =>
  mx_if (r101 = (0 : Int32)) (
    mx_if (l4 = l1) (
      mx_bind (mx_getI [(5, 0)] l3) fun v102 =>
      mx_pure v102) (
      b13 l0 l1 l2)) (
    mx_bind (mx_is 22 l5 (fn_J36_next d l5)) fun r103 =>
    mx_bind (mx_cast [5] r103) fun _ =>
    mx_bind (mx_getR [(5, 3)] r103) fun v104 =>
    mx_bind (mx_getR [(5, 3)] l3) fun v105 =>
    mx_bind (mx_is 6 v104 (fn_X9_isBefore d v104 v105)) fun r106 =>
    mx_if (r106 = (0 : Int32)) (
      fn_X2_lionAt_J93 d b13 b49 l0 l1 l2 l3 l5 l4 (0 : Int32)) (
      fn_X2_lionAt_J93 d b13 b49 l0 l1 l2 l3 l5 l4 (1 : Int32)))
def fn_X2_lionAt_L49 (d : Nat) (b13 : Option Nat → Int32 → Option Nat → mx_M Int32) : Nat → Option Nat → Int32 → Option Nat → Option Nat → Int32 → Option Nat → mx_M Int32
  | 0, _, _, _, _, _, _ => mx_fail
  | k + 1, l0, l1, l2, l3, l4, l5 => fn_X2_lionAt_L49_b d b13 (fn_X2_lionAt_L49 d b13 k) l0 l1 l2 l3 l4 l5
def fn_X2_lionAt_L13_b (d : Nat) (b13 : Option Nat → Int32 → Option Nat → mx_M Int32) (l0 : Option Nat) (l1 : Int32) (l2 : Option Nat) : mx_M Int32 :=
  mx_bind (mx_is 22 l2 (fn_J33_hasNext d l2)) fun r101 =>
  mx_if (r101 = (0 : Int32)) (
    mx_pure (-1 : Int32)) (
    mx_bind (mx_is 22 l2 (fn_J36_next d l2)) fun r102 =>
    mx_bind (mx_cast [5] r102) fun _ =>
    mx_bind (mx_getR [(2, 0)] l0) fun v103 =>
    mx_bind (mx_is 18 v103 (fn_J1_values d v103)) fun r104 =>
    mx_bind (mx_is 20 r104 (fn_J11_iterator d r104)) fun r105 =>
    fn_X2_lionAt_L49 d b13 mx_K l0 l1 l2 r102 (0 : Int32) r105)
def fn_X2_lionAt_L13 (d : Nat) : Nat → Option Nat → Int32 → Option Nat → mx_M Int32
  | 0, _, _, _ => mx_fail
  | k + 1, l0, l1, l2 => fn_X2_lionAt_L13_b d (fn_X2_lionAt_L13 d k) l0 l1 l2
def fn_X2_lionAt_B0 (d : Nat) (v0 : Option Nat) (v1 : Int32) : mx_M Int32 :=
  mx_bind (mx_getR [(2, 0)] v0) fun v101 =>
  mx_bind (mx_is 18 v101 (fn_J1_values d v101)) fun r102 =>
  mx_bind (mx_is 20 r102 (fn_J11_iterator d r102)) fun r103 =>
  fn_X2_lionAt_L13 d mx_K v0 v1 r103
def fn_X2_lionAt : Nat → Option Nat → Int32 → mx_M Int32
  | 0, _, _ => mx_fail
  | d + 1, v0, v1 => fn_X2_lionAt_B0 d v0 v1
def fn_X1_lionAtRank_B0 (d : Nat) (v0 : Option Nat) (v1 : Int32) : mx_M Int32 :=
  mx_bind (mx_getR [(0, 0)] v0) fun v101 =>
  mx_bind (mx_is 2 v101 (fn_X2_lionAt d v101 v1)) fun r102 =>
  mx_bind (fn_X1_found d r102) fun r103 =>
  mx_pure r103
def fn_X1_lionAtRank : Nat → Option Nat → Int32 → mx_M Int32
  | 0, _, _ => mx_fail
  | d + 1, v0, v1 => fn_X1_lionAtRank_B0 d v0 v1
def fn_X0_lionAtRank_B0 (d : Nat) (v0 : Option Nat) (v1 : Int32) (v2 : Option Nat) : mx_M Int32 :=
  mx_try (mx_is 0 v0 (fn_X1_lionAtRank d v0 v1)) (fun r101 =>
    mx_bind (mx_ast 102 v2 (0 : Int32) (.long (r101.toInt64))) fun _ =>
    mx_pure (0 : Int32)) fun q102 =>
    mx_in [34] q102 (
      mx_pure (1 : Int32)) (
    mx_fail)

def fn_X0_lionAtRank : Nat → Option Nat → Int32 → Option Nat → mx_M Int32
  | 0, _, _, _ => mx_fail
  | d + 1, v0, v1, v2 => fn_X0_lionAtRank_B0 d v0 v1 v2
def fn_X2_hungerTotal_L15_b (d : Nat) (b15 : Int32 → Option Nat → mx_M Int32) (l1 : Int32) (l2 : Option Nat) : mx_M Int32 :=
  mx_bind (mx_is 22 l2 (fn_J33_hasNext d l2)) fun r101 =>
  mx_if (r101 = (0 : Int32)) (
    mx_pure l1) (
    mx_bind (mx_is 22 l2 (fn_J36_next d l2)) fun r102 =>
    mx_bind (mx_cast [5] r102) fun _ =>
    mx_bind (mx_is 5 r102 (fn_X8_hunger d r102)) fun r103 =>
    mx_let (l1 + r103) fun v104 =>
    b15 v104 l2)
def fn_X2_hungerTotal_L15 (d : Nat) : Nat → Int32 → Option Nat → mx_M Int32
  | 0, _, _ => mx_fail
  | k + 1, l1, l2 => fn_X2_hungerTotal_L15_b d (fn_X2_hungerTotal_L15 d k) l1 l2
def fn_X2_hungerTotal_B0 (d : Nat) (v0 : Option Nat) : mx_M Int32 :=
  mx_bind (mx_getR [(2, 0)] v0) fun v101 =>
  mx_bind (mx_is 18 v101 (fn_J1_values d v101)) fun r102 =>
  mx_bind (mx_is 20 r102 (fn_J11_iterator d r102)) fun r103 =>
  fn_X2_hungerTotal_L15 d mx_K (0 : Int32) r103
def fn_X2_hungerTotal : Nat → Option Nat → mx_M Int32
  | 0, _ => mx_fail
  | d + 1, v0 => fn_X2_hungerTotal_B0 d v0
def fn_X1_meanHunger_B0 (d : Nat) (v0 : Option Nat) : mx_M UInt64 :=
  mx_bind (mx_is 0 v0 (fn_X1_lionCount d v0)) fun r101 =>
  mx_bind (fn_X1_divisor d r101) fun r102 =>
  mx_bind (mx_getR [(0, 0)] v0) fun v103 =>
  mx_bind (mx_is 2 v103 (fn_X2_hungerTotal d v103)) fun r104 =>
  mx_bind (mx_ddiv (FP.i2d r104) (FP.i2d r102)) fun v105 =>
  mx_pure v105
def fn_X1_meanHunger : Nat → Option Nat → mx_M UInt64
  | 0, _ => mx_fail
  | d + 1, v0 => fn_X1_meanHunger_B0 d v0
def fn_X0_meanHunger_B0 (d : Nat) (v0 : Option Nat) (v1 : Option Nat) : mx_M Int32 :=
  mx_try (mx_is 0 v0 (fn_X1_meanHunger d v0)) (fun r101 =>
    mx_bind (mx_ast 103 v1 (0 : Int32) (.double r101)) fun _ =>
    mx_pure (0 : Int32)) fun q102 =>
    mx_in [39] q102 (
      mx_pure (1 : Int32)) (
    mx_fail)

def fn_X0_meanHunger : Nat → Option Nat → Option Nat → mx_M Int32
  | 0, _, _ => mx_fail
  | d + 1, v0, v1 => fn_X0_meanHunger_B0 d v0 v1
def fn_X1_onDuty_B0 (d : Nat) (v0 : Option Nat) (v1 : Int32) : mx_M Int32 :=
  mx_bind (fn_X1_isBetween d v1 (0 : Int32) (23 : Int32)) fun r101 =>
  mx_bind (fn_X1_checkArgument d r101) fun _ =>
  mx_bind (mx_getR [(0, 0)] v0) fun v102 =>
  mx_bind (mx_getR [(2, 1)] v102) fun v103 =>
  mx_bind (mx_is 3 v103 (fn_X3_onDuty d v103 v1)) fun r104 =>
  mx_pure r104
def fn_X1_onDuty : Nat → Option Nat → Int32 → mx_M Int32
  | 0, _, _ => mx_fail
  | d + 1, v0, v1 => fn_X1_onDuty_B0 d v0 v1
def fn_X0_onDuty_B0 (d : Nat) (v0 : Option Nat) (v1 : Int32) (v2 : Option Nat) : mx_M Int32 :=
  mx_try (mx_is 0 v0 (fn_X1_onDuty d v0 v1)) (fun r101 =>
    mx_bind (mx_ast 102 v2 (0 : Int32) (.long (r101.toInt64))) fun _ =>
    mx_pure (0 : Int32)) fun q102 =>
    mx_in [35] q102 (
      mx_pure (1 : Int32)) (
    mx_fail)

def fn_X0_onDuty : Nat → Option Nat → Int32 → Option Nat → mx_M Int32
  | 0, _, _, _ => mx_fail
  | d + 1, v0, v1, v2 => fn_X0_onDuty_B0 d v0 v1 v2
def fn_J9_checkIndex_B0 (d : Nat) (v0 : Int32) (v1 : Int32) : mx_M Unit :=
  mx_bind (mx_con 4) fun v101 =>
  mx_bind (fn_J24_checkIndex d v0 v1 v101) fun r102 =>
  mx_pure ()
def fn_J9_checkIndex : Nat → Int32 → Int32 → mx_M Unit
  | 0, _, _ => mx_fail
  | d + 1, v0, v1 => fn_J9_checkIndex_B0 d v0 v1
def fn_J25_charAt_B0 (d : Nat) (v0 : Option Nat) (v1 : Int32) : mx_M Int32 :=
  mx_bind (mx_alen v0) fun v101 =>
  mx_bind (fn_J9_checkIndex d v1 v101) fun _ =>
  mx_bind (mx_aldI 101 v0 v1) fun v102 =>
  mx_retN .char (((v102 &&& (255 : Int32)).toUInt32 % 65536).toInt32)
def fn_J25_charAt : Nat → Option Nat → Int32 → mx_M Int32
  | 0, _, _ => mx_fail
  | d + 1, v0, v1 => fn_J25_charAt_B0 d v0 v1
def fn_J9_charAt_B0 (d : Nat) (v0 : Option Nat) (v1 : Int32) : mx_M Int32 :=
  mx_bind (mx_is 30 v0 (fn_J9_isLatin1 d v0)) fun r101 =>
  mx_if (r101 = (0 : Int32)) (
    mx_bind (mx_getR [(30, 0)] v0) fun v102 =>
    mx_fail) (
    mx_bind (mx_getR [(30, 0)] v0) fun v103 =>
    mx_bind (fn_J25_charAt d v103 v1) fun r104 =>
    mx_retN .char r104)
def fn_J9_charAt : Nat → Option Nat → Int32 → mx_M Int32
  | 0, _, _ => mx_fail
  | d + 1, v0, v1 => fn_J9_charAt_B0 d v0 v1
def fn_X1_outputAt_B0 (d : Nat) (v0 : Option Nat) (v1 : Int32) : mx_M Int32 :=
  mx_bind (mx_getR [(0, 7)] v0) fun v101 =>
  mx_bind (mx_is 30 v101 (fn_J9_length d v101)) fun r102 =>
  mx_bind (fn_X1_isBetween d v1 (0 : Int32) (r102 - (1 : Int32))) fun r103 =>
  mx_bind (fn_X1_checkIndex d r103) fun _ =>
  mx_bind (mx_getR [(0, 7)] v0) fun v104 =>
  mx_bind (mx_is 30 v104 (fn_J9_charAt d v104 v1)) fun r105 =>
  mx_retN .char r105
def fn_X1_outputAt : Nat → Option Nat → Int32 → mx_M Int32
  | 0, _, _ => mx_fail
  | d + 1, v0, v1 => fn_X1_outputAt_B0 d v0 v1
def fn_X0_outputAt_B0 (d : Nat) (v0 : Option Nat) (v1 : Int32) (v2 : Option Nat) : mx_M Int32 :=
  mx_try (mx_is 0 v0 (fn_X1_outputAt d v0 v1)) (fun r101 =>
    mx_bind (mx_ast 102 v2 (0 : Int32) (.long (r101.toInt64))) fun _ =>
    mx_pure (0 : Int32)) fun q102 =>
    mx_in [37] q102 (
      mx_pure (1 : Int32)) (
    mx_fail)

def fn_X0_outputAt : Nat → Option Nat → Int32 → Option Nat → mx_M Int32
  | 0, _, _, _ => mx_fail
  | d + 1, v0, v1, v2 => fn_X0_outputAt_B0 d v0 v1 v2
def fn_X1_passHours_B0 (d : Nat) (v0 : Option Nat) (v1 : Int32) : mx_M Int32 :=
  mx_bind (mx_con 231) fun v101 =>
  mx_bind (mx_newa 100 (.int 0) (1 : Int32)) fun a102 =>
  mx_bind (mx_ast 100 (some a102) (0 : Int32) (.int v1)) fun _ =>
  mx_bind (mx_is 0 v0 (fn_X1_change d v0 v101 (some a102))) fun r103 =>
  mx_pure r103
def fn_X1_passHours : Nat → Option Nat → Int32 → mx_M Int32
  | 0, _, _ => mx_fail
  | d + 1, v0, v1 => fn_X1_passHours_B0 d v0 v1
def fn_X0_passHours_B0 (d : Nat) (v0 : Option Nat) (v1 : Int32) (v2 : Option Nat) : mx_M Int32 :=
  mx_try (mx_is 0 v0 (fn_X1_passHours d v0 v1)) (fun r101 =>
    mx_bind (mx_ast 102 v2 (0 : Int32) (.long (r101.toInt64))) fun _ =>
    mx_pure (0 : Int32)) fun q102 =>
    mx_in [35] q102 (
      mx_pure (1 : Int32)) (
    mx_fail)

def fn_X0_passHours : Nat → Option Nat → Int32 → Option Nat → mx_M Int32
  | 0, _, _, _ => mx_fail
  | d + 1, v0, v1, v2 => fn_X0_passHours_B0 d v0 v1 v2
def fn_X1_portionOf_B0 (d : Nat) (v0 : Option Nat) (v1 : Int32) : mx_M Int32 :=
  mx_bind (mx_is 0 v0 (fn_X1_lionWith d v0 v1)) fun r101 =>
  mx_bind (mx_getI [(5, 1)] r101) fun v102 =>
  mx_pure v102
def fn_X1_portionOf : Nat → Option Nat → Int32 → mx_M Int32
  | 0, _, _ => mx_fail
  | d + 1, v0, v1 => fn_X1_portionOf_B0 d v0 v1
def fn_X0_portionOf_B0 (d : Nat) (v0 : Option Nat) (v1 : Int32) (v2 : Option Nat) : mx_M Int32 :=
  mx_try (mx_is 0 v0 (fn_X1_portionOf d v0 v1)) (fun r101 =>
    mx_bind (mx_ast 102 v2 (0 : Int32) (.long (r101.toInt64))) fun _ =>
    mx_pure (0 : Int32)) fun q102 =>
    mx_in [34] q102 (
      mx_pure (1 : Int32)) (
    mx_fail)

def fn_X0_portionOf : Nat → Option Nat → Int32 → Option Nat → mx_M Int32
  | 0, _, _, _ => mx_fail
  | d + 1, v0, v1, v2 => fn_X0_portionOf_B0 d v0 v1 v2
def fn_X8_toString_B0 (d : Nat) (v0 : Option Nat) : mx_M (Option Nat) :=
  mx_bind (mx_new (29, [.null, .int 0, .int 0, .int 0]) 4) fun a101 =>
  mx_bind (mx_deref (some a101) fun _ => fn_J8_init d (some a101)) fun _ =>
  mx_bind (mx_getI [(5, 0)] v0) fun v102 =>
  mx_bind (mx_is 29 (some a101) (fn_J8_append_2 d (some a101) v102)) fun r103 =>
  mx_bind (mx_con 232) fun v104 =>
  mx_bind (mx_is 29 r103 (fn_J8_append d r103 v104)) fun r105 =>
  mx_bind (mx_is 5 v0 (fn_X8_hunger d v0)) fun r106 =>
  mx_bind (mx_is 29 r105 (fn_J8_append_2 d r105 r106)) fun r107 =>
  mx_bind (mx_con 233) fun v108 =>
  mx_bind (mx_is 29 r107 (fn_J8_append d r107 v108)) fun r109 =>
  mx_bind (mx_getI [(5, 1)] v0) fun v110 =>
  mx_bind (mx_is 29 r109 (fn_J8_append_2 d r109 v110)) fun r111 =>
  mx_bind (mx_con 234) fun v112 =>
  mx_bind (mx_is 29 r111 (fn_J8_append d r111 v112)) fun r113 =>
  mx_bind (mx_getI [(5, 2)] v0) fun v114 =>
  mx_bind (mx_is 29 r113 (fn_J8_append_2 d r113 v114)) fun r115 =>
  mx_bind (mx_con 235) fun v116 =>
  mx_bind (mx_is 29 r115 (fn_J8_append d r115 v116)) fun r117 =>
  mx_bind (mx_getR [(5, 3)] v0) fun v118 =>
  mx_bind (mx_getI [(6, 0)] v118) fun v119 =>
  mx_bind (mx_is 29 r117 (fn_J8_append_2 d r117 v119)) fun r120 =>
  mx_bind (mx_is 29 r120 (fn_J8_toString d r120)) fun r121 =>
  mx_pure r121
def fn_X8_toString : Nat → Option Nat → mx_M (Option Nat)
  | 0, _ => mx_fail
  | d + 1, v0 => fn_X8_toString_B0 d v0
def fn_X1_renderLion_B0 (d : Nat) (v0 : Option Nat) (v1 : Int32) : mx_M Int32 :=
  mx_bind (mx_is 0 v0 (fn_X1_lionWith d v0 v1)) fun r101 =>
  mx_bind (mx_is 5 r101 (fn_X8_toString d r101)) fun r102 =>
  mx_bind (mx_is 0 v0 (fn_X1_write d v0 r102)) fun r103 =>
  mx_pure r103
def fn_X1_renderLion : Nat → Option Nat → Int32 → mx_M Int32
  | 0, _, _ => mx_fail
  | d + 1, v0, v1 => fn_X1_renderLion_B0 d v0 v1
def fn_X0_renderLion_B0 (d : Nat) (v0 : Option Nat) (v1 : Int32) (v2 : Option Nat) : mx_M Int32 :=
  mx_try (mx_is 0 v0 (fn_X1_renderLion d v0 v1)) (fun r101 =>
    mx_bind (mx_ast 102 v2 (0 : Int32) (.long (r101.toInt64))) fun _ =>
    mx_pure (0 : Int32)) fun q102 =>
    mx_in [34] q102 (
      mx_pure (1 : Int32)) (
    mx_fail)

def fn_X0_renderLion : Nat → Option Nat → Int32 → Option Nat → mx_M Int32
  | 0, _, _, _ => mx_fail
  | d + 1, v0, v1, v2 => fn_X0_renderLion_B0 d v0 v1 v2
def fn_X1_checkState_B0 (d : Nat) (v0 : Int32) : mx_M Unit :=
  mx_if (v0 = (0 : Int32)) (
    mx_bind (mx_ge 6 d (mx_new (36, []) 6)) fun a101 =>
    mx_deref (some a101) fun q102 =>
    mx_thr [13, 14, 15, 34, 35, 36, 37, 38, 39] q102) (
    mx_pure ())
def fn_X1_checkState : Nat → Int32 → mx_M Unit
  | 0, _ => mx_fail
  | d + 1, v0 => fn_X1_checkState_B0 d v0
def fn_J6_clear_L5_b (d : Nat) (b5 : Option Nat → Option Nat → mx_M Unit) (l0 : Option Nat) (l1 : Option Nat) : mx_M Unit :=
  mx_ifnull l1 (
    mx_bind (mx_put [(24, 3)] l0 (va_rf none)) fun _ =>
    mx_bind (mx_put [(24, 2)] l0 (va_rf none)) fun _ =>
    mx_bind (mx_put [(24, 1)] l0 (.int (0 : Int32))) fun _ =>
    mx_bind (mx_getI [(24, 0)] l0) fun v101 =>
    mx_bind (mx_put [(24, 0)] l0 (.int (v101 + (1 : Int32)))) fun _ =>
    mx_pure ()) (
    mx_bind (mx_getR [(25, 1)] l1) fun v102 =>
    mx_bind (mx_put [(25, 0)] l1 (va_rf none)) fun _ =>
    mx_bind (mx_put [(25, 1)] l1 (va_rf none)) fun _ =>
    mx_bind (mx_put [(25, 2)] l1 (va_rf none)) fun _ =>
    b5 l0 v102)
def fn_J6_clear_L5 (d : Nat) : Nat → Option Nat → Option Nat → mx_M Unit
  | 0, _, _ => mx_fail
  | k + 1, l0, l1 => fn_J6_clear_L5_b d (fn_J6_clear_L5 d k) l0 l1
def fn_J6_clear_B0 (d : Nat) (v0 : Option Nat) : mx_M Unit :=
  mx_bind (mx_getR [(24, 2)] v0) fun v101 =>
  fn_J6_clear_L5 d mx_K v0 v101
def fn_J6_clear : Nat → Option Nat → mx_M Unit
  | 0, _ => mx_fail
  | d + 1, v0 => fn_J6_clear_B0 d v0
def fn_X1_restore_J12 (d : Nat) (l0 : Option Nat) (p0 : Int32) : mx_M Int32 :=
  mx_bind (fn_X1_checkState d p0) fun _ =>
  mx_bind (mx_getR [(0, 1)] l0) fun v101 =>
  mx_bind (mx_put [(0, 0)] l0 (va_rf v101)) fun _ =>
  mx_bind (mx_getR [(0, 2)] l0) fun v102 =>
  mx_bind (mx_is 24 v102 (fn_J6_clear d v102)) fun _ =>
  mx_bind (mx_is 0 l0 (fn_X1_lionCount d l0)) fun r103 =>
  mx_pure r103
def fn_X1_restore_B0 (d : Nat) (v0 : Option Nat) : mx_M Int32 :=
  mx_bind (mx_getR [(0, 1)] v0) fun v101 =>
  mx_ifnull v101 (
    fn_X1_restore_J12 d v0 (0 : Int32)) (
    fn_X1_restore_J12 d v0 (1 : Int32))
def fn_X1_restore : Nat → Option Nat → mx_M Int32
  | 0, _ => mx_fail
  | d + 1, v0 => fn_X1_restore_B0 d v0
def fn_X0_restore_B0 (d : Nat) (v0 : Option Nat) (v1 : Option Nat) : mx_M Int32 :=
  mx_try (mx_is 0 v0 (fn_X1_restore d v0)) (fun r101 =>
    mx_bind (mx_ast 102 v1 (0 : Int32) (.long (r101.toInt64))) fun _ =>
    mx_pure (0 : Int32)) fun q102 =>
    mx_in [36] q102 (
      mx_pure (1 : Int32)) (
    mx_fail)

def fn_X0_restore : Nat → Option Nat → Option Nat → mx_M Int32
  | 0, _, _ => mx_fail
  | d + 1, v0, v1 => fn_X0_restore_B0 d v0 v1
def fn_X1_roar_B0 (d : Nat) (v0 : Option Nat) (v1 : Int32) (v2 : Int32) : mx_M Int32 :=
  mx_bind (mx_con 225) fun v101 =>
  mx_bind (mx_newa 100 (.int 0) (2 : Int32)) fun a102 =>
  mx_bind (mx_ast 100 (some a102) (0 : Int32) (.int v1)) fun _ =>
  mx_bind (mx_ast 100 (some a102) (1 : Int32) (.int v2)) fun _ =>
  mx_bind (mx_is 0 v0 (fn_X1_change d v0 v101 (some a102))) fun r103 =>
  mx_pure r103
def fn_X1_roar : Nat → Option Nat → Int32 → Int32 → mx_M Int32
  | 0, _, _, _ => mx_fail
  | d + 1, v0, v1, v2 => fn_X1_roar_B0 d v0 v1 v2
def fn_X0_roar_B0 (d : Nat) (v0 : Option Nat) (v1 : Int32) (v2 : Int32) (v3 : Option Nat) : mx_M Int32 :=
  mx_try (mx_is 0 v0 (fn_X1_roar d v0 v1 v2)) (fun r101 =>
    mx_bind (mx_ast 102 v3 (0 : Int32) (.long (r101.toInt64))) fun _ =>
    mx_pure (0 : Int32)) fun q102 =>
    mx_in [34] q102 (
      mx_pure (1 : Int32)) (
    mx_in [35] q102 (
      mx_pure (2 : Int32)) (
    mx_fail))

def fn_X0_roar : Nat → Option Nat → Int32 → Int32 → Option Nat → mx_M Int32
  | 0, _, _, _, _ => mx_fail
  | d + 1, v0, v1, v2, v3 => fn_X0_roar_B0 d v0 v1 v2 v3
def fn_X17_init_B0 (d : Nat) (v0 : Option Nat) (v1 : Int32) (v2 : Option Nat) : mx_M Unit :=
  mx_bind (mx_deref v0 fun _ => fn_X6_init d v0 v2) fun _ =>
  mx_bind (mx_put [(14, 6)] v0 (.int v1)) fun _ =>
  mx_pure ()
def fn_X17_init : Nat → Option Nat → Int32 → Option Nat → mx_M Unit
  | 0, _, _, _ => mx_fail
  | d + 1, v0, v1, v2 => fn_X17_init_B0 d v0 v1 v2
def fn_X1_execute_J38 (d : Nat) (l3 : Int32) (p0 : Option Nat) : mx_M Int32 :=
  mx_bind (mx_new (14, [.null, .null, .null, .null, .null, .int 0, .int 0]) 7) fun a101 =>
  mx_bind (mx_deref (some a101) fun _ => fn_X17_init d (some a101) l3 p0) fun _ =>
  mx_deref (some a101) fun q102 =>
  mx_thr [13, 14, 15, 34, 35, 36, 37, 38, 39] q102
def fn_X1_execute_L10_b (d : Nat) (b10 : Option Nat → Option Nat → Option Nat → Int32 → mx_M Int32) (l0 : Option Nat) (l1 : Option Nat) (l2 : Option Nat) (l3 : Int32) : mx_M Int32 :=
  mx_bind (mx_is 16 l1 (fn_J4_size d l1)) fun r101 =>
  mx_if (r101 ≤ l3) (
    mx_bind (mx_is 16 l1 (fn_J4_size d l1)) fun r102 =>
    mx_bind (mx_is 0 l0 (fn_X1_commit d l0 l2 r102)) fun r103 =>
    mx_pure r103) (
    mx_try (mx_is 16 l1 (fn_J4_get d l1 l3)) (fun r104 =>
      mx_bind (mx_cast [11] r104) fun _ =>
      mx_try (mx_is 11 r104 (fn_X5_applyTo d r104 l2)) (fun r106 =>
        b10 l0 l1 l2 (l3 + (1 : Int32))) fun q107 =>
        mx_in [13] q107 (
          fn_X1_execute_J38 d l3 (some q107)) (
        mx_fail)
) fun q105 =>
      mx_in [13] q105 (
        fn_X1_execute_J38 d l3 (some q105)) (
      mx_fail)
)
def fn_X1_execute_L10 (d : Nat) : Nat → Option Nat → Option Nat → Option Nat → Int32 → mx_M Int32
  | 0, _, _, _, _ => mx_fail
  | k + 1, l0, l1, l2, l3 => fn_X1_execute_L10_b d (fn_X1_execute_L10 d k) l0 l1 l2 l3
def fn_X1_execute_B0 (d : Nat) (v0 : Option Nat) (v1 : Option Nat) : mx_M Int32 :=
  mx_bind (mx_getR [(0, 0)] v0) fun v101 =>
  mx_bind (mx_is 2 v101 (fn_X2_copy d v101)) fun r102 =>
  fn_X1_execute_L10 d mx_K v0 v1 r102 (0 : Int32)
def fn_X1_execute : Nat → Option Nat → Option Nat → mx_M Int32
  | 0, _, _ => mx_fail
  | d + 1, v0, v1 => fn_X1_execute_B0 d v0 v1
def fn_X17_index_B0 (d : Nat) (v0 : Option Nat) : mx_M Int32 :=
  mx_bind (mx_getI [(14, 6)] v0) fun v101 =>
  mx_pure v101
def fn_X17_index : Nat → Option Nat → mx_M Int32
  | 0, _ => mx_fail
  | d + 1, v0 => fn_X17_index_B0 d v0
def fn_X7_kind_B0 (d : Nat) (v0 : Option Nat) : mx_M Int32 :=
  mx_bind (mx_getI [(13, 6)] v0) fun v101 =>
  mx_retN .char v101
def fn_X7_kind : Nat → Option Nat → mx_M Int32
  | 0, _ => mx_fail
  | d + 1, v0 => fn_X7_kind_B0 d v0
def fn_X17_kind_B0 (d : Nat) (v0 : Option Nat) : mx_M Int32 :=
  mx_bind (mx_cause v0) fun v101 =>
  mx_bind (mx_inst [13] [] v101) fun v102 =>
  mx_if (v102 = (0 : Int32)) (
    mx_pure (32 : Int32)) (
    mx_bind (mx_cast [13] v101) fun _ =>
    mx_bind (mx_is 13 v101 (fn_X7_kind d v101)) fun r103 =>
    mx_retN .char r103)
def fn_X17_kind : Nat → Option Nat → mx_M Int32
  | 0, _ => mx_fail
  | d + 1, v0 => fn_X17_kind_B0 d v0
def fn_X16_position_B0 (d : Nat) (v0 : Option Nat) : mx_M Int32 :=
  mx_bind (mx_getI [(15, 6)] v0) fun v101 =>
  mx_pure v101
def fn_X16_position : Nat → Option Nat → mx_M Int32
  | 0, _ => mx_fail
  | d + 1, v0 => fn_X16_position_B0 d v0
def fn_X1_note_B0 (d : Nat) (v0 : Option Nat) (v1 : Option Nat) : mx_M Unit :=
  mx_bind (mx_inst [15] [14] v1) fun v101 =>
  mx_if (v101 = (0 : Int32)) (
    mx_bind (mx_inst [14] [] v1) fun v102 =>
    mx_if (v102 = (0 : Int32)) (
      mx_pure ()) (
      mx_bind (mx_cast [14] v1) fun _ =>
      mx_bind (mx_is 14 v1 (fn_X17_index d v1)) fun r103 =>
      mx_bind (mx_put [(0, 5)] v0 (.int r103)) fun _ =>
      mx_bind (mx_is 14 v1 (fn_X17_kind d v1)) fun r104 =>
      mx_bind (mx_putN .char [(0, 6)] v0 r104) fun _ =>
      mx_pure ())) (
    mx_bind (mx_cast [15] v1) fun _ =>
    mx_bind (mx_is 15 v1 (fn_X16_position d v1)) fun r105 =>
    mx_bind (mx_put [(0, 4)] v0 (.int r105)) fun _ =>
    mx_pure ())
def fn_X1_note : Nat → Option Nat → Option Nat → mx_M Unit
  | 0, _, _ => mx_fail
  | d + 1, v0, v1 => fn_X1_note_B0 d v0 v1
def fn_X17_asPublicException_B0 (d : Nat) (v0 : Option Nat) : mx_M (Option Nat) :=
  mx_bind (mx_ge 6 d (mx_new (36, []) 6)) fun a101 =>
  mx_pure (some a101)
def fn_X17_asPublicException : Nat → Option Nat → mx_M (Option Nat)
  | 0, _ => mx_fail
  | d + 1, v0 => fn_X17_asPublicException_B0 d v0
def fn_J55_init_B0 (d : Nat) (v0 : Option Nat) : mx_M Unit :=
  mx_bind (mx_deref v0 fun _ => fn_J2_init d v0) fun _ =>
  mx_pure ()
def fn_J55_init : Nat → Option Nat → mx_M Unit
  | 0, _ => mx_fail
  | d + 1, v0 => fn_J55_init_B0 d v0
def fn_J56_init_B0 (d : Nat) (v0 : Option Nat) : mx_M Unit :=
  mx_bind (mx_deref v0 fun _ => fn_J55_init d v0) fun _ =>
  mx_pure ()
def fn_J56_init : Nat → Option Nat → mx_M Unit
  | 0, _ => mx_fail
  | d + 1, v0 => fn_J56_init_B0 d v0
def fn_J58_init_B0 (d : Nat) (v0 : Option Nat) (v1 : Option Nat) (v2 : Int32) : mx_M Unit :=
  mx_bind (mx_deref v0 fun _ => fn_J56_init d v0) fun _ =>
  mx_bind (mx_put [(32, 0)] v0 (va_rf v1)) fun _ =>
  mx_bind (mx_putN .boolean [(32, 1)] v0 v2) fun _ =>
  mx_pure ()
def fn_J58_init : Nat → Option Nat → Option Nat → Int32 → mx_M Unit
  | 0, _, _, _ => mx_fail
  | d + 1, v0, v1, v2 => fn_J58_init_B0 d v0 v1 v2
def fn_J16_listFromTrustedArray_L30_b (d : Nat) (b30 : Option Nat → Option Nat → Int32 → Int32 → mx_M (Option Nat)) (l0 : Option Nat) (l1 : Option Nat) (l2 : Int32) (l3 : Int32) : mx_M (Option Nat) :=
  mx_if (l2 ≤ l3) (
    mx_bind (mx_alen l0) fun v101 =>
    mx_sw v101 [
      ((0 : Int32),
        mx_bind (mx_con 9) fun v102 =>
        mx_pure v102),
      ((1 : Int32),
        mx_fail),
      ((2 : Int32),
        mx_fail)] (
      mx_bind (mx_new (32, [.null, .int 0]) 2) fun a103 =>
      mx_bind (mx_deref (some a103) fun _ => fn_J58_init d (some a103) l0 (0 : Int32)) fun _ =>
      mx_pure (some a103))) (
    mx_bind (mx_aldR 104 l1 l3) fun v104 =>
    mx_bind (fn_J37_requireNonNull d v104) fun r105 =>
    b30 l0 l1 l2 (l3 + (1 : Int32)))
def fn_J16_listFromTrustedArray_L30 (d : Nat) : Nat → Option Nat → Option Nat → Int32 → Int32 → mx_M (Option Nat)
  | 0, _, _, _, _ => mx_fail
  | k + 1, l0, l1, l2, l3 => fn_J16_listFromTrustedArray_L30_b d (fn_J16_listFromTrustedArray_L30 d k) l0 l1 l2 l3
def fn_J16_listFromTrustedArray_J23 (d : Nat) (l0 : Option Nat) : mx_M (Option Nat) :=
  mx_bind (mx_alen l0) fun v101 =>
  fn_J16_listFromTrustedArray_L30 d mx_K l0 l0 v101 (0 : Int32)
def fn_J16_listFromTrustedArray_B0 (d : Nat) (v0 : Option Nat) : mx_M (Option Nat) :=
  mx_if ((1 : Int32) = (0 : Int32)) (
    mx_bind (mx_cls [104] v0) fun v101 =>
    mx_bind (mx_con 1104) fun v102 =>
    mx_if (v101 = v102) (
      fn_J16_listFromTrustedArray_J23 d v0) (
      mx_fail)) (
    fn_J16_listFromTrustedArray_J23 d v0)
def fn_J16_listFromTrustedArray : Nat → Option Nat → mx_M (Option Nat)
  | 0, _ => mx_fail
  | d + 1, v0 => fn_J16_listFromTrustedArray_B0 d v0
def fn_J54_of_B0 (d : Nat) (v0 : Option Nat) (v1 : Option Nat) (v2 : Option Nat) (v3 : Option Nat) (v4 : Option Nat) (v5 : Option Nat) (v6 : Option Nat) (v7 : Option Nat) (v8 : Option Nat) : mx_M (Option Nat) :=
  mx_bind (mx_newa 104 .null (9 : Int32)) fun a101 =>
  mx_bind (mx_astR (some a101) (0 : Int32) v0) fun _ =>
  mx_bind (mx_astR (some a101) (1 : Int32) v1) fun _ =>
  mx_bind (mx_astR (some a101) (2 : Int32) v2) fun _ =>
  mx_bind (mx_astR (some a101) (3 : Int32) v3) fun _ =>
  mx_bind (mx_astR (some a101) (4 : Int32) v4) fun _ =>
  mx_bind (mx_astR (some a101) (5 : Int32) v5) fun _ =>
  mx_bind (mx_astR (some a101) (6 : Int32) v6) fun _ =>
  mx_bind (mx_astR (some a101) (7 : Int32) v7) fun _ =>
  mx_bind (mx_astR (some a101) (8 : Int32) v8) fun _ =>
  mx_bind (fn_J16_listFromTrustedArray d (some a101)) fun r102 =>
  mx_pure r102
def fn_J54_of : Nat → Option Nat → Option Nat → Option Nat → Option Nat → Option Nat → Option Nat → Option Nat → Option Nat → Option Nat → mx_M (Option Nat)
  | 0, _, _, _, _, _, _, _, _, _ => mx_fail
  | d + 1, v0, v1, v2, v3, v4, v5, v6, v7, v8 => fn_J54_of_B0 d v0 v1 v2 v3 v4 v5 v6 v7 v8
