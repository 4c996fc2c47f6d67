set_option maxRecDepth 100000
def fn_X4_word_J122 (d : Nat) (b25 : Option Nat → Int32 → Int32 → mx_M Int32) (b41 : Option Nat → Int32 → Int32 → Int32 → Int32 → mx_M Int32) (l0 : Option Nat) (l1 : Int32) (l2 : Int32) (l4 : Int32) (p0 : Int32) (p1 : Int32) : mx_M Int32 :=
  mx_let (p0 ||| p1) fun v101 =>
  b41 l0 l1 l2 v101 (l4 + (1 : Int32))
def fn_X4_word_J103 (d : Nat) (b25 : Option Nat → Int32 → Int32 → mx_M Int32) (b41 : Option Nat → Int32 → Int32 → Int32 → Int32 → mx_M Int32) (l0 : Option Nat) (l1 : Int32) (l2 : Int32) (l3 : Int32) (l4 : Int32) (p0 : Option Nat) (p1 : Int32) (p2 : Int32) (p3 : Int32) : mx_M Int32 :=
  mx_bind (mx_ast 100 p0 p1 (.int (p2 &&& p3))) fun _ =>
  mx_bind (mx_getR [(1, 13)] l0) fun v101 =>
  mx_bind (mx_aldI 100 v101 l4) fun v102 =>
  mx_if (v102 = (1 : Int32)) (
    fn_X4_word_J122 d b25 b41 l0 l1 l2 l4 l3 (1 : Int32)) (
    fn_X4_word_J122 d b25 b41 l0 l1 l2 l4 l3 (0 : Int32))
def fn_X4_word_J102 (d : Nat) (b25 : Option Nat → Int32 → Int32 → mx_M Int32) (b41 : Option Nat → Int32 → Int32 → Int32 → Int32 → mx_M Int32) (l0 : Option Nat) (l1 : Int32) (l2 : Int32) (l3 : Int32) (l4 : Int32) (p0 : Option Nat) (p1 : Int32) (p2 : Int32) : mx_M Int32 :=
  fn_X4_word_J103 d b25 b41 l0 l1 l2 l3 l4 p0 p1 p2 (0 : Int32)
def fn_X4_word_J212 (d : Nat) (b25 : Option Nat → Int32 → Int32 → mx_M Int32) (b167 : Option Nat → Int32 → Int32 → Int32 → mx_M Int32) (l0 : Option Nat) (l1 : Int32) (l4 : Int32) (p0 : Int32) : mx_M Int32 :=
  b167 l0 l1 p0 (l4 + (1 : Int32))
def fn_X4_word_J211 (d : Nat) (b25 : Option Nat → Int32 → Int32 → mx_M Int32) (b167 : Option Nat → Int32 → Int32 → Int32 → mx_M Int32) (l0 : Option Nat) (l1 : Int32) (l2 : Int32) (l4 : Int32) : mx_M Int32 :=
  fn_X4_word_J212 d b25 b167 l0 l1 l4 l2
def fn_X4_word_L167_b (d : Nat) (b25 : Option Nat → Int32 → Int32 → mx_M Int32) (b167 : Option Nat → Int32 → Int32 → Int32 → mx_M Int32) (l0 : Option Nat) (l1 : Int32) (l2 : Int32) (l4 : Int32) : mx_M Int32 :=
  mx_if ((9 : Int32) ≤ l4) (
    b25 l0 l1 l2) (
    mx_bind (mx_getR [(1, 13)] l0) fun v101 =>
    mx_bind (mx_aldI 100 v101 l4) fun v102 =>
    mx_if (v102 = (1 : Int32)) (
      mx_bind (mx_getR [(1, 15)] l0) fun v103 =>
      mx_bind (mx_aldI 100 v103 l4) fun v104 =>
      mx_bind (mx_getR [(1, 15)] l0) fun v105 =>
      mx_bind (mx_aldI 100 v105 (l4 + (1 : Int32))) fun v106 =>
      mx_if ((v104 + l1) = v106) (
        fn_X4_word_J212 d b25 b167 l0 l1 l4 l4) (
        fn_X4_word_J211 d b25 b167 l0 l1 l2 l4)) (
      fn_X4_word_J211 d b25 b167 l0 l1 l2 l4))
def fn_X4_word_L167 (d : Nat) (b25 : Option Nat → Int32 → Int32 → mx_M Int32) : Nat → Option Nat → Int32 → Int32 → Int32 → mx_M Int32
  | 0, _, _, _, _ => mx_fail
  | k + 1, l0, l1, l2, l4 => fn_X4_word_L167_b d b25 (fn_X4_word_L167 d b25 k) l0 l1 l2 l4
def fn_X4_word_J157 (d : Nat) (b25 : Option Nat → Int32 → Int32 → mx_M Int32) (l0 : Option Nat) (l1 : Int32) (l2 : Int32) (p0 : Option Nat) (p1 : Int32) (p2 : Int32) : mx_M Int32 :=
  mx_bind (mx_put [(1, 18)] p0 (.int (p1 + p2))) fun _ =>
  fn_X4_word_L167 d b25 mx_K l0 (l1 + (1 : Int32)) l2 (0 : Int32)
def fn_X4_word_J140 (d : Nat) (b25 : Option Nat → Int32 → Int32 → mx_M Int32) (l0 : Option Nat) (l1 : Int32) (l2 : Int32) (l3 : Int32) (p0 : Option Nat) (p1 : Int32) : mx_M Int32 :=
  mx_bind (mx_putN .boolean [(1, 22)] p0 p1) fun _ =>
  mx_bind (mx_getI [(1, 18)] l0) fun v101 =>
  mx_if (l3 = (0 : Int32)) (
    fn_X4_word_J157 d b25 l0 l1 l2 l0 v101 (0 : Int32)) (
    fn_X4_word_J157 d b25 l0 l1 l2 l0 v101 (1 : Int32))
def fn_X4_word_L41_b (d : Nat) (b25 : Option Nat → Int32 → Int32 → mx_M Int32) (b41 : Option Nat → Int32 → Int32 → Int32 → Int32 → mx_M Int32) (l0 : Option Nat) (l1 : Int32) (l2 : Int32) (l3 : Int32) (l4 : Int32) : mx_M Int32 :=
  mx_if ((9 : Int32) ≤ l4) (
    mx_if (l3 = (0 : Int32)) (
      fn_X4_word_J140 d b25 l0 l1 l2 l3 l0 (1 : Int32)) (
      fn_X4_word_J140 d b25 l0 l1 l2 l3 l0 (0 : Int32))) (
    mx_bind (mx_getR [(1, 13)] l0) fun v101 =>
    mx_bind (mx_aldI 100 v101 l4) fun v102 =>
    mx_bind (mx_getR [(1, 15)] l0) fun v103 =>
    mx_bind (mx_aldI 100 v103 l4) fun v104 =>
    mx_bind (mx_getR [(1, 15)] l0) fun v105 =>
    mx_bind (mx_aldI 100 v105 (l4 + (1 : Int32))) fun v106 =>
    mx_if (v106 ≤ (v104 + l1)) (
      fn_X4_word_J102 d b25 b41 l0 l1 l2 l3 l4 v101 l4 v102) (
      mx_bind (mx_getR [(1, 14)] l0) fun v107 =>
      mx_bind (mx_getR [(1, 15)] l0) fun v108 =>
      mx_bind (mx_aldI 100 v108 l4) fun v109 =>
      mx_bind (mx_aldI 100 v107 (v109 + l1)) fun v110 =>
      mx_bind (mx_is 1 l0 (fn_X4_sign d l0)) fun r111 =>
      mx_if (v110 = r111) (
        fn_X4_word_J103 d b25 b41 l0 l1 l2 l3 l4 v101 l4 v102 (1 : Int32)) (
        fn_X4_word_J102 d b25 b41 l0 l1 l2 l3 l4 v101 l4 v102)))
def fn_X4_word_L41 (d : Nat) (b25 : Option Nat → Int32 → Int32 → mx_M Int32) : Nat → Option Nat → Int32 → Int32 → Int32 → Int32 → mx_M Int32
  | 0, _, _, _, _, _ => mx_fail
  | k + 1, l0, l1, l2, l3, l4 => fn_X4_word_L41_b d b25 (fn_X4_word_L41 d b25 k) l0 l1 l2 l3 l4
def fn_X4_word_L25_b (d : Nat) (b25 : Option Nat → Int32 → Int32 → mx_M Int32) (l0 : Option Nat) (l1 : Int32) (l2 : Int32) : mx_M Int32 :=
  mx_if ((0 : Int32) ≤ l2) (
    mx_pure l2) (
    mx_bind (mx_getI [(1, 22)] l0) fun v101 =>
    mx_if (v101 = (0 : Int32)) (
      fn_X4_word_L41 d b25 mx_K l0 l1 l2 (0 : Int32) (0 : Int32)) (
      mx_pure l2))
def fn_X4_word_L25 (d : Nat) : Nat → Option Nat → Int32 → Int32 → mx_M Int32
  | 0, _, _, _ => mx_fail
  | k + 1, l0, l1, l2 => fn_X4_word_L25_b d (fn_X4_word_L25 d k) l0 l1 l2
def fn_X4_word_L2_b (d : Nat) (b2 : Option Nat → Int32 → mx_M Int32) (l0 : Option Nat) (l1 : Int32) : mx_M Int32 :=
  mx_if ((9 : Int32) ≤ l1) (
    fn_X4_word_L25 d mx_K l0 (0 : Int32) (-1 : Int32)) (
    mx_bind (mx_getR [(1, 13)] l0) fun v101 =>
    mx_bind (mx_ast 100 v101 l1 (.int (1 : Int32))) fun _ =>
    b2 l0 (l1 + (1 : Int32)))
def fn_X4_word_L2 (d : Nat) : Nat → Option Nat → Int32 → mx_M Int32
  | 0, _, _ => mx_fail
  | k + 1, l0, l1 => fn_X4_word_L2_b d (fn_X4_word_L2 d k) l0 l1
def fn_X4_word_B0 (d : Nat) (v0 : Option Nat) : mx_M Int32 :=
  fn_X4_word_L2 d mx_K v0 (0 : Int32)
def fn_X4_word : Nat → Option Nat → mx_M Int32
  | 0, _ => mx_fail
  | d + 1, v0 => fn_X4_word_B0 d v0
def fn_X4_command_J116 (d : Nat) (l0 : Option Nat) (l1 : Int32) (l2 : Int32) (l3 : Int32) (l4 : Int32) : mx_M Unit :=
  mx_bind (mx_getI [(1, 22)] l0) fun v101 =>
  mx_if (v101 = (0 : Int32)) (
    mx_bind (mx_getI [(1, 23)] l0) fun v102 =>
    mx_if (v102 = (0 : Int32)) (
      mx_pure ()) (
      mx_bind (mx_put [(1, 21)] l0 (.int l1)) fun _ =>
      mx_bind (mx_is 1 l0 (fn_X4_does d l0 l1 l4 l2 l3)) fun r103 =>
      mx_pure ())) (
    mx_pure ())
def fn_X4_command_J95 (d : Nat) (l0 : Option Nat) (l1 : Int32) (l2 : Int32) (l3 : Int32) (l4 : Int32) : mx_M Unit :=
  mx_if (l1 = (6 : Int32)) (
    mx_bind (mx_getI [(1, 22)] l0) fun v101 =>
    mx_if (v101 = (0 : Int32)) (
      mx_bind (mx_is 1 l0 (fn_X4_behind d l0 (45 : Int32) (3 : Int32))) fun r102 =>
      fn_X4_command_J116 d l0 l1 r102 l3 l4) (
      fn_X4_command_J116 d l0 l1 l2 l3 l4)) (
    fn_X4_command_J116 d l0 l1 l2 l3 l4)
def fn_X4_command_J76 (d : Nat) (l0 : Option Nat) (l1 : Int32) (l2 : Int32) (l3 : Int32) (l4 : Int32) : mx_M Unit :=
  mx_if (l1 = (0 : Int32)) (
    mx_bind (mx_getI [(1, 22)] l0) fun v101 =>
    mx_if (v101 = (0 : Int32)) (
      mx_bind (mx_is 1 l0 (fn_X4_behind d l0 (32 : Int32) (3 : Int32))) fun r102 =>
      fn_X4_command_J95 d l0 l1 l2 r102 l4) (
      fn_X4_command_J95 d l0 l1 l2 l3 l4)) (
    fn_X4_command_J95 d l0 l1 l2 l3 l4)
def fn_X4_command_J72 (d : Nat) (l0 : Option Nat) (l1 : Int32) (l3 : Int32) (l4 : Int32) (p0 : Option Nat) (p1 : Int32) (p2 : Int32) : mx_M Unit :=
  mx_bind (mx_is 1 p0 (fn_X4_behind d p0 p1 p2)) fun r101 =>
  fn_X4_command_J76 d l0 l1 r101 l3 l4
def fn_X4_command_J46 (d : Nat) (l0 : Option Nat) (l1 : Int32) (l2 : Int32) (l3 : Int32) (p0 : Int32) : mx_M Unit :=
  mx_if ((3 : Int32) ≤ l1) (
    fn_X4_command_J76 d l0 l1 l2 l3 p0) (
    mx_bind (mx_getI [(1, 22)] l0) fun v101 =>
    mx_if (v101 = (0 : Int32)) (
      mx_if (l1 = (0 : Int32)) (
        fn_X4_command_J72 d l0 l1 l3 p0 l0 (32 : Int32) (1 : Int32)) (
        fn_X4_command_J72 d l0 l1 l3 p0 l0 (32 : Int32) (3 : Int32))) (
      fn_X4_command_J76 d l0 l1 l2 l3 p0))
def fn_X4_command_J27 (d : Nat) (l0 : Option Nat) (l1 : Int32) (l2 : Int32) (l3 : Int32) : mx_M Unit :=
  fn_X4_command_J46 d l0 l1 l2 l3 (0 : Int32)
def fn_X4_command_J43 (d : Nat) (l0 : Option Nat) (l1 : Int32) (l2 : Int32) (l3 : Int32) (p0 : Option Nat) (p1 : Int32) : mx_M Unit :=
  mx_bind (mx_is 1 p0 (fn_X4_digits d p0 p1)) fun r101 =>
  fn_X4_command_J46 d l0 l1 l2 l3 r101
def fn_X4_command_B0 (d : Nat) (v0 : Option Nat) : mx_M Unit :=
  mx_bind (mx_is 1 v0 (fn_X4_word d v0)) fun r101 =>
  mx_bind (mx_getI [(1, 22)] v0) fun v102 =>
  mx_if (v102 = (0 : Int32)) (
    mx_if (r101 = (4 : Int32)) (
      fn_X4_command_J27 d v0 r101 (0 : Int32) (0 : Int32)) (
      mx_if (r101 = (5 : Int32)) (
        fn_X4_command_J27 d v0 r101 (0 : Int32) (0 : Int32)) (
        mx_if (r101 = (7 : Int32)) (
          fn_X4_command_J43 d v0 r101 (0 : Int32) (0 : Int32) v0 (1 : Int32)) (
          fn_X4_command_J43 d v0 r101 (0 : Int32) (0 : Int32) v0 (3 : Int32))))) (
    mx_pure ())
def fn_X4_command : Nat → Option Nat → mx_M Unit
  | 0, _ => mx_fail
  | d + 1, v0 => fn_X4_command_B0 d v0
def fn_X4_commands_J58 (d : Nat) (b16 : Option Nat → Int32 → mx_M Int32) (l0 : Option Nat) (l1 : Int32) : mx_M Int32 :=
  b16 l0 (l1 + (1 : Int32))
def fn_X4_commands_L16_b (d : Nat) (b16 : Option Nat → Int32 → mx_M Int32) (l0 : Option Nat) (l1 : Int32) : mx_M Int32 :=
  mx_bind (mx_getI [(1, 22)] l0) fun v101 =>
  mx_if (v101 = (0 : Int32)) (
    mx_bind (mx_getI [(1, 0)] l0) fun v102 =>
    mx_if (v102 = (0 : Int32)) (
      mx_bind (mx_getI [(1, 18)] l0) fun v103 =>
      mx_bind (mx_getI [(1, 19)] l0) fun v104 =>
      mx_if (v104 ≤ v103) (
        mx_pure l1) (
        mx_bind (mx_is 1 l0 (fn_X4_expects d l0 (59 : Int32))) fun _ =>
        mx_bind (mx_getI [(1, 22)] l0) fun v105 =>
        mx_if (v105 = (0 : Int32)) (
          mx_bind (mx_is 1 l0 (fn_X4_command d l0)) fun _ =>
          fn_X4_commands_J58 d b16 l0 l1) (
          fn_X4_commands_J58 d b16 l0 l1))) (
      mx_pure l1)) (
    mx_pure l1)
def fn_X4_commands_L16 (d : Nat) : Nat → Option Nat → Int32 → mx_M Int32
  | 0, _, _ => mx_fail
  | k + 1, l0, l1 => fn_X4_commands_L16_b d (fn_X4_commands_L16 d k) l0 l1
def fn_X4_commands_B0 (d : Nat) (v0 : Option Nat) : mx_M Int32 :=
  mx_bind (mx_put [(1, 18)] v0 (.int (0 : Int32))) fun _ =>
  mx_bind (mx_put [(1, 22)] v0 (.int (0 : Int32))) fun _ =>
  mx_bind (mx_is 1 v0 (fn_X4_command d v0)) fun _ =>
  fn_X4_commands_L16 d mx_K v0 (1 : Int32)
def fn_X4_commands : Nat → Option Nat → mx_M Int32
  | 0, _ => mx_fail
  | d + 1, v0 => fn_X4_commands_B0 d v0
def fn_X4_runScript_J99 (d : Nat) (l0 : Option Nat) (l1 : Int32) : mx_M Int32 :=
  mx_bind (mx_is 1 l0 (fn_X4_ends d l0 l1)) fun r101 =>
  mx_pure r101
def fn_X4_runScript_B0 (d : Nat) (v0 : Option Nat) : mx_M Int32 :=
  mx_bind (mx_is 1 v0 (fn_X4_begins d v0)) fun _ =>
  mx_bind (mx_getI [(1, 17)] v0) fun v101 =>
  mx_bind (mx_put [(1, 19)] v0 (.int v101)) fun _ =>
  mx_bind (mx_put [(1, 17)] v0 (.int (0 : Int32))) fun _ =>
  mx_bind (mx_put [(1, 23)] v0 (.int (0 : Int32))) fun _ =>
  mx_bind (mx_is 1 v0 (fn_X4_commands d v0)) fun r102 =>
  mx_bind (mx_getI [(1, 22)] v0) fun v103 =>
  mx_if (v103 = (0 : Int32)) (
    mx_bind (mx_put [(1, 23)] v0 (.int (1 : Int32))) fun _ =>
    mx_bind (mx_is 1 v0 (fn_X4_commands d v0)) fun r104 =>
    mx_bind (mx_getI [(1, 0)] v0) fun v105 =>
    mx_if (v105 = (0 : Int32)) (
      fn_X4_runScript_J99 d v0 r104) (
      mx_bind (mx_put [(1, 3)] v0 (.int (r104 - (1 : Int32)))) fun _ =>
      mx_bind (mx_getR [(1, 16)] v0) fun v106 =>
      mx_bind (mx_getI [(1, 21)] v0) fun v107 =>
      mx_bind (mx_getI [(1, 0)] v0) fun v108 =>
      mx_bind (mx_aldI 100 v106 ((((2 : Int32) * v107) + v108) - (1 : Int32))) fun v109 =>
      mx_bind (mx_put [(1, 4)] v0 (.int v109)) fun _ =>
      mx_bind (mx_put [(1, 0)] v0 (.int (2 : Int32))) fun _ =>
      fn_X4_runScript_J99 d v0 r104)) (
    mx_bind (mx_getI [(1, 18)] v0) fun v110 =>
    mx_bind (mx_put [(1, 2)] v0 (.int v110)) fun _ =>
    mx_bind (mx_is 1 v0 (fn_X4_fail d v0 (1 : Int32))) fun r111 =>
    mx_pure r111)
def fn_X4_runScript : Nat → Option Nat → mx_M Int32
  | 0, _ => mx_fail
  | d + 1, v0 => fn_X4_runScript_B0 d v0
def fn_X4_save_B0 (d : Nat) (v0 : Option Nat) : mx_M Int32 :=
  mx_bind (mx_put [(1, 0)] v0 (.int (0 : Int32))) fun _ =>
  mx_bind (mx_getR [(1, 8)] v0) fun v101 =>
  mx_bind (mx_getR [(1, 6)] v0) fun v102 =>
  mx_bind (fn_X4_lays d v101 v102) fun _ =>
  mx_bind (mx_put [(1, 5)] v0 (.int (1 : Int32))) fun _ =>
  mx_bind (mx_getR [(1, 6)] v0) fun v103 =>
  mx_bind (mx_aldI 100 v103 (3 : Int32)) fun v104 =>
  mx_pure v104
def fn_X4_save : Nat → Option Nat → mx_M Int32
  | 0, _ => mx_fail
  | d + 1, v0 => fn_X4_save_B0 d v0
def fn_X4_serve_B0 (d : Nat) (v0 : Option Nat) : mx_M Int32 :=
  mx_bind (mx_is 1 v0 (fn_X4_begins d v0)) fun _ =>
  mx_bind (mx_is 1 v0 (fn_X4_serves d v0)) fun r101 =>
  mx_bind (mx_is 1 v0 (fn_X4_ends d v0 r101)) fun r102 =>
  mx_pure r102
def fn_X4_serve : Nat → Option Nat → mx_M Int32
  | 0, _ => mx_fail
  | d + 1, v0 => fn_X4_serve_B0 d v0
def fn_X4_servedTotal_B0 (d : Nat) (v0 : Option Nat) : mx_M Int32 :=
  mx_bind (mx_is 1 v0 (fn_X4_tells d v0 (6 : Int32))) fun r101 =>
  mx_pure r101
def fn_X4_servedTotal : Nat → Option Nat → mx_M Int32
  | 0, _ => mx_fail
  | d + 1, v0 => fn_X4_servedTotal_B0 d v0
def fn_X4_staleCount_B0 (d : Nat) (v0 : Option Nat) : mx_M Int32 :=
  mx_bind (mx_put [(1, 0)] v0 (.int (0 : Int32))) fun _ =>
  mx_bind (mx_getR [(1, 6)] v0) fun v101 =>
  mx_bind (mx_aldI 100 v101 (5 : Int32)) fun v102 =>
  mx_bind (mx_getR [(1, 6)] v0) fun v103 =>
  mx_bind (mx_aldI 100 v103 (3 : Int32)) fun v104 =>
  mx_pure (v102 - v104)
def fn_X4_staleCount : Nat → Option Nat → mx_M Int32
  | 0, _ => mx_fail
  | d + 1, v0 => fn_X4_staleCount_B0 d v0
def fn_X4_startOf_B0 (d : Nat) (v0 : Option Nat) (v1 : Int32) : mx_M Int32 :=
  mx_bind (mx_is 1 v0 (fn_X4_shift d v0 v1 (0 : Int32))) fun r101 =>
  mx_pure r101
def fn_X4_startOf : Nat → Option Nat → Int32 → mx_M Int32
  | 0, _, _ => mx_fail
  | d + 1, v0, v1 => fn_X4_startOf_B0 d v0 v1
def fn_X4_thrown_B0 (d : Nat) (v0 : Option Nat) : mx_M Int32 :=
  mx_bind (mx_getI [(1, 0)] v0) fun v101 =>
  mx_pure v101
def fn_X4_thrown : Nat → Option Nat → mx_M Int32
  | 0, _ => mx_fail
  | d + 1, v0 => fn_X4_thrown_B0 d v0
def fn_X4_thrownTotal_B0 (d : Nat) (v0 : Option Nat) : mx_M Int32 :=
  mx_bind (mx_is 1 v0 (fn_X4_tells d v0 (9 : Int32))) fun r101 =>
  mx_pure r101
def fn_X4_thrownTotal : Nat → Option Nat → mx_M Int32
  | 0, _ => mx_fail
  | d + 1, v0 => fn_X4_thrownTotal_B0 d v0
def fn_X4_ticketAtRank_J22 (d : Nat) (l0 : Option Nat) (l1 : Int32) (p0 : Option Nat) (p1 : Int32) : mx_M Int32 :=
  mx_bind (mx_put [(1, 0)] p0 (.int p1)) fun _ =>
  mx_bind (mx_getI [(1, 0)] l0) fun v101 =>
  mx_if (v101 = (0 : Int32)) (
    mx_bind (mx_getR [(1, 6)] l0) fun v102 =>
    mx_bind (fn_X4_pile d l1) fun r103 =>
    mx_bind (mx_aldI 100 v102 r103) fun v104 =>
    mx_pure v104) (
    mx_pure (0 : Int32))
def fn_X4_ticketAtRank_B0 (d : Nat) (v0 : Option Nat) (v1 : Int32) : mx_M Int32 :=
  mx_bind (mx_getR [(1, 6)] v0) fun v101 =>
  mx_bind (mx_aldI 100 v101 (5 : Int32)) fun v102 =>
  mx_bind (fn_X4_isIn d v1 (0 : Int32) (v102 - (1 : Int32))) fun r103 =>
  mx_if (r103 = (0 : Int32)) (
    fn_X4_ticketAtRank_J22 d v0 v1 v0 (1 : Int32)) (
    fn_X4_ticketAtRank_J22 d v0 v1 v0 (0 : Int32))
def fn_X4_ticketAtRank : Nat → Option Nat → Int32 → mx_M Int32
  | 0, _, _ => mx_fail
  | d + 1, v0, v1 => fn_X4_ticketAtRank_B0 d v0 v1
def fn_X4_ticketCount_B0 (d : Nat) (v0 : Option Nat) : mx_M Int32 :=
  mx_bind (mx_is 1 v0 (fn_X4_tells d v0 (5 : Int32))) fun r101 =>
  mx_pure r101
def fn_X4_ticketCount : Nat → Option Nat → mx_M Int32
  | 0, _ => mx_fail
  | d + 1, v0 => fn_X4_ticketCount_B0 d v0
def fn_X4_ticketOf_B0 (d : Nat) (v0 : Option Nat) (v1 : Int32) : mx_M Int32 :=
  mx_bind (mx_is 1 v0 (fn_X4_about d v0 v1 (4 : Int32))) fun r101 =>
  mx_pure r101
def fn_X4_ticketOf : Nat → Option Nat → Int32 → mx_M Int32
  | 0, _, _ => mx_fail
  | d + 1, v0, v1 => fn_X4_ticketOf_B0 d v0 v1
def fn_X4_ticketsByAccounts_B0 (d : Nat) (v0 : Option Nat) : mx_M Int32 :=
  mx_bind (mx_is 1 v0 (fn_X4_tells d v0 (5 : Int32))) fun r101 =>
  mx_pure r101
def fn_X4_ticketsByAccounts : Nat → Option Nat → mx_M Int32
  | 0, _ => mx_fail
  | d + 1, v0 => fn_X4_ticketsByAccounts_B0 d v0
def fn_X4_type_J30 (d : Nat) (l0 : Option Nat) (l1 : Int32) (p0 : Option Nat) (p1 : Int32) : mx_M Int32 :=
  mx_bind (mx_put [(1, 0)] p0 (.int p1)) fun _ =>
  mx_bind (mx_getI [(1, 0)] l0) fun v101 =>
  mx_if (v101 = (0 : Int32)) (
    mx_bind (mx_getR [(1, 11)] l0) fun v102 =>
    mx_bind (mx_getI [(1, 17)] l0) fun v103 =>
    mx_bind (mx_ast 100 v102 v103 (.int l1)) fun _ =>
    mx_bind (mx_getI [(1, 17)] l0) fun v104 =>
    mx_bind (mx_put [(1, 17)] l0 (.int (v104 + (1 : Int32)))) fun _ =>
    mx_bind (mx_getI [(1, 17)] l0) fun v105 =>
    mx_pure v105) (
    mx_pure (0 : Int32))
def fn_X4_type_B0 (d : Nat) (v0 : Option Nat) (v1 : Int32) : mx_M Int32 :=
  mx_bind (fn_X4_isIn d v1 (32 : Int32) (126 : Int32)) fun r101 =>
  mx_if (r101 = (0 : Int32)) (
    fn_X4_type_J30 d v0 v1 v0 (1 : Int32)) (
    mx_bind (mx_getI [(1, 17)] v0) fun v102 =>
    mx_if (v102 = (60 : Int32)) (
      fn_X4_type_J30 d v0 v1 v0 (2 : Int32)) (
      fn_X4_type_J30 d v0 v1 v0 (0 : Int32)))
def fn_X4_type : Nat → Option Nat → Int32 → mx_M Int32
  | 0, _, _ => mx_fail
  | d + 1, v0, v1 => fn_X4_type_B0 d v0 v1
def fn_X4_undo_L37_b (d : Nat) (b37 : Option Nat → Int32 → mx_M Int32) (l0 : Option Nat) (l1 : Int32) : mx_M Int32 :=
  mx_if ((112 : Int32) ≤ l1) (
    mx_bind (mx_getI [(1, 1)] l0) fun v101 =>
    mx_pure v101) (
    mx_bind (mx_getR [(1, 6)] l0) fun v102 =>
    mx_bind (mx_getR [(1, 9)] l0) fun v103 =>
    mx_bind (mx_getI [(1, 1)] l0) fun v104 =>
    mx_bind (mx_aldI 100 v103 ((v104 * (112 : Int32)) + l1)) fun v105 =>
    mx_bind (mx_ast 100 v102 l1 (.int v105)) fun _ =>
    b37 l0 (l1 + (1 : Int32)))
def fn_X4_undo_L37 (d : Nat) : Nat → Option Nat → Int32 → mx_M Int32
  | 0, _, _ => mx_fail
  | k + 1, l0, l1 => fn_X4_undo_L37_b d (fn_X4_undo_L37 d k) l0 l1
def fn_X4_undo_J13 (d : Nat) (l0 : Option Nat) (p0 : Option Nat) (p1 : Int32) : mx_M Int32 :=
  mx_bind (mx_put [(1, 0)] p0 (.int p1)) fun _ =>
  mx_bind (mx_getI [(1, 0)] l0) fun v101 =>
  mx_if (v101 = (0 : Int32)) (
    mx_bind (mx_getI [(1, 1)] l0) fun v102 =>
    mx_bind (mx_put [(1, 1)] l0 (.int (v102 - (1 : Int32)))) fun _ =>
    fn_X4_undo_L37 d mx_K l0 (0 : Int32)) (
    mx_pure (0 : Int32))
def fn_X4_undo_B0 (d : Nat) (v0 : Option Nat) : mx_M Int32 :=
  mx_bind (mx_getI [(1, 1)] v0) fun v101 =>
  mx_if (v101 = (0 : Int32)) (
    fn_X4_undo_J13 d v0 v0 (1 : Int32)) (
    fn_X4_undo_J13 d v0 v0 (0 : Int32))
def fn_X4_undo : Nat → Option Nat → mx_M Int32
  | 0, _ => mx_fail
  | d + 1, v0 => fn_X4_undo_B0 d v0
def fn_X4_yawn_B0 (d : Nat) (v0 : Option Nat) (v1 : Int32) (v2 : Int32) : mx_M Int32 :=
  mx_bind (mx_is 1 v0 (fn_X4_begins d v0)) fun _ =>
  mx_bind (mx_is 1 v0 (fn_X4_roars d v0 v1 v2 (-1 : Int32))) fun r101 =>
  mx_bind (mx_is 1 v0 (fn_X4_ends d v0 r101)) fun r102 =>
  mx_pure r102
def fn_X4_yawn : Nat → Option Nat → Int32 → Int32 → mx_M Int32
  | 0, _, _, _ => mx_fail
  | d + 1, v0, v1, v2 => fn_X4_yawn_B0 d v0 v1 v2
def fn_L_law_J2489 (d : Nat) (b28 : Option Nat → Option Nat → Option Nat → Option Nat → Option Nat → Int32 → mx_M Int32) (l0 : Option Nat) (l1 : Option Nat) (l2 : Option Nat) (l3 : Option Nat) (l4 : Option Nat) (l5 : Int32) : mx_M Int32 :=
  b28 l0 l1 l2 l3 l4 (l5 + (4 : Int32))
def fn_L_law_J349 (d : Nat) (b28 : Option Nat → Option Nat → Option Nat → Option Nat → Option Nat → Int32 → mx_M Int32) (l0 : Option Nat) (l1 : Option Nat) (l2 : Option Nat) (l3 : Option Nat) (l4 : Option Nat) (l5 : Int32) : mx_M Int32 :=
  fn_L_law_J2489 d b28 l0 l1 l2 l3 l4 l5
def fn_L_law_J417 (d : Nat) (b28 : Option Nat → Option Nat → Option Nat → Option Nat → Option Nat → Int32 → mx_M Int32) (l0 : Option Nat) (l1 : Option Nat) (l2 : Option Nat) (l3 : Option Nat) (l4 : Option Nat) (l5 : Int32) : mx_M Int32 :=
  fn_L_law_J2489 d b28 l0 l1 l2 l3 l4 l5
def fn_L_law_J485 (d : Nat) (b28 : Option Nat → Option Nat → Option Nat → Option Nat → Option Nat → Int32 → mx_M Int32) (l0 : Option Nat) (l1 : Option Nat) (l2 : Option Nat) (l3 : Option Nat) (l4 : Option Nat) (l5 : Int32) : mx_M Int32 :=
  fn_L_law_J2489 d b28 l0 l1 l2 l3 l4 l5
def fn_L_law_J541 (d : Nat) (b28 : Option Nat → Option Nat → Option Nat → Option Nat → Option Nat → Int32 → mx_M Int32) (l0 : Option Nat) (l1 : Option Nat) (l2 : Option Nat) (l3 : Option Nat) (l4 : Option Nat) (l5 : Int32) : mx_M Int32 :=
  fn_L_law_J2489 d b28 l0 l1 l2 l3 l4 l5
def fn_L_law_J585 (d : Nat) (b28 : Option Nat → Option Nat → Option Nat → Option Nat → Option Nat → Int32 → mx_M Int32) (l0 : Option Nat) (l1 : Option Nat) (l2 : Option Nat) (l3 : Option Nat) (l4 : Option Nat) (l5 : Int32) : mx_M Int32 :=
  fn_L_law_J2489 d b28 l0 l1 l2 l3 l4 l5
def fn_L_law_J666 (d : Nat) (b28 : Option Nat → Option Nat → Option Nat → Option Nat → Option Nat → Int32 → mx_M Int32) (l0 : Option Nat) (l1 : Option Nat) (l2 : Option Nat) (l3 : Option Nat) (l4 : Option Nat) (l5 : Int32) : mx_M Int32 :=
  fn_L_law_J2489 d b28 l0 l1 l2 l3 l4 l5
def fn_L_law_J722 (d : Nat) (b28 : Option Nat → Option Nat → Option Nat → Option Nat → Option Nat → Int32 → mx_M Int32) (l0 : Option Nat) (l1 : Option Nat) (l2 : Option Nat) (l3 : Option Nat) (l4 : Option Nat) (l5 : Int32) : mx_M Int32 :=
  fn_L_law_J2489 d b28 l0 l1 l2 l3 l4 l5
def fn_L_law_J778 (d : Nat) (b28 : Option Nat → Option Nat → Option Nat → Option Nat → Option Nat → Int32 → mx_M Int32) (l0 : Option Nat) (l1 : Option Nat) (l2 : Option Nat) (l3 : Option Nat) (l4 : Option Nat) (l5 : Int32) : mx_M Int32 :=
  fn_L_law_J2489 d b28 l0 l1 l2 l3 l4 l5
def fn_L_law_J847 (d : Nat) (b28 : Option Nat → Option Nat → Option Nat → Option Nat → Option Nat → Int32 → mx_M Int32) (l0 : Option Nat) (l1 : Option Nat) (l2 : Option Nat) (l3 : Option Nat) (l4 : Option Nat) (l5 : Int32) : mx_M Int32 :=
  fn_L_law_J2489 d b28 l0 l1 l2 l3 l4 l5
def fn_L_law_J903 (d : Nat) (b28 : Option Nat → Option Nat → Option Nat → Option Nat → Option Nat → Int32 → mx_M Int32) (l0 : Option Nat) (l1 : Option Nat) (l2 : Option Nat) (l3 : Option Nat) (l4 : Option Nat) (l5 : Int32) : mx_M Int32 :=
  fn_L_law_J2489 d b28 l0 l1 l2 l3 l4 l5
def fn_L_law_J959 (d : Nat) (b28 : Option Nat → Option Nat → Option Nat → Option Nat → Option Nat → Int32 → mx_M Int32) (l0 : Option Nat) (l1 : Option Nat) (l2 : Option Nat) (l3 : Option Nat) (l4 : Option Nat) (l5 : Int32) : mx_M Int32 :=
  fn_L_law_J2489 d b28 l0 l1 l2 l3 l4 l5
def fn_L_law_J1015 (d : Nat) (b28 : Option Nat → Option Nat → Option Nat → Option Nat → Option Nat → Int32 → mx_M Int32) (l0 : Option Nat) (l1 : Option Nat) (l2 : Option Nat) (l3 : Option Nat) (l4 : Option Nat) (l5 : Int32) : mx_M Int32 :=
  fn_L_law_J2489 d b28 l0 l1 l2 l3 l4 l5
def fn_L_law_J1071 (d : Nat) (b28 : Option Nat → Option Nat → Option Nat → Option Nat → Option Nat → Int32 → mx_M Int32) (l0 : Option Nat) (l1 : Option Nat) (l2 : Option Nat) (l3 : Option Nat) (l4 : Option Nat) (l5 : Int32) : mx_M Int32 :=
  fn_L_law_J2489 d b28 l0 l1 l2 l3 l4 l5
def fn_L_law_J1115 (d : Nat) (b28 : Option Nat → Option Nat → Option Nat → Option Nat → Option Nat → Int32 → mx_M Int32) (l0 : Option Nat) (l1 : Option Nat) (l2 : Option Nat) (l3 : Option Nat) (l4 : Option Nat) (l5 : Int32) : mx_M Int32 :=
  fn_L_law_J2489 d b28 l0 l1 l2 l3 l4 l5
def fn_L_law_J1159 (d : Nat) (b28 : Option Nat → Option Nat → Option Nat → Option Nat → Option Nat → Int32 → mx_M Int32) (l0 : Option Nat) (l1 : Option Nat) (l2 : Option Nat) (l3 : Option Nat) (l4 : Option Nat) (l5 : Int32) : mx_M Int32 :=
  fn_L_law_J2489 d b28 l0 l1 l2 l3 l4 l5
def fn_L_law_J1215 (d : Nat) (b28 : Option Nat → Option Nat → Option Nat → Option Nat → Option Nat → Int32 → mx_M Int32) (l0 : Option Nat) (l1 : Option Nat) (l2 : Option Nat) (l3 : Option Nat) (l4 : Option Nat) (l5 : Int32) : mx_M Int32 :=
  fn_L_law_J2489 d b28 l0 l1 l2 l3 l4 l5
def fn_L_law_J1297 (d : Nat) (b28 : Option Nat → Option Nat → Option Nat → Option Nat → Option Nat → Int32 → mx_M Int32) (l0 : Option Nat) (l1 : Option Nat) (l2 : Option Nat) (l3 : Option Nat) (l4 : Option Nat) (l5 : Int32) : mx_M Int32 :=
  fn_L_law_J2489 d b28 l0 l1 l2 l3 l4 l5
def fn_L_law_J1360 (d : Nat) (b28 : Option Nat → Option Nat → Option Nat → Option Nat → Option Nat → Int32 → mx_M Int32) (l0 : Option Nat) (l1 : Option Nat) (l2 : Option Nat) (l3 : Option Nat) (l4 : Option Nat) (l5 : Int32) : mx_M Int32 :=
  fn_L_law_J2489 d b28 l0 l1 l2 l3 l4 l5
def fn_L_law_J1354 (d : Nat) (b28 : Option Nat → Option Nat → Option Nat → Option Nat → Option Nat → Int32 → mx_M Int32) (l0 : Option Nat) (l1 : Option Nat) (l2 : Option Nat) (l3 : Option Nat) (l4 : Option Nat) (l5 : Int32) (p0 : Int64) (p1 : Int64) : mx_M Int32 :=
  mx_if ((lg_cmp p0 p1) = (0 : Int32)) (
    fn_L_law_J1360 d b28 l0 l1 l2 l3 l4 l5) (
    mx_pure (0 : Int32))
def fn_L_law_J1468 (d : Nat) (b28 : Option Nat → Option Nat → Option Nat → Option Nat → Option Nat → Int32 → mx_M Int32) (l0 : Option Nat) (l1 : Option Nat) (l2 : Option Nat) (l3 : Option Nat) (l4 : Option Nat) (l5 : Int32) : mx_M Int32 :=
  fn_L_law_J2489 d b28 l0 l1 l2 l3 l4 l5
def fn_L_law_J1524 (d : Nat) (b28 : Option Nat → Option Nat → Option Nat → Option Nat → Option Nat → Int32 → mx_M Int32) (l0 : Option Nat) (l1 : Option Nat) (l2 : Option Nat) (l3 : Option Nat) (l4 : Option Nat) (l5 : Int32) : mx_M Int32 :=
  fn_L_law_J2489 d b28 l0 l1 l2 l3 l4 l5
def fn_L_law_J1580 (d : Nat) (b28 : Option Nat → Option Nat → Option Nat → Option Nat → Option Nat → Int32 → mx_M Int32) (l0 : Option Nat) (l1 : Option Nat) (l2 : Option Nat) (l3 : Option Nat) (l4 : Option Nat) (l5 : Int32) : mx_M Int32 :=
  fn_L_law_J2489 d b28 l0 l1 l2 l3 l4 l5
def fn_L_law_J1655 (d : Nat) (b28 : Option Nat → Option Nat → Option Nat → Option Nat → Option Nat → Int32 → mx_M Int32) (l0 : Option Nat) (l1 : Option Nat) (l2 : Option Nat) (l3 : Option Nat) (l4 : Option Nat) (l5 : Int32) : mx_M Int32 :=
  fn_L_law_J2489 d b28 l0 l1 l2 l3 l4 l5
def fn_L_law_J1649 (d : Nat) (b28 : Option Nat → Option Nat → Option Nat → Option Nat → Option Nat → Int32 → mx_M Int32) (l0 : Option Nat) (l1 : Option Nat) (l2 : Option Nat) (l3 : Option Nat) (l4 : Option Nat) (l5 : Int32) (p0 : Int64) (p1 : Int64) : mx_M Int32 :=
  mx_if ((lg_cmp p0 p1) = (0 : Int32)) (
    fn_L_law_J1655 d b28 l0 l1 l2 l3 l4 l5) (
    mx_pure (0 : Int32))
def fn_L_law_J1723 (d : Nat) (b28 : Option Nat → Option Nat → Option Nat → Option Nat → Option Nat → Int32 → mx_M Int32) (l0 : Option Nat) (l1 : Option Nat) (l2 : Option Nat) (l3 : Option Nat) (l4 : Option Nat) (l5 : Int32) : mx_M Int32 :=
  fn_L_law_J2489 d b28 l0 l1 l2 l3 l4 l5
def fn_L_law_J1791 (d : Nat) (b28 : Option Nat → Option Nat → Option Nat → Option Nat → Option Nat → Int32 → mx_M Int32) (l0 : Option Nat) (l1 : Option Nat) (l2 : Option Nat) (l3 : Option Nat) (l4 : Option Nat) (l5 : Int32) : mx_M Int32 :=
  fn_L_law_J2489 d b28 l0 l1 l2 l3 l4 l5
def fn_L_law_J1947 (d : Nat) (b28 : Option Nat → Option Nat → Option Nat → Option Nat → Option Nat → Int32 → mx_M Int32) (l0 : Option Nat) (l1 : Option Nat) (l2 : Option Nat) (l3 : Option Nat) (l4 : Option Nat) (l5 : Int32) : mx_M Int32 :=
  fn_L_law_J2489 d b28 l0 l1 l2 l3 l4 l5
def fn_L_law_J2013 (d : Nat) (b28 : Option Nat → Option Nat → Option Nat → Option Nat → Option Nat → Int32 → mx_M Int32) (l0 : Option Nat) (l1 : Option Nat) (l2 : Option Nat) (l3 : Option Nat) (l4 : Option Nat) (l5 : Int32) : mx_M Int32 :=
  fn_L_law_J2489 d b28 l0 l1 l2 l3 l4 l5
def fn_L_law_J2082 (d : Nat) (b28 : Option Nat → Option Nat → Option Nat → Option Nat → Option Nat → Int32 → mx_M Int32) (l0 : Option Nat) (l1 : Option Nat) (l2 : Option Nat) (l3 : Option Nat) (l4 : Option Nat) (l5 : Int32) : mx_M Int32 :=
  fn_L_law_J2489 d b28 l0 l1 l2 l3 l4 l5
def fn_L_law_J2151 (d : Nat) (b28 : Option Nat → Option Nat → Option Nat → Option Nat → Option Nat → Int32 → mx_M Int32) (l0 : Option Nat) (l1 : Option Nat) (l2 : Option Nat) (l3 : Option Nat) (l4 : Option Nat) (l5 : Int32) : mx_M Int32 :=
  fn_L_law_J2489 d b28 l0 l1 l2 l3 l4 l5
def fn_L_law_J2209 (d : Nat) (b28 : Option Nat → Option Nat → Option Nat → Option Nat → Option Nat → Int32 → mx_M Int32) (l0 : Option Nat) (l1 : Option Nat) (l2 : Option Nat) (l3 : Option Nat) (l4 : Option Nat) (l5 : Int32) : mx_M Int32 :=
  fn_L_law_J2489 d b28 l0 l1 l2 l3 l4 l5
def fn_L_law_J2253 (d : Nat) (b28 : Option Nat → Option Nat → Option Nat → Option Nat → Option Nat → Int32 → mx_M Int32) (l0 : Option Nat) (l1 : Option Nat) (l2 : Option Nat) (l3 : Option Nat) (l4 : Option Nat) (l5 : Int32) : mx_M Int32 :=
  fn_L_law_J2489 d b28 l0 l1 l2 l3 l4 l5
def fn_L_law_J2297 (d : Nat) (b28 : Option Nat → Option Nat → Option Nat → Option Nat → Option Nat → Int32 → mx_M Int32) (l0 : Option Nat) (l1 : Option Nat) (l2 : Option Nat) (l3 : Option Nat) (l4 : Option Nat) (l5 : Int32) : mx_M Int32 :=
  fn_L_law_J2489 d b28 l0 l1 l2 l3 l4 l5
def fn_L_law_J2341 (d : Nat) (b28 : Option Nat → Option Nat → Option Nat → Option Nat → Option Nat → Int32 → mx_M Int32) (l0 : Option Nat) (l1 : Option Nat) (l2 : Option Nat) (l3 : Option Nat) (l4 : Option Nat) (l5 : Int32) : mx_M Int32 :=
  fn_L_law_J2489 d b28 l0 l1 l2 l3 l4 l5
def fn_L_law_J2385 (d : Nat) (b28 : Option Nat → Option Nat → Option Nat → Option Nat → Option Nat → Int32 → mx_M Int32) (l0 : Option Nat) (l1 : Option Nat) (l2 : Option Nat) (l3 : Option Nat) (l4 : Option Nat) (l5 : Int32) : mx_M Int32 :=
  fn_L_law_J2489 d b28 l0 l1 l2 l3 l4 l5
def fn_L_law_J2429 (d : Nat) (b28 : Option Nat → Option Nat → Option Nat → Option Nat → Option Nat → Int32 → mx_M Int32) (l0 : Option Nat) (l1 : Option Nat) (l2 : Option Nat) (l3 : Option Nat) (l4 : Option Nat) (l5 : Int32) : mx_M Int32 :=
  fn_L_law_J2489 d b28 l0 l1 l2 l3 l4 l5
def fn_L_law_J2486 (d : Nat) (b28 : Option Nat → Option Nat → Option Nat → Option Nat → Option Nat → Int32 → mx_M Int32) (l0 : Option Nat) (l1 : Option Nat) (l2 : Option Nat) (l3 : Option Nat) (l4 : Option Nat) (l5 : Int32) : mx_M Int32 :=
  fn_L_law_J2489 d b28 l0 l1 l2 l3 l4 l5
def fn_L_law_L28_b (d : Nat) (b28 : Option Nat → Option Nat → Option Nat → Option Nat → Option Nat → Int32 → mx_M Int32) (l0 : Option Nat) (l1 : Option Nat) (l2 : Option Nat) (l3 : Option Nat) (l4 : Option Nat) (l5 : Int32) : mx_M Int32 :=
  mx_bind (mx_alen l0) fun v101 =>
  mx_if ((v101 - (4 : Int32)) < l5) (
    mx_pure (1 : Int32)) (
    mx_bind (mx_aldI 100 l0 l5) fun v102 =>
    mx_sw (v102 &&& (63 : Int32)) [
      ((0 : Int32),
        mx_bind (mx_aldI 100 l0 (l5 + (1 : Int32))) fun v103 =>
        mx_bind (mx_aldI 100 l0 (l5 + (2 : Int32))) fun v104 =>
        mx_bind (mx_aldI 100 l0 (l5 + (3 : Int32))) fun v105 =>
        mx_bind (fn_X0_addLion d l1 v103 v104 v105 l3) fun r106 =>
        mx_bind (mx_aldI 100 l0 (l5 + (1 : Int32))) fun v107 =>
        mx_bind (mx_aldI 100 l0 (l5 + (2 : Int32))) fun v108 =>
        mx_bind (mx_aldI 100 l0 (l5 + (3 : Int32))) fun v109 =>
        mx_bind (mx_is 1 l2 (fn_X4_addLion d l2 v107 v108 v109)) fun r110 =>
        mx_bind (mx_is 1 l2 (fn_X4_thrown d l2)) fun r111 =>
        mx_if (r111 = r106) (
          mx_if (r106 = (0 : Int32)) (
            mx_bind (mx_aldL 102 l3 (0 : Int32)) fun v112 =>
            mx_if ((lg_cmp v112 (r110.toInt64)) = (0 : Int32)) (
              fn_L_law_J349 d b28 l0 l1 l2 l3 l4 l5) (
              mx_pure (0 : Int32))) (
            fn_L_law_J349 d b28 l0 l1 l2 l3 l4 l5)) (
          mx_pure (0 : Int32))),
      ((1 : Int32),
        mx_bind (mx_aldI 100 l0 (l5 + (1 : Int32))) fun v113 =>
        mx_bind (mx_aldI 100 l0 (l5 + (2 : Int32))) fun v114 =>
        mx_bind (fn_X0_roar d l1 v113 v114 l3) fun r115 =>
        mx_bind (mx_aldI 100 l0 (l5 + (1 : Int32))) fun v116 =>
        mx_bind (mx_aldI 100 l0 (l5 + (2 : Int32))) fun v117 =>
        mx_bind (mx_is 1 l2 (fn_X4_roar d l2 v116 v117)) fun r118 =>
        mx_bind (mx_is 1 l2 (fn_X4_thrown d l2)) fun r119 =>
        mx_if (r119 = r115) (
          mx_if (r115 = (0 : Int32)) (
            mx_bind (mx_aldL 102 l3 (0 : Int32)) fun v120 =>
            mx_if ((lg_cmp v120 (r118.toInt64)) = (0 : Int32)) (
              fn_L_law_J417 d b28 l0 l1 l2 l3 l4 l5) (
              mx_pure (0 : Int32))) (
            fn_L_law_J417 d b28 l0 l1 l2 l3 l4 l5)) (
          mx_pure (0 : Int32))),
      ((2 : Int32),
        mx_bind (mx_aldI 100 l0 (l5 + (1 : Int32))) fun v121 =>
        mx_bind (mx_aldI 100 l0 (l5 + (2 : Int32))) fun v122 =>
        mx_bind (fn_X0_yawn d l1 v121 v122 l3) fun r123 =>
        mx_bind (mx_aldI 100 l0 (l5 + (1 : Int32))) fun v124 =>
        mx_bind (mx_aldI 100 l0 (l5 + (2 : Int32))) fun v125 =>
        mx_bind (mx_is 1 l2 (fn_X4_yawn d l2 v124 v125)) fun r126 =>
        mx_bind (mx_is 1 l2 (fn_X4_thrown d l2)) fun r127 =>
        mx_if (r127 = r123) (
          mx_if (r123 = (0 : Int32)) (
            mx_bind (mx_aldL 102 l3 (0 : Int32)) fun v128 =>
            mx_if ((lg_cmp v128 (r126.toInt64)) = (0 : Int32)) (
              fn_L_law_J485 d b28 l0 l1 l2 l3 l4 l5) (
              mx_pure (0 : Int32))) (
            fn_L_law_J485 d b28 l0 l1 l2 l3 l4 l5)) (
          mx_pure (0 : Int32))),
      ((3 : Int32),
        mx_bind (mx_aldI 100 l0 (l5 + (1 : Int32))) fun v129 =>
        mx_bind (fn_X0_leave d l1 v129 l3) fun r130 =>
        mx_bind (mx_aldI 100 l0 (l5 + (1 : Int32))) fun v131 =>
        mx_bind (mx_is 1 l2 (fn_X4_leave d l2 v131)) fun r132 =>
        mx_bind (mx_is 1 l2 (fn_X4_thrown d l2)) fun r133 =>
        mx_if (r133 = r130) (
          mx_if (r130 = (0 : Int32)) (
            mx_bind (mx_aldL 102 l3 (0 : Int32)) fun v134 =>
            mx_if ((lg_cmp v134 (r132.toInt64)) = (0 : Int32)) (
              fn_L_law_J541 d b28 l0 l1 l2 l3 l4 l5) (
              mx_pure (0 : Int32))) (
            fn_L_law_J541 d b28 l0 l1 l2 l3 l4 l5)) (
          mx_pure (0 : Int32))),
      ((4 : Int32),
        mx_bind (fn_X0_serve d l1 l3) fun r135 =>
        mx_bind (mx_is 1 l2 (fn_X4_serve d l2)) fun r136 =>
        mx_bind (mx_is 1 l2 (fn_X4_thrown d l2)) fun r137 =>
        mx_if (r137 = r135) (
          mx_if (r135 = (0 : Int32)) (
            mx_bind (mx_aldL 102 l3 (0 : Int32)) fun v138 =>
            mx_if ((lg_cmp v138 (r136.toInt64)) = (0 : Int32)) (
              fn_L_law_J585 d b28 l0 l1 l2 l3 l4 l5) (
              mx_pure (0 : Int32))) (
            fn_L_law_J585 d b28 l0 l1 l2 l3 l4 l5)) (
          mx_pure (0 : Int32))),
      ((5 : Int32),
        mx_bind (mx_is 0 l1 (fn_X1_purge d l1)) fun r139 =>
        mx_bind (mx_is 1 l2 (fn_X4_purge d l2)) fun r140 =>
        mx_if (r139 = r140) (
          fn_L_law_J2489 d b28 l0 l1 l2 l3 l4 l5) (
          mx_pure (0 : Int32))),
      ((6 : Int32),
        mx_bind (mx_aldI 100 l0 (l5 + (1 : Int32))) fun v141 =>
        mx_bind (mx_aldI 100 l0 (l5 + (2 : Int32))) fun v142 =>
        mx_bind (fn_X0_hireKeeper d l1 v141 v142 l3) fun r143 =>
        mx_bind (mx_aldI 100 l0 (l5 + (1 : Int32))) fun v144 =>
        mx_bind (mx_aldI 100 l0 (l5 + (2 : Int32))) fun v145 =>
        mx_bind (mx_is 1 l2 (fn_X4_hireKeeper d l2 v144 v145)) fun r146 =>
        mx_bind (mx_is 1 l2 (fn_X4_thrown d l2)) fun r147 =>
        mx_if (r147 = r143) (
          mx_if (r143 = (0 : Int32)) (
            mx_bind (mx_aldL 102 l3 (0 : Int32)) fun v148 =>
            mx_if ((lg_cmp v148 (r146.toInt64)) = (0 : Int32)) (
              fn_L_law_J666 d b28 l0 l1 l2 l3 l4 l5) (
              mx_pure (0 : Int32))) (
            fn_L_law_J666 d b28 l0 l1 l2 l3 l4 l5)) (
          mx_pure (0 : Int32))),
      ((7 : Int32),
        mx_bind (mx_aldI 100 l0 (l5 + (1 : Int32))) fun v149 =>
        mx_bind (fn_X0_dismissKeeper d l1 v149 l3) fun r150 =>
        mx_bind (mx_aldI 100 l0 (l5 + (1 : Int32))) fun v151 =>
        mx_bind (mx_is 1 l2 (fn_X4_dismissKeeper d l2 v151)) fun r152 =>
        mx_bind (mx_is 1 l2 (fn_X4_thrown d l2)) fun r153 =>
        mx_if (r153 = r150) (
          mx_if (r150 = (0 : Int32)) (
            mx_bind (mx_aldL 102 l3 (0 : Int32)) fun v154 =>
            mx_if ((lg_cmp v154 (r152.toInt64)) = (0 : Int32)) (
              fn_L_law_J722 d b28 l0 l1 l2 l3 l4 l5) (
              mx_pure (0 : Int32))) (
            fn_L_law_J722 d b28 l0 l1 l2 l3 l4 l5)) (
          mx_pure (0 : Int32))),
      ((8 : Int32),
        mx_bind (mx_aldI 100 l0 (l5 + (1 : Int32))) fun v155 =>
        mx_bind (fn_X0_passHours d l1 v155 l3) fun r156 =>
        mx_bind (mx_aldI 100 l0 (l5 + (1 : Int32))) fun v157 =>
        mx_bind (mx_is 1 l2 (fn_X4_passHours d l2 v157)) fun r158 =>
        mx_bind (mx_is 1 l2 (fn_X4_thrown d l2)) fun r159 =>
        mx_if (r159 = r156) (
          mx_if (r156 = (0 : Int32)) (
            mx_bind (mx_aldL 102 l3 (0 : Int32)) fun v160 =>
            mx_if ((lg_cmp v160 (r158.toInt64)) = (0 : Int32)) (
              fn_L_law_J778 d b28 l0 l1 l2 l3 l4 l5) (
              mx_pure (0 : Int32))) (
            fn_L_law_J778 d b28 l0 l1 l2 l3 l4 l5)) (
          mx_pure (0 : Int32))),
      ((9 : Int32),
        mx_bind (mx_is 0 l1 (fn_X1_lionCount d l1)) fun r161 =>
        mx_bind (mx_is 1 l2 (fn_X4_lionCount d l2)) fun r162 =>
        mx_if (r161 = r162) (
          fn_L_law_J2489 d b28 l0 l1 l2 l3 l4 l5) (
          mx_pure (0 : Int32))),
      ((10 : Int32),
        mx_bind (mx_aldI 100 l0 (l5 + (1 : Int32))) fun v163 =>
        mx_bind (fn_X0_lionAt d l1 v163 l3) fun r164 =>
        mx_bind (mx_aldI 100 l0 (l5 + (1 : Int32))) fun v165 =>
        mx_bind (mx_is 1 l2 (fn_X4_lionAt d l2 v165)) fun r166 =>
        mx_bind (mx_is 1 l2 (fn_X4_thrown d l2)) fun r167 =>
        mx_if (r167 = r164) (
          mx_if (r164 = (0 : Int32)) (
            mx_bind (mx_aldL 102 l3 (0 : Int32)) fun v168 =>
            mx_if ((lg_cmp v168 (r166.toInt64)) = (0 : Int32)) (
              fn_L_law_J847 d b28 l0 l1 l2 l3 l4 l5) (
              mx_pure (0 : Int32))) (
            fn_L_law_J847 d b28 l0 l1 l2 l3 l4 l5)) (
          mx_pure (0 : Int32))),
      ((11 : Int32),
        mx_bind (mx_aldI 100 l0 (l5 + (1 : Int32))) fun v169 =>
        mx_bind (fn_X0_hungerOf d l1 v169 l3) fun r170 =>
        mx_bind (mx_aldI 100 l0 (l5 + (1 : Int32))) fun v171 =>
        mx_bind (mx_is 1 l2 (fn_X4_hungerOf d l2 v171)) fun r172 =>
        mx_bind (mx_is 1 l2 (fn_X4_thrown d l2)) fun r173 =>
        mx_if (r173 = r170) (
          mx_if (r170 = (0 : Int32)) (
            mx_bind (mx_aldL 102 l3 (0 : Int32)) fun v174 =>
            mx_if ((lg_cmp v174 (r172.toInt64)) = (0 : Int32)) (
              fn_L_law_J903 d b28 l0 l1 l2 l3 l4 l5) (
              mx_pure (0 : Int32))) (
            fn_L_law_J903 d b28 l0 l1 l2 l3 l4 l5)) (
          mx_pure (0 : Int32))),
      ((12 : Int32),
        mx_bind (mx_aldI 100 l0 (l5 + (1 : Int32))) fun v175 =>
        mx_bind (fn_X0_portionOf d l1 v175 l3) fun r176 =>
        mx_bind (mx_aldI 100 l0 (l5 + (1 : Int32))) fun v177 =>
        mx_bind (mx_is 1 l2 (fn_X4_portionOf d l2 v177)) fun r178 =>
        mx_bind (mx_is 1 l2 (fn_X4_thrown d l2)) fun r179 =>
        mx_if (r179 = r176) (
          mx_if (r176 = (0 : Int32)) (
            mx_bind (mx_aldL 102 l3 (0 : Int32)) fun v180 =>
            mx_if ((lg_cmp v180 (r178.toInt64)) = (0 : Int32)) (
              fn_L_law_J959 d b28 l0 l1 l2 l3 l4 l5) (
              mx_pure (0 : Int32))) (
            fn_L_law_J959 d b28 l0 l1 l2 l3 l4 l5)) (
          mx_pure (0 : Int32))),
      ((13 : Int32),
        mx_bind (mx_aldI 100 l0 (l5 + (1 : Int32))) fun v181 =>
        mx_bind (fn_X0_deadlineOf d l1 v181 l3) fun r182 =>
        mx_bind (mx_aldI 100 l0 (l5 + (1 : Int32))) fun v183 =>
        mx_bind (mx_is 1 l2 (fn_X4_deadlineOf d l2 v183)) fun r184 =>
        mx_bind (mx_is 1 l2 (fn_X4_thrown d l2)) fun r185 =>
        mx_if (r185 = r182) (
          mx_if (r182 = (0 : Int32)) (
            mx_bind (mx_aldL 102 l3 (0 : Int32)) fun v186 =>
            mx_if ((lg_cmp v186 (r184.toInt64)) = (0 : Int32)) (
              fn_L_law_J1015 d b28 l0 l1 l2 l3 l4 l5) (
              mx_pure (0 : Int32))) (
            fn_L_law_J1015 d b28 l0 l1 l2 l3 l4 l5)) (
          mx_pure (0 : Int32))),
      ((14 : Int32),
        mx_bind (mx_aldI 100 l0 (l5 + (1 : Int32))) fun v187 =>
        mx_bind (fn_X0_ticketOf d l1 v187 l3) fun r188 =>
        mx_bind (mx_aldI 100 l0 (l5 + (1 : Int32))) fun v189 =>
        mx_bind (mx_is 1 l2 (fn_X4_ticketOf d l2 v189)) fun r190 =>
        mx_bind (mx_is 1 l2 (fn_X4_thrown d l2)) fun r191 =>
        mx_if (r191 = r188) (
          mx_if (r188 = (0 : Int32)) (
            mx_bind (mx_aldL 102 l3 (0 : Int32)) fun v192 =>
            mx_if ((lg_cmp v192 (r190.toInt64)) = (0 : Int32)) (
              fn_L_law_J1071 d b28 l0 l1 l2 l3 l4 l5) (
              mx_pure (0 : Int32))) (
            fn_L_law_J1071 d b28 l0 l1 l2 l3 l4 l5)) (
          mx_pure (0 : Int32))),
      ((15 : Int32),
        mx_bind (fn_X0_hungriest d l1 l3) fun r193 =>
        mx_bind (mx_is 1 l2 (fn_X4_hungriest d l2)) fun r194 =>
        mx_bind (mx_is 1 l2 (fn_X4_thrown d l2)) fun r195 =>
        mx_if (r195 = r193) (
          mx_if (r193 = (0 : Int32)) (
            mx_bind (mx_aldL 102 l3 (0 : Int32)) fun v196 =>
            mx_if ((lg_cmp v196 (r194.toInt64)) = (0 : Int32)) (
              fn_L_law_J1115 d b28 l0 l1 l2 l3 l4 l5) (
              mx_pure (0 : Int32))) (
            fn_L_law_J1115 d b28 l0 l1 l2 l3 l4 l5)) (
          mx_pure (0 : Int32))),
      ((16 : Int32),
        mx_bind (fn_X0_hungriestByLooking d l1 l3) fun r197 =>
        mx_bind (mx_is 1 l2 (fn_X4_hungriestByLooking d l2)) fun r198 =>
        mx_bind (mx_is 1 l2 (fn_X4_thrown d l2)) fun r199 =>
        mx_if (r199 = r197) (
          mx_if (r197 = (0 : Int32)) (
            mx_bind (mx_aldL 102 l3 (0 : Int32)) fun v200 =>
            mx_if ((lg_cmp v200 (r198.toInt64)) = (0 : Int32)) (
              fn_L_law_J1159 d b28 l0 l1 l2 l3 l4 l5) (
              mx_pure (0 : Int32))) (
            fn_L_law_J1159 d b28 l0 l1 l2 l3 l4 l5)) (
          mx_pure (0 : Int32))),
      ((17 : Int32),
        mx_bind (mx_aldI 100 l0 (l5 + (1 : Int32))) fun v201 =>
        mx_bind (fn_X0_lionAtRank d l1 v201 l3) fun r202 =>
        mx_bind (mx_aldI 100 l0 (l5 + (1 : Int32))) fun v203 =>
        mx_bind (mx_is 1 l2 (fn_X4_lionAtRank d l2 v203)) fun r204 =>
        mx_bind (mx_is 1 l2 (fn_X4_thrown d l2)) fun r205 =>
        mx_if (r205 = r202) (
          mx_if (r202 = (0 : Int32)) (
            mx_bind (mx_aldL 102 l3 (0 : Int32)) fun v206 =>
            mx_if ((lg_cmp v206 (r204.toInt64)) = (0 : Int32)) (
              fn_L_law_J1215 d b28 l0 l1 l2 l3 l4 l5) (
              mx_pure (0 : Int32))) (
            fn_L_law_J1215 d b28 l0 l1 l2 l3 l4 l5)) (
          mx_pure (0 : Int32))),
      ((18 : Int32),
        mx_bind (mx_is 0 l1 (fn_X1_ticketCount d l1)) fun r207 =>
        mx_bind (mx_is 1 l2 (fn_X4_ticketCount d l2)) fun r208 =>
        mx_if (r207 = r208) (
          fn_L_law_J2489 d b28 l0 l1 l2 l3 l4 l5) (
          mx_pure (0 : Int32))),
      ((19 : Int32),
        mx_bind (mx_is 0 l1 (fn_X1_staleCount d l1)) fun r209 =>
        mx_bind (mx_is 1 l2 (fn_X4_staleCount d l2)) fun r210 =>
        mx_if (r209 = r210) (
          fn_L_law_J2489 d b28 l0 l1 l2 l3 l4 l5) (
          mx_pure (0 : Int32))),
      ((20 : Int32),
        mx_bind (mx_aldI 100 l0 (l5 + (1 : Int32))) fun v211 =>
        mx_bind (fn_X0_ticketAtRank d l1 v211 l3) fun r212 =>
        mx_bind (mx_aldI 100 l0 (l5 + (1 : Int32))) fun v213 =>
        mx_bind (mx_is 1 l2 (fn_X4_ticketAtRank d l2 v213)) fun r214 =>
        mx_bind (mx_is 1 l2 (fn_X4_thrown d l2)) fun r215 =>
        mx_if (r215 = r212) (
          mx_if (r212 = (0 : Int32)) (
            mx_bind (mx_aldL 102 l3 (0 : Int32)) fun v216 =>
            mx_if ((lg_cmp v216 (r214.toInt64)) = (0 : Int32)) (
              fn_L_law_J1297 d b28 l0 l1 l2 l3 l4 l5) (
              mx_pure (0 : Int32))) (
            fn_L_law_J1297 d b28 l0 l1 l2 l3 l4 l5)) (
          mx_pure (0 : Int32))),
      ((21 : Int32),
        mx_bind (mx_aldI 100 l0 (l5 + (1 : Int32))) fun v217 =>
        mx_bind (fn_X0_isStaleAtRank d l1 v217 l3) fun r218 =>
        mx_bind (mx_aldI 100 l0 (l5 + (1 : Int32))) fun v219 =>
        mx_bind (mx_is 1 l2 (fn_X4_isStaleAtRank d l2 v219)) fun r220 =>
        mx_bind (mx_is 1 l2 (fn_X4_thrown d l2)) fun r221 =>
        mx_if (r221 = r218) (
          mx_if (r218 = (0 : Int32)) (
            mx_bind (mx_aldL 102 l3 (0 : Int32)) fun v222 =>
            mx_if (r220 = (0 : Int32)) (
              fn_L_law_J1354 d b28 l0 l1 l2 l3 l4 l5 v222 (0 : Int64)) (
              fn_L_law_J1354 d b28 l0 l1 l2 l3 l4 l5 v222 (1 : Int64))) (
            fn_L_law_J1360 d b28 l0 l1 l2 l3 l4 l5)) (
          mx_pure (0 : Int32))),
      ((22 : Int32),
        mx_bind (mx_is 0 l1 (fn_X1_areAllInTime d l1)) fun r223 =>
        mx_bind (mx_is 1 l2 (fn_X4_areAllInTime d l2)) fun r224 =>
        mx_if (r223 = r224) (
          fn_L_law_J2489 d b28 l0 l1 l2 l3 l4 l5) (
          mx_pure (0 : Int32))),
      ((23 : Int32),
        mx_bind (mx_is 0 l1 (fn_X1_mostInTime d l1)) fun r225 =>
        mx_bind (mx_is 1 l2 (fn_X4_mostInTime d l2)) fun r226 =>
        mx_if (r225 = r226) (
          fn_L_law_J2489 d b28 l0 l1 l2 l3 l4 l5) (
          mx_pure (0 : Int32))),
      ((24 : Int32),
        mx_bind (mx_is 0 l1 (fn_X1_mostInTimeBySets d l1)) fun r227 =>
        mx_bind (mx_is 1 l2 (fn_X4_mostInTimeBySets d l2)) fun r228 =>
        mx_if (r227 = r228) (
          fn_L_law_J2489 d b28 l0 l1 l2 l3 l4 l5) (
          mx_pure (0 : Int32))),
      ((25 : Int32),
        mx_bind (mx_is 0 l1 (fn_X1_keeperCount d l1)) fun r229 =>
        mx_bind (mx_is 1 l2 (fn_X4_keeperCount d l2)) fun r230 =>
        mx_if (r229 = r230) (
          fn_L_law_J2489 d b28 l0 l1 l2 l3 l4 l5) (
          mx_pure (0 : Int32))),
      ((26 : Int32),
        mx_bind (mx_aldI 100 l0 (l5 + (1 : Int32))) fun v231 =>
        mx_bind (fn_X0_startOf d l1 v231 l3) fun r232 =>
        mx_bind (mx_aldI 100 l0 (l5 + (1 : Int32))) fun v233 =>
        mx_bind (mx_is 1 l2 (fn_X4_startOf d l2 v233)) fun r234 =>
        mx_bind (mx_is 1 l2 (fn_X4_thrown d l2)) fun r235 =>
        mx_if (r235 = r232) (
          mx_if (r232 = (0 : Int32)) (
            mx_bind (mx_aldL 102 l3 (0 : Int32)) fun v236 =>
            mx_if ((lg_cmp v236 (r234.toInt64)) = (0 : Int32)) (
              fn_L_law_J1468 d b28 l0 l1 l2 l3 l4 l5) (
              mx_pure (0 : Int32))) (
            fn_L_law_J1468 d b28 l0 l1 l2 l3 l4 l5)) (
          mx_pure (0 : Int32))),
      ((27 : Int32),
        mx_bind (mx_aldI 100 l0 (l5 + (1 : Int32))) fun v237 =>
        mx_bind (fn_X0_endOf d l1 v237 l3) fun r238 =>
        mx_bind (mx_aldI 100 l0 (l5 + (1 : Int32))) fun v239 =>
        mx_bind (mx_is 1 l2 (fn_X4_endOf d l2 v239)) fun r240 =>
        mx_bind (mx_is 1 l2 (fn_X4_thrown d l2)) fun r241 =>
        mx_if (r241 = r238) (
          mx_if (r238 = (0 : Int32)) (
            mx_bind (mx_aldL 102 l3 (0 : Int32)) fun v242 =>
            mx_if ((lg_cmp v242 (r240.toInt64)) = (0 : Int32)) (
              fn_L_law_J1524 d b28 l0 l1 l2 l3 l4 l5) (
              mx_pure (0 : Int32))) (
            fn_L_law_J1524 d b28 l0 l1 l2 l3 l4 l5)) (
          mx_pure (0 : Int32))),
      ((28 : Int32),
        mx_bind (mx_aldI 100 l0 (l5 + (1 : Int32))) fun v243 =>
        mx_bind (fn_X0_onDuty d l1 v243 l3) fun r244 =>
        mx_bind (mx_aldI 100 l0 (l5 + (1 : Int32))) fun v245 =>
        mx_bind (mx_is 1 l2 (fn_X4_onDuty d l2 v245)) fun r246 =>
        mx_bind (mx_is 1 l2 (fn_X4_thrown d l2)) fun r247 =>
        mx_if (r247 = r244) (
          mx_if (r244 = (0 : Int32)) (
            mx_bind (mx_aldL 102 l3 (0 : Int32)) fun v248 =>
            mx_if ((lg_cmp v248 (r246.toInt64)) = (0 : Int32)) (
              fn_L_law_J1580 d b28 l0 l1 l2 l3 l4 l5) (
              mx_pure (0 : Int32))) (
            fn_L_law_J1580 d b28 l0 l1 l2 l3 l4 l5)) (
          mx_pure (0 : Int32))),
      ((29 : Int32),
        mx_bind (mx_aldI 100 l0 (l5 + (1 : Int32))) fun v249 =>
        mx_bind (mx_aldI 100 l0 (l5 + (2 : Int32))) fun v250 =>
        mx_bind (fn_X0_isCovered d l1 v249 v250 l3) fun r251 =>
        mx_bind (mx_aldI 100 l0 (l5 + (1 : Int32))) fun v252 =>
        mx_bind (mx_aldI 100 l0 (l5 + (2 : Int32))) fun v253 =>
        mx_bind (mx_is 1 l2 (fn_X4_isCovered d l2 v252 v253)) fun r254 =>
        mx_bind (mx_is 1 l2 (fn_X4_thrown d l2)) fun r255 =>
        mx_if (r255 = r251) (
          mx_if (r251 = (0 : Int32)) (
            mx_bind (mx_aldL 102 l3 (0 : Int32)) fun v256 =>
            mx_if (r254 = (0 : Int32)) (
              fn_L_law_J1649 d b28 l0 l1 l2 l3 l4 l5 v256 (0 : Int64)) (
              fn_L_law_J1649 d b28 l0 l1 l2 l3 l4 l5 v256 (1 : Int64))) (
            fn_L_law_J1655 d b28 l0 l1 l2 l3 l4 l5)) (
          mx_pure (0 : Int32))),
      ((30 : Int32),
        mx_bind (mx_aldI 100 l0 (l5 + (1 : Int32))) fun v257 =>
        mx_bind (mx_aldI 100 l0 (l5 + (2 : Int32))) fun v258 =>
        mx_bind (fn_X0_fewestKeepers d l1 v257 v258 l3) fun r259 =>
        mx_bind (mx_aldI 100 l0 (l5 + (1 : Int32))) fun v260 =>
        mx_bind (mx_aldI 100 l0 (l5 + (2 : Int32))) fun v261 =>
        mx_bind (mx_is 1 l2 (fn_X4_fewestKeepers d l2 v260 v261)) fun r262 =>
        mx_bind (mx_is 1 l2 (fn_X4_thrown d l2)) fun r263 =>
        mx_if (r263 = r259) (
          mx_if (r259 = (0 : Int32)) (
            mx_bind (mx_aldL 102 l3 (0 : Int32)) fun v264 =>
            mx_if ((lg_cmp v264 (r262.toInt64)) = (0 : Int32)) (
              fn_L_law_J1723 d b28 l0 l1 l2 l3 l4 l5) (
              mx_pure (0 : Int32))) (
            fn_L_law_J1723 d b28 l0 l1 l2 l3 l4 l5)) (
          mx_pure (0 : Int32))),
      ((31 : Int32),
        mx_bind (mx_aldI 100 l0 (l5 + (1 : Int32))) fun v265 =>
        mx_bind (mx_aldI 100 l0 (l5 + (2 : Int32))) fun v266 =>
        mx_bind (fn_X0_fewestKeepersBySets d l1 v265 v266 l3) fun r267 =>
        mx_bind (mx_aldI 100 l0 (l5 + (1 : Int32))) fun v268 =>
        mx_bind (mx_aldI 100 l0 (l5 + (2 : Int32))) fun v269 =>
        mx_bind (mx_is 1 l2 (fn_X4_fewestKeepersBySets d l2 v268 v269)) fun r270 =>
        mx_bind (mx_is 1 l2 (fn_X4_thrown d l2)) fun r271 =>
        mx_if (r271 = r267) (
          mx_if (r267 = (0 : Int32)) (
            mx_bind (mx_aldL 102 l3 (0 : Int32)) fun v272 =>
            mx_if ((lg_cmp v272 (r270.toInt64)) = (0 : Int32)) (
              fn_L_law_J1791 d b28 l0 l1 l2 l3 l4 l5) (
              mx_pure (0 : Int32))) (
            fn_L_law_J1791 d b28 l0 l1 l2 l3 l4 l5)) (
          mx_pure (0 : Int32))),
      ((32 : Int32),
        mx_bind (mx_is 0 l1 (fn_X1_hour d l1)) fun r273 =>
        mx_bind (mx_is 1 l2 (fn_X4_hour d l2)) fun r274 =>
        mx_if (r273 = r274) (
          fn_L_law_J2489 d b28 l0 l1 l2 l3 l4 l5) (
          mx_pure (0 : Int32))),
      ((33 : Int32),
        mx_bind (mx_is 0 l1 (fn_X1_servedTotal d l1)) fun r275 =>
        mx_bind (mx_is 1 l2 (fn_X4_servedTotal d l2)) fun r276 =>
        mx_if (r275 = r276) (
          fn_L_law_J2489 d b28 l0 l1 l2 l3 l4 l5) (
          mx_pure (0 : Int32))),
      ((34 : Int32),
        mx_bind (mx_is 0 l1 (fn_X1_lateTotal d l1)) fun r277 =>
        mx_bind (mx_is 1 l2 (fn_X4_lateTotal d l2)) fun r278 =>
        mx_if (r277 = r278) (
          fn_L_law_J2489 d b28 l0 l1 l2 l3 l4 l5) (
          mx_pure (0 : Int32))),
      ((35 : Int32),
        mx_bind (mx_is 0 l1 (fn_X1_portionTotal d l1)) fun r279 =>
        mx_bind (mx_is 1 l2 (fn_X4_portionTotal d l2)) fun r280 =>
        mx_if (r279 = r280) (
          fn_L_law_J2489 d b28 l0 l1 l2 l3 l4 l5) (
          mx_pure (0 : Int32))),
      ((36 : Int32),
        mx_bind (mx_is 0 l1 (fn_X1_drawnTotal d l1)) fun r281 =>
        mx_bind (mx_is 1 l2 (fn_X4_drawnTotal d l2)) fun r282 =>
        mx_if (r281 = r282) (
          fn_L_law_J2489 d b28 l0 l1 l2 l3 l4 l5) (
          mx_pure (0 : Int32))),
      ((37 : Int32),
        mx_bind (mx_is 0 l1 (fn_X1_thrownTotal d l1)) fun r283 =>
        mx_bind (mx_is 1 l2 (fn_X4_thrownTotal d l2)) fun r284 =>
        mx_if (r283 = r284) (
          fn_L_law_J2489 d b28 l0 l1 l2 l3 l4 l5) (
          mx_pure (0 : Int32))),
      ((38 : Int32),
        mx_bind (mx_is 0 l1 (fn_X1_ticketsByAccounts d l1)) fun r285 =>
        mx_bind (mx_is 1 l2 (fn_X4_ticketsByAccounts d l2)) fun r286 =>
        mx_if (r285 = r286) (
          fn_L_law_J2489 d b28 l0 l1 l2 l3 l4 l5) (
          mx_pure (0 : Int32))),
      ((39 : Int32),
        mx_bind (fn_X0_meanHunger d l1 l4) fun r287 =>
        mx_bind (mx_is 1 l2 (fn_X4_meanHunger d l2)) fun r288 =>
        mx_bind (mx_is 1 l2 (fn_X4_thrown d l2)) fun r289 =>
        mx_if (r289 = r287) (
          mx_if (r287 = (0 : Int32)) (
            mx_bind (mx_aldD 103 l4 (0 : Int32)) fun v290 =>
            mx_if ((Op.cmpValue (FP.dcmp v290 r288) .l) = (0 : Int32)) (
              fn_L_law_J1947 d b28 l0 l1 l2 l3 l4 l5) (
              mx_bind (mx_aldD 103 l4 (0 : Int32)) fun v291 =>
              mx_bind (mx_aldD 103 l4 (0 : Int32)) fun v292 =>
              mx_if ((Op.cmpValue (FP.dcmp v291 v292) .l) = (0 : Int32)) (
                mx_pure (0 : Int32)) (
                mx_if ((Op.cmpValue (FP.dcmp r288 r288) .l) = (0 : Int32)) (
                  mx_pure (0 : Int32)) (
                  fn_L_law_J1947 d b28 l0 l1 l2 l3 l4 l5)))) (
            fn_L_law_J1947 d b28 l0 l1 l2 l3 l4 l5)) (
          mx_pure (0 : Int32))),
      ((40 : Int32),
        mx_bind (fn_X0_lateShare d l1 l4) fun r293 =>
        mx_bind (mx_is 1 l2 (fn_X4_lateShare d l2)) fun r294 =>
        mx_bind (mx_is 1 l2 (fn_X4_thrown d l2)) fun r295 =>
        mx_if (r295 = r293) (
          mx_if (r293 = (0 : Int32)) (
            mx_bind (mx_aldD 103 l4 (0 : Int32)) fun v296 =>
            mx_bind (mx_f2d r294) fun v297 =>
            mx_if ((Op.cmpValue (FP.dcmp v296 v297) .l) = (0 : Int32)) (
              fn_L_law_J2013 d b28 l0 l1 l2 l3 l4 l5) (
              mx_bind (mx_aldD 103 l4 (0 : Int32)) fun v298 =>
              mx_bind (mx_aldD 103 l4 (0 : Int32)) fun v299 =>
              mx_if ((Op.cmpValue (FP.dcmp v298 v299) .l) = (0 : Int32)) (
                mx_pure (0 : Int32)) (
                mx_if ((Op.cmpValue (FP.fcmp r294 r294) .l) = (0 : Int32)) (
                  mx_pure (0 : Int32)) (
                  fn_L_law_J2013 d b28 l0 l1 l2 l3 l4 l5)))) (
            fn_L_law_J2013 d b28 l0 l1 l2 l3 l4 l5)) (
          mx_pure (0 : Int32))),
      ((41 : Int32),
        mx_bind (mx_is 0 l1 (fn_X1_isConsistent d l1)) fun r300 =>
        mx_bind (mx_is 1 l2 (fn_X4_isConsistent d l2)) fun r301 =>
        mx_if (r300 = r301) (
          fn_L_law_J2489 d b28 l0 l1 l2 l3 l4 l5) (
          mx_pure (0 : Int32))),
      ((42 : Int32),
        mx_bind (mx_aldI 100 l0 (l5 + (1 : Int32))) fun v302 =>
        mx_bind (fn_X0_renderLion d l1 v302 l3) fun r303 =>
        mx_bind (mx_aldI 100 l0 (l5 + (1 : Int32))) fun v304 =>
        mx_bind (mx_is 1 l2 (fn_X4_renderLion d l2 v304)) fun r305 =>
        mx_bind (mx_is 1 l2 (fn_X4_thrown d l2)) fun r306 =>
        mx_if (r306 = r303) (
          mx_if (r303 = (0 : Int32)) (
            mx_bind (mx_aldL 102 l3 (0 : Int32)) fun v307 =>
            mx_if ((lg_cmp v307 (r305.toInt64)) = (0 : Int32)) (
              fn_L_law_J2082 d b28 l0 l1 l2 l3 l4 l5) (
              mx_pure (0 : Int32))) (
            fn_L_law_J2082 d b28 l0 l1 l2 l3 l4 l5)) (
          mx_pure (0 : Int32))),
      ((43 : Int32),
        mx_bind (mx_is 0 l1 (fn_X1_renderTickets d l1)) fun r308 =>
        mx_bind (mx_is 1 l2 (fn_X4_renderTickets d l2)) fun r309 =>
        mx_if (r308 = r309) (
          fn_L_law_J2489 d b28 l0 l1 l2 l3 l4 l5) (
          mx_pure (0 : Int32))),
      ((44 : Int32),
        mx_bind (mx_aldI 100 l0 (l5 + (1 : Int32))) fun v310 =>
        mx_bind (fn_X0_outputAt d l1 v310 l3) fun r311 =>
        mx_bind (mx_aldI 100 l0 (l5 + (1 : Int32))) fun v312 =>
        mx_bind (mx_is 1 l2 (fn_X4_outputAt d l2 v312)) fun r313 =>
        mx_bind (mx_is 1 l2 (fn_X4_thrown d l2)) fun r314 =>
        mx_if (r314 = r311) (
          mx_if (r311 = (0 : Int32)) (
            mx_bind (mx_aldL 102 l3 (0 : Int32)) fun v315 =>
            mx_if ((lg_cmp v315 (r313.toInt64)) = (0 : Int32)) (
              fn_L_law_J2151 d b28 l0 l1 l2 l3 l4 l5) (
              mx_pure (0 : Int32))) (
            fn_L_law_J2151 d b28 l0 l1 l2 l3 l4 l5)) (
          mx_pure (0 : Int32))),
      ((45 : Int32),
        mx_bind (mx_aldI 100 l0 (l5 + (1 : Int32))) fun v316 =>
        mx_bind (fn_X0_type d l1 ((v316.toUInt32 % 65536).toInt32) l3) fun r317 =>
        mx_bind (mx_aldI 100 l0 (l5 + (1 : Int32))) fun v318 =>
        mx_bind (mx_is 1 l2 (fn_X4_type d l2 ((v318.toUInt32 % 65536).toInt32))) fun r319 =>
        mx_bind (mx_is 1 l2 (fn_X4_thrown d l2)) fun r320 =>
        mx_if (r320 = r317) (
          mx_if (r317 = (0 : Int32)) (
            mx_bind (mx_aldL 102 l3 (0 : Int32)) fun v321 =>
            mx_if ((lg_cmp v321 (r319.toInt64)) = (0 : Int32)) (
              fn_L_law_J2209 d b28 l0 l1 l2 l3 l4 l5) (
              mx_pure (0 : Int32))) (
            fn_L_law_J2209 d b28 l0 l1 l2 l3 l4 l5)) (
          mx_pure (0 : Int32))),
      ((46 : Int32),
        mx_bind (fn_X0_runScript d l1 l3) fun r322 =>
        mx_bind (mx_is 1 l2 (fn_X4_runScript d l2)) fun r323 =>
        mx_bind (mx_is 1 l2 (fn_X4_thrown d l2)) fun r324 =>
        mx_if (r324 = r322) (
          mx_if (r322 = (0 : Int32)) (
            mx_bind (mx_aldL 102 l3 (0 : Int32)) fun v325 =>
            mx_if ((lg_cmp v325 (r323.toInt64)) = (0 : Int32)) (
              fn_L_law_J2253 d b28 l0 l1 l2 l3 l4 l5) (
              mx_pure (0 : Int32))) (
            fn_L_law_J2253 d b28 l0 l1 l2 l3 l4 l5)) (
          mx_pure (0 : Int32))),
      ((47 : Int32),
        mx_bind (fn_X0_errorPosition d l1 l3) fun r326 =>
        mx_bind (mx_is 1 l2 (fn_X4_errorPosition d l2)) fun r327 =>
        mx_bind (mx_is 1 l2 (fn_X4_thrown d l2)) fun r328 =>
        mx_if (r328 = r326) (
          mx_if (r326 = (0 : Int32)) (
            mx_bind (mx_aldL 102 l3 (0 : Int32)) fun v329 =>
            mx_if ((lg_cmp v329 (r327.toInt64)) = (0 : Int32)) (
              fn_L_law_J2297 d b28 l0 l1 l2 l3 l4 l5) (
              mx_pure (0 : Int32))) (
            fn_L_law_J2297 d b28 l0 l1 l2 l3 l4 l5)) (
          mx_pure (0 : Int32))),
      ((48 : Int32),
        mx_bind (fn_X0_failedCommand d l1 l3) fun r330 =>
        mx_bind (mx_is 1 l2 (fn_X4_failedCommand d l2)) fun r331 =>
        mx_bind (mx_is 1 l2 (fn_X4_thrown d l2)) fun r332 =>
        mx_if (r332 = r330) (
          mx_if (r330 = (0 : Int32)) (
            mx_bind (mx_aldL 102 l3 (0 : Int32)) fun v333 =>
            mx_if ((lg_cmp v333 (r331.toInt64)) = (0 : Int32)) (
              fn_L_law_J2341 d b28 l0 l1 l2 l3 l4 l5) (
              mx_pure (0 : Int32))) (
            fn_L_law_J2341 d b28 l0 l1 l2 l3 l4 l5)) (
          mx_pure (0 : Int32))),
      ((49 : Int32),
        mx_bind (fn_X0_failureKind d l1 l3) fun r334 =>
        mx_bind (mx_is 1 l2 (fn_X4_failureKind d l2)) fun r335 =>
        mx_bind (mx_is 1 l2 (fn_X4_thrown d l2)) fun r336 =>
        mx_if (r336 = r334) (
          mx_if (r334 = (0 : Int32)) (
            mx_bind (mx_aldL 102 l3 (0 : Int32)) fun v337 =>
            mx_if ((lg_cmp v337 (r335.toInt64)) = (0 : Int32)) (
              fn_L_law_J2385 d b28 l0 l1 l2 l3 l4 l5) (
              mx_pure (0 : Int32))) (
            fn_L_law_J2385 d b28 l0 l1 l2 l3 l4 l5)) (
          mx_pure (0 : Int32))),
      ((50 : Int32),
        mx_bind (fn_X0_undo d l1 l3) fun r338 =>
        mx_bind (mx_is 1 l2 (fn_X4_undo d l2)) fun r339 =>
        mx_bind (mx_is 1 l2 (fn_X4_thrown d l2)) fun r340 =>
        mx_if (r340 = r338) (
          mx_if (r338 = (0 : Int32)) (
            mx_bind (mx_aldL 102 l3 (0 : Int32)) fun v341 =>
            mx_if ((lg_cmp v341 (r339.toInt64)) = (0 : Int32)) (
              fn_L_law_J2429 d b28 l0 l1 l2 l3 l4 l5) (
              mx_pure (0 : Int32))) (
            fn_L_law_J2429 d b28 l0 l1 l2 l3 l4 l5)) (
          mx_pure (0 : Int32))),
      ((51 : Int32),
        mx_bind (mx_is 0 l1 (fn_X1_save d l1)) fun r342 =>
        mx_bind (mx_is 1 l2 (fn_X4_save d l2)) fun r343 =>
        mx_if (r342 = r343) (
          fn_L_law_J2489 d b28 l0 l1 l2 l3 l4 l5) (
          mx_pure (0 : Int32))),
      ((52 : Int32),
        mx_bind (fn_X0_restore d l1 l3) fun r344 =>
        mx_bind (mx_is 1 l2 (fn_X4_restore d l2)) fun r345 =>
        mx_bind (mx_is 1 l2 (fn_X4_thrown d l2)) fun r346 =>
        mx_if (r346 = r344) (
          mx_if (r344 = (0 : Int32)) (
            mx_bind (mx_aldL 102 l3 (0 : Int32)) fun v347 =>
            mx_if ((lg_cmp v347 (r345.toInt64)) = (0 : Int32)) (
              fn_L_law_J2486 d b28 l0 l1 l2 l3 l4 l5) (
              mx_pure (0 : Int32))) (
            fn_L_law_J2486 d b28 l0 l1 l2 l3 l4 l5)) (
          mx_pure (0 : Int32)))] (
      fn_L_law_J2489 d b28 l0 l1 l2 l3 l4 l5))
def fn_L_law_L28 (d : Nat) : Nat → Option Nat → Option Nat → Option Nat → Option Nat → Option Nat → Int32 → mx_M Int32
  | 0, _, _, _, _, _, _ => mx_fail
  | k + 1, l0, l1, l2, l3, l4, l5 => fn_L_law_L28_b d (fn_L_law_L28 d k) l0 l1 l2 l3 l4 l5
def fn_L_law_B0 (d : Nat) (v0 : Option Nat) : mx_M Int32 :=
  mx_bind (mx_new (0, [.null, .null, .null, .null, .int 0, .int 0, .int 0, .null]) 8) fun a101 =>
  mx_bind (mx_deref (some a101) fun _ => fn_X1_init d (some a101)) fun _ =>
  mx_bind (mx_new (1, [.int 0, .int 0, .int 0, .int 0, .int 0, .int 0, .null, .null, .null, .null, .null, .null, .null, .null, .null, .null, .null, .int 0, .int 0, .int 0, .int 0, .int 0, .int 0, .int 0]) 24) fun a102 =>
  mx_bind (mx_deref (some a102) fun _ => fn_X4_init d (some a102)) fun _ =>
  mx_bind (mx_newa 102 (.long 0) (1 : Int32)) fun a103 =>
  mx_bind (mx_newa 103 (.double 0) (1 : Int32)) fun a104 =>
  fn_L_law_L28 d mx_K v0 (some a101) (some a102) (some a103) (some a104) (0 : Int32)
def fn_L_law : Nat → Option Nat → mx_M Int32
  | 0, _ => mx_fail
  | d + 1, v0 => fn_L_law_B0 d v0
