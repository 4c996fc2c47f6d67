/-! ROWS: stack, locals, branches -/
section TJ2
variable {α β : Type} {E : tj_E} {X : tj_X} {own ini : String} {cc : ByteArray} {nL : Nat} {ret : Option FieldType} {d : Nat} {hh : List (Nat × Nat × Nat × Nat)} {n0 s0 : Nat} {emb : α → Option Value} {σ : hp_S} {pc : Nat} {L : List (Option Value)} {st : List Value} {pr prA prB : mx_M α}
theorem rf_cat (v : Option Nat) : (va_rf v).category = 1 := by cases v <;> rfl
theorem tj_iadd {x y : Int32} (hd : decode cc pc = .ok (.iadd, 1)) (k : tj_T E X own ini cc nL ret d hh n0 s0 emb σ (pc + 1) L (.int (x + y) :: st) pr) : tj_T E X own ini cc nL ret d hh n0 s0 emb σ (pc) L (.int y :: .int x :: st) pr := tj_st (fun B H locs c s Q ls hl w => lv_iadd B.ex B.co hd w) k
theorem tj_isub {x y : Int32} (hd : decode cc pc = .ok (.isub, 1)) (k : tj_T E X own ini cc nL ret d hh n0 s0 emb σ (pc + 1) L (.int (x - y) :: st) pr) : tj_T E X own ini cc nL ret d hh n0 s0 emb σ (pc) L (.int y :: .int x :: st) pr := tj_st (fun B H locs c s Q ls hl w => lv_isub B.ex B.co hd w) k
theorem tj_imul {x y : Int32} (hd : decode cc pc = .ok (.imul, 1)) (k : tj_T E X own ini cc nL ret d hh n0 s0 emb σ (pc + 1) L (.int (x * y) :: st) pr) : tj_T E X own ini cc nL ret d hh n0 s0 emb σ (pc) L (.int y :: .int x :: st) pr := tj_st (fun B H locs c s Q ls hl w => lv_imul B.ex B.co hd w) k
theorem tj_iand {x y : Int32} (hd : decode cc pc = .ok (.iand, 1)) (k : tj_T E X own ini cc nL ret d hh n0 s0 emb σ (pc + 1) L (.int (x &&& y) :: st) pr) : tj_T E X own ini cc nL ret d hh n0 s0 emb σ (pc) L (.int y :: .int x :: st) pr := tj_st (fun B H locs c s Q ls hl w => lv_iand B.ex B.co hd w) k
theorem tj_ior {x y : Int32} (hd : decode cc pc = .ok (.ior, 1)) (k : tj_T E X own ini cc nL ret d hh n0 s0 emb σ (pc + 1) L (.int (x ||| y) :: st) pr) : tj_T E X own ini cc nL ret d hh n0 s0 emb σ (pc) L (.int y :: .int x :: st) pr := tj_st (fun B H locs c s Q ls hl w => lv_ior B.ex B.co hd w) k
theorem tj_ixor {x y : Int32} (hd : decode cc pc = .ok (.ixor, 1)) (k : tj_T E X own ini cc nL ret d hh n0 s0 emb σ (pc + 1) L (.int (x ^^^ y) :: st) pr) : tj_T E X own ini cc nL ret d hh n0 s0 emb σ (pc) L (.int y :: .int x :: st) pr := tj_st (fun B H locs c s Q ls hl w => lv_ixor B.ex B.co hd w) k
theorem tj_ishl {x y : Int32} (hd : decode cc pc = .ok (.ishl, 1)) (k : tj_T E X own ini cc nL ret d hh n0 s0 emb σ (pc + 1) L (.int (x <<< (y &&& 31)) :: st) pr) : tj_T E X own ini cc nL ret d hh n0 s0 emb σ (pc) L (.int y :: .int x :: st) pr := tj_st (fun B H locs c s Q ls hl w => lv_ishl B.ex B.co hd w) k
theorem tj_ishr {x y : Int32} (hd : decode cc pc = .ok (.ishr, 1)) (k : tj_T E X own ini cc nL ret d hh n0 s0 emb σ (pc + 1) L (.int (x >>> (y &&& 31)) :: st) pr) : tj_T E X own ini cc nL ret d hh n0 s0 emb σ (pc) L (.int y :: .int x :: st) pr := tj_st (fun B H locs c s Q ls hl w => lv_ishr B.ex B.co hd w) k
theorem tj_iushr {x y : Int32} (hd : decode cc pc = .ok (.iushr, 1)) (k : tj_T E X own ini cc nL ret d hh n0 s0 emb σ (pc + 1) L (.int ((x.toUInt32 >>> (y.toUInt32 &&& Int32.toUInt32 31)).toInt32) :: st) pr) : tj_T E X own ini cc nL ret d hh n0 s0 emb σ (pc) L (.int y :: .int x :: st) pr := tj_st (fun B H locs c s Q ls hl w => lv_iushr B.ex B.co hd rfl w) k
theorem tj_lshl {x : Int64} {y : Int32} (hd : decode cc pc = .ok (.lshl, 1)) (k : tj_T E X own ini cc nL ret d hh n0 s0 emb σ (pc + 1) L (.long (x <<< (y.toInt64 &&& 63)) :: st) pr) : tj_T E X own ini cc nL ret d hh n0 s0 emb σ (pc) L (.int y :: .long x :: st) pr := tj_st (fun B H locs c s Q ls hl w => lv_lshl B.ex B.co hd rfl w) k
theorem tj_lushr {x : Int64} {y : Int32} (hd : decode cc pc = .ok (.lushr, 1)) (k : tj_T E X own ini cc nL ret d hh n0 s0 emb σ (pc + 1) L (.long ((x.toUInt64 >>> (y.toInt64.toUInt64 &&& Int64.toUInt64 63)).toInt64) :: st) pr) : tj_T E X own ini cc nL ret d hh n0 s0 emb σ (pc) L (.int y :: .long x :: st) pr := tj_st (fun B H locs c s Q ls hl w => lv_lushr B.ex B.co hd rfl w) k
theorem tj_ladd {x y : Int64} (hd : decode cc pc = .ok (.ladd, 1)) (k : tj_T E X own ini cc nL ret d hh n0 s0 emb σ (pc + 1) L (.long (x + y) :: st) pr) : tj_T E X own ini cc nL ret d hh n0 s0 emb σ (pc) L (.long y :: .long x :: st) pr := tj_st (fun B H locs c s Q ls hl w => lv_ladd B.ex B.co hd w) k
theorem tj_land {x y : Int64} (hd : decode cc pc = .ok (.land, 1)) (k : tj_T E X own ini cc nL ret d hh n0 s0 emb σ (pc + 1) L (.long (x &&& y) :: st) pr) : tj_T E X own ini cc nL ret d hh n0 s0 emb σ (pc) L (.long y :: .long x :: st) pr := tj_st (fun B H locs c s Q ls hl w => lv_land B.ex B.co hd w) k
theorem tj_lor {x y : Int64} (hd : decode cc pc = .ok (.lor, 1)) (k : tj_T E X own ini cc nL ret d hh n0 s0 emb σ (pc + 1) L (.long (x ||| y) :: st) pr) : tj_T E X own ini cc nL ret d hh n0 s0 emb σ (pc) L (.long y :: .long x :: st) pr := tj_st (fun B H locs c s Q ls hl w => lv_lor B.ex B.co hd w) k
theorem tj_lxor {x y : Int64} (hd : decode cc pc = .ok (.lxor, 1)) (k : tj_T E X own ini cc nL ret d hh n0 s0 emb σ (pc + 1) L (.long (x ^^^ y) :: st) pr) : tj_T E X own ini cc nL ret d hh n0 s0 emb σ (pc) L (.long y :: .long x :: st) pr := tj_st (fun B H locs c s Q ls hl w => lv_lxor B.ex B.co hd w) k
theorem tj_lcmp {x y : Int64} (hd : decode cc pc = .ok (.lcmp, 1)) (k : tj_T E X own ini cc nL ret d hh n0 s0 emb σ (pc + 1) L (.int (lg_cmp x y) :: st) pr) : tj_T E X own ini cc nL ret d hh n0 s0 emb σ (pc) L (.long y :: .long x :: st) pr := tj_st (fun B H locs c s Q ls hl w => W.lcmp B.ex B.co hd w) k
theorem tj_dcmp {x y : UInt64} {op : CmpOp} (hd : decode cc pc = .ok (.dcmp op, 1)) (k : tj_T E X own ini cc nL ret d hh n0 s0 emb σ (pc + 1) L (.int (Op.cmpValue (FP.dcmp x y) op) :: st) pr) : tj_T E X own ini cc nL ret d hh n0 s0 emb σ (pc) L (.double y :: .double x :: st) pr := tj_st (fun B H locs c s Q ls hl w => lv_dcmp B.ex B.co hd w) k
theorem tj_fcmp {x y : UInt32} {op : CmpOp} (hd : decode cc pc = .ok (.fcmp op, 1)) (k : tj_T E X own ini cc nL ret d hh n0 s0 emb σ (pc + 1) L (.int (Op.cmpValue (FP.fcmp x y) op) :: st) pr) : tj_T E X own ini cc nL ret d hh n0 s0 emb σ (pc) L (.float y :: .float x :: st) pr := tj_st (fun B H locs c s Q ls hl w => lv_fcmp B.ex B.co hd w) k
theorem tj_ineg {x : Int32} (hd : decode cc pc = .ok (.ineg, 1)) (k : tj_T E X own ini cc nL ret d hh n0 s0 emb σ (pc + 1) L (.int (-x) :: st) pr) : tj_T E X own ini cc nL ret d hh n0 s0 emb σ (pc) L (.int x :: st) pr := tj_st (fun B H locs c s Q ls hl w => lv_ineg B.ex B.co hd w) k
theorem tj_i2l {x : Int32} (hd : decode cc pc = .ok (.i2l, 1)) (k : tj_T E X own ini cc nL ret d hh n0 s0 emb σ (pc + 1) L (.long (x.toInt64) :: st) pr) : tj_T E X own ini cc nL ret d hh n0 s0 emb σ (pc) L (.int x :: st) pr := tj_st (fun B H locs c s Q ls hl w => lv_i2l B.ex B.co hd rfl w) k
theorem tj_l2i {x : Int64} (hd : decode cc pc = .ok (.l2i, 1)) (k : tj_T E X own ini cc nL ret d hh n0 s0 emb σ (pc + 1) L (.int (x.toInt32) :: st) pr) : tj_T E X own ini cc nL ret d hh n0 s0 emb σ (pc) L (.long x :: st) pr := tj_st (fun B H locs c s Q ls hl w => lv_l2i B.ex B.co hd rfl w) k
theorem tj_i2b {x : Int32} (hd : decode cc pc = .ok (.i2b, 1)) (k : tj_T E X own ini cc nL ret d hh n0 s0 emb σ (pc + 1) L (.int (x.toInt8.toInt32) :: st) pr) : tj_T E X own ini cc nL ret d hh n0 s0 emb σ (pc) L (.int x :: st) pr := tj_st (fun B H locs c s Q ls hl w => lv_i2b B.ex B.co hd rfl w) k
theorem tj_i2c {x : Int32} (hd : decode cc pc = .ok (.i2c, 1)) (k : tj_T E X own ini cc nL ret d hh n0 s0 emb σ (pc + 1) L (.int ((x.toUInt32 % 65536).toInt32) :: st) pr) : tj_T E X own ini cc nL ret d hh n0 s0 emb σ (pc) L (.int x :: st) pr := tj_st (fun B H locs c s Q ls hl w => lv_i2c B.ex B.co hd rfl w) k
theorem tj_i2d {x : Int32} (hd : decode cc pc = .ok (.i2d, 1)) (k : tj_T E X own ini cc nL ret d hh n0 s0 emb σ (pc + 1) L (.double (FP.i2d x) :: st) pr) : tj_T E X own ini cc nL ret d hh n0 s0 emb σ (pc) L (.int x :: st) pr := tj_st (fun B H locs c s Q ls hl w => lv_i2d B.ex B.co hd w) k
theorem tj_i2f {x : Int32} (hd : decode cc pc = .ok (.i2f, 1)) (k : tj_T E X own ini cc nL ret d hh n0 s0 emb σ (pc + 1) L (.float (FP.i2f x) :: st) pr) : tj_T E X own ini cc nL ret d hh n0 s0 emb σ (pc) L (.int x :: st) pr := tj_st (fun B H locs c s Q ls hl w => lv_i2f B.ex B.co hd w) k
theorem tj_iconst {n : Int} (v : Int32) (hd : decode cc pc = .ok (.iconst n, 1)) (hv : Int32.ofInt n = v) (k : tj_T E X own ini cc nL ret d hh n0 s0 emb σ (pc + 1) L (.int v :: st) pr) : tj_T E X own ini cc nL ret d hh n0 s0 emb σ (pc) L (st) pr := tj_st (fun B H locs c s Q ls hl w => lv_iconst B.ex B.co hd hv w) k
theorem tj_bipush {n : Int} (v : Int32) (hd : decode cc pc = .ok (.bipush n, 2)) (hv : (Int8.ofInt n).toInt32 = v) (k : tj_T E X own ini cc nL ret d hh n0 s0 emb σ (pc + 2) L (.int v :: st) pr) : tj_T E X own ini cc nL ret d hh n0 s0 emb σ (pc) L (st) pr := tj_st (fun B H locs c s Q ls hl w => lv_bipush B.ex B.co hd hv w) k
theorem tj_sipush {n : Int} (v : Int32) (hd : decode cc pc = .ok (.sipush n, 3)) (hv : (Int16.ofInt n).toInt32 = v) (k : tj_T E X own ini cc nL ret d hh n0 s0 emb σ (pc + 3) L (.int v :: st) pr) : tj_T E X own ini cc nL ret d hh n0 s0 emb σ (pc) L (st) pr := tj_st (fun B H locs c s Q ls hl w => lv_sipush B.ex B.co hd hv w) k
theorem tj_lconst {n : Fin 2} (v : Int64) (hd : decode cc pc = .ok (.lconst n, 1)) (hv : Int64.ofNat (n : Nat) = v) (k : tj_T E X own ini cc nL ret d hh n0 s0 emb σ (pc + 1) L (.long v :: st) pr) : tj_T E X own ini cc nL ret d hh n0 s0 emb σ (pc) L (st) pr := tj_st (fun B H locs c s Q ls hl w => lv_lconst B.ex B.co hd hv w) k
theorem tj_null (hd : decode cc pc = .ok (.aconst_null, 1)) (k : tj_T E X own ini cc nL ret d hh n0 s0 emb σ (pc + 1) L (va_rf none :: st) pr) : tj_T E X own ini cc nL ret d hh n0 s0 emb σ (pc) L (st) pr := tj_st (fun B H locs c s Q ls hl w => lv_null B.ex B.co hd w) k
theorem tj_dconst0 (hd : decode cc pc = .ok (.dconst 0, 1)) (k : tj_T E X own ini cc nL ret d hh n0 s0 emb σ (pc + 1) L (.double FP.dconst0 :: st) pr) : tj_T E X own ini cc nL ret d hh n0 s0 emb σ (pc) L (st) pr := tj_st (fun B H locs c s Q ls hl w => lv_dconst0 B.ex B.co hd w) k
theorem tj_fconst0 (hd : decode cc pc = .ok (.fconst 0, 1)) (k : tj_T E X own ini cc nL ret d hh n0 s0 emb σ (pc + 1) L (.float FP.fconst0 :: st) pr) : tj_T E X own ini cc nL ret d hh n0 s0 emb σ (pc) L (st) pr := tj_st (fun B H locs c s Q ls hl w => lv_fconst0 B.ex B.co hd w) k
theorem tj_ldc {idx : Nat} {v : Int32} (hd : decode cc pc = .ok (.ldc idx, 2)) (hq : Cond.constant own idx v ∈ lw_all) (k : tj_T E X own ini cc nL ret d hh n0 s0 emb σ (pc + 2) L (.int v :: st) pr) : tj_T E X own ini cc nL ret d hh n0 s0 emb σ (pc) L (st) pr := tj_st (fun B H locs c s Q ls hl w => lv_ldc B.ex B.co B.ow (B.ts _ hq) hd w) k
theorem tj_ldcw {idx : Nat} {v : Int32} (hd : decode cc pc = .ok (.ldc_w idx, 3)) (hq : Cond.constant own idx v ∈ lw_all) (k : tj_T E X own ini cc nL ret d hh n0 s0 emb σ (pc + 3) L (.int v :: st) pr) : tj_T E X own ini cc nL ret d hh n0 s0 emb σ (pc) L (st) pr := tj_st (fun B H locs c s Q ls hl w => lv_ldcw B.ex B.co B.ow (B.ts _ hq) hd w) k
theorem tj_ldc2 {idx : Nat} {v : Int64} (hd : decode cc pc = .ok (.ldc2_w idx, 3)) (hq : Cond.constantLong own idx v ∈ lw_all) (k : tj_T E X own ini cc nL ret d hh n0 s0 emb σ (pc + 3) L (.long v :: st) pr) : tj_T E X own ini cc nL ret d hh n0 s0 emb σ (pc) L (st) pr := tj_st (fun B H locs c s Q ls hl w => lv_ldc2 B.ex B.co B.ow (B.ts _ hq) hd w) k
theorem tj_dup {v : Value} (hd : decode cc pc = .ok (.dup, 1)) (hv : v.category = 1) (k : tj_T E X own ini cc nL ret d hh n0 s0 emb σ (pc + 1) L (v :: v :: st) pr) : tj_T E X own ini cc nL ret d hh n0 s0 emb σ (pc) L (v :: st) pr := tj_st (fun B H locs c s Q ls hl w => lv_dup B.ex B.co hd hv w) k
theorem tj_pop {v : Value} (hd : decode cc pc = .ok (.pop, 1)) (hv : v.category = 1) (k : tj_T E X own ini cc nL ret d hh n0 s0 emb σ (pc + 1) L (st) pr) : tj_T E X own ini cc nL ret d hh n0 s0 emb σ (pc) L (v :: st) pr := tj_st (fun B H locs c s Q ls hl w => lv_pop B.ex B.co hd hv w) k
theorem tj_dup_x1 {u v : Value} (hd : decode cc pc = .ok (.dup_x1, 1)) (hu : u.category = 1) (hv : v.category = 1) (k : tj_T E X own ini cc nL ret d hh n0 s0 emb σ (pc + 1) L (u :: v :: u :: st) pr) : tj_T E X own ini cc nL ret d hh n0 s0 emb σ (pc) L (u :: v :: st) pr := tj_st (fun B H locs c s Q ls hl w => lv_dup_x1 B.ex B.co hd hu hv w) k
theorem tj_dup2_11 {u v : Value} (hd : decode cc pc = .ok (.dup2, 1)) (hu : u.category = 1) (hv : v.category = 1) (k : tj_T E X own ini cc nL ret d hh n0 s0 emb σ (pc + 1) L (u :: v :: u :: v :: st) pr) : tj_T E X own ini cc nL ret d hh n0 s0 emb σ (pc) L (u :: v :: st) pr := tj_st (fun B H locs c s Q ls hl w => lv_dup2_11 B.ex B.co hd hu hv w) k
theorem tj_dup2_2 {u : Value} (hd : decode cc pc = .ok (.dup2, 1)) (hu : u.category = 2) (k : tj_T E X own ini cc nL ret d hh n0 s0 emb σ (pc + 1) L (u :: u :: st) pr) : tj_T E X own ini cc nL ret d hh n0 s0 emb σ (pc) L (u :: st) pr := tj_st (fun B H locs c s Q ls hl w => lv_dup2_2 B.ex B.co hd hu w) k
theorem tj_iload_n {k0 : Fin 4} {x : Int32} (hd : decode cc pc = .ok (.iload_n k0, 1)) (hi : L[(k0 : Nat)]? = some (some (.int x))) (k : tj_T E X own ini cc nL ret d hh n0 s0 emb σ (pc + 1) L (.int x :: st) pr) : tj_T E X own ini cc nL ret d hh n0 s0 emb σ (pc) L (st) pr := tj_st (fun B H locs c s Q ls hl w => lv_iload_n B.ex B.co hd rfl (hl.at hi) w) k
theorem tj_iload {i : Nat} {x : Int32} (hd : decode cc pc = .ok (.iload i, 2)) (hi : L[i]? = some (some (.int x))) (k : tj_T E X own ini cc nL ret d hh n0 s0 emb σ (pc + 2) L (.int x :: st) pr) : tj_T E X own ini cc nL ret d hh n0 s0 emb σ (pc) L (st) pr := tj_st (fun B H locs c s Q ls hl w => lv_iload B.ex B.co hd (hl.at hi) w) k
theorem tj_lload_n {k0 : Fin 4} {x : Int64} (hd : decode cc pc = .ok (.lload_n k0, 1)) (hi : L[(k0 : Nat)]? = some (some (.long x))) (k : tj_T E X own ini cc nL ret d hh n0 s0 emb σ (pc + 1) L (.long x :: st) pr) : tj_T E X own ini cc nL ret d hh n0 s0 emb σ (pc) L (st) pr := tj_st (fun B H locs c s Q ls hl w => lv_lload_n B.ex B.co hd rfl (hl.at hi) w) k
theorem tj_lload {i : Nat} {x : Int64} (hd : decode cc pc = .ok (.lload i, 2)) (hi : L[i]? = some (some (.long x))) (k : tj_T E X own ini cc nL ret d hh n0 s0 emb σ (pc + 2) L (.long x :: st) pr) : tj_T E X own ini cc nL ret d hh n0 s0 emb σ (pc) L (st) pr := tj_st (fun B H locs c s Q ls hl w => lv_lload B.ex B.co hd (hl.at hi) w) k
theorem tj_fload_n {k0 : Fin 4} {x : UInt32} (hd : decode cc pc = .ok (.fload_n k0, 1)) (hi : L[(k0 : Nat)]? = some (some (.float x))) (k : tj_T E X own ini cc nL ret d hh n0 s0 emb σ (pc + 1) L (.float x :: st) pr) : tj_T E X own ini cc nL ret d hh n0 s0 emb σ (pc) L (st) pr := tj_st (fun B H locs c s Q ls hl w => lv_fload_n B.ex B.co hd rfl (hl.at hi) w) k
theorem tj_fload {i : Nat} {x : UInt32} (hd : decode cc pc = .ok (.fload i, 2)) (hi : L[i]? = some (some (.float x))) (k : tj_T E X own ini cc nL ret d hh n0 s0 emb σ (pc + 2) L (.float x :: st) pr) : tj_T E X own ini cc nL ret d hh n0 s0 emb σ (pc) L (st) pr := tj_st (fun B H locs c s Q ls hl w => lv_fload B.ex B.co hd (hl.at hi) w) k
theorem tj_dload_n {k0 : Fin 4} {x : UInt64} (hd : decode cc pc = .ok (.dload_n k0, 1)) (hi : L[(k0 : Nat)]? = some (some (.double x))) (k : tj_T E X own ini cc nL ret d hh n0 s0 emb σ (pc + 1) L (.double x :: st) pr) : tj_T E X own ini cc nL ret d hh n0 s0 emb σ (pc) L (st) pr := tj_st (fun B H locs c s Q ls hl w => lv_dload_n B.ex B.co hd rfl (hl.at hi) w) k
theorem tj_dload {i : Nat} {x : UInt64} (hd : decode cc pc = .ok (.dload i, 2)) (hi : L[i]? = some (some (.double x))) (k : tj_T E X own ini cc nL ret d hh n0 s0 emb σ (pc + 2) L (.double x :: st) pr) : tj_T E X own ini cc nL ret d hh n0 s0 emb σ (pc) L (st) pr := tj_st (fun B H locs c s Q ls hl w => lv_dload B.ex B.co hd (hl.at hi) w) k
theorem tj_aload_n {k0 : Fin 4} {v : Option Nat} (hd : decode cc pc = .ok (.aload_n k0, 1)) (hi : L[(k0 : Nat)]? = some (some (va_rf v))) (k : tj_T E X own ini cc nL ret d hh n0 s0 emb σ (pc + 1) L (va_rf v :: st) pr) : tj_T E X own ini cc nL ret d hh n0 s0 emb σ (pc) L (st) pr := tj_st (fun B H locs c s Q ls hl w => by cases v with
  | none => exact lv_aload_nN B.ex B.co hd rfl (hl.at hi) w
  | some a => exact lv_aload_n B.ex B.co hd rfl (hl.at hi) w) k
theorem tj_aload {i : Nat} {v : Option Nat} (hd : decode cc pc = .ok (.aload i, 2)) (hi : L[i]? = some (some (va_rf v))) (k : tj_T E X own ini cc nL ret d hh n0 s0 emb σ (pc + 2) L (va_rf v :: st) pr) : tj_T E X own ini cc nL ret d hh n0 s0 emb σ (pc) L (st) pr := tj_st (fun B H locs c s Q ls hl w => by cases v with
  | none => exact lv_aloadN B.ex B.co hd (hl.at hi) w
  | some a => exact lv_aload B.ex B.co hd (hl.at hi) w) k
/-- no value of two slots just below the place i -/
def tj_pr (L : List (Option Value)) : Nat → Prop
  | 0 => True
  | i + 1 => match L[i]? with
    | some (some w) => w.category = 1
    | _ => True
theorem tj_pr_of {i : Nat} (h : tj_pr L i) : ∀ (j : Nat) (w : Value), L[j]? = some (some w) → w.category = 2 → j + 1 = i → False := by
  intro j w hj hc e
  subst e
  simp only [tj_pr, hj] at h
  rw [h] at hc
  cases hc
theorem tj_istore_n {k0 : Fin 4} {x : Int32} (hd : decode cc pc = .ok (.istore_n k0, 1)) (hn : (k0 : Nat) < nL) (hp : tj_pr L k0) (L2 : List (Option Value)) (hL : L.set k0 (some (.int x)) = L2) (k : tj_T E X own ini cc nL ret d hh n0 s0 emb σ (pc + 1) L2 (st) pr) : tj_T E X own ini cc nL ret d hh n0 s0 emb σ (pc) L (.int x :: st) pr := tj_lt (fun B H locs c s Q ls hl w => lv_istore_n B.ex B.co hd rfl hl.has hn rfl (fun ls1 h1 => w ls1 (hL ▸ tj_ls.set1 hl.2.2.1 rfl (tj_pr_of hp) h1))) k
theorem tj_istore {i : Nat} {x : Int32} (hd : decode cc pc = .ok (.istore i, 2)) (hn : i < nL) (hp : tj_pr L i) (L2 : List (Option Value)) (hL : L.set i (some (.int x)) = L2) (k : tj_T E X own ini cc nL ret d hh n0 s0 emb σ (pc + 2) L2 (st) pr) : tj_T E X own ini cc nL ret d hh n0 s0 emb σ (pc) L (.int x :: st) pr := tj_lt (fun B H locs c s Q ls hl w => lv_istore B.ex B.co hd hl.has hn rfl (fun ls1 h1 => w ls1 (hL ▸ tj_ls.set1 hl.2.2.1 rfl (tj_pr_of hp) h1))) k
theorem tj_fstore_n {k0 : Fin 4} {x : UInt32} (hd : decode cc pc = .ok (.fstore_n k0, 1)) (hn : (k0 : Nat) < nL) (hp : tj_pr L k0) (L2 : List (Option Value)) (hL : L.set k0 (some (.float x)) = L2) (k : tj_T E X own ini cc nL ret d hh n0 s0 emb σ (pc + 1) L2 (st) pr) : tj_T E X own ini cc nL ret d hh n0 s0 emb σ (pc) L (.float x :: st) pr := tj_lt (fun B H locs c s Q ls hl w => lv_fstore_n B.ex B.co hd rfl hl.has hn rfl (fun ls1 h1 => w ls1 (hL ▸ tj_ls.set1 hl.2.2.1 rfl (tj_pr_of hp) h1))) k
theorem tj_fstore {i : Nat} {x : UInt32} (hd : decode cc pc = .ok (.fstore i, 2)) (hn : i < nL) (hp : tj_pr L i) (L2 : List (Option Value)) (hL : L.set i (some (.float x)) = L2) (k : tj_T E X own ini cc nL ret d hh n0 s0 emb σ (pc + 2) L2 (st) pr) : tj_T E X own ini cc nL ret d hh n0 s0 emb σ (pc) L (.float x :: st) pr := tj_lt (fun B H locs c s Q ls hl w => lv_fstore B.ex B.co hd hl.has hn rfl (fun ls1 h1 => w ls1 (hL ▸ tj_ls.set1 hl.2.2.1 rfl (tj_pr_of hp) h1))) k
theorem tj_lstore_n {k0 : Fin 4} {x : Int64} (hd : decode cc pc = .ok (.lstore_n k0, 1)) (hn : (k0 : Nat) + 1 < nL) (hp : tj_pr L k0) (h2 : L[(k0 : Nat) + 1]? = some none) (L2 : List (Option Value)) (hL : L.set k0 (some (.long x)) = L2) (k : tj_T E X own ini cc nL ret d hh n0 s0 emb σ (pc + 1) L2 (st) pr) : tj_T E X own ini cc nL ret d hh n0 s0 emb σ (pc) L (.long x :: st) pr := tj_lt (fun B H locs c s Q ls hl w => lv_lstore_n B.ex B.co hd rfl hl.has hn rfl (fun ls1 h1 => w ls1 (hL ▸ tj_ls.set2 hl.2.2.1 rfl (fun w h => by rw [h2] at h; cases h) (tj_pr_of hp) h1))) k
theorem tj_lstore {i : Nat} {x : Int64} (hd : decode cc pc = .ok (.lstore i, 2)) (hn : i + 1 < nL) (hp : tj_pr L i) (h2 : L[i + 1]? = some none) (L2 : List (Option Value)) (hL : L.set i (some (.long x)) = L2) (k : tj_T E X own ini cc nL ret d hh n0 s0 emb σ (pc + 2) L2 (st) pr) : tj_T E X own ini cc nL ret d hh n0 s0 emb σ (pc) L (.long x :: st) pr := tj_lt (fun B H locs c s Q ls hl w => lv_lstore B.ex B.co hd hl.has hn rfl (fun ls1 h1 => w ls1 (hL ▸ tj_ls.set2 hl.2.2.1 rfl (fun w h => by rw [h2] at h; cases h) (tj_pr_of hp) h1))) k
theorem tj_dstore_n {k0 : Fin 4} {x : UInt64} (hd : decode cc pc = .ok (.dstore_n k0, 1)) (hn : (k0 : Nat) + 1 < nL) (hp : tj_pr L k0) (h2 : L[(k0 : Nat) + 1]? = some none) (L2 : List (Option Value)) (hL : L.set k0 (some (.double x)) = L2) (k : tj_T E X own ini cc nL ret d hh n0 s0 emb σ (pc + 1) L2 (st) pr) : tj_T E X own ini cc nL ret d hh n0 s0 emb σ (pc) L (.double x :: st) pr := tj_lt (fun B H locs c s Q ls hl w => lv_dstore_n B.ex B.co hd rfl hl.has hn rfl (fun ls1 h1 => w ls1 (hL ▸ tj_ls.set2 hl.2.2.1 rfl (fun w h => by rw [h2] at h; cases h) (tj_pr_of hp) h1))) k
theorem tj_dstore {i : Nat} {x : UInt64} (hd : decode cc pc = .ok (.dstore i, 2)) (hn : i + 1 < nL) (hp : tj_pr L i) (h2 : L[i + 1]? = some none) (L2 : List (Option Value)) (hL : L.set i (some (.double x)) = L2) (k : tj_T E X own ini cc nL ret d hh n0 s0 emb σ (pc + 2) L2 (st) pr) : tj_T E X own ini cc nL ret d hh n0 s0 emb σ (pc) L (.double x :: st) pr := tj_lt (fun B H locs c s Q ls hl w => lv_dstore B.ex B.co hd hl.has hn rfl (fun ls1 h1 => w ls1 (hL ▸ tj_ls.set2 hl.2.2.1 rfl (fun w h => by rw [h2] at h; cases h) (tj_pr_of hp) h1))) k
theorem tj_astore_n {k0 : Fin 4} {v : Option Nat} (hd : decode cc pc = .ok (.astore_n k0, 1)) (hn : (k0 : Nat) < nL) (hp : tj_pr L k0) (L2 : List (Option Value)) (hL : L.set k0 (some (va_rf v)) = L2) (k : tj_T E X own ini cc nL ret d hh n0 s0 emb σ (pc + 1) L2 (st) pr) : tj_T E X own ini cc nL ret d hh n0 s0 emb σ (pc) L (va_rf v :: st) pr := tj_lt (fun B H locs c s Q ls hl w => by cases v with
  | none => exact lv_astore_nN B.ex B.co hd rfl hl.has hn rfl (fun ls1 h1 => w ls1 (hL ▸ tj_ls.set1 hl.2.2.1 rfl (tj_pr_of hp) h1))
  | some a => exact lv_astore_n B.ex B.co hd rfl hl.has hn rfl (fun ls1 h1 => w ls1 (hL ▸ tj_ls.set1 hl.2.2.1 rfl (tj_pr_of hp) h1))) k
theorem tj_astore {i : Nat} {v : Option Nat} (hd : decode cc pc = .ok (.astore i, 2)) (hn : i < nL) (hp : tj_pr L i) (L2 : List (Option Value)) (hL : L.set i (some (va_rf v)) = L2) (k : tj_T E X own ini cc nL ret d hh n0 s0 emb σ (pc + 2) L2 (st) pr) : tj_T E X own ini cc nL ret d hh n0 s0 emb σ (pc) L (va_rf v :: st) pr := tj_lt (fun B H locs c s Q ls hl w => by cases v with
  | none => exact lv_astoreN B.ex B.co hd hl.has hn rfl (fun ls1 h1 => w ls1 (hL ▸ tj_ls.set1 hl.2.2.1 rfl (tj_pr_of hp) h1))
  | some a => exact lv_astore B.ex B.co hd hl.has hn rfl (fun ls1 h1 => w ls1 (hL ▸ tj_ls.set1 hl.2.2.1 rfl (tj_pr_of hp) h1))) k
theorem tj_mem {i : Nat} {x : Int32} (h : L[i]? = some (some (.int x))) : ∃ k : Nat, (tj_as 0 L)[k]? = some (i, .int x) := List.getElem?_of_mem ((tj_as_mem L 0 i _).mpr ⟨Nat.zero_le _, by simpa using h⟩)
theorem tj_iinc {i : Nat} {n : Int} {x : Int32} (v : Int32) (hd : decode cc pc = .ok (.iinc i n, 3)) (hi : L[i]? = some (some (.int x))) (hv : Int32.ofInt n = v) (hn : i < nL) (hp : tj_pr L i) (L2 : List (Option Value)) (hL : L.set i (some (.int (x + v))) = L2) (k : tj_T E X own ini cc nL ret d hh n0 s0 emb σ (pc + 3) L2 (st) pr) : tj_T E X own ini cc nL ret d hh n0 s0 emb σ (pc) L (st) pr := tj_lt (fun B H locs c s Q ls hl w => by
  obtain ⟨k9, h9⟩ := tj_mem hi
  exact lv_iinc B.ex B.co hd hl.has h9 (by rw [hv]) hn rfl (fun ls1 h1 => w ls1 (hL ▸ tj_ls.set1 hl.2.2.1 rfl (tj_pr_of hp) h1))) k
theorem tj_br {c : Prop} [Decidable c] {pA pB : Nat} {sA : List Value} (h : tj_C E X own ini cc nL ret d hh → ∀ (H : Heap) (locs : List Loc) (k s : Nat) (Q : State → Prop) (ls : Array Slot), tj_ls ls nL L → (c → tj_W X H locs k s Q (F0 (xm X) pA ls sA)) → (¬ c → tj_W X H locs k s Q (F0 (xm X) pB ls sA)) → tj_W X H locs k s Q (F0 (xm X) pc ls st))
    (kA : c → tj_T E X own ini cc nL ret d hh n0 s0 emb σ pA L sA prA) (kB : ¬ c → tj_T E X own ini cc nL ret d hh n0 s0 emb σ pB L sA prB) : tj_T E X own ini cc nL ret d hh n0 s0 emb σ pc L st (mx_if c prA prB) := by
  intro o σe hx
  unfold mx_if at hx
  by_cases hc : c
  · rw [if_pos hc] at hx
    obtain ⟨h1, h2⟩ := kA hc o σe hx
    exact ⟨h1, fun B H locs ls a b c2 d2 e f g => h B H locs _ _ _ ls c2 (fun _ => h2 B H locs ls a b c2 d2 e f g) (fun hn => absurd hc hn)⟩
  · rw [if_neg hc] at hx
    obtain ⟨h1, h2⟩ := kB hc o σe hx
    exact ⟨h1, fun B H locs ls a b c2 d2 e f g => h B H locs _ _ _ ls c2 (fun hn => absurd hn hc) (fun _ => h2 B H locs ls a b c2 d2 e f g)⟩
theorem tj_icmp_eq {x y : Int32} {off : Int} (tgt : Nat) (hd : decode cc pc = .ok (.if_icmp .eq off, 3)) (ht : (pc : Int) + off = (tgt : Int)) (kA : x = y → tj_T E X own ini cc nL ret d hh n0 s0 emb σ (tgt) L (st) prA) (kB : ¬ x = y → tj_T E X own ini cc nL ret d hh n0 s0 emb σ (pc + 3) L (st) prB) : tj_T E X own ini cc nL ret d hh n0 s0 emb σ (pc) L (.int y :: .int x :: st) (mx_if (x = y) prA prB) := tj_br (fun B H locs c s Q ls hl wA wB => lv_icmp_eq B.ex B.co hd ht wA wB) kA kB
theorem tj_if_eq {x : Int32} {off : Int} (tgt : Nat) (hd : decode cc pc = .ok (.ifCond .eq off, 3)) (ht : (pc : Int) + off = (tgt : Int)) (kA : x = 0 → tj_T E X own ini cc nL ret d hh n0 s0 emb σ (tgt) L (st) prA) (kB : ¬ x = 0 → tj_T E X own ini cc nL ret d hh n0 s0 emb σ (pc + 3) L (st) prB) : tj_T E X own ini cc nL ret d hh n0 s0 emb σ (pc) L (.int x :: st) (mx_if (x = 0) prA prB) := tj_br (fun B H locs c s Q ls hl wA wB => lv_if_eq B.ex B.co hd ht wA wB) kA kB
theorem tj_icmp_ne {x y : Int32} {off : Int} (tgt : Nat) (hd : decode cc pc = .ok (.if_icmp .ne off, 3)) (ht : (pc : Int) + off = (tgt : Int)) (kA : x = y → tj_T E X own ini cc nL ret d hh n0 s0 emb σ (pc + 3) L (st) prA) (kB : ¬ x = y → tj_T E X own ini cc nL ret d hh n0 s0 emb σ (tgt) L (st) prB) : tj_T E X own ini cc nL ret d hh n0 s0 emb σ (pc) L (.int y :: .int x :: st) (mx_if (x = y) prA prB) := tj_br (fun B H locs c s Q ls hl wA wB => lv_icmp_ne B.ex B.co hd ht wB wA) kA kB
theorem tj_if_ne {x : Int32} {off : Int} (tgt : Nat) (hd : decode cc pc = .ok (.ifCond .ne off, 3)) (ht : (pc : Int) + off = (tgt : Int)) (kA : x = 0 → tj_T E X own ini cc nL ret d hh n0 s0 emb σ (pc + 3) L (st) prA) (kB : ¬ x = 0 → tj_T E X own ini cc nL ret d hh n0 s0 emb σ (tgt) L (st) prB) : tj_T E X own ini cc nL ret d hh n0 s0 emb σ (pc) L (.int x :: st) (mx_if (x = 0) prA prB) := tj_br (fun B H locs c s Q ls hl wA wB => lv_if_ne B.ex B.co hd ht wB wA) kA kB
theorem tj_icmp_lt {x y : Int32} {off : Int} (tgt : Nat) (hd : decode cc pc = .ok (.if_icmp .lt off, 3)) (ht : (pc : Int) + off = (tgt : Int)) (kA : x < y → tj_T E X own ini cc nL ret d hh n0 s0 emb σ (tgt) L (st) prA) (kB : ¬ x < y → tj_T E X own ini cc nL ret d hh n0 s0 emb σ (pc + 3) L (st) prB) : tj_T E X own ini cc nL ret d hh n0 s0 emb σ (pc) L (.int y :: .int x :: st) (mx_if (x < y) prA prB) := tj_br (fun B H locs c s Q ls hl wA wB => lv_icmp_lt B.ex B.co hd ht wA wB) kA kB
theorem tj_if_lt {x : Int32} {off : Int} (tgt : Nat) (hd : decode cc pc = .ok (.ifCond .lt off, 3)) (ht : (pc : Int) + off = (tgt : Int)) (kA : x < 0 → tj_T E X own ini cc nL ret d hh n0 s0 emb σ (tgt) L (st) prA) (kB : ¬ x < 0 → tj_T E X own ini cc nL ret d hh n0 s0 emb σ (pc + 3) L (st) prB) : tj_T E X own ini cc nL ret d hh n0 s0 emb σ (pc) L (.int x :: st) (mx_if (x < 0) prA prB) := tj_br (fun B H locs c s Q ls hl wA wB => lv_if_lt B.ex B.co hd ht wA wB) kA kB
theorem tj_icmp_ge {x y : Int32} {off : Int} (tgt : Nat) (hd : decode cc pc = .ok (.if_icmp .ge off, 3)) (ht : (pc : Int) + off = (tgt : Int)) (kA : y ≤ x → tj_T E X own ini cc nL ret d hh n0 s0 emb σ (tgt) L (st) prA) (kB : ¬ y ≤ x → tj_T E X own ini cc nL ret d hh n0 s0 emb σ (pc + 3) L (st) prB) : tj_T E X own ini cc nL ret d hh n0 s0 emb σ (pc) L (.int y :: .int x :: st) (mx_if (y ≤ x) prA prB) := tj_br (fun B H locs c s Q ls hl wA wB => lv_icmp_ge B.ex B.co hd ht wA wB) kA kB
theorem tj_if_ge {x : Int32} {off : Int} (tgt : Nat) (hd : decode cc pc = .ok (.ifCond .ge off, 3)) (ht : (pc : Int) + off = (tgt : Int)) (kA : 0 ≤ x → tj_T E X own ini cc nL ret d hh n0 s0 emb σ (tgt) L (st) prA) (kB : ¬ 0 ≤ x → tj_T E X own ini cc nL ret d hh n0 s0 emb σ (pc + 3) L (st) prB) : tj_T E X own ini cc nL ret d hh n0 s0 emb σ (pc) L (.int x :: st) (mx_if (0 ≤ x) prA prB) := tj_br (fun B H locs c s Q ls hl wA wB => lv_if_ge B.ex B.co hd ht wA wB) kA kB
theorem tj_icmp_gt {x y : Int32} {off : Int} (tgt : Nat) (hd : decode cc pc = .ok (.if_icmp .gt off, 3)) (ht : (pc : Int) + off = (tgt : Int)) (kA : y < x → tj_T E X own ini cc nL ret d hh n0 s0 emb σ (tgt) L (st) prA) (kB : ¬ y < x → tj_T E X own ini cc nL ret d hh n0 s0 emb σ (pc + 3) L (st) prB) : tj_T E X own ini cc nL ret d hh n0 s0 emb σ (pc) L (.int y :: .int x :: st) (mx_if (y < x) prA prB) := tj_br (fun B H locs c s Q ls hl wA wB => lv_icmp_gt B.ex B.co hd ht wA wB) kA kB
theorem tj_if_gt {x : Int32} {off : Int} (tgt : Nat) (hd : decode cc pc = .ok (.ifCond .gt off, 3)) (ht : (pc : Int) + off = (tgt : Int)) (kA : 0 < x → tj_T E X own ini cc nL ret d hh n0 s0 emb σ (tgt) L (st) prA) (kB : ¬ 0 < x → tj_T E X own ini cc nL ret d hh n0 s0 emb σ (pc + 3) L (st) prB) : tj_T E X own ini cc nL ret d hh n0 s0 emb σ (pc) L (.int x :: st) (mx_if (0 < x) prA prB) := tj_br (fun B H locs c s Q ls hl wA wB => lv_if_gt B.ex B.co hd ht wA wB) kA kB
theorem tj_icmp_le {x y : Int32} {off : Int} (tgt : Nat) (hd : decode cc pc = .ok (.if_icmp .le off, 3)) (ht : (pc : Int) + off = (tgt : Int)) (kA : x ≤ y → tj_T E X own ini cc nL ret d hh n0 s0 emb σ (tgt) L (st) prA) (kB : ¬ x ≤ y → tj_T E X own ini cc nL ret d hh n0 s0 emb σ (pc + 3) L (st) prB) : tj_T E X own ini cc nL ret d hh n0 s0 emb σ (pc) L (.int y :: .int x :: st) (mx_if (x ≤ y) prA prB) := tj_br (fun B H locs c s Q ls hl wA wB => lv_icmp_le B.ex B.co hd ht wA wB) kA kB
theorem tj_if_le {x : Int32} {off : Int} (tgt : Nat) (hd : decode cc pc = .ok (.ifCond .le off, 3)) (ht : (pc : Int) + off = (tgt : Int)) (kA : x ≤ 0 → tj_T E X own ini cc nL ret d hh n0 s0 emb σ (tgt) L (st) prA) (kB : ¬ x ≤ 0 → tj_T E X own ini cc nL ret d hh n0 s0 emb σ (pc + 3) L (st) prB) : tj_T E X own ini cc nL ret d hh n0 s0 emb σ (pc) L (.int x :: st) (mx_if (x ≤ 0) prA prB) := tj_br (fun B H locs c s Q ls hl wA wB => lv_if_le B.ex B.co hd ht wA wB) kA kB
theorem tj_acmp_eq {u v : Option Nat} {off : Int} (tgt : Nat) (hd : decode cc pc = .ok (.if_acmp .eq off, 3)) (ht : (pc : Int) + off = (tgt : Int)) (kA : u = v → tj_T E X own ini cc nL ret d hh n0 s0 emb σ (tgt) L (st) prA) (kB : ¬ u = v → tj_T E X own ini cc nL ret d hh n0 s0 emb σ (pc + 3) L (st) prB) : tj_T E X own ini cc nL ret d hh n0 s0 emb σ (pc) L (va_rf v :: va_rf u :: st) (mx_if (u = v) prA prB) := tj_br (fun B H locs c s Q ls hl wA wB => lv_acmp_eq B.ex B.co hd ht wA wB) kA kB
theorem tj_acmp_ne {u v : Option Nat} {off : Int} (tgt : Nat) (hd : decode cc pc = .ok (.if_acmp .ne off, 3)) (ht : (pc : Int) + off = (tgt : Int)) (kA : u = v → tj_T E X own ini cc nL ret d hh n0 s0 emb σ (pc + 3) L (st) prA) (kB : ¬ u = v → tj_T E X own ini cc nL ret d hh n0 s0 emb σ (tgt) L (st) prB) : tj_T E X own ini cc nL ret d hh n0 s0 emb σ (pc) L (va_rf v :: va_rf u :: st) (mx_if (u = v) prA prB) := tj_br (fun B H locs c s Q ls hl wA wB => lv_acmp_ne B.ex B.co hd ht wB wA) kA kB
theorem tj_goto {off : Int} (tgt : Nat) (hd : decode cc pc = .ok (.goto off, 3)) (ht : (pc : Int) + off = (tgt : Int)) (k : tj_T E X own ini cc nL ret d hh n0 s0 emb σ (tgt) L (st) pr) : tj_T E X own ini cc nL ret d hh n0 s0 emb σ (pc) L (st) pr := tj_st (fun B H locs c s Q ls hl w => lv_goto B.ex B.co hd ht w) k
theorem tj_ifnull {v : Option Nat} {off : Int} (tgt : Nat) (hd : decode cc pc = .ok (.ifnull off, 3)) (ht : (pc : Int) + off = (tgt : Int)) (kA : v = none → tj_T E X own ini cc nL ret d hh n0 s0 emb σ (tgt) L (st) prA) (kB : ∀ a : Nat, v = some a → tj_T E X own ini cc nL ret d hh n0 s0 emb σ (pc + 3) L (st) prB) : tj_T E X own ini cc nL ret d hh n0 s0 emb σ (pc) L (va_rf v :: st) (mx_ifnull v prA prB) := by
  intro o σe hx
  cases v with
  | none =>
    obtain ⟨h1, h2⟩ := kA rfl o σe hx
    exact ⟨h1, fun B H locs ls a b c2 d2 e f g => lv_ifnullN B.ex B.co hd ht (h2 B H locs ls a b c2 d2 e f g)⟩
  | some a0 =>
    obtain ⟨h1, h2⟩ := kB a0 rfl o σe hx
    exact ⟨h1, fun B H locs ls a b c2 d2 e f g => lv_ifnull B.ex B.co hd (h2 B H locs ls a b c2 d2 e f g)⟩
theorem tj_ifnonnull {v : Option Nat} {off : Int} (tgt : Nat) (hd : decode cc pc = .ok (.ifnonnull off, 3)) (ht : (pc : Int) + off = (tgt : Int)) (kA : v = none → tj_T E X own ini cc nL ret d hh n0 s0 emb σ (pc + 3) L (st) prA) (kB : ∀ a : Nat, v = some a → tj_T E X own ini cc nL ret d hh n0 s0 emb σ (tgt) L (st) prB) : tj_T E X own ini cc nL ret d hh n0 s0 emb σ (pc) L (va_rf v :: st) (mx_ifnull v prA prB) := by
  intro o σe hx
  cases v with
  | none =>
    obtain ⟨h1, h2⟩ := kA rfl o σe hx
    exact ⟨h1, fun B H locs ls a b c2 d2 e f g => lv_ifnonnullN B.ex B.co hd (h2 B H locs ls a b c2 d2 e f g)⟩
  | some a0 =>
    obtain ⟨h1, h2⟩ := kB a0 rfl o σe hx
    exact ⟨h1, fun B H locs ls a b c2 d2 e f g => lv_ifnonnull B.ex B.co hd ht (h2 B H locs ls a b c2 d2 e f g)⟩
theorem tj_let {e : β} {f : β → mx_M α} (k : tj_T E X own ini cc nL ret d hh n0 s0 emb σ pc L st (f e)) : tj_T E X own ini cc nL ret d hh n0 s0 emb σ pc L st (mx_let e f) := k
theorem tj_topi {e : Int32} {f : Int32 → mx_M α} (k : ∀ x : Int32, tj_T E X own ini cc nL ret d hh n0 s0 emb σ pc L (.int x :: st) (f x)) : tj_T E X own ini cc nL ret d hh n0 s0 emb σ pc L (.int e :: st) (mx_let e f) := k e
theorem tj_topl {e : Int64} {f : Int64 → mx_M α} (k : ∀ x : Int64, tj_T E X own ini cc nL ret d hh n0 s0 emb σ pc L (.long x :: st) (f x)) : tj_T E X own ini cc nL ret d hh n0 s0 emb σ pc L (.long e :: st) (mx_let e f) := k e
/-- a step on the stack with a check -/
theorem tj_ck {v : β} {pc' : Nat} {st' : List Value} {m : mx_M β} {f : β → mx_M α} (hm : ∀ σ : hp_S, m σ = none ∨ m σ = some (.inl v, σ)) (h : (∃ σ : hp_S, m σ = some (.inl v, σ)) → tj_C E X own ini cc nL ret d hh → ∀ (H : Heap) (locs : List Loc) (c s : Nat) (Q : State → Prop) (ls : Array Slot), tj_ls ls nL L → tj_W X H locs c s Q (F0 (xm X) pc' ls st') → tj_W X H locs c s Q (F0 (xm X) pc ls st)) (k : tj_T E X own ini cc nL ret d hh n0 s0 emb σ pc' L st' (f v)) : tj_T E X own ini cc nL ret d hh n0 s0 emb σ pc L st (mx_bind m f) := by
  intro o σe hx
  unfold mx_bind at hx
  rcases hm σ with h0 | h0
  · rw [h0] at hx; cases hx
  · rw [h0] at hx
    obtain ⟨h1, h2⟩ := k o σe hx
    exact ⟨h1, fun B H locs ls a b c d e f g => h ⟨σ, h0⟩ B H locs _ _ _ ls c (h2 B H locs ls a b c d e f g)⟩
theorem tj_idiv {x y : Int32} {f : Int32 → mx_M α} (hd : decode cc pc = .ok (.idiv, 1)) (k : ∀ z : Int32, tj_T E X own ini cc nL ret d hh n0 s0 emb σ (pc + 1) L (.int z :: st) (f z)) : tj_T E X own ini cc nL ret d hh n0 s0 emb σ (pc) L (.int y :: .int x :: st) (mx_bind (mx_div x y) f) := by
  refine tj_ck (v := x / y) (fun σ => ?_) (fun hc B H locs c s Q ls hl w => ?_) (k _)
  · unfold mx_div
    by_cases h : y = 0
    · simp [h]
    · simp [h]
  · obtain ⟨σ9, h9⟩ := hc
    unfold mx_div at h9
    have hne : ¬ y = 0 := by
      intro h
      simp [h] at h9
    exact lv_idiv B.ex B.co hd hne w
theorem tj_irem {x y : Int32} {f : Int32 → mx_M α} (hd : decode cc pc = .ok (.irem, 1)) (k : ∀ z : Int32, tj_T E X own ini cc nL ret d hh n0 s0 emb σ (pc + 1) L (.int z :: st) (f z)) : tj_T E X own ini cc nL ret d hh n0 s0 emb σ (pc) L (.int y :: .int x :: st) (mx_bind (mx_rem x y) f) := by
  refine tj_ck (v := x - x / y * y) (fun σ => ?_) (fun hc B H locs c s Q ls hl w => ?_) (k _)
  · unfold mx_rem
    by_cases h : y = 0
    · simp [h]
    · simp [h]
  · obtain ⟨σ9, h9⟩ := hc
    unfold mx_rem at h9
    have hne : ¬ y = 0 := by
      intro h
      simp [h] at h9
    exact lv_irem B.ex B.co hd hne w
theorem tj_fdiv {x y : UInt32} {f : UInt32 → mx_M α} (hd : decode cc pc = .ok (.fdiv, 1)) (k : ∀ z : UInt32, tj_T E X own ini cc nL ret d hh n0 s0 emb σ (pc + 1) L (.float z :: st) (f z)) : tj_T E X own ini cc nL ret d hh n0 s0 emb σ pc L (.float y :: .float x :: st) (mx_bind (mx_fdiv x y) f) := by
  refine tj_ck (v := FP.fdiv x y) (fun σ => ?_) (fun hc B H locs c s Q ls hl w => ?_) (k _)
  · unfold mx_fdiv
    split
    · exact Or.inr rfl
    · exact Or.inl rfl
  · obtain ⟨σ9, h9⟩ := hc
    unfold mx_fdiv at h9
    split at h9
    · rename_i h
      exact lv_fdiv B.ex B.co hd h w
    · cases h9
theorem tj_ddiv {x y : UInt64} {f : UInt64 → mx_M α} (hd : decode cc pc = .ok (.ddiv, 1)) (k : ∀ z : UInt64, tj_T E X own ini cc nL ret d hh n0 s0 emb σ (pc + 1) L (.double z :: st) (f z)) : tj_T E X own ini cc nL ret d hh n0 s0 emb σ pc L (.double y :: .double x :: st) (mx_bind (mx_ddiv x y) f) := by
  refine tj_ck (v := FP.ddiv x y) (fun σ => ?_) (fun hc B H locs c s Q ls hl w => ?_) (k _)
  · unfold mx_ddiv
    split
    · exact Or.inr rfl
    · exact Or.inl rfl
  · obtain ⟨σ9, h9⟩ := hc
    unfold mx_ddiv at h9
    split at h9
    · rename_i h
      exact lv_ddiv B.ex B.co hd h w
    · cases h9
theorem tj_f2d {x : UInt32} {f : UInt64 → mx_M α} (hd : decode cc pc = .ok (.f2d, 1)) (k : ∀ z : UInt64, tj_T E X own ini cc nL ret d hh n0 s0 emb σ (pc + 1) L (.double z :: st) (f z)) : tj_T E X own ini cc nL ret d hh n0 s0 emb σ pc L (.float x :: st) (mx_bind (mx_f2d x) f) := by
  refine tj_ck (v := FP.f2d x) (fun σ => ?_) (fun hc B H locs c s Q ls hl w => ?_) (k _)
  · unfold mx_f2d
    split
    · exact Or.inr rfl
    · exact Or.inl rfl
  · obtain ⟨σ9, h9⟩ := hc
    unfold mx_f2d at h9
    split at h9
    · rename_i h
      exact lv_f2d B.ex B.co hd h w
    · cases h9
/-- lookupswitch: keys and targets -/
theorem tj_lookup {dflt : Int} {ps : Array (Int × Int)} {len : Nat} {x : Int32} {cs : List (Int32 × mx_M α)} {D : mx_M α} (ks : List (Int32 × Nat)) (tD : Nat) (hd : decode cc pc = .ok (.lookupswitch dflt ps, len)) (hp : (ps.toList.zip (ps.toList.drop 1)).all (fun (a, next) => a.1 < next.1) = true)
    (hps : ps.toList.map (fun q => (q.1, (pc : Int) + q.2)) = ks.map (fun q => (q.1.toInt, (q.2 : Int)))) (hD : (pc : Int) + dflt = (tD : Int)) (hlen : cs.map Prod.fst = ks.map Prod.fst)
    (kc : ∀ (i : Nat) (t : Nat) (key : Int32) (A : mx_M α), ks[i]? = some (key, t) → cs[i]? = some (key, A) → tj_T E X own ini cc nL ret d hh n0 s0 emb σ t L st A) (kD : tj_T E X own ini cc nL ret d hh n0 s0 emb σ tD L st D) : tj_T E X own ini cc nL ret d hh n0 s0 emb σ pc L (.int x :: st) (mx_sw x cs D) := by
  have key : ∀ (l : List (Int × Int)) (ks : List (Int32 × Nat)) (cs : List (Int32 × mx_M α)), l.map (fun q => (q.1, (pc : Int) + q.2)) = ks.map (fun q => (q.1.toInt, (q.2 : Int))) → cs.map Prod.fst = ks.map Prod.fst →
      (cs.lookup x = none ∧ Op.lookupswitch.offset l dflt x.toInt = dflt) ∨ ∃ (i t : Nat) (A : mx_M α) (off : Int), cs.lookup x = some A ∧ ks[i]? = some (x, t) ∧ cs[i]? = some (x, A) ∧ Op.lookupswitch.offset l dflt x.toInt = off ∧ (pc : Int) + off = (t : Int) := by
    intro l
    induction l with
    | nil =>
      intro ks cs h1 h2
      cases ks with
      | cons a ks => simp at h1
      | nil =>
        cases cs with
        | cons a cs => simp at h2
        | nil => exact Or.inl ⟨rfl, rfl⟩
    | cons q l ih =>
      intro ks cs h1 h2
      cases ks with
      | nil => simp at h1
      | cons a ks =>
        cases cs with
        | nil => simp at h2
        | cons b cs =>
          simp only [List.map_cons, List.cons.injEq, Prod.mk.injEq] at h1 h2
          obtain ⟨⟨e1, e2⟩, h1⟩ := h1
          obtain ⟨e3, h2⟩ := h2
          obtain ⟨qa, qo⟩ := q
          obtain ⟨ak, at_⟩ := a
          obtain ⟨bk, bA⟩ := b
          simp only at e1 e2 e3
          subst e3
          by_cases hx : x = bk
          · subst hx
            right
            refine ⟨0, at_, bA, qo, by simp [List.lookup], rfl, rfl, ?_, e2⟩
            unfold Op.lookupswitch.offset
            simp [e1]
          · rw [lv_osw hx e1.symm]
            have hlk : List.lookup x ((bk, bA) :: cs) = cs.lookup x := by
              rw [List.lookup_cons]
              have : (x == bk) = false := by simpa using hx
              rw [this]
            rw [hlk]
            rcases ih ks cs h1 h2 with h | ⟨i, t, A, off, g1, g2, g3, g4, g5⟩
            · exact Or.inl h
            · exact Or.inr ⟨i + 1, t, A, off, g1, by simpa using g2, by simpa using g3, g4, g5⟩
  intro o σe hx
  unfold mx_sw at hx
  rcases key ps.toList ks cs hps hlen with ⟨h1, h2⟩ | ⟨i, t, A, off, g1, g2, g3, g4, g5⟩
  · rw [h1] at hx
    obtain ⟨r1, r2⟩ := kD o σe hx
    exact ⟨r1, fun B H locs ls a b c d e f g => lv_lookup B.ex B.co hd hp h2 hD (r2 B H locs ls a b c d e f g)⟩
  · rw [g1] at hx
    obtain ⟨r1, r2⟩ := kc i t x A g2 g3 o σe hx
    exact ⟨r1, fun B H locs ls a b c d e f g => lv_lookup B.ex B.co hd hp g4 g5 (r2 B H locs ls a b c d e f g)⟩
end TJ2
