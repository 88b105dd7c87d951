/-! ===== rows over the abstract heap: constants, locals, stack, arithmetic, branches ===== -/
set_option maxRecDepth 100000
theorem va_rfc (r : Option Nat) : (va_rf r).category = 1 := by cases r <;> rfl
section AR
variable {p : Program} {l : Launch} {e : Env} {R : Room} {s : State} {m : MethodId} {args : Array Value} {below : List Frame} {meth : Method} {c : Code} {D : aD} {n0 s0 : Nat} {Q : State → Prop}
variable {own : String} {cc : ByteArray} {rf rl nL : Nat} {h : aH} {pc : Nat} {lv : aLv} {st : List Value}
theorem v_iconst (C : aC p l R s m meth c D n0 s0 own cc rf rl nL) {z : Int} {v : Int32} (d : decode cc pc = .ok (.iconst z, 1)) (hv : Int32.ofInt z = v) (k : V p l e R s m args below meth c D n0 s0 Q h (pc + 1) lv (.int v :: st)) : V p l e R s m args below meth c D n0 s0 Q h pc lv st :=
  fun H locs k' n ls h1 h2 h3 h4 h5 h6 h7 => lv_iconst C.1 C.2.1 d hv (k H locs k' n ls h1 h2 h3 h4 h5 h6 h7)
theorem v_bipush (C : aC p l R s m meth c D n0 s0 own cc rf rl nL) {z : Int} {v : Int32} (d : decode cc pc = .ok (.bipush z, 2)) (hv : (Int8.ofInt z).toInt32 = v) (k : V p l e R s m args below meth c D n0 s0 Q h (pc + 2) lv (.int v :: st)) : V p l e R s m args below meth c D n0 s0 Q h pc lv st :=
  fun H locs k' n ls h1 h2 h3 h4 h5 h6 h7 => lv_bipush C.1 C.2.1 d hv (k H locs k' n ls h1 h2 h3 h4 h5 h6 h7)
theorem v_sipush (C : aC p l R s m meth c D n0 s0 own cc rf rl nL) {z : Int} {v : Int32} (d : decode cc pc = .ok (.sipush z, 3)) (hv : (Int16.ofInt z).toInt32 = v) (k : V p l e R s m args below meth c D n0 s0 Q h (pc + 3) lv (.int v :: st)) : V p l e R s m args below meth c D n0 s0 Q h pc lv st :=
  fun H locs k' n ls h1 h2 h3 h4 h5 h6 h7 => lv_sipush C.1 C.2.1 d hv (k H locs k' n ls h1 h2 h3 h4 h5 h6 h7)
theorem v_lconst (C : aC p l R s m meth c D n0 s0 own cc rf rl nL) {z : Fin 2} {v : Int64} (d : decode cc pc = .ok (.lconst z, 1)) (hv : Int64.ofNat (z : Nat) = v) (k : V p l e R s m args below meth c D n0 s0 Q h (pc + 1) lv (.long v :: st)) : V p l e R s m args below meth c D n0 s0 Q h pc lv st :=
  fun H locs k' n ls h1 h2 h3 h4 h5 h6 h7 => lv_lconst C.1 C.2.1 d hv (k H locs k' n ls h1 h2 h3 h4 h5 h6 h7)
theorem v_null (C : aC p l R s m meth c D n0 s0 own cc rf rl nL)  (d : decode cc pc = .ok (.aconst_null, 1))  (k : V p l e R s m args below meth c D n0 s0 Q h (pc + 1) lv (va_rf none :: st)) : V p l e R s m args below meth c D n0 s0 Q h pc lv st :=
  fun H locs k' n ls h1 h2 h3 h4 h5 h6 h7 => lv_null C.1 C.2.1 d  (k H locs k' n ls h1 h2 h3 h4 h5 h6 h7)
theorem v_fconst0 (C : aC p l R s m meth c D n0 s0 own cc rf rl nL)  (d : decode cc pc = .ok (.fconst 0, 1))  (k : V p l e R s m args below meth c D n0 s0 Q h (pc + 1) lv (.float FP.fconst0 :: st)) : V p l e R s m args below meth c D n0 s0 Q h pc lv st :=
  fun H locs k' n ls h1 h2 h3 h4 h5 h6 h7 => lv_fconst0 C.1 C.2.1 d  (k H locs k' n ls h1 h2 h3 h4 h5 h6 h7)
theorem v_dconst0 (C : aC p l R s m meth c D n0 s0 own cc rf rl nL)  (d : decode cc pc = .ok (.dconst 0, 1))  (k : V p l e R s m args below meth c D n0 s0 Q h (pc + 1) lv (.double FP.dconst0 :: st)) : V p l e R s m args below meth c D n0 s0 Q h pc lv st :=
  fun H locs k' n ls h1 h2 h3 h4 h5 h6 h7 => lv_dconst0 C.1 C.2.1 d  (k H locs k' n ls h1 h2 h3 h4 h5 h6 h7)
theorem v_iadd (C : aC p l R s m meth c D n0 s0 own cc rf rl nL) {x y : Int32} (d : decode cc pc = .ok (.iadd, 1))  (k : V p l e R s m args below meth c D n0 s0 Q h (pc + 1) lv (.int (x + y) :: st)) : V p l e R s m args below meth c D n0 s0 Q h pc lv (.int y :: .int x :: st) :=
  fun H locs k' n ls h1 h2 h3 h4 h5 h6 h7 => lv_iadd C.1 C.2.1 d  (k H locs k' n ls h1 h2 h3 h4 h5 h6 h7)
theorem v_isub (C : aC p l R s m meth c D n0 s0 own cc rf rl nL) {x y : Int32} (d : decode cc pc = .ok (.isub, 1))  (k : V p l e R s m args below meth c D n0 s0 Q h (pc + 1) lv (.int (x - y) :: st)) : V p l e R s m args below meth c D n0 s0 Q h pc lv (.int y :: .int x :: st) :=
  fun H locs k' n ls h1 h2 h3 h4 h5 h6 h7 => lv_isub C.1 C.2.1 d  (k H locs k' n ls h1 h2 h3 h4 h5 h6 h7)
theorem v_imul (C : aC p l R s m meth c D n0 s0 own cc rf rl nL) {x y : Int32} (d : decode cc pc = .ok (.imul, 1))  (k : V p l e R s m args below meth c D n0 s0 Q h (pc + 1) lv (.int (x * y) :: st)) : V p l e R s m args below meth c D n0 s0 Q h pc lv (.int y :: .int x :: st) :=
  fun H locs k' n ls h1 h2 h3 h4 h5 h6 h7 => lv_imul C.1 C.2.1 d  (k H locs k' n ls h1 h2 h3 h4 h5 h6 h7)
theorem v_iand (C : aC p l R s m meth c D n0 s0 own cc rf rl nL) {x y : Int32} (d : decode cc pc = .ok (.iand, 1))  (k : V p l e R s m args below meth c D n0 s0 Q h (pc + 1) lv (.int (x &&& y) :: st)) : V p l e R s m args below meth c D n0 s0 Q h pc lv (.int y :: .int x :: st) :=
  fun H locs k' n ls h1 h2 h3 h4 h5 h6 h7 => lv_iand C.1 C.2.1 d  (k H locs k' n ls h1 h2 h3 h4 h5 h6 h7)
theorem v_ior (C : aC p l R s m meth c D n0 s0 own cc rf rl nL) {x y : Int32} (d : decode cc pc = .ok (.ior, 1))  (k : V p l e R s m args below meth c D n0 s0 Q h (pc + 1) lv (.int (x ||| y) :: st)) : V p l e R s m args below meth c D n0 s0 Q h pc lv (.int y :: .int x :: st) :=
  fun H locs k' n ls h1 h2 h3 h4 h5 h6 h7 => lv_ior C.1 C.2.1 d  (k H locs k' n ls h1 h2 h3 h4 h5 h6 h7)
theorem v_ixor (C : aC p l R s m meth c D n0 s0 own cc rf rl nL) {x y : Int32} (d : decode cc pc = .ok (.ixor, 1))  (k : V p l e R s m args below meth c D n0 s0 Q h (pc + 1) lv (.int (x ^^^ y) :: st)) : V p l e R s m args below meth c D n0 s0 Q h pc lv (.int y :: .int x :: st) :=
  fun H locs k' n ls h1 h2 h3 h4 h5 h6 h7 => lv_ixor C.1 C.2.1 d  (k H locs k' n ls h1 h2 h3 h4 h5 h6 h7)
theorem v_ishl (C : aC p l R s m meth c D n0 s0 own cc rf rl nL) {x y : Int32} (d : decode cc pc = .ok (.ishl, 1))  (k : V p l e R s m args below meth c D n0 s0 Q h (pc + 1) lv (.int (x <<< (y &&& 31)) :: st)) : V p l e R s m args below meth c D n0 s0 Q h pc lv (.int y :: .int x :: st) :=
  fun H locs k' n ls h1 h2 h3 h4 h5 h6 h7 => lv_ishl C.1 C.2.1 d  (k H locs k' n ls h1 h2 h3 h4 h5 h6 h7)
theorem v_ishr (C : aC p l R s m meth c D n0 s0 own cc rf rl nL) {x y : Int32} (d : decode cc pc = .ok (.ishr, 1))  (k : V p l e R s m args below meth c D n0 s0 Q h (pc + 1) lv (.int (x >>> (y &&& 31)) :: st)) : V p l e R s m args below meth c D n0 s0 Q h pc lv (.int y :: .int x :: st) :=
  fun H locs k' n ls h1 h2 h3 h4 h5 h6 h7 => lv_ishr C.1 C.2.1 d  (k H locs k' n ls h1 h2 h3 h4 h5 h6 h7)
theorem v_ladd (C : aC p l R s m meth c D n0 s0 own cc rf rl nL) {x y : Int64} (d : decode cc pc = .ok (.ladd, 1))  (k : V p l e R s m args below meth c D n0 s0 Q h (pc + 1) lv (.long (x + y) :: st)) : V p l e R s m args below meth c D n0 s0 Q h pc lv (.long y :: .long x :: st) :=
  fun H locs k' n ls h1 h2 h3 h4 h5 h6 h7 => lv_ladd C.1 C.2.1 d  (k H locs k' n ls h1 h2 h3 h4 h5 h6 h7)
theorem v_lsub (C : aC p l R s m meth c D n0 s0 own cc rf rl nL) {x y : Int64} (d : decode cc pc = .ok (.lsub, 1))  (k : V p l e R s m args below meth c D n0 s0 Q h (pc + 1) lv (.long (x - y) :: st)) : V p l e R s m args below meth c D n0 s0 Q h pc lv (.long y :: .long x :: st) :=
  fun H locs k' n ls h1 h2 h3 h4 h5 h6 h7 => lv_lsub C.1 C.2.1 d  (k H locs k' n ls h1 h2 h3 h4 h5 h6 h7)
theorem v_lmul (C : aC p l R s m meth c D n0 s0 own cc rf rl nL) {x y : Int64} (d : decode cc pc = .ok (.lmul, 1))  (k : V p l e R s m args below meth c D n0 s0 Q h (pc + 1) lv (.long (x * y) :: st)) : V p l e R s m args below meth c D n0 s0 Q h pc lv (.long y :: .long x :: st) :=
  fun H locs k' n ls h1 h2 h3 h4 h5 h6 h7 => lv_lmul C.1 C.2.1 d  (k H locs k' n ls h1 h2 h3 h4 h5 h6 h7)
theorem v_land (C : aC p l R s m meth c D n0 s0 own cc rf rl nL) {x y : Int64} (d : decode cc pc = .ok (.land, 1))  (k : V p l e R s m args below meth c D n0 s0 Q h (pc + 1) lv (.long (x &&& y) :: st)) : V p l e R s m args below meth c D n0 s0 Q h pc lv (.long y :: .long x :: st) :=
  fun H locs k' n ls h1 h2 h3 h4 h5 h6 h7 => lv_land C.1 C.2.1 d  (k H locs k' n ls h1 h2 h3 h4 h5 h6 h7)
theorem v_lor (C : aC p l R s m meth c D n0 s0 own cc rf rl nL) {x y : Int64} (d : decode cc pc = .ok (.lor, 1))  (k : V p l e R s m args below meth c D n0 s0 Q h (pc + 1) lv (.long (x ||| y) :: st)) : V p l e R s m args below meth c D n0 s0 Q h pc lv (.long y :: .long x :: st) :=
  fun H locs k' n ls h1 h2 h3 h4 h5 h6 h7 => lv_lor C.1 C.2.1 d  (k H locs k' n ls h1 h2 h3 h4 h5 h6 h7)
theorem v_lxor (C : aC p l R s m meth c D n0 s0 own cc rf rl nL) {x y : Int64} (d : decode cc pc = .ok (.lxor, 1))  (k : V p l e R s m args below meth c D n0 s0 Q h (pc + 1) lv (.long (x ^^^ y) :: st)) : V p l e R s m args below meth c D n0 s0 Q h pc lv (.long y :: .long x :: st) :=
  fun H locs k' n ls h1 h2 h3 h4 h5 h6 h7 => lv_lxor C.1 C.2.1 d  (k H locs k' n ls h1 h2 h3 h4 h5 h6 h7)
theorem v_idiv (C : aC p l R s m meth c D n0 s0 own cc rf rl nL) {x y : Int32} (d : decode cc pc = .ok (.idiv, 1)) (hne : ¬ y = 0) (k : V p l e R s m args below meth c D n0 s0 Q h (pc + 1) lv (.int (x / y) :: st)) : V p l e R s m args below meth c D n0 s0 Q h pc lv (.int y :: .int x :: st) :=
  fun H locs k' n ls h1 h2 h3 h4 h5 h6 h7 => lv_idiv C.1 C.2.1 d hne (k H locs k' n ls h1 h2 h3 h4 h5 h6 h7)
theorem v_irem (C : aC p l R s m meth c D n0 s0 own cc rf rl nL) {x y : Int32} (d : decode cc pc = .ok (.irem, 1)) (hne : ¬ y = 0) (k : V p l e R s m args below meth c D n0 s0 Q h (pc + 1) lv (.int (x - x / y * y) :: st)) : V p l e R s m args below meth c D n0 s0 Q h pc lv (.int y :: .int x :: st) :=
  fun H locs k' n ls h1 h2 h3 h4 h5 h6 h7 => lv_irem C.1 C.2.1 d hne (k H locs k' n ls h1 h2 h3 h4 h5 h6 h7)
theorem v_ineg (C : aC p l R s m meth c D n0 s0 own cc rf rl nL) {x : Int32} (d : decode cc pc = .ok (.ineg, 1))  (k : V p l e R s m args below meth c D n0 s0 Q h (pc + 1) lv (.int (-x) :: st)) : V p l e R s m args below meth c D n0 s0 Q h pc lv (.int x :: st) :=
  fun H locs k' n ls h1 h2 h3 h4 h5 h6 h7 => lv_ineg C.1 C.2.1 d  (k H locs k' n ls h1 h2 h3 h4 h5 h6 h7)
theorem v_iushr (C : aC p l R s m meth c D n0 s0 own cc rf rl nL) {x y : Int32} (d : decode cc pc = .ok (.iushr, 1))  (k : V p l e R s m args below meth c D n0 s0 Q h (pc + 1) lv (.int (x.toUInt32 >>> (y.toUInt32 &&& Int32.toUInt32 31)).toInt32 :: st)) : V p l e R s m args below meth c D n0 s0 Q h pc lv (.int y :: .int x :: st) :=
  fun H locs k' n ls h1 h2 h3 h4 h5 h6 h7 => lv_iushr C.1 C.2.1 d rfl (k H locs k' n ls h1 h2 h3 h4 h5 h6 h7)
theorem v_lushr (C : aC p l R s m meth c D n0 s0 own cc rf rl nL) {x : Int64} {y : Int32} (d : decode cc pc = .ok (.lushr, 1))  (k : V p l e R s m args below meth c D n0 s0 Q h (pc + 1) lv (.long (x.toUInt64 >>> (y.toInt64.toUInt64 &&& Int64.toUInt64 63)).toInt64 :: st)) : V p l e R s m args below meth c D n0 s0 Q h pc lv (.int y :: .long x :: st) :=
  fun H locs k' n ls h1 h2 h3 h4 h5 h6 h7 => lv_lushr C.1 C.2.1 d rfl (k H locs k' n ls h1 h2 h3 h4 h5 h6 h7)
theorem v_lshl (C : aC p l R s m meth c D n0 s0 own cc rf rl nL) {x : Int64} {y : Int32} (d : decode cc pc = .ok (.lshl, 1))  (k : V p l e R s m args below meth c D n0 s0 Q h (pc + 1) lv (.long (x <<< (y.toInt64 &&& 63)) :: st)) : V p l e R s m args below meth c D n0 s0 Q h pc lv (.int y :: .long x :: st) :=
  fun H locs k' n ls h1 h2 h3 h4 h5 h6 h7 => lv_lshl C.1 C.2.1 d rfl (k H locs k' n ls h1 h2 h3 h4 h5 h6 h7)
theorem v_i2l (C : aC p l R s m meth c D n0 s0 own cc rf rl nL) {x : Int32} (d : decode cc pc = .ok (.i2l, 1))  (k : V p l e R s m args below meth c D n0 s0 Q h (pc + 1) lv (.long x.toInt64 :: st)) : V p l e R s m args below meth c D n0 s0 Q h pc lv (.int x :: st) :=
  fun H locs k' n ls h1 h2 h3 h4 h5 h6 h7 => lv_i2l C.1 C.2.1 d rfl (k H locs k' n ls h1 h2 h3 h4 h5 h6 h7)
theorem v_l2i (C : aC p l R s m meth c D n0 s0 own cc rf rl nL) {x : Int64} (d : decode cc pc = .ok (.l2i, 1))  (k : V p l e R s m args below meth c D n0 s0 Q h (pc + 1) lv (.int x.toInt32 :: st)) : V p l e R s m args below meth c D n0 s0 Q h pc lv (.long x :: st) :=
  fun H locs k' n ls h1 h2 h3 h4 h5 h6 h7 => lv_l2i C.1 C.2.1 d rfl (k H locs k' n ls h1 h2 h3 h4 h5 h6 h7)
theorem v_i2c (C : aC p l R s m meth c D n0 s0 own cc rf rl nL) {x : Int32} (d : decode cc pc = .ok (.i2c, 1))  (k : V p l e R s m args below meth c D n0 s0 Q h (pc + 1) lv (.int (x.toUInt32 % 65536).toInt32 :: st)) : V p l e R s m args below meth c D n0 s0 Q h pc lv (.int x :: st) :=
  fun H locs k' n ls h1 h2 h3 h4 h5 h6 h7 => lv_i2c C.1 C.2.1 d rfl (k H locs k' n ls h1 h2 h3 h4 h5 h6 h7)
theorem v_i2d (C : aC p l R s m meth c D n0 s0 own cc rf rl nL) {x : Int32} (d : decode cc pc = .ok (.i2d, 1))  (k : V p l e R s m args below meth c D n0 s0 Q h (pc + 1) lv (.double (FP.i2d x) :: st)) : V p l e R s m args below meth c D n0 s0 Q h pc lv (.int x :: st) :=
  fun H locs k' n ls h1 h2 h3 h4 h5 h6 h7 => lv_i2d C.1 C.2.1 d  (k H locs k' n ls h1 h2 h3 h4 h5 h6 h7)
theorem v_i2f (C : aC p l R s m meth c D n0 s0 own cc rf rl nL) {x : Int32} (d : decode cc pc = .ok (.i2f, 1))  (k : V p l e R s m args below meth c D n0 s0 Q h (pc + 1) lv (.float (FP.i2f x) :: st)) : V p l e R s m args below meth c D n0 s0 Q h pc lv (.int x :: st) :=
  fun H locs k' n ls h1 h2 h3 h4 h5 h6 h7 => lv_i2f C.1 C.2.1 d  (k H locs k' n ls h1 h2 h3 h4 h5 h6 h7)
theorem v_f2d (C : aC p l R s m meth c D n0 s0 own cc rf rl nL) {x : UInt32} (d : decode cc pc = .ok (.f2d, 1)) (hn : vf_n64 (FP.f2d x)) (k : V p l e R s m args below meth c D n0 s0 Q h (pc + 1) lv (.double (FP.f2d x) :: st)) : V p l e R s m args below meth c D n0 s0 Q h pc lv (.float x :: st) :=
  fun H locs k' n ls h1 h2 h3 h4 h5 h6 h7 => lv_f2d C.1 C.2.1 d hn (k H locs k' n ls h1 h2 h3 h4 h5 h6 h7)
theorem v_ddiv (C : aC p l R s m meth c D n0 s0 own cc rf rl nL) {x y : UInt64} (d : decode cc pc = .ok (.ddiv, 1)) (hn : vf_n64 (FP.ddiv x y)) (k : V p l e R s m args below meth c D n0 s0 Q h (pc + 1) lv (.double (FP.ddiv x y) :: st)) : V p l e R s m args below meth c D n0 s0 Q h pc lv (.double y :: .double x :: st) :=
  fun H locs k' n ls h1 h2 h3 h4 h5 h6 h7 => lv_ddiv C.1 C.2.1 d hn (k H locs k' n ls h1 h2 h3 h4 h5 h6 h7)
theorem v_fdiv (C : aC p l R s m meth c D n0 s0 own cc rf rl nL) {x y : UInt32} (d : decode cc pc = .ok (.fdiv, 1)) (hn : vf_n32 (FP.fdiv x y)) (k : V p l e R s m args below meth c D n0 s0 Q h (pc + 1) lv (.float (FP.fdiv x y) :: st)) : V p l e R s m args below meth c D n0 s0 Q h pc lv (.float y :: .float x :: st) :=
  fun H locs k' n ls h1 h2 h3 h4 h5 h6 h7 => lv_fdiv C.1 C.2.1 d hn (k H locs k' n ls h1 h2 h3 h4 h5 h6 h7)
theorem v_dcmp (C : aC p l R s m meth c D n0 s0 own cc rf rl nL) {x y : UInt64} {op : CmpOp} (d : decode cc pc = .ok (.dcmp op, 1))  (k : V p l e R s m args below meth c D n0 s0 Q h (pc + 1) lv (.int (Op.cmpValue (FP.dcmp x y) op) :: st)) : V p l e R s m args below meth c D n0 s0 Q h pc lv (.double y :: .double x :: st) :=
  fun H locs k' n ls h1 h2 h3 h4 h5 h6 h7 => lv_dcmp C.1 C.2.1 d  (k H locs k' n ls h1 h2 h3 h4 h5 h6 h7)
theorem v_lcmp (C : aC p l R s m meth c D n0 s0 own cc rf rl nL) {x y : Int64} (d : decode cc pc = .ok (.lcmp, 1))  (k : V p l e R s m args below meth c D n0 s0 Q h (pc + 1) lv (.int (lg_cmp x y) :: st)) : V p l e R s m args below meth c D n0 s0 Q h pc lv (.long y :: .long x :: st) :=
  fun H locs k' n ls h1 h2 h3 h4 h5 h6 h7 => W.lcmp C.1 C.2.1 d  (k H locs k' n ls h1 h2 h3 h4 h5 h6 h7)
theorem v_dup (C : aC p l R s m meth c D n0 s0 own cc rf rl nL) {va : Value} (d : decode cc pc = .ok (.dup, 1)) (ha : va.category = 1) (k : V p l e R s m args below meth c D n0 s0 Q h (pc + 1) lv (va :: va :: st)) : V p l e R s m args below meth c D n0 s0 Q h pc lv (va :: st) :=
  fun H locs k' n ls h1 h2 h3 h4 h5 h6 h7 => lv_dup C.1 C.2.1 d ha (k H locs k' n ls h1 h2 h3 h4 h5 h6 h7)
theorem v_pop (C : aC p l R s m meth c D n0 s0 own cc rf rl nL) {va : Value} (d : decode cc pc = .ok (.pop, 1)) (ha : va.category = 1) (k : V p l e R s m args below meth c D n0 s0 Q h (pc + 1) lv st) : V p l e R s m args below meth c D n0 s0 Q h pc lv (va :: st) :=
  fun H locs k' n ls h1 h2 h3 h4 h5 h6 h7 => lv_pop C.1 C.2.1 d ha (k H locs k' n ls h1 h2 h3 h4 h5 h6 h7)
theorem v_dup_x1 (C : aC p l R s m meth c D n0 s0 own cc rf rl nL) {va vb : Value} (d : decode cc pc = .ok (.dup_x1, 1)) (ha : va.category = 1) (hb : vb.category = 1) (k : V p l e R s m args below meth c D n0 s0 Q h (pc + 1) lv (va :: vb :: va :: st)) : V p l e R s m args below meth c D n0 s0 Q h pc lv (va :: vb :: st) :=
  fun H locs k' n ls h1 h2 h3 h4 h5 h6 h7 => lv_dup_x1 C.1 C.2.1 d ha hb (k H locs k' n ls h1 h2 h3 h4 h5 h6 h7)
theorem v_dup_x2 (C : aC p l R s m meth c D n0 s0 own cc rf rl nL) {va vb vd : Value} (d : decode cc pc = .ok (.dup_x2, 1)) (ha : va.category = 1) (hb : vb.category = 1) (hd : vd.category = 1) (k : V p l e R s m args below meth c D n0 s0 Q h (pc + 1) lv (va :: vb :: vd :: va :: st)) : V p l e R s m args below meth c D n0 s0 Q h pc lv (va :: vb :: vd :: st) :=
  fun H locs k' n ls h1 h2 h3 h4 h5 h6 h7 => lv_dup_x2 C.1 C.2.1 d ha hb hd (k H locs k' n ls h1 h2 h3 h4 h5 h6 h7)
theorem v_dup2_11 (C : aC p l R s m meth c D n0 s0 own cc rf rl nL) {va vb : Value} (d : decode cc pc = .ok (.dup2, 1)) (ha : va.category = 1) (hb : vb.category = 1) (k : V p l e R s m args below meth c D n0 s0 Q h (pc + 1) lv (va :: vb :: va :: vb :: st)) : V p l e R s m args below meth c D n0 s0 Q h pc lv (va :: vb :: st) :=
  fun H locs k' n ls h1 h2 h3 h4 h5 h6 h7 => lv_dup2_11 C.1 C.2.1 d ha hb (k H locs k' n ls h1 h2 h3 h4 h5 h6 h7)
theorem v_dup2_2 (C : aC p l R s m meth c D n0 s0 own cc rf rl nL) {va : Value} (d : decode cc pc = .ok (.dup2, 1)) (ha : va.category = 2) (k : V p l e R s m args below meth c D n0 s0 Q h (pc + 1) lv (va :: va :: st)) : V p l e R s m args below meth c D n0 s0 Q h pc lv (va :: st) :=
  fun H locs k' n ls h1 h2 h3 h4 h5 h6 h7 => lv_dup2_2 C.1 C.2.1 d ha (k H locs k' n ls h1 h2 h3 h4 h5 h6 h7)
theorem v_goto (C : aC p l R s m meth c D n0 s0 own cc rf rl nL) {off : Int} {tgt : Nat} (d : decode cc pc = .ok (.goto off, 3)) (ht : (pc : Int) + off = (tgt : Int)) (k : V p l e R s m args below meth c D n0 s0 Q h tgt lv st) : V p l e R s m args below meth c D n0 s0 Q h pc lv st :=
  fun H locs k' n ls h1 h2 h3 h4 h5 h6 h7 => lv_goto C.1 C.2.1 d ht (k H locs k' n ls h1 h2 h3 h4 h5 h6 h7)
theorem v_tableIn (C : aC p l R s m meth c D n0 s0 own cc rf rl nL) {dflt lo hi off : Int} {offs : Array Int} {len tgt : Nat} {x : Int32} (d : decode cc pc = .ok (.tableswitch dflt lo hi offs, len)) (t1 : ¬ x.toInt < lo) (t2 : ¬ hi < x.toInt) (ho : offs[(x.toInt - lo).toNat]? = some off) (ht : (pc : Int) + off = (tgt : Int)) (k : V p l e R s m args below meth c D n0 s0 Q h tgt lv st) : V p l e R s m args below meth c D n0 s0 Q h pc lv (.int x :: st) :=
  fun H locs k' n ls h1 h2 h3 h4 h5 h6 h7 => lv_tableIn C.1 C.2.1 d t1 t2 ho ht (k H locs k' n ls h1 h2 h3 h4 h5 h6 h7)
theorem v_tableOut (C : aC p l R s m meth c D n0 s0 own cc rf rl nL) {dflt lo hi : Int} {offs : Array Int} {len tgt : Nat} {x : Int32} (d : decode cc pc = .ok (.tableswitch dflt lo hi offs, len)) (t1 : x.toInt < lo ∨ hi < x.toInt) (ht : (pc : Int) + dflt = (tgt : Int)) (k : V p l e R s m args below meth c D n0 s0 Q h tgt lv st) : V p l e R s m args below meth c D n0 s0 Q h pc lv (.int x :: st) :=
  fun H locs k' n ls h1 h2 h3 h4 h5 h6 h7 => lv_tableOut C.1 C.2.1 d t1 ht (k H locs k' n ls h1 h2 h3 h4 h5 h6 h7)
theorem v_if_eq (C : aC p l R s m meth c D n0 s0 own cc rf rl nL) {x : Int32} {off : Int} {tgt : Nat} (d : decode cc pc = .ok (.ifCond .eq off, 3)) (ht : (pc : Int) + off = (tgt : Int)) (kt : x = 0 → V p l e R s m args below meth c D n0 s0 Q h tgt lv st) (kf : ¬ x = 0 → V p l e R s m args below meth c D n0 s0 Q h (pc + 3) lv st) : V p l e R s m args below meth c D n0 s0 Q h pc lv (.int x :: st) :=
  fun H locs k' n ls h1 h2 h3 h4 h5 h6 h7 => lv_if_eq C.1 C.2.1 d ht (fun z => kt (by simpa using z) H locs k' n ls h1 h2 h3 h4 h5 h6 h7) (fun z => kf (by simpa using z) H locs k' n ls h1 h2 h3 h4 h5 h6 h7)
theorem v_if_ne (C : aC p l R s m meth c D n0 s0 own cc rf rl nL) {x : Int32} {off : Int} {tgt : Nat} (d : decode cc pc = .ok (.ifCond .ne off, 3)) (ht : (pc : Int) + off = (tgt : Int)) (kt : ¬ x = 0 → V p l e R s m args below meth c D n0 s0 Q h tgt lv st) (kf : ¬ (¬ x = 0) → V p l e R s m args below meth c D n0 s0 Q h (pc + 3) lv st) : V p l e R s m args below meth c D n0 s0 Q h pc lv (.int x :: st) :=
  fun H locs k' n ls h1 h2 h3 h4 h5 h6 h7 => lv_if_ne C.1 C.2.1 d ht (fun z => kt (by simpa using z) H locs k' n ls h1 h2 h3 h4 h5 h6 h7) (fun z => kf (by simpa using z) H locs k' n ls h1 h2 h3 h4 h5 h6 h7)
theorem v_if_lt (C : aC p l R s m meth c D n0 s0 own cc rf rl nL) {x : Int32} {off : Int} {tgt : Nat} (d : decode cc pc = .ok (.ifCond .lt off, 3)) (ht : (pc : Int) + off = (tgt : Int)) (kt : x < 0 → V p l e R s m args below meth c D n0 s0 Q h tgt lv st) (kf : ¬ x < 0 → V p l e R s m args below meth c D n0 s0 Q h (pc + 3) lv st) : V p l e R s m args below meth c D n0 s0 Q h pc lv (.int x :: st) :=
  fun H locs k' n ls h1 h2 h3 h4 h5 h6 h7 => lv_if_lt C.1 C.2.1 d ht (fun z => kt (by simpa using z) H locs k' n ls h1 h2 h3 h4 h5 h6 h7) (fun z => kf (by simpa using z) H locs k' n ls h1 h2 h3 h4 h5 h6 h7)
theorem v_if_ge (C : aC p l R s m meth c D n0 s0 own cc rf rl nL) {x : Int32} {off : Int} {tgt : Nat} (d : decode cc pc = .ok (.ifCond .ge off, 3)) (ht : (pc : Int) + off = (tgt : Int)) (kt : 0 ≤ x → V p l e R s m args below meth c D n0 s0 Q h tgt lv st) (kf : ¬ 0 ≤ x → V p l e R s m args below meth c D n0 s0 Q h (pc + 3) lv st) : V p l e R s m args below meth c D n0 s0 Q h pc lv (.int x :: st) :=
  fun H locs k' n ls h1 h2 h3 h4 h5 h6 h7 => lv_if_ge C.1 C.2.1 d ht (fun z => kt (by simpa using z) H locs k' n ls h1 h2 h3 h4 h5 h6 h7) (fun z => kf (by simpa using z) H locs k' n ls h1 h2 h3 h4 h5 h6 h7)
theorem v_if_gt (C : aC p l R s m meth c D n0 s0 own cc rf rl nL) {x : Int32} {off : Int} {tgt : Nat} (d : decode cc pc = .ok (.ifCond .gt off, 3)) (ht : (pc : Int) + off = (tgt : Int)) (kt : 0 < x → V p l e R s m args below meth c D n0 s0 Q h tgt lv st) (kf : ¬ 0 < x → V p l e R s m args below meth c D n0 s0 Q h (pc + 3) lv st) : V p l e R s m args below meth c D n0 s0 Q h pc lv (.int x :: st) :=
  fun H locs k' n ls h1 h2 h3 h4 h5 h6 h7 => lv_if_gt C.1 C.2.1 d ht (fun z => kt (by simpa using z) H locs k' n ls h1 h2 h3 h4 h5 h6 h7) (fun z => kf (by simpa using z) H locs k' n ls h1 h2 h3 h4 h5 h6 h7)
theorem v_if_le (C : aC p l R s m meth c D n0 s0 own cc rf rl nL) {x : Int32} {off : Int} {tgt : Nat} (d : decode cc pc = .ok (.ifCond .le off, 3)) (ht : (pc : Int) + off = (tgt : Int)) (kt : x ≤ 0 → V p l e R s m args below meth c D n0 s0 Q h tgt lv st) (kf : ¬ x ≤ 0 → V p l e R s m args below meth c D n0 s0 Q h (pc + 3) lv st) : V p l e R s m args below meth c D n0 s0 Q h pc lv (.int x :: st) :=
  fun H locs k' n ls h1 h2 h3 h4 h5 h6 h7 => lv_if_le C.1 C.2.1 d ht (fun z => kt (by simpa using z) H locs k' n ls h1 h2 h3 h4 h5 h6 h7) (fun z => kf (by simpa using z) H locs k' n ls h1 h2 h3 h4 h5 h6 h7)
theorem v_icmp_eq (C : aC p l R s m meth c D n0 s0 own cc rf rl nL) {x y : Int32} {off : Int} {tgt : Nat} (d : decode cc pc = .ok (.if_icmp .eq off, 3)) (ht : (pc : Int) + off = (tgt : Int)) (kt : x = y → V p l e R s m args below meth c D n0 s0 Q h tgt lv st) (kf : ¬ x = y → V p l e R s m args below meth c D n0 s0 Q h (pc + 3) lv st) : V p l e R s m args below meth c D n0 s0 Q h pc lv (.int y :: .int x :: st) :=
  fun H locs k' n ls h1 h2 h3 h4 h5 h6 h7 => lv_icmp_eq C.1 C.2.1 d ht (fun z => kt (by simpa using z) H locs k' n ls h1 h2 h3 h4 h5 h6 h7) (fun z => kf (by simpa using z) H locs k' n ls h1 h2 h3 h4 h5 h6 h7)
theorem v_icmp_ne (C : aC p l R s m meth c D n0 s0 own cc rf rl nL) {x y : Int32} {off : Int} {tgt : Nat} (d : decode cc pc = .ok (.if_icmp .ne off, 3)) (ht : (pc : Int) + off = (tgt : Int)) (kt : ¬ x = y → V p l e R s m args below meth c D n0 s0 Q h tgt lv st) (kf : ¬ (¬ x = y) → V p l e R s m args below meth c D n0 s0 Q h (pc + 3) lv st) : V p l e R s m args below meth c D n0 s0 Q h pc lv (.int y :: .int x :: st) :=
  fun H locs k' n ls h1 h2 h3 h4 h5 h6 h7 => lv_icmp_ne C.1 C.2.1 d ht (fun z => kt (by simpa using z) H locs k' n ls h1 h2 h3 h4 h5 h6 h7) (fun z => kf (by simpa using z) H locs k' n ls h1 h2 h3 h4 h5 h6 h7)
theorem v_icmp_lt (C : aC p l R s m meth c D n0 s0 own cc rf rl nL) {x y : Int32} {off : Int} {tgt : Nat} (d : decode cc pc = .ok (.if_icmp .lt off, 3)) (ht : (pc : Int) + off = (tgt : Int)) (kt : x < y → V p l e R s m args below meth c D n0 s0 Q h tgt lv st) (kf : ¬ x < y → V p l e R s m args below meth c D n0 s0 Q h (pc + 3) lv st) : V p l e R s m args below meth c D n0 s0 Q h pc lv (.int y :: .int x :: st) :=
  fun H locs k' n ls h1 h2 h3 h4 h5 h6 h7 => lv_icmp_lt C.1 C.2.1 d ht (fun z => kt (by simpa using z) H locs k' n ls h1 h2 h3 h4 h5 h6 h7) (fun z => kf (by simpa using z) H locs k' n ls h1 h2 h3 h4 h5 h6 h7)
theorem v_icmp_ge (C : aC p l R s m meth c D n0 s0 own cc rf rl nL) {x y : Int32} {off : Int} {tgt : Nat} (d : decode cc pc = .ok (.if_icmp .ge off, 3)) (ht : (pc : Int) + off = (tgt : Int)) (kt : y ≤ x → V p l e R s m args below meth c D n0 s0 Q h tgt lv st) (kf : ¬ y ≤ x → V p l e R s m args below meth c D n0 s0 Q h (pc + 3) lv st) : V p l e R s m args below meth c D n0 s0 Q h pc lv (.int y :: .int x :: st) :=
  fun H locs k' n ls h1 h2 h3 h4 h5 h6 h7 => lv_icmp_ge C.1 C.2.1 d ht (fun z => kt (by simpa using z) H locs k' n ls h1 h2 h3 h4 h5 h6 h7) (fun z => kf (by simpa using z) H locs k' n ls h1 h2 h3 h4 h5 h6 h7)
theorem v_icmp_gt (C : aC p l R s m meth c D n0 s0 own cc rf rl nL) {x y : Int32} {off : Int} {tgt : Nat} (d : decode cc pc = .ok (.if_icmp .gt off, 3)) (ht : (pc : Int) + off = (tgt : Int)) (kt : y < x → V p l e R s m args below meth c D n0 s0 Q h tgt lv st) (kf : ¬ y < x → V p l e R s m args below meth c D n0 s0 Q h (pc + 3) lv st) : V p l e R s m args below meth c D n0 s0 Q h pc lv (.int y :: .int x :: st) :=
  fun H locs k' n ls h1 h2 h3 h4 h5 h6 h7 => lv_icmp_gt C.1 C.2.1 d ht (fun z => kt (by simpa using z) H locs k' n ls h1 h2 h3 h4 h5 h6 h7) (fun z => kf (by simpa using z) H locs k' n ls h1 h2 h3 h4 h5 h6 h7)
theorem v_icmp_le (C : aC p l R s m meth c D n0 s0 own cc rf rl nL) {x y : Int32} {off : Int} {tgt : Nat} (d : decode cc pc = .ok (.if_icmp .le off, 3)) (ht : (pc : Int) + off = (tgt : Int)) (kt : x ≤ y → V p l e R s m args below meth c D n0 s0 Q h tgt lv st) (kf : ¬ x ≤ y → V p l e R s m args below meth c D n0 s0 Q h (pc + 3) lv st) : V p l e R s m args below meth c D n0 s0 Q h pc lv (.int y :: .int x :: st) :=
  fun H locs k' n ls h1 h2 h3 h4 h5 h6 h7 => lv_icmp_le C.1 C.2.1 d ht (fun z => kt (by simpa using z) H locs k' n ls h1 h2 h3 h4 h5 h6 h7) (fun z => kf (by simpa using z) H locs k' n ls h1 h2 h3 h4 h5 h6 h7)
theorem v_acmp_eq (C : aC p l R s m meth c D n0 s0 own cc rf rl nL) {rx ry : Option Nat} {off : Int} {tgt : Nat} (d : decode cc pc = .ok (.if_acmp .eq off, 3)) (ht : (pc : Int) + off = (tgt : Int)) (kt : rx = ry → V p l e R s m args below meth c D n0 s0 Q h tgt lv st) (kf : ¬ rx = ry → V p l e R s m args below meth c D n0 s0 Q h (pc + 3) lv st) : V p l e R s m args below meth c D n0 s0 Q h pc lv (va_rf ry :: va_rf rx :: st) :=
  fun H locs k' n ls h1 h2 h3 h4 h5 h6 h7 => lv_acmp_eq C.1 C.2.1 d ht (fun z => kt (by simpa using z) H locs k' n ls h1 h2 h3 h4 h5 h6 h7) (fun z => kf (by simpa using z) H locs k' n ls h1 h2 h3 h4 h5 h6 h7)
theorem v_acmp_ne (C : aC p l R s m meth c D n0 s0 own cc rf rl nL) {rx ry : Option Nat} {off : Int} {tgt : Nat} (d : decode cc pc = .ok (.if_acmp .ne off, 3)) (ht : (pc : Int) + off = (tgt : Int)) (kt : ¬ rx = ry → V p l e R s m args below meth c D n0 s0 Q h tgt lv st) (kf : ¬ (¬ rx = ry) → V p l e R s m args below meth c D n0 s0 Q h (pc + 3) lv st) : V p l e R s m args below meth c D n0 s0 Q h pc lv (va_rf ry :: va_rf rx :: st) :=
  fun H locs k' n ls h1 h2 h3 h4 h5 h6 h7 => lv_acmp_ne C.1 C.2.1 d ht (fun z => kt (by simpa using z) H locs k' n ls h1 h2 h3 h4 h5 h6 h7) (fun z => kf (by simpa using z) H locs k' n ls h1 h2 h3 h4 h5 h6 h7)
theorem v_ifnull (C : aC p l R s m meth c D n0 s0 own cc rf rl nL) {r : Option Nat} {off : Int} {tgt : Nat} (d : decode cc pc = .ok (.ifnull off, 3)) (ht : (pc : Int) + off = (tgt : Int)) (kt : r = none → V p l e R s m args below meth c D n0 s0 Q h tgt lv st) (kf : ¬ r = none → V p l e R s m args below meth c D n0 s0 Q h (pc + 3) lv st) : V p l e R s m args below meth c D n0 s0 Q h pc lv (va_rf r :: st) := by
  intro H locs k' n ls h1 h2 h3 h4 h5 h6 h7
  cases r with
  | none => exact lv_ifnullN C.1 C.2.1 d ht (kt rfl H locs k' n ls h1 h2 h3 h4 h5 h6 h7)
  | some x => exact lv_ifnull C.1 C.2.1 d (kf (by simp) H locs k' n ls h1 h2 h3 h4 h5 h6 h7)
theorem v_ifnonnull (C : aC p l R s m meth c D n0 s0 own cc rf rl nL) {r : Option Nat} {off : Int} {tgt : Nat} (d : decode cc pc = .ok (.ifnonnull off, 3)) (ht : (pc : Int) + off = (tgt : Int)) (kt : ¬ r = none → V p l e R s m args below meth c D n0 s0 Q h tgt lv st) (kf : r = none → V p l e R s m args below meth c D n0 s0 Q h (pc + 3) lv st) : V p l e R s m args below meth c D n0 s0 Q h pc lv (va_rf r :: st) := by
  intro H locs k' n ls h1 h2 h3 h4 h5 h6 h7
  cases r with
  | none => exact lv_ifnonnullN C.1 C.2.1 d (kf rfl H locs k' n ls h1 h2 h3 h4 h5 h6 h7)
  | some x => exact lv_ifnonnull C.1 C.2.1 d ht (kt (by simp) H locs k' n ls h1 h2 h3 h4 h5 h6 h7)
theorem v_iload_n (C : aC p l R s m meth c D n0 s0 own cc rf rl nL) {q : Fin 4} {i j : Nat} {w : Bool} {x : Int32} (d : decode cc pc = .ok (.iload_n q, 1)) (hi : (q : Nat) = i) (hl : lv[j]? = some (i, w, .int x)) (k : V p l e R s m args below meth c D n0 s0 Q h (pc + 1) lv (.int x :: st)) : V p l e R s m args below meth c D n0 s0 Q h pc lv st :=
  fun H locs k' n ls h1 h2 h3 h4 h5 h6 h7 => lv_iload_n C.1 C.2.1 d hi (h7.at j hl) (k H locs k' n ls h1 h2 h3 h4 h5 h6 h7)
theorem v_iload (C : aC p l R s m meth c D n0 s0 own cc rf rl nL) {i j : Nat} {w : Bool} {x : Int32} (d : decode cc pc = .ok (.iload i, 2)) (hl : lv[j]? = some (i, w, .int x)) (k : V p l e R s m args below meth c D n0 s0 Q h (pc + 2) lv (.int x :: st)) : V p l e R s m args below meth c D n0 s0 Q h pc lv st :=
  fun H locs k' n ls h1 h2 h3 h4 h5 h6 h7 => lv_iload C.1 C.2.1 d (h7.at j hl) (k H locs k' n ls h1 h2 h3 h4 h5 h6 h7)
theorem v_lload_n (C : aC p l R s m meth c D n0 s0 own cc rf rl nL) {q : Fin 4} {i j : Nat} {w : Bool} {x : Int64} (d : decode cc pc = .ok (.lload_n q, 1)) (hi : (q : Nat) = i) (hl : lv[j]? = some (i, w, .long x)) (k : V p l e R s m args below meth c D n0 s0 Q h (pc + 1) lv (.long x :: st)) : V p l e R s m args below meth c D n0 s0 Q h pc lv st :=
  fun H locs k' n ls h1 h2 h3 h4 h5 h6 h7 => lv_lload_n C.1 C.2.1 d hi (h7.at j hl) (k H locs k' n ls h1 h2 h3 h4 h5 h6 h7)
theorem v_lload (C : aC p l R s m meth c D n0 s0 own cc rf rl nL) {i j : Nat} {w : Bool} {x : Int64} (d : decode cc pc = .ok (.lload i, 2)) (hl : lv[j]? = some (i, w, .long x)) (k : V p l e R s m args below meth c D n0 s0 Q h (pc + 2) lv (.long x :: st)) : V p l e R s m args below meth c D n0 s0 Q h pc lv st :=
  fun H locs k' n ls h1 h2 h3 h4 h5 h6 h7 => lv_lload C.1 C.2.1 d (h7.at j hl) (k H locs k' n ls h1 h2 h3 h4 h5 h6 h7)
theorem v_dload_n (C : aC p l R s m meth c D n0 s0 own cc rf rl nL) {q : Fin 4} {i j : Nat} {w : Bool} {x : UInt64} (d : decode cc pc = .ok (.dload_n q, 1)) (hi : (q : Nat) = i) (hl : lv[j]? = some (i, w, .double x)) (k : V p l e R s m args below meth c D n0 s0 Q h (pc + 1) lv (.double x :: st)) : V p l e R s m args below meth c D n0 s0 Q h pc lv st :=
  fun H locs k' n ls h1 h2 h3 h4 h5 h6 h7 => lv_dload_n C.1 C.2.1 d hi (h7.at j hl) (k H locs k' n ls h1 h2 h3 h4 h5 h6 h7)
theorem v_dload (C : aC p l R s m meth c D n0 s0 own cc rf rl nL) {i j : Nat} {w : Bool} {x : UInt64} (d : decode cc pc = .ok (.dload i, 2)) (hl : lv[j]? = some (i, w, .double x)) (k : V p l e R s m args below meth c D n0 s0 Q h (pc + 2) lv (.double x :: st)) : V p l e R s m args below meth c D n0 s0 Q h pc lv st :=
  fun H locs k' n ls h1 h2 h3 h4 h5 h6 h7 => lv_dload C.1 C.2.1 d (h7.at j hl) (k H locs k' n ls h1 h2 h3 h4 h5 h6 h7)
theorem v_aload_n (C : aC p l R s m meth c D n0 s0 own cc rf rl nL) {q : Fin 4} {i j : Nat} {w : Bool} {r : Option Nat} (d : decode cc pc = .ok (.aload_n q, 1)) (hi : (q : Nat) = i) (hl : lv[j]? = some (i, w, va_rf r)) (k : V p l e R s m args below meth c D n0 s0 Q h (pc + 1) lv (va_rf r :: st)) : V p l e R s m args below meth c D n0 s0 Q h pc lv st := by
  intro H locs k' n ls h1 h2 h3 h4 h5 h6 h7
  cases r with
  | none => exact lv_aload_nN C.1 C.2.1 d hi (h7.at j hl) (k H locs k' n ls h1 h2 h3 h4 h5 h6 h7)
  | some x => exact lv_aload_n C.1 C.2.1 d hi (h7.at j hl) (k H locs k' n ls h1 h2 h3 h4 h5 h6 h7)
theorem v_aload (C : aC p l R s m meth c D n0 s0 own cc rf rl nL) {i j : Nat} {w : Bool} {r : Option Nat} (d : decode cc pc = .ok (.aload i, 2)) (hl : lv[j]? = some (i, w, va_rf r)) (k : V p l e R s m args below meth c D n0 s0 Q h (pc + 2) lv (va_rf r :: st)) : V p l e R s m args below meth c D n0 s0 Q h pc lv st := by
  intro H locs k' n ls h1 h2 h3 h4 h5 h6 h7
  cases r with
  | none => exact lv_aloadN C.1 C.2.1 d (h7.at j hl) (k H locs k' n ls h1 h2 h3 h4 h5 h6 h7)
  | some x => exact lv_aload C.1 C.2.1 d (h7.at j hl) (k H locs k' n ls h1 h2 h3 h4 h5 h6 h7)
theorem v_istore_n (C : aC p l R s m meth c D n0 s0 own cc rf rl nL) {q : Fin 4} {i : Nat} {x : Int32} {lv' : aLv} (d : decode cc pc = .ok (.istore_n q, 1)) (hi : (q : Nat) = i) (hn : i < nL) (hl : (i, false, Value.int x) :: lv.filter (fun q => !(q.1 == i) && !(q.1 + 1 == i && q.2.1)) = lv') (k : V p l e R s m args below meth c D n0 s0 Q h (pc + 1) lv' st) : V p l e R s m args below meth c D n0 s0 Q h pc lv (.int x :: st) := by
  intro H locs k' n ls h1 h2 h3 h4 h5 h6 h7
  subst hi
  obtain ⟨ls', e', h'⟩ := h7.st1 (v := .int x) (by rw [C.2.2.2.2.2.2.2.2.2.2.2]; exact hn) rfl hl
  intro T hT X
  obtain ⟨t, a, b⟩ := k H locs k' n ls' h1 h2 h3 h4 h5 h6 h' T hT X
  refine ⟨t, ?_, b⟩
  jvm_step X.here [X.here.top, ↓top_set X.here.top, C.1, C.2.1, d, e']
  exact a
theorem v_istore (C : aC p l R s m meth c D n0 s0 own cc rf rl nL) {i : Nat} {x : Int32} {lv' : aLv} (d : decode cc pc = .ok (.istore i, 2)) (hn : i < nL) (hl : (i, false, Value.int x) :: lv.filter (fun q => !(q.1 == i) && !(q.1 + 1 == i && q.2.1)) = lv') (k : V p l e R s m args below meth c D n0 s0 Q h (pc + 2) lv' st) : V p l e R s m args below meth c D n0 s0 Q h pc lv (.int x :: st) := by
  intro H locs k' n ls h1 h2 h3 h4 h5 h6 h7
  skip
  obtain ⟨ls', e', h'⟩ := h7.st1 (v := .int x) (by rw [C.2.2.2.2.2.2.2.2.2.2.2]; exact hn) rfl hl
  intro T hT X
  obtain ⟨t, a, b⟩ := k H locs k' n ls' h1 h2 h3 h4 h5 h6 h' T hT X
  refine ⟨t, ?_, b⟩
  jvm_step X.here [X.here.top, ↓top_set X.here.top, C.1, C.2.1, d, e']
  exact a
theorem v_lstore_n (C : aC p l R s m meth c D n0 s0 own cc rf rl nL) {q : Fin 4} {i : Nat} {x : Int64} {lv' : aLv} (d : decode cc pc = .ok (.lstore_n q, 1)) (hi : (q : Nat) = i) (hn : i + 1 < nL) (hl : (i, true, Value.long x) :: lv.filter (fun q => !(q.1 == i) && (!(q.1 == i + 1) && !(q.1 + 1 == i && q.2.1))) = lv') (k : V p l e R s m args below meth c D n0 s0 Q h (pc + 1) lv' st) : V p l e R s m args below meth c D n0 s0 Q h pc lv (.long x :: st) := by
  intro H locs k' n ls h1 h2 h3 h4 h5 h6 h7
  subst hi
  obtain ⟨ls', e', h'⟩ := h7.st2 (v := .long x) (by rw [C.2.2.2.2.2.2.2.2.2.2.2]; exact hn) rfl hl
  intro T hT X
  obtain ⟨t, a, b⟩ := k H locs k' n ls' h1 h2 h3 h4 h5 h6 h' T hT X
  refine ⟨t, ?_, b⟩
  jvm_step X.here [X.here.top, ↓top_set X.here.top, C.1, C.2.1, d, e']
  exact a
theorem v_lstore (C : aC p l R s m meth c D n0 s0 own cc rf rl nL) {i : Nat} {x : Int64} {lv' : aLv} (d : decode cc pc = .ok (.lstore i, 2)) (hn : i + 1 < nL) (hl : (i, true, Value.long x) :: lv.filter (fun q => !(q.1 == i) && (!(q.1 == i + 1) && !(q.1 + 1 == i && q.2.1))) = lv') (k : V p l e R s m args below meth c D n0 s0 Q h (pc + 2) lv' st) : V p l e R s m args below meth c D n0 s0 Q h pc lv (.long x :: st) := by
  intro H locs k' n ls h1 h2 h3 h4 h5 h6 h7
  skip
  obtain ⟨ls', e', h'⟩ := h7.st2 (v := .long x) (by rw [C.2.2.2.2.2.2.2.2.2.2.2]; exact hn) rfl hl
  intro T hT X
  obtain ⟨t, a, b⟩ := k H locs k' n ls' h1 h2 h3 h4 h5 h6 h' T hT X
  refine ⟨t, ?_, b⟩
  jvm_step X.here [X.here.top, ↓top_set X.here.top, C.1, C.2.1, d, e']
  exact a
theorem v_dstore_n (C : aC p l R s m meth c D n0 s0 own cc rf rl nL) {q : Fin 4} {i : Nat} {x : UInt64} {lv' : aLv} (d : decode cc pc = .ok (.dstore_n q, 1)) (hi : (q : Nat) = i) (hn : i + 1 < nL) (hl : (i, true, Value.double x) :: lv.filter (fun q => !(q.1 == i) && (!(q.1 == i + 1) && !(q.1 + 1 == i && q.2.1))) = lv') (k : V p l e R s m args below meth c D n0 s0 Q h (pc + 1) lv' st) : V p l e R s m args below meth c D n0 s0 Q h pc lv (.double x :: st) := by
  intro H locs k' n ls h1 h2 h3 h4 h5 h6 h7
  subst hi
  obtain ⟨ls', e', h'⟩ := h7.st2 (v := .double x) (by rw [C.2.2.2.2.2.2.2.2.2.2.2]; exact hn) rfl hl
  intro T hT X
  obtain ⟨t, a, b⟩ := k H locs k' n ls' h1 h2 h3 h4 h5 h6 h' T hT X
  refine ⟨t, ?_, b⟩
  jvm_step X.here [X.here.top, ↓top_set X.here.top, C.1, C.2.1, d, e']
  exact a
theorem v_dstore (C : aC p l R s m meth c D n0 s0 own cc rf rl nL) {i : Nat} {x : UInt64} {lv' : aLv} (d : decode cc pc = .ok (.dstore i, 2)) (hn : i + 1 < nL) (hl : (i, true, Value.double x) :: lv.filter (fun q => !(q.1 == i) && (!(q.1 == i + 1) && !(q.1 + 1 == i && q.2.1))) = lv') (k : V p l e R s m args below meth c D n0 s0 Q h (pc + 2) lv' st) : V p l e R s m args below meth c D n0 s0 Q h pc lv (.double x :: st) := by
  intro H locs k' n ls h1 h2 h3 h4 h5 h6 h7
  skip
  obtain ⟨ls', e', h'⟩ := h7.st2 (v := .double x) (by rw [C.2.2.2.2.2.2.2.2.2.2.2]; exact hn) rfl hl
  intro T hT X
  obtain ⟨t, a, b⟩ := k H locs k' n ls' h1 h2 h3 h4 h5 h6 h' T hT X
  refine ⟨t, ?_, b⟩
  jvm_step X.here [X.here.top, ↓top_set X.here.top, C.1, C.2.1, d, e']
  exact a
theorem v_astore_n (C : aC p l R s m meth c D n0 s0 own cc rf rl nL) {q : Fin 4} {i : Nat} {r : Option Nat} {lv' : aLv} (d : decode cc pc = .ok (.astore_n q, 1)) (hi : (q : Nat) = i) (hn : i < nL) (hl : (i, false, va_rf r) :: lv.filter (fun q => !(q.1 == i) && !(q.1 + 1 == i && q.2.1)) = lv') (k : V p l e R s m args below meth c D n0 s0 Q h (pc + 1) lv' st) : V p l e R s m args below meth c D n0 s0 Q h pc lv (va_rf r :: st) := by
  intro H locs k' n ls h1 h2 h3 h4 h5 h6 h7
  subst hi
  obtain ⟨ls', e', h'⟩ := h7.st1 (v := va_rf r) (by rw [C.2.2.2.2.2.2.2.2.2.2.2]; exact hn) (va_rfc r) hl
  intro T hT X
  obtain ⟨t, a, b⟩ := k H locs k' n ls' h1 h2 h3 h4 h5 h6 h' T hT X
  refine ⟨t, ?_, b⟩
  cases r <;> (simp only [va_rf] at e' a ⊢; jvm_step X.here [X.here.top, ↓top_set X.here.top, C.1, C.2.1, d, e', Value.isRef]; exact a)
theorem v_astore (C : aC p l R s m meth c D n0 s0 own cc rf rl nL) {i : Nat} {r : Option Nat} {lv' : aLv} (d : decode cc pc = .ok (.astore i, 2)) (hn : i < nL) (hl : (i, false, va_rf r) :: lv.filter (fun q => !(q.1 == i) && !(q.1 + 1 == i && q.2.1)) = lv') (k : V p l e R s m args below meth c D n0 s0 Q h (pc + 2) lv' st) : V p l e R s m args below meth c D n0 s0 Q h pc lv (va_rf r :: st) := by
  intro H locs k' n ls h1 h2 h3 h4 h5 h6 h7
  skip
  obtain ⟨ls', e', h'⟩ := h7.st1 (v := va_rf r) (by rw [C.2.2.2.2.2.2.2.2.2.2.2]; exact hn) (va_rfc r) hl
  intro T hT X
  obtain ⟨t, a, b⟩ := k H locs k' n ls' h1 h2 h3 h4 h5 h6 h' T hT X
  refine ⟨t, ?_, b⟩
  cases r <;> (simp only [va_rf] at e' a ⊢; jvm_step X.here [X.here.top, ↓top_set X.here.top, C.1, C.2.1, d, e', Value.isRef]; exact a)
theorem v_iinc (C : aC p l R s m meth c D n0 s0 own cc rf rl nL) {i j : Nat} {w : Bool} {z : Int} {x v : Int32} {lv' : aLv} (d : decode cc pc = .ok (.iinc i z, 3)) (hj : lv[j]? = some (i, w, .int x)) (hv : x + Int32.ofInt z = v) (hn : i < nL) (hl : (i, false, Value.int v) :: lv.filter (fun q => !(q.1 == i) && !(q.1 + 1 == i && q.2.1)) = lv') (k : V p l e R s m args below meth c D n0 s0 Q h (pc + 3) lv' st) : V p l e R s m args below meth c D n0 s0 Q h pc lv st := by
  intro H locs k' n ls h1 h2 h3 h4 h5 h6 h7
  subst hv
  have hg := h7.at j hj
  obtain ⟨ls', e', h'⟩ := h7.st1 (v := .int (x + Int32.ofInt z)) (by rw [C.2.2.2.2.2.2.2.2.2.2.2]; exact hn) rfl hl
  intro T hT X
  obtain ⟨t, a, b⟩ := k H locs k' n ls' h1 h2 h3 h4 h5 h6 h' T hT X
  refine ⟨t, ?_, b⟩
  jvm_step X.here [X.here.top, ↓top_set X.here.top, C.1, C.2.1, d, hg, e']
  exact a
theorem v_ldc (C : aC p l R s m meth c D n0 s0 own cc rf rl nL) {index : Nat} {v : Int32} (hc : Jvm.Cond.constant own index v ∈ lw_all) (d : decode cc pc = .ok (.ldc index, 2)) (k : V p l e R s m args below meth c D n0 s0 Q h (pc + 2) lv (.int v :: st)) : V p l e R s m args below meth c D n0 s0 Q h pc lv st :=
  fun H locs k' n ls h1 h2 h3 h4 h5 h6 h7 => lv_ldc C.1 C.2.1 C.2.2.1 (C.2.2.2.1.1.use (g_all hc)) d (k H locs k' n ls h1 h2 h3 h4 h5 h6 h7)
theorem v_ldc2 (C : aC p l R s m meth c D n0 s0 own cc rf rl nL) {index : Nat} {v : Int64} (hc : Jvm.Cond.constantLong own index v ∈ lw_all) (d : decode cc pc = .ok (.ldc2_w index, 3)) (k : V p l e R s m args below meth c D n0 s0 Q h (pc + 3) lv (.long v :: st)) : V p l e R s m args below meth c D n0 s0 Q h pc lv st :=
  fun H locs k' n ls h1 h2 h3 h4 h5 h6 h7 => lv_ldc2 C.1 C.2.1 C.2.2.1 (C.2.2.2.1.1.use (g_all hc)) d (k H locs k' n ls h1 h2 h3 h4 h5 h6 h7)
end AR
