set_option maxRecDepth 100000
section ZWP
variable {X : zw_X} {cc : ByteArray} {own nm : String} {nL kc ks pc : Nat} {h : zw_H} {L L' : List (Nat × Value)} {S : List Value}
theorem zg_iadd {x y : Int32} (ok : zw_ok X cc own nm nL) (d : decode cc pc = .ok (.iadd, 1))  (g : zw_G X kc ks nL h (pc + 1) L (.int (x + y) :: S)) : zw_G X kc ks nL h pc L (.int y :: .int x :: S) := by
  obtain ⟨p, l, e, R, s, m, args, below, meth, c, Z, Q⟩ := X
  obtain ⟨hx, hb, -⟩ := ok
  intro H locs ls hR hz hc hl
  exact lv_iadd hx hb d  (g H locs ls hR hz hc hl)
theorem zg_isub {x y : Int32} (ok : zw_ok X cc own nm nL) (d : decode cc pc = .ok (.isub, 1))  (g : zw_G X kc ks nL h (pc + 1) L (.int (x - y) :: S)) : zw_G X kc ks nL h pc L (.int y :: .int x :: S) := by
  obtain ⟨p, l, e, R, s, m, args, below, meth, c, Z, Q⟩ := X
  obtain ⟨hx, hb, -⟩ := ok
  intro H locs ls hR hz hc hl
  exact lv_isub hx hb d  (g H locs ls hR hz hc hl)
theorem zg_imul {x y : Int32} (ok : zw_ok X cc own nm nL) (d : decode cc pc = .ok (.imul, 1))  (g : zw_G X kc ks nL h (pc + 1) L (.int (x * y) :: S)) : zw_G X kc ks nL h pc L (.int y :: .int x :: S) := by
  obtain ⟨p, l, e, R, s, m, args, below, meth, c, Z, Q⟩ := X
  obtain ⟨hx, hb, -⟩ := ok
  intro H locs ls hR hz hc hl
  exact lv_imul hx hb d  (g H locs ls hR hz hc hl)
theorem zg_iand {x y : Int32} (ok : zw_ok X cc own nm nL) (d : decode cc pc = .ok (.iand, 1))  (g : zw_G X kc ks nL h (pc + 1) L (.int (x &&& y) :: S)) : zw_G X kc ks nL h pc L (.int y :: .int x :: S) := by
  obtain ⟨p, l, e, R, s, m, args, below, meth, c, Z, Q⟩ := X
  obtain ⟨hx, hb, -⟩ := ok
  intro H locs ls hR hz hc hl
  exact lv_iand hx hb d  (g H locs ls hR hz hc hl)
theorem zg_ior {x y : Int32} (ok : zw_ok X cc own nm nL) (d : decode cc pc = .ok (.ior, 1))  (g : zw_G X kc ks nL h (pc + 1) L (.int (x ||| y) :: S)) : zw_G X kc ks nL h pc L (.int y :: .int x :: S) := by
  obtain ⟨p, l, e, R, s, m, args, below, meth, c, Z, Q⟩ := X
  obtain ⟨hx, hb, -⟩ := ok
  intro H locs ls hR hz hc hl
  exact lv_ior hx hb d  (g H locs ls hR hz hc hl)
theorem zg_ixor {x y : Int32} (ok : zw_ok X cc own nm nL) (d : decode cc pc = .ok (.ixor, 1))  (g : zw_G X kc ks nL h (pc + 1) L (.int (x ^^^ y) :: S)) : zw_G X kc ks nL h pc L (.int y :: .int x :: S) := by
  obtain ⟨p, l, e, R, s, m, args, below, meth, c, Z, Q⟩ := X
  obtain ⟨hx, hb, -⟩ := ok
  intro H locs ls hR hz hc hl
  exact lv_ixor hx hb d  (g H locs ls hR hz hc hl)
theorem zg_ishl {x y : Int32} (ok : zw_ok X cc own nm nL) (d : decode cc pc = .ok (.ishl, 1))  (g : zw_G X kc ks nL h (pc + 1) L (.int (x <<< (y &&& 31)) :: S)) : zw_G X kc ks nL h pc L (.int y :: .int x :: S) := by
  obtain ⟨p, l, e, R, s, m, args, below, meth, c, Z, Q⟩ := X
  obtain ⟨hx, hb, -⟩ := ok
  intro H locs ls hR hz hc hl
  exact lv_ishl hx hb d  (g H locs ls hR hz hc hl)
theorem zg_ishr {x y : Int32} (ok : zw_ok X cc own nm nL) (d : decode cc pc = .ok (.ishr, 1))  (g : zw_G X kc ks nL h (pc + 1) L (.int (x >>> (y &&& 31)) :: S)) : zw_G X kc ks nL h pc L (.int y :: .int x :: S) := by
  obtain ⟨p, l, e, R, s, m, args, below, meth, c, Z, Q⟩ := X
  obtain ⟨hx, hb, -⟩ := ok
  intro H locs ls hR hz hc hl
  exact lv_ishr hx hb d  (g H locs ls hR hz hc hl)
theorem zg_iushr {x y : Int32} (ok : zw_ok X cc own nm nL) (d : decode cc pc = .ok (.iushr, 1))  (g : zw_G X kc ks nL h (pc + 1) L (.int ((x.toUInt32 >>> (y.toUInt32 &&& Int32.toUInt32 31)).toInt32) :: S)) : zw_G X kc ks nL h pc L (.int y :: .int x :: S) := by
  obtain ⟨p, l, e, R, s, m, args, below, meth, c, Z, Q⟩ := X
  obtain ⟨hx, hb, -⟩ := ok
  intro H locs ls hR hz hc hl
  exact lv_iushr hx hb d rfl (g H locs ls hR hz hc hl)
theorem zg_ineg {x : Int32} (ok : zw_ok X cc own nm nL) (d : decode cc pc = .ok (.ineg, 1))  (g : zw_G X kc ks nL h (pc + 1) L (.int (-x) :: S)) : zw_G X kc ks nL h pc L (.int x :: S) := by
  obtain ⟨p, l, e, R, s, m, args, below, meth, c, Z, Q⟩ := X
  obtain ⟨hx, hb, -⟩ := ok
  intro H locs ls hR hz hc hl
  exact lv_ineg hx hb d  (g H locs ls hR hz hc hl)
theorem zg_idiv {x y : Int32} (ok : zw_ok X cc own nm nL) (d : decode cc pc = .ok (.idiv, 1)) (hne : ¬ y = 0) (g : zw_G X kc ks nL h (pc + 1) L (.int (x / y) :: S)) : zw_G X kc ks nL h pc L (.int y :: .int x :: S) := by
  obtain ⟨p, l, e, R, s, m, args, below, meth, c, Z, Q⟩ := X
  obtain ⟨hx, hb, -⟩ := ok
  intro H locs ls hR hz hc hl
  exact lv_idiv hx hb d hne (g H locs ls hR hz hc hl)
theorem zg_irem {x y : Int32} (ok : zw_ok X cc own nm nL) (d : decode cc pc = .ok (.irem, 1)) (hne : ¬ y = 0) (g : zw_G X kc ks nL h (pc + 1) L (.int (x - x / y * y) :: S)) : zw_G X kc ks nL h pc L (.int y :: .int x :: S) := by
  obtain ⟨p, l, e, R, s, m, args, below, meth, c, Z, Q⟩ := X
  obtain ⟨hx, hb, -⟩ := ok
  intro H locs ls hR hz hc hl
  exact lv_irem hx hb d hne (g H locs ls hR hz hc hl)
theorem zg_ladd {x y : Int64} (ok : zw_ok X cc own nm nL) (d : decode cc pc = .ok (.ladd, 1))  (g : zw_G X kc ks nL h (pc + 1) L (.long (x + y) :: S)) : zw_G X kc ks nL h pc L (.long y :: .long x :: S) := by
  obtain ⟨p, l, e, R, s, m, args, below, meth, c, Z, Q⟩ := X
  obtain ⟨hx, hb, -⟩ := ok
  intro H locs ls hR hz hc hl
  exact lv_ladd hx hb d  (g H locs ls hR hz hc hl)
theorem zg_lsub {x y : Int64} (ok : zw_ok X cc own nm nL) (d : decode cc pc = .ok (.lsub, 1))  (g : zw_G X kc ks nL h (pc + 1) L (.long (x - y) :: S)) : zw_G X kc ks nL h pc L (.long y :: .long x :: S) := by
  obtain ⟨p, l, e, R, s, m, args, below, meth, c, Z, Q⟩ := X
  obtain ⟨hx, hb, -⟩ := ok
  intro H locs ls hR hz hc hl
  exact lv_lsub hx hb d  (g H locs ls hR hz hc hl)
theorem zg_lmul {x y : Int64} (ok : zw_ok X cc own nm nL) (d : decode cc pc = .ok (.lmul, 1))  (g : zw_G X kc ks nL h (pc + 1) L (.long (x * y) :: S)) : zw_G X kc ks nL h pc L (.long y :: .long x :: S) := by
  obtain ⟨p, l, e, R, s, m, args, below, meth, c, Z, Q⟩ := X
  obtain ⟨hx, hb, -⟩ := ok
  intro H locs ls hR hz hc hl
  exact lv_lmul hx hb d  (g H locs ls hR hz hc hl)
theorem zg_land {x y : Int64} (ok : zw_ok X cc own nm nL) (d : decode cc pc = .ok (.land, 1))  (g : zw_G X kc ks nL h (pc + 1) L (.long (x &&& y) :: S)) : zw_G X kc ks nL h pc L (.long y :: .long x :: S) := by
  obtain ⟨p, l, e, R, s, m, args, below, meth, c, Z, Q⟩ := X
  obtain ⟨hx, hb, -⟩ := ok
  intro H locs ls hR hz hc hl
  exact lv_land hx hb d  (g H locs ls hR hz hc hl)
theorem zg_lor {x y : Int64} (ok : zw_ok X cc own nm nL) (d : decode cc pc = .ok (.lor, 1))  (g : zw_G X kc ks nL h (pc + 1) L (.long (x ||| y) :: S)) : zw_G X kc ks nL h pc L (.long y :: .long x :: S) := by
  obtain ⟨p, l, e, R, s, m, args, below, meth, c, Z, Q⟩ := X
  obtain ⟨hx, hb, -⟩ := ok
  intro H locs ls hR hz hc hl
  exact lv_lor hx hb d  (g H locs ls hR hz hc hl)
theorem zg_lxor {x y : Int64} (ok : zw_ok X cc own nm nL) (d : decode cc pc = .ok (.lxor, 1))  (g : zw_G X kc ks nL h (pc + 1) L (.long (x ^^^ y) :: S)) : zw_G X kc ks nL h pc L (.long y :: .long x :: S) := by
  obtain ⟨p, l, e, R, s, m, args, below, meth, c, Z, Q⟩ := X
  obtain ⟨hx, hb, -⟩ := ok
  intro H locs ls hR hz hc hl
  exact lv_lxor hx hb d  (g H locs ls hR hz hc hl)
theorem zg_ldiv {x y : Int64} (ok : zw_ok X cc own nm nL) (d : decode cc pc = .ok (.ldiv, 1)) (hne : ¬ y = 0) (g : zw_G X kc ks nL h (pc + 1) L (.long (x / y) :: S)) : zw_G X kc ks nL h pc L (.long y :: .long x :: S) := by
  obtain ⟨p, l, e, R, s, m, args, below, meth, c, Z, Q⟩ := X
  obtain ⟨hx, hb, -⟩ := ok
  intro H locs ls hR hz hc hl
  exact lv_ldiv hx hb d hne (g H locs ls hR hz hc hl)
theorem zg_lneg {x : Int64} (ok : zw_ok X cc own nm nL) (d : decode cc pc = .ok (.lneg, 1))  (g : zw_G X kc ks nL h (pc + 1) L (.long (-x) :: S)) : zw_G X kc ks nL h pc L (.long x :: S) := by
  obtain ⟨p, l, e, R, s, m, args, below, meth, c, Z, Q⟩ := X
  obtain ⟨hx, hb, -⟩ := ok
  intro H locs ls hR hz hc hl
  exact lv_lneg hx hb d  (g H locs ls hR hz hc hl)
theorem zg_lshl {x : Int64} {y : Int32} (ok : zw_ok X cc own nm nL) (d : decode cc pc = .ok (.lshl, 1))  (g : zw_G X kc ks nL h (pc + 1) L (.long (x <<< (y.toInt64 &&& 63)) :: S)) : zw_G X kc ks nL h pc L (.int y :: .long x :: S) := by
  obtain ⟨p, l, e, R, s, m, args, below, meth, c, Z, Q⟩ := X
  obtain ⟨hx, hb, -⟩ := ok
  intro H locs ls hR hz hc hl
  exact lv_lshl hx hb d rfl (g H locs ls hR hz hc hl)
theorem zg_lushr {x : Int64} {y : Int32} (ok : zw_ok X cc own nm nL) (d : decode cc pc = .ok (.lushr, 1))  (g : zw_G X kc ks nL h (pc + 1) L (.long ((x.toUInt64 >>> (y.toInt64.toUInt64 &&& Int64.toUInt64 63)).toInt64) :: S)) : zw_G X kc ks nL h pc L (.int y :: .long x :: S) := by
  obtain ⟨p, l, e, R, s, m, args, below, meth, c, Z, Q⟩ := X
  obtain ⟨hx, hb, -⟩ := ok
  intro H locs ls hR hz hc hl
  exact lv_lushr hx hb d rfl (g H locs ls hR hz hc hl)
theorem zg_lcmp {x y : Int64} (ok : zw_ok X cc own nm nL) (d : decode cc pc = .ok (.lcmp, 1))  (g : zw_G X kc ks nL h (pc + 1) L (.int (lg_cmp x y) :: S)) : zw_G X kc ks nL h pc L (.long y :: .long x :: S) := by
  obtain ⟨p, l, e, R, s, m, args, below, meth, c, Z, Q⟩ := X
  obtain ⟨hx, hb, -⟩ := ok
  intro H locs ls hR hz hc hl
  exact W.lcmp hx hb d  (g H locs ls hR hz hc hl)
theorem zg_i2l {x : Int32} (ok : zw_ok X cc own nm nL) (d : decode cc pc = .ok (.i2l, 1))  (g : zw_G X kc ks nL h (pc + 1) L (.long x.toInt64 :: S)) : zw_G X kc ks nL h pc L (.int x :: S) := by
  obtain ⟨p, l, e, R, s, m, args, below, meth, c, Z, Q⟩ := X
  obtain ⟨hx, hb, -⟩ := ok
  intro H locs ls hR hz hc hl
  exact lv_i2l hx hb d rfl (g H locs ls hR hz hc hl)
theorem zg_l2i {x : Int64} (ok : zw_ok X cc own nm nL) (d : decode cc pc = .ok (.l2i, 1))  (g : zw_G X kc ks nL h (pc + 1) L (.int x.toInt32 :: S)) : zw_G X kc ks nL h pc L (.long x :: S) := by
  obtain ⟨p, l, e, R, s, m, args, below, meth, c, Z, Q⟩ := X
  obtain ⟨hx, hb, -⟩ := ok
  intro H locs ls hR hz hc hl
  exact lv_l2i hx hb d rfl (g H locs ls hR hz hc hl)
theorem zg_i2b {x : Int32} (ok : zw_ok X cc own nm nL) (d : decode cc pc = .ok (.i2b, 1))  (g : zw_G X kc ks nL h (pc + 1) L (.int x.toInt8.toInt32 :: S)) : zw_G X kc ks nL h pc L (.int x :: S) := by
  obtain ⟨p, l, e, R, s, m, args, below, meth, c, Z, Q⟩ := X
  obtain ⟨hx, hb, -⟩ := ok
  intro H locs ls hR hz hc hl
  exact lv_i2b hx hb d rfl (g H locs ls hR hz hc hl)
theorem zg_i2c {x : Int32} (ok : zw_ok X cc own nm nL) (d : decode cc pc = .ok (.i2c, 1))  (g : zw_G X kc ks nL h (pc + 1) L (.int (x.toUInt32 % 65536).toInt32 :: S)) : zw_G X kc ks nL h pc L (.int x :: S) := by
  obtain ⟨p, l, e, R, s, m, args, below, meth, c, Z, Q⟩ := X
  obtain ⟨hx, hb, -⟩ := ok
  intro H locs ls hR hz hc hl
  exact lv_i2c hx hb d rfl (g H locs ls hR hz hc hl)
theorem zg_i2d {x : Int32} (ok : zw_ok X cc own nm nL) (d : decode cc pc = .ok (.i2d, 1))  (g : zw_G X kc ks nL h (pc + 1) L (.double (FP.i2d x) :: S)) : zw_G X kc ks nL h pc L (.int x :: S) := by
  obtain ⟨p, l, e, R, s, m, args, below, meth, c, Z, Q⟩ := X
  obtain ⟨hx, hb, -⟩ := ok
  intro H locs ls hR hz hc hl
  exact lv_i2d hx hb d  (g H locs ls hR hz hc hl)
theorem zg_i2f {x : Int32} (ok : zw_ok X cc own nm nL) (d : decode cc pc = .ok (.i2f, 1))  (g : zw_G X kc ks nL h (pc + 1) L (.float (FP.i2f x) :: S)) : zw_G X kc ks nL h pc L (.int x :: S) := by
  obtain ⟨p, l, e, R, s, m, args, below, meth, c, Z, Q⟩ := X
  obtain ⟨hx, hb, -⟩ := ok
  intro H locs ls hR hz hc hl
  exact lv_i2f hx hb d  (g H locs ls hR hz hc hl)
theorem zg_l2d {x : Int64} (ok : zw_ok X cc own nm nL) (d : decode cc pc = .ok (.l2d, 1))  (g : zw_G X kc ks nL h (pc + 1) L (.double (FP.l2d x) :: S)) : zw_G X kc ks nL h pc L (.long x :: S) := by
  obtain ⟨p, l, e, R, s, m, args, below, meth, c, Z, Q⟩ := X
  obtain ⟨hx, hb, -⟩ := ok
  intro H locs ls hR hz hc hl
  exact lv_l2d hx hb d  (g H locs ls hR hz hc hl)
theorem zg_f2d {x : UInt32} (ok : zw_ok X cc own nm nL) (d : decode cc pc = .ok (.f2d, 1)) (hne : vf_n64 (FP.f2d x)) (g : zw_G X kc ks nL h (pc + 1) L (.double (FP.f2d x) :: S)) : zw_G X kc ks nL h pc L (.float x :: S) := by
  obtain ⟨p, l, e, R, s, m, args, below, meth, c, Z, Q⟩ := X
  obtain ⟨hx, hb, -⟩ := ok
  intro H locs ls hR hz hc hl
  exact lv_f2d hx hb d hne (g H locs ls hR hz hc hl)
theorem zg_fdiv {x y : UInt32} (ok : zw_ok X cc own nm nL) (d : decode cc pc = .ok (.fdiv, 1)) (hne : vf_n32 (FP.fdiv x y)) (g : zw_G X kc ks nL h (pc + 1) L (.float (FP.fdiv x y) :: S)) : zw_G X kc ks nL h pc L (.float y :: .float x :: S) := by
  obtain ⟨p, l, e, R, s, m, args, below, meth, c, Z, Q⟩ := X
  obtain ⟨hx, hb, -⟩ := ok
  intro H locs ls hR hz hc hl
  exact lv_fdiv hx hb d hne (g H locs ls hR hz hc hl)
theorem zg_dadd {x y : UInt64} (ok : zw_ok X cc own nm nL) (d : decode cc pc = .ok (.dadd, 1)) (hne : vf_n64 (FP.dadd x y)) (g : zw_G X kc ks nL h (pc + 1) L (.double (FP.dadd x y) :: S)) : zw_G X kc ks nL h pc L (.double y :: .double x :: S) := by
  obtain ⟨p, l, e, R, s, m, args, below, meth, c, Z, Q⟩ := X
  obtain ⟨hx, hb, -⟩ := ok
  intro H locs ls hR hz hc hl
  exact lv_dadd hx hb d hne (g H locs ls hR hz hc hl)
theorem zg_dsub {x y : UInt64} (ok : zw_ok X cc own nm nL) (d : decode cc pc = .ok (.dsub, 1)) (hne : vf_n64 (FP.dsub x y)) (g : zw_G X kc ks nL h (pc + 1) L (.double (FP.dsub x y) :: S)) : zw_G X kc ks nL h pc L (.double y :: .double x :: S) := by
  obtain ⟨p, l, e, R, s, m, args, below, meth, c, Z, Q⟩ := X
  obtain ⟨hx, hb, -⟩ := ok
  intro H locs ls hR hz hc hl
  exact lv_dsub hx hb d hne (g H locs ls hR hz hc hl)
theorem zg_dmul {x y : UInt64} (ok : zw_ok X cc own nm nL) (d : decode cc pc = .ok (.dmul, 1)) (hne : vf_n64 (FP.dmul x y)) (g : zw_G X kc ks nL h (pc + 1) L (.double (FP.dmul x y) :: S)) : zw_G X kc ks nL h pc L (.double y :: .double x :: S) := by
  obtain ⟨p, l, e, R, s, m, args, below, meth, c, Z, Q⟩ := X
  obtain ⟨hx, hb, -⟩ := ok
  intro H locs ls hR hz hc hl
  exact lv_dmul hx hb d hne (g H locs ls hR hz hc hl)
theorem zg_ddiv {x y : UInt64} (ok : zw_ok X cc own nm nL) (d : decode cc pc = .ok (.ddiv, 1)) (hne : vf_n64 (FP.ddiv x y)) (g : zw_G X kc ks nL h (pc + 1) L (.double (FP.ddiv x y) :: S)) : zw_G X kc ks nL h pc L (.double y :: .double x :: S) := by
  obtain ⟨p, l, e, R, s, m, args, below, meth, c, Z, Q⟩ := X
  obtain ⟨hx, hb, -⟩ := ok
  intro H locs ls hR hz hc hl
  exact lv_ddiv hx hb d hne (g H locs ls hR hz hc hl)
theorem zg_dcmp {x y : UInt64} {op : CmpOp} (ok : zw_ok X cc own nm nL) (d : decode cc pc = .ok (.dcmp op, 1))  (g : zw_G X kc ks nL h (pc + 1) L (.int (Op.cmpValue (FP.dcmp x y) op) :: S)) : zw_G X kc ks nL h pc L (.double y :: .double x :: S) := by
  obtain ⟨p, l, e, R, s, m, args, below, meth, c, Z, Q⟩ := X
  obtain ⟨hx, hb, -⟩ := ok
  intro H locs ls hR hz hc hl
  exact lv_dcmp hx hb d  (g H locs ls hR hz hc hl)
theorem zg_fcmp {x y : UInt32} {op : CmpOp} (ok : zw_ok X cc own nm nL) (d : decode cc pc = .ok (.fcmp op, 1))  (g : zw_G X kc ks nL h (pc + 1) L (.int (Op.cmpValue (FP.fcmp x y) op) :: S)) : zw_G X kc ks nL h pc L (.float y :: .float x :: S) := by
  obtain ⟨p, l, e, R, s, m, args, below, meth, c, Z, Q⟩ := X
  obtain ⟨hx, hb, -⟩ := ok
  intro H locs ls hR hz hc hl
  exact lv_fcmp hx hb d  (g H locs ls hR hz hc hl)
theorem zg_iconst {n : Int} {v : Int32} (ok : zw_ok X cc own nm nL) (d : decode cc pc = .ok (.iconst n, 1)) (hv : Int32.ofInt n = v) (g : zw_G X kc ks nL h (pc + 1) L (.int v :: S)) : zw_G X kc ks nL h pc L (S) := by
  obtain ⟨p, l, e, R, s, m, args, below, meth, c, Z, Q⟩ := X
  obtain ⟨hx, hb, -⟩ := ok
  intro H locs ls hR hz hc hl
  exact lv_iconst hx hb d hv (g H locs ls hR hz hc hl)
theorem zg_bipush {n : Int} {v : Int32} (ok : zw_ok X cc own nm nL) (d : decode cc pc = .ok (.bipush n, 2)) (hv : (Int8.ofInt n).toInt32 = v) (g : zw_G X kc ks nL h (pc + 2) L (.int v :: S)) : zw_G X kc ks nL h pc L (S) := by
  obtain ⟨p, l, e, R, s, m, args, below, meth, c, Z, Q⟩ := X
  obtain ⟨hx, hb, -⟩ := ok
  intro H locs ls hR hz hc hl
  exact lv_bipush hx hb d hv (g H locs ls hR hz hc hl)
theorem zg_sipush {n : Int} {v : Int32} (ok : zw_ok X cc own nm nL) (d : decode cc pc = .ok (.sipush n, 3)) (hv : (Int16.ofInt n).toInt32 = v) (g : zw_G X kc ks nL h (pc + 3) L (.int v :: S)) : zw_G X kc ks nL h pc L (S) := by
  obtain ⟨p, l, e, R, s, m, args, below, meth, c, Z, Q⟩ := X
  obtain ⟨hx, hb, -⟩ := ok
  intro H locs ls hR hz hc hl
  exact lv_sipush hx hb d hv (g H locs ls hR hz hc hl)
theorem zg_lconst {n : Fin 2} {v : Int64} (ok : zw_ok X cc own nm nL) (d : decode cc pc = .ok (.lconst n, 1)) (hv : Int64.ofNat (n : Nat) = v) (g : zw_G X kc ks nL h (pc + 1) L (.long v :: S)) : zw_G X kc ks nL h pc L (S) := by
  obtain ⟨p, l, e, R, s, m, args, below, meth, c, Z, Q⟩ := X
  obtain ⟨hx, hb, -⟩ := ok
  intro H locs ls hR hz hc hl
  exact lv_lconst hx hb d hv (g H locs ls hR hz hc hl)
theorem zg_dup {v : Value} (ok : zw_ok X cc own nm nL) (d : decode cc pc = .ok (.dup, 1)) (hv : v.category = 1) (g : zw_G X kc ks nL h (pc + 1) L (v :: v :: S)) : zw_G X kc ks nL h pc L (v :: S) := by
  obtain ⟨p, l, e, R, s, m, args, below, meth, c, Z, Q⟩ := X
  obtain ⟨hx, hb, -⟩ := ok
  intro H locs ls hR hz hc hl
  exact lv_dup hx hb d hv (g H locs ls hR hz hc hl)
theorem zg_pop {v : Value} (ok : zw_ok X cc own nm nL) (d : decode cc pc = .ok (.pop, 1)) (hv : v.category = 1) (g : zw_G X kc ks nL h (pc + 1) L (S)) : zw_G X kc ks nL h pc L (v :: S) := by
  obtain ⟨p, l, e, R, s, m, args, below, meth, c, Z, Q⟩ := X
  obtain ⟨hx, hb, -⟩ := ok
  intro H locs ls hR hz hc hl
  exact lv_pop hx hb d hv (g H locs ls hR hz hc hl)
theorem zg_pop2_2 {v : Value} (ok : zw_ok X cc own nm nL) (d : decode cc pc = .ok (.pop2, 1)) (hv : v.category = 2) (g : zw_G X kc ks nL h (pc + 1) L (S)) : zw_G X kc ks nL h pc L (v :: S) := by
  obtain ⟨p, l, e, R, s, m, args, below, meth, c, Z, Q⟩ := X
  obtain ⟨hx, hb, -⟩ := ok
  intro H locs ls hR hz hc hl
  exact lv_pop2_2 hx hb d hv (g H locs ls hR hz hc hl)
theorem zg_dup_x1 {v w : Value} (ok : zw_ok X cc own nm nL) (d : decode cc pc = .ok (.dup_x1, 1)) (hv : v.category = 1) (hw : w.category = 1) (g : zw_G X kc ks nL h (pc + 1) L (v :: w :: v :: S)) : zw_G X kc ks nL h pc L (v :: w :: S) := by
  obtain ⟨p, l, e, R, s, m, args, below, meth, c, Z, Q⟩ := X
  obtain ⟨hx, hb, -⟩ := ok
  intro H locs ls hR hz hc hl
  exact lv_dup_x1 hx hb d hv hw (g H locs ls hR hz hc hl)
theorem zg_dup_x2 {v w u : Value} (ok : zw_ok X cc own nm nL) (d : decode cc pc = .ok (.dup_x2, 1)) (hv : v.category = 1) (hw : w.category = 1) (hu : u.category = 1) (g : zw_G X kc ks nL h (pc + 1) L (v :: w :: u :: v :: S)) : zw_G X kc ks nL h pc L (v :: w :: u :: S) := by
  obtain ⟨p, l, e, R, s, m, args, below, meth, c, Z, Q⟩ := X
  obtain ⟨hx, hb, -⟩ := ok
  intro H locs ls hR hz hc hl
  exact lv_dup_x2 hx hb d hv hw hu (g H locs ls hR hz hc hl)
theorem zg_dup2_11 {v w : Value} (ok : zw_ok X cc own nm nL) (d : decode cc pc = .ok (.dup2, 1)) (hv : v.category = 1) (hw : w.category = 1) (g : zw_G X kc ks nL h (pc + 1) L (v :: w :: v :: w :: S)) : zw_G X kc ks nL h pc L (v :: w :: S) := by
  obtain ⟨p, l, e, R, s, m, args, below, meth, c, Z, Q⟩ := X
  obtain ⟨hx, hb, -⟩ := ok
  intro H locs ls hR hz hc hl
  exact lv_dup2_11 hx hb d hv hw (g H locs ls hR hz hc hl)
theorem zg_dup2_2 {v : Value} (ok : zw_ok X cc own nm nL) (d : decode cc pc = .ok (.dup2, 1)) (hv : v.category = 2) (g : zw_G X kc ks nL h (pc + 1) L (v :: v :: S)) : zw_G X kc ks nL h pc L (v :: S) := by
  obtain ⟨p, l, e, R, s, m, args, below, meth, c, Z, Q⟩ := X
  obtain ⟨hx, hb, -⟩ := ok
  intro H locs ls hR hz hc hl
  exact lv_dup2_2 hx hb d hv (g H locs ls hR hz hc hl)
theorem zg_null  (ok : zw_ok X cc own nm nL) (d : decode cc pc = .ok (.aconst_null, 1))  (g : zw_G X kc ks nL h (pc + 1) L (va_rf none :: S)) : zw_G X kc ks nL h pc L (S) := by
  obtain ⟨p, l, e, R, s, m, args, below, meth, c, Z, Q⟩ := X
  obtain ⟨hx, hb, -⟩ := ok
  intro H locs ls hR hz hc hl
  exact lv_null hx hb d  (g H locs ls hR hz hc hl)
theorem zg_iload_n {q : Fin 4} {i : Nat} {x : Int32} (ok : zw_ok X cc own nm nL) (d : decode cc pc = .ok (.iload_n q, 1)) (hi : (q : Nat) = i) (k : Nat) (hk : L[k]? = some (i, .int x)) (g : zw_G X kc ks nL h (pc + 1) L (.int x :: S)) : zw_G X kc ks nL h pc L S := by
  obtain ⟨p, l, e, R, s, m, args, below, meth, c, Z, Q⟩ := X
  obtain ⟨hx, hb, -⟩ := ok
  intro H locs ls hR hz hc hl
  exact lv_iload_n hx hb d hi (lv_at hl k hk) (g H locs ls hR hz hc hl)
theorem zg_iload {i : Nat} {x : Int32} (ok : zw_ok X cc own nm nL) (d : decode cc pc = .ok (.iload i, 2)) (k : Nat) (hk : L[k]? = some (i, .int x)) (g : zw_G X kc ks nL h (pc + 2) L (.int x :: S)) : zw_G X kc ks nL h pc L S := by
  obtain ⟨p, l, e, R, s, m, args, below, meth, c, Z, Q⟩ := X
  obtain ⟨hx, hb, -⟩ := ok
  intro H locs ls hR hz hc hl
  exact lv_iload hx hb d (lv_at hl k hk) (g H locs ls hR hz hc hl)
theorem zg_lload_n {q : Fin 4} {i : Nat} {x : Int64} (ok : zw_ok X cc own nm nL) (d : decode cc pc = .ok (.lload_n q, 1)) (hi : (q : Nat) = i) (k : Nat) (hk : L[k]? = some (i, .long x)) (g : zw_G X kc ks nL h (pc + 1) L (.long x :: S)) : zw_G X kc ks nL h pc L S := by
  obtain ⟨p, l, e, R, s, m, args, below, meth, c, Z, Q⟩ := X
  obtain ⟨hx, hb, -⟩ := ok
  intro H locs ls hR hz hc hl
  exact lv_lload_n hx hb d hi (lv_at hl k hk) (g H locs ls hR hz hc hl)
theorem zg_lload {i : Nat} {x : Int64} (ok : zw_ok X cc own nm nL) (d : decode cc pc = .ok (.lload i, 2)) (k : Nat) (hk : L[k]? = some (i, .long x)) (g : zw_G X kc ks nL h (pc + 2) L (.long x :: S)) : zw_G X kc ks nL h pc L S := by
  obtain ⟨p, l, e, R, s, m, args, below, meth, c, Z, Q⟩ := X
  obtain ⟨hx, hb, -⟩ := ok
  intro H locs ls hR hz hc hl
  exact lv_lload hx hb d (lv_at hl k hk) (g H locs ls hR hz hc hl)
theorem zg_fload_n {q : Fin 4} {i : Nat} {x : UInt32} (ok : zw_ok X cc own nm nL) (d : decode cc pc = .ok (.fload_n q, 1)) (hi : (q : Nat) = i) (k : Nat) (hk : L[k]? = some (i, .float x)) (g : zw_G X kc ks nL h (pc + 1) L (.float x :: S)) : zw_G X kc ks nL h pc L S := by
  obtain ⟨p, l, e, R, s, m, args, below, meth, c, Z, Q⟩ := X
  obtain ⟨hx, hb, -⟩ := ok
  intro H locs ls hR hz hc hl
  exact lv_fload_n hx hb d hi (lv_at hl k hk) (g H locs ls hR hz hc hl)
theorem zg_fload {i : Nat} {x : UInt32} (ok : zw_ok X cc own nm nL) (d : decode cc pc = .ok (.fload i, 2)) (k : Nat) (hk : L[k]? = some (i, .float x)) (g : zw_G X kc ks nL h (pc + 2) L (.float x :: S)) : zw_G X kc ks nL h pc L S := by
  obtain ⟨p, l, e, R, s, m, args, below, meth, c, Z, Q⟩ := X
  obtain ⟨hx, hb, -⟩ := ok
  intro H locs ls hR hz hc hl
  exact lv_fload hx hb d (lv_at hl k hk) (g H locs ls hR hz hc hl)
theorem zg_dload_n {q : Fin 4} {i : Nat} {x : UInt64} (ok : zw_ok X cc own nm nL) (d : decode cc pc = .ok (.dload_n q, 1)) (hi : (q : Nat) = i) (k : Nat) (hk : L[k]? = some (i, .double x)) (g : zw_G X kc ks nL h (pc + 1) L (.double x :: S)) : zw_G X kc ks nL h pc L S := by
  obtain ⟨p, l, e, R, s, m, args, below, meth, c, Z, Q⟩ := X
  obtain ⟨hx, hb, -⟩ := ok
  intro H locs ls hR hz hc hl
  exact lv_dload_n hx hb d hi (lv_at hl k hk) (g H locs ls hR hz hc hl)
theorem zg_dload {i : Nat} {x : UInt64} (ok : zw_ok X cc own nm nL) (d : decode cc pc = .ok (.dload i, 2)) (k : Nat) (hk : L[k]? = some (i, .double x)) (g : zw_G X kc ks nL h (pc + 2) L (.double x :: S)) : zw_G X kc ks nL h pc L S := by
  obtain ⟨p, l, e, R, s, m, args, below, meth, c, Z, Q⟩ := X
  obtain ⟨hx, hb, -⟩ := ok
  intro H locs ls hR hz hc hl
  exact lv_dload hx hb d (lv_at hl k hk) (g H locs ls hR hz hc hl)
theorem zg_aload_n {q : Fin 4} {i : Nat} {r : Option Nat} (ok : zw_ok X cc own nm nL) (d : decode cc pc = .ok (.aload_n q, 1)) (hi : (q : Nat) = i) (k : Nat) (hk : L[k]? = some (i, va_rf r)) (g : zw_G X kc ks nL h (pc + 1) L (va_rf r :: S)) : zw_G X kc ks nL h pc L S := by
  obtain ⟨p, l, e, R, s, m, args, below, meth, c, Z, Q⟩ := X
  obtain ⟨hx, hb, -⟩ := ok
  intro H locs ls hR hz hc hl
  have h1 := lv_at hl k hk
  have h2 := g H locs ls hR hz hc hl
  cases r with
  | none => exact lv_aload_nN hx hb d hi h1 h2
  | some a => exact lv_aload_n hx hb d hi h1 h2
theorem zg_aload {i : Nat} {r : Option Nat} (ok : zw_ok X cc own nm nL) (d : decode cc pc = .ok (.aload i, 2)) (k : Nat) (hk : L[k]? = some (i, va_rf r)) (g : zw_G X kc ks nL h (pc + 2) L (va_rf r :: S)) : zw_G X kc ks nL h pc L S := by
  obtain ⟨p, l, e, R, s, m, args, below, meth, c, Z, Q⟩ := X
  obtain ⟨hx, hb, -⟩ := ok
  intro H locs ls hR hz hc hl
  have h1 := lv_at hl k hk
  have h2 := g H locs ls hR hz hc hl
  cases r with
  | none => exact lv_aloadN hx hb d h1 h2
  | some a => exact lv_aload hx hb d h1 h2
/-- the locals with v at i: the place itself goes, and what of two places lay ahead of it -/
def zw_sub (i : Nat) (L L' : List (Nat × Value)) : Prop := ∀ q ∈ L', q ∈ L.filter (fun q => !(q.1 == i) && !(q.1 + 1 == i && q.2.category == 2))
theorem zw_sub_np {i : Nat} (hn : (L.filter (fun q => !(q.1 == i))) = L') (hp : L'.all (fun q => !(q.1 + 1 == i)) = true) : zw_sub i L L' := by
  intro q hq
  subst hn
  have h1 := List.all_eq_true.mp hp q hq
  have h2 := List.mem_filter.mp hq
  refine List.mem_filter.mpr ⟨h2.1, ?_⟩
  simp only [Bool.not_eq_true', beq_eq_false_iff_ne, ne_eq] at h1 h2
  simp [h1, h2.2]
theorem zw_sub_ref {i k : Nat} {r : Option Nat} {ls : Array Slot} (hl : lv_has ls nL L) (hk : L[k]? = some (i, va_rf r)) (hn : (L.filter (fun q => !(q.1 == i + 1))) = L') : zw_sub (i + 1) L L' := by
  intro q hq
  subst hn
  have h2 := List.mem_filter.mp hq
  refine List.mem_filter.mpr ⟨h2.1, ?_⟩
  simp only [Bool.not_eq_true', beq_eq_false_iff_ne, ne_eq] at h2
  by_cases e : q.1 = i
  · have a1 := hl.2.2 q h2.1
    have a2 := lv_at hl k hk
    rw [e, a2] at a1
    have a3 : va_rf r = q.2 := Slot.val.inj (Option.some.inj a1)
    have a4 := zw_rfc r
    rw [a3] at a4
    simp [h2.2, a4]
  · simp [h2.2, e]
theorem zg_istore_n {q : Fin 4} {i : Nat} {x : Int32} (ok : zw_ok X cc own nm nL) (d : decode cc pc = .ok (.istore_n q, 1)) (hi : (q : Nat) = i) (hn : i < nL) (hL : L' = (i, .int x) :: L.filter (fun q => !(q.1 == i) && !(q.1 + 1 == i && q.2.category == 2))) (g : zw_G X kc ks nL h (pc + 1) L' S) : zw_G X kc ks nL h pc L (.int x :: S) := by
  obtain ⟨p, l, e, R, s, m, args, below, meth, c, Z, Q⟩ := X
  obtain ⟨hx, hb, -⟩ := ok
  intro H locs ls hR hz hc hl
  exact lv_istore_n hx hb d hi hl hn hL.symm (fun ls hl => g H locs ls hR hz hc hl)
theorem zg_istore_nR {q : Fin 4} {i r9 : Nat} {r : Option Nat} {x : Int32} (ok : zw_ok X cc own nm nL) (d : decode cc pc = .ok (.istore_n q, 1)) (hi : (q : Nat) = i) (hn : i < nL) (k : Nat) (hi9 : r9 + 1 = i) (hk : L[k]? = some (r9, va_rf r)) (hL : L' = (i, .int x) :: L.filter (fun q => !(q.1 == i))) (g : zw_G X kc ks nL h (pc + 1) L' S) : zw_G X kc ks nL h pc L (.int x :: S) := by
  obtain ⟨p, l, e, R, s, m, args, below, meth, c, Z, Q⟩ := X
  obtain ⟨hx, hb, -⟩ := ok
  intro H locs ls hR hz hc hl
  refine lv_istore_n hx hb d hi hl hn rfl (fun ls9 hl9 => g H locs ls9 hR hz hc ?_)
  subst hi9
  have hs := zw_sub_ref hl hk rfl
  refine ⟨hl9.1, hl9.2.1, fun q hq => ?_⟩
  rw [hL] at hq
  rcases List.mem_cons.mp hq with e1 | e1
  · exact hl9.2.2 q (List.mem_cons.mpr (Or.inl e1))
  · exact hl9.2.2 q (List.mem_cons.mpr (Or.inr (hs q e1)))
theorem zg_istore {i : Nat} {x : Int32} (ok : zw_ok X cc own nm nL) (d : decode cc pc = .ok (.istore i, 2)) (hn : i < nL) (hL : L' = (i, .int x) :: L.filter (fun q => !(q.1 == i) && !(q.1 + 1 == i && q.2.category == 2))) (g : zw_G X kc ks nL h (pc + 2) L' S) : zw_G X kc ks nL h pc L (.int x :: S) := by
  obtain ⟨p, l, e, R, s, m, args, below, meth, c, Z, Q⟩ := X
  obtain ⟨hx, hb, -⟩ := ok
  intro H locs ls hR hz hc hl
  exact lv_istore hx hb d hl hn hL.symm (fun ls hl => g H locs ls hR hz hc hl)
theorem zg_istoreR {i r9 : Nat} {r : Option Nat} {x : Int32} (ok : zw_ok X cc own nm nL) (d : decode cc pc = .ok (.istore i, 2)) (hn : i < nL) (k : Nat) (hi9 : r9 + 1 = i) (hk : L[k]? = some (r9, va_rf r)) (hL : L' = (i, .int x) :: L.filter (fun q => !(q.1 == i))) (g : zw_G X kc ks nL h (pc + 2) L' S) : zw_G X kc ks nL h pc L (.int x :: S) := by
  obtain ⟨p, l, e, R, s, m, args, below, meth, c, Z, Q⟩ := X
  obtain ⟨hx, hb, -⟩ := ok
  intro H locs ls hR hz hc hl
  refine lv_istore hx hb d hl hn rfl (fun ls9 hl9 => g H locs ls9 hR hz hc ?_)
  subst hi9
  have hs := zw_sub_ref hl hk rfl
  refine ⟨hl9.1, hl9.2.1, fun q hq => ?_⟩
  rw [hL] at hq
  rcases List.mem_cons.mp hq with e1 | e1
  · exact hl9.2.2 q (List.mem_cons.mpr (Or.inl e1))
  · exact hl9.2.2 q (List.mem_cons.mpr (Or.inr (hs q e1)))
theorem zg_lstore_n {q : Fin 4} {i : Nat} {x : Int64} (ok : zw_ok X cc own nm nL) (d : decode cc pc = .ok (.lstore_n q, 1)) (hi : (q : Nat) = i) (hn : i + 1 < nL) (hL : L' = (i, .long x) :: L.filter (fun q => !(q.1 == i) && (!(q.1 == i + 1) && !(q.1 + 1 == i && q.2.category == 2)))) (g : zw_G X kc ks nL h (pc + 1) L' S) : zw_G X kc ks nL h pc L (.long x :: S) := by
  obtain ⟨p, l, e, R, s, m, args, below, meth, c, Z, Q⟩ := X
  obtain ⟨hx, hb, -⟩ := ok
  intro H locs ls hR hz hc hl
  exact lv_lstore_n hx hb d hi hl hn hL.symm (fun ls hl => g H locs ls hR hz hc hl)
theorem zg_lstore_nR {q : Fin 4} {i r9 : Nat} {r : Option Nat} {x : Int64} (ok : zw_ok X cc own nm nL) (d : decode cc pc = .ok (.lstore_n q, 1)) (hi : (q : Nat) = i) (hn : i + 1 < nL) (k : Nat) (hi9 : r9 + 1 = i) (hk : L[k]? = some (r9, va_rf r)) (hL : L' = (i, .long x) :: L.filter (fun q => !(q.1 == i) && !(q.1 == i + 1))) (g : zw_G X kc ks nL h (pc + 1) L' S) : zw_G X kc ks nL h pc L (.long x :: S) := by
  obtain ⟨p, l, e, R, s, m, args, below, meth, c, Z, Q⟩ := X
  obtain ⟨hx, hb, -⟩ := ok
  intro H locs ls hR hz hc hl
  refine lv_lstore_n hx hb d hi hl hn rfl (fun ls9 hl9 => g H locs ls9 hR hz hc ?_)
  subst hi9
  have hs := zw_sub_ref hl hk rfl
  refine ⟨hl9.1, hl9.2.1, fun q hq => ?_⟩
  rw [hL] at hq
  rcases List.mem_cons.mp hq with e1 | e1
  · exact hl9.2.2 q (List.mem_cons.mpr (Or.inl e1))
  · refine hl9.2.2 q (List.mem_cons.mpr (Or.inr ?_))
    have e2 := List.mem_filter.mp e1
    have e3 := Bool.and_eq_true _ _ ▸ e2.2
    have e4 := List.mem_filter.mp (hs q (List.mem_filter.mpr ⟨e2.1, e3.1⟩))
    have e5 := Bool.and_eq_true _ _ ▸ e4.2
    exact List.mem_filter.mpr ⟨e2.1, by rw [e3.1, e3.2, e5.2]; rfl⟩
theorem zg_lstore {i : Nat} {x : Int64} (ok : zw_ok X cc own nm nL) (d : decode cc pc = .ok (.lstore i, 2)) (hn : i + 1 < nL) (hL : L' = (i, .long x) :: L.filter (fun q => !(q.1 == i) && (!(q.1 == i + 1) && !(q.1 + 1 == i && q.2.category == 2)))) (g : zw_G X kc ks nL h (pc + 2) L' S) : zw_G X kc ks nL h pc L (.long x :: S) := by
  obtain ⟨p, l, e, R, s, m, args, below, meth, c, Z, Q⟩ := X
  obtain ⟨hx, hb, -⟩ := ok
  intro H locs ls hR hz hc hl
  exact lv_lstore hx hb d hl hn hL.symm (fun ls hl => g H locs ls hR hz hc hl)
theorem zg_lstoreR {i r9 : Nat} {r : Option Nat} {x : Int64} (ok : zw_ok X cc own nm nL) (d : decode cc pc = .ok (.lstore i, 2)) (hn : i + 1 < nL) (k : Nat) (hi9 : r9 + 1 = i) (hk : L[k]? = some (r9, va_rf r)) (hL : L' = (i, .long x) :: L.filter (fun q => !(q.1 == i) && !(q.1 == i + 1))) (g : zw_G X kc ks nL h (pc + 2) L' S) : zw_G X kc ks nL h pc L (.long x :: S) := by
  obtain ⟨p, l, e, R, s, m, args, below, meth, c, Z, Q⟩ := X
  obtain ⟨hx, hb, -⟩ := ok
  intro H locs ls hR hz hc hl
  refine lv_lstore hx hb d hl hn rfl (fun ls9 hl9 => g H locs ls9 hR hz hc ?_)
  subst hi9
  have hs := zw_sub_ref hl hk rfl
  refine ⟨hl9.1, hl9.2.1, fun q hq => ?_⟩
  rw [hL] at hq
  rcases List.mem_cons.mp hq with e1 | e1
  · exact hl9.2.2 q (List.mem_cons.mpr (Or.inl e1))
  · refine hl9.2.2 q (List.mem_cons.mpr (Or.inr ?_))
    have e2 := List.mem_filter.mp e1
    have e3 := Bool.and_eq_true _ _ ▸ e2.2
    have e4 := List.mem_filter.mp (hs q (List.mem_filter.mpr ⟨e2.1, e3.1⟩))
    have e5 := Bool.and_eq_true _ _ ▸ e4.2
    exact List.mem_filter.mpr ⟨e2.1, by rw [e3.1, e3.2, e5.2]; rfl⟩
theorem zg_fstore_n {q : Fin 4} {i : Nat} {x : UInt32} (ok : zw_ok X cc own nm nL) (d : decode cc pc = .ok (.fstore_n q, 1)) (hi : (q : Nat) = i) (hn : i < nL) (hL : L' = (i, .float x) :: L.filter (fun q => !(q.1 == i) && !(q.1 + 1 == i && q.2.category == 2))) (g : zw_G X kc ks nL h (pc + 1) L' S) : zw_G X kc ks nL h pc L (.float x :: S) := by
  obtain ⟨p, l, e, R, s, m, args, below, meth, c, Z, Q⟩ := X
  obtain ⟨hx, hb, -⟩ := ok
  intro H locs ls hR hz hc hl
  exact lv_fstore_n hx hb d hi hl hn hL.symm (fun ls hl => g H locs ls hR hz hc hl)
theorem zg_fstore_nR {q : Fin 4} {i r9 : Nat} {r : Option Nat} {x : UInt32} (ok : zw_ok X cc own nm nL) (d : decode cc pc = .ok (.fstore_n q, 1)) (hi : (q : Nat) = i) (hn : i < nL) (k : Nat) (hi9 : r9 + 1 = i) (hk : L[k]? = some (r9, va_rf r)) (hL : L' = (i, .float x) :: L.filter (fun q => !(q.1 == i))) (g : zw_G X kc ks nL h (pc + 1) L' S) : zw_G X kc ks nL h pc L (.float x :: S) := by
  obtain ⟨p, l, e, R, s, m, args, below, meth, c, Z, Q⟩ := X
  obtain ⟨hx, hb, -⟩ := ok
  intro H locs ls hR hz hc hl
  refine lv_fstore_n hx hb d hi hl hn rfl (fun ls9 hl9 => g H locs ls9 hR hz hc ?_)
  subst hi9
  have hs := zw_sub_ref hl hk rfl
  refine ⟨hl9.1, hl9.2.1, fun q hq => ?_⟩
  rw [hL] at hq
  rcases List.mem_cons.mp hq with e1 | e1
  · exact hl9.2.2 q (List.mem_cons.mpr (Or.inl e1))
  · exact hl9.2.2 q (List.mem_cons.mpr (Or.inr (hs q e1)))
theorem zg_fstore {i : Nat} {x : UInt32} (ok : zw_ok X cc own nm nL) (d : decode cc pc = .ok (.fstore i, 2)) (hn : i < nL) (hL : L' = (i, .float x) :: L.filter (fun q => !(q.1 == i) && !(q.1 + 1 == i && q.2.category == 2))) (g : zw_G X kc ks nL h (pc + 2) L' S) : zw_G X kc ks nL h pc L (.float x :: S) := by
  obtain ⟨p, l, e, R, s, m, args, below, meth, c, Z, Q⟩ := X
  obtain ⟨hx, hb, -⟩ := ok
  intro H locs ls hR hz hc hl
  exact lv_fstore hx hb d hl hn hL.symm (fun ls hl => g H locs ls hR hz hc hl)
theorem zg_fstoreR {i r9 : Nat} {r : Option Nat} {x : UInt32} (ok : zw_ok X cc own nm nL) (d : decode cc pc = .ok (.fstore i, 2)) (hn : i < nL) (k : Nat) (hi9 : r9 + 1 = i) (hk : L[k]? = some (r9, va_rf r)) (hL : L' = (i, .float x) :: L.filter (fun q => !(q.1 == i))) (g : zw_G X kc ks nL h (pc + 2) L' S) : zw_G X kc ks nL h pc L (.float x :: S) := by
  obtain ⟨p, l, e, R, s, m, args, below, meth, c, Z, Q⟩ := X
  obtain ⟨hx, hb, -⟩ := ok
  intro H locs ls hR hz hc hl
  refine lv_fstore hx hb d hl hn rfl (fun ls9 hl9 => g H locs ls9 hR hz hc ?_)
  subst hi9
  have hs := zw_sub_ref hl hk rfl
  refine ⟨hl9.1, hl9.2.1, fun q hq => ?_⟩
  rw [hL] at hq
  rcases List.mem_cons.mp hq with e1 | e1
  · exact hl9.2.2 q (List.mem_cons.mpr (Or.inl e1))
  · exact hl9.2.2 q (List.mem_cons.mpr (Or.inr (hs q e1)))
theorem zg_dstore_n {q : Fin 4} {i : Nat} {x : UInt64} (ok : zw_ok X cc own nm nL) (d : decode cc pc = .ok (.dstore_n q, 1)) (hi : (q : Nat) = i) (hn : i + 1 < nL) (hL : L' = (i, .double x) :: L.filter (fun q => !(q.1 == i) && (!(q.1 == i + 1) && !(q.1 + 1 == i && q.2.category == 2)))) (g : zw_G X kc ks nL h (pc + 1) L' S) : zw_G X kc ks nL h pc L (.double x :: S) := by
  obtain ⟨p, l, e, R, s, m, args, below, meth, c, Z, Q⟩ := X
  obtain ⟨hx, hb, -⟩ := ok
  intro H locs ls hR hz hc hl
  exact lv_dstore_n hx hb d hi hl hn hL.symm (fun ls hl => g H locs ls hR hz hc hl)
theorem zg_dstore_nR {q : Fin 4} {i r9 : Nat} {r : Option Nat} {x : UInt64} (ok : zw_ok X cc own nm nL) (d : decode cc pc = .ok (.dstore_n q, 1)) (hi : (q : Nat) = i) (hn : i + 1 < nL) (k : Nat) (hi9 : r9 + 1 = i) (hk : L[k]? = some (r9, va_rf r)) (hL : L' = (i, .double x) :: L.filter (fun q => !(q.1 == i) && !(q.1 == i + 1))) (g : zw_G X kc ks nL h (pc + 1) L' S) : zw_G X kc ks nL h pc L (.double x :: S) := by
  obtain ⟨p, l, e, R, s, m, args, below, meth, c, Z, Q⟩ := X
  obtain ⟨hx, hb, -⟩ := ok
  intro H locs ls hR hz hc hl
  refine lv_dstore_n hx hb d hi hl hn rfl (fun ls9 hl9 => g H locs ls9 hR hz hc ?_)
  subst hi9
  have hs := zw_sub_ref hl hk rfl
  refine ⟨hl9.1, hl9.2.1, fun q hq => ?_⟩
  rw [hL] at hq
  rcases List.mem_cons.mp hq with e1 | e1
  · exact hl9.2.2 q (List.mem_cons.mpr (Or.inl e1))
  · refine hl9.2.2 q (List.mem_cons.mpr (Or.inr ?_))
    have e2 := List.mem_filter.mp e1
    have e3 := Bool.and_eq_true _ _ ▸ e2.2
    have e4 := List.mem_filter.mp (hs q (List.mem_filter.mpr ⟨e2.1, e3.1⟩))
    have e5 := Bool.and_eq_true _ _ ▸ e4.2
    exact List.mem_filter.mpr ⟨e2.1, by rw [e3.1, e3.2, e5.2]; rfl⟩
theorem zg_dstore {i : Nat} {x : UInt64} (ok : zw_ok X cc own nm nL) (d : decode cc pc = .ok (.dstore i, 2)) (hn : i + 1 < nL) (hL : L' = (i, .double x) :: L.filter (fun q => !(q.1 == i) && (!(q.1 == i + 1) && !(q.1 + 1 == i && q.2.category == 2)))) (g : zw_G X kc ks nL h (pc + 2) L' S) : zw_G X kc ks nL h pc L (.double x :: S) := by
  obtain ⟨p, l, e, R, s, m, args, below, meth, c, Z, Q⟩ := X
  obtain ⟨hx, hb, -⟩ := ok
  intro H locs ls hR hz hc hl
  exact lv_dstore hx hb d hl hn hL.symm (fun ls hl => g H locs ls hR hz hc hl)
theorem zg_dstoreR {i r9 : Nat} {r : Option Nat} {x : UInt64} (ok : zw_ok X cc own nm nL) (d : decode cc pc = .ok (.dstore i, 2)) (hn : i + 1 < nL) (k : Nat) (hi9 : r9 + 1 = i) (hk : L[k]? = some (r9, va_rf r)) (hL : L' = (i, .double x) :: L.filter (fun q => !(q.1 == i) && !(q.1 == i + 1))) (g : zw_G X kc ks nL h (pc + 2) L' S) : zw_G X kc ks nL h pc L (.double x :: S) := by
  obtain ⟨p, l, e, R, s, m, args, below, meth, c, Z, Q⟩ := X
  obtain ⟨hx, hb, -⟩ := ok
  intro H locs ls hR hz hc hl
  refine lv_dstore hx hb d hl hn rfl (fun ls9 hl9 => g H locs ls9 hR hz hc ?_)
  subst hi9
  have hs := zw_sub_ref hl hk rfl
  refine ⟨hl9.1, hl9.2.1, fun q hq => ?_⟩
  rw [hL] at hq
  rcases List.mem_cons.mp hq with e1 | e1
  · exact hl9.2.2 q (List.mem_cons.mpr (Or.inl e1))
  · refine hl9.2.2 q (List.mem_cons.mpr (Or.inr ?_))
    have e2 := List.mem_filter.mp e1
    have e3 := Bool.and_eq_true _ _ ▸ e2.2
    have e4 := List.mem_filter.mp (hs q (List.mem_filter.mpr ⟨e2.1, e3.1⟩))
    have e5 := Bool.and_eq_true _ _ ▸ e4.2
    exact List.mem_filter.mpr ⟨e2.1, by rw [e3.1, e3.2, e5.2]; rfl⟩
theorem zg_astore_n {q : Fin 4} {i : Nat} {r : Option Nat} (ok : zw_ok X cc own nm nL) (d : decode cc pc = .ok (.astore_n q, 1)) (hi : (q : Nat) = i) (hn : i < nL) (hL : L' = (i, va_rf r) :: L.filter (fun q => !(q.1 == i) && !(q.1 + 1 == i && q.2.category == 2))) (g : zw_G X kc ks nL h (pc + 1) L' S) : zw_G X kc ks nL h pc L (va_rf r :: S) := by
  obtain ⟨p, l, e, R, s, m, args, below, meth, c, Z, Q⟩ := X
  obtain ⟨hx, hb, -⟩ := ok
  intro H locs ls hR hz hc hl
  cases r with
  | none => exact lv_astore_nN hx hb d hi hl hn hL.symm (fun ls hl => g H locs ls hR hz hc hl)
  | some a => exact lv_astore_n hx hb d hi hl hn hL.symm (fun ls hl => g H locs ls hR hz hc hl)
theorem zg_astore_nR {q : Fin 4} {i r9 : Nat} {r r0 : Option Nat} (ok : zw_ok X cc own nm nL) (d : decode cc pc = .ok (.astore_n q, 1)) (hi : (q : Nat) = i) (hn : i < nL) (k : Nat) (hi9 : r9 + 1 = i) (hk : L[k]? = some (r9, va_rf r0)) (hL : L' = (i, va_rf r) :: L.filter (fun q => !(q.1 == i))) (g : zw_G X kc ks nL h (pc + 1) L' S) : zw_G X kc ks nL h pc L (va_rf r :: S) := by
  obtain ⟨p, l, e, R, s, m, args, below, meth, c, Z, Q⟩ := X
  obtain ⟨hx, hb, -⟩ := ok
  intro H locs ls hR hz hc hl
  subst hi9
  have hs := zw_sub_ref hl hk rfl
  have key : ∀ ls9, lv_has ls9 nL ((r9 + 1, va_rf r) :: L.filter (fun q => !(q.1 == r9 + 1) && !(q.1 + 1 == r9 + 1 && q.2.category == 2))) → lv_has ls9 nL L' := by
    intro ls9 hl9
    refine ⟨hl9.1, hl9.2.1, fun q hq => ?_⟩
    rw [hL] at hq
    rcases List.mem_cons.mp hq with e1 | e1
    · exact hl9.2.2 q (List.mem_cons.mpr (Or.inl e1))
    · exact hl9.2.2 q (List.mem_cons.mpr (Or.inr (hs q e1)))
  cases r with
  | none => exact lv_astore_nN hx hb d hi hl hn rfl (fun ls hl => g H locs ls hR hz hc (key _ hl))
  | some a => exact lv_astore_n hx hb d hi hl hn rfl (fun ls hl => g H locs ls hR hz hc (key _ hl))
theorem zg_astore {i : Nat} {r : Option Nat} (ok : zw_ok X cc own nm nL) (d : decode cc pc = .ok (.astore i, 2)) (hn : i < nL) (hL : L' = (i, va_rf r) :: L.filter (fun q => !(q.1 == i) && !(q.1 + 1 == i && q.2.category == 2))) (g : zw_G X kc ks nL h (pc + 2) L' S) : zw_G X kc ks nL h pc L (va_rf r :: S) := by
  obtain ⟨p, l, e, R, s, m, args, below, meth, c, Z, Q⟩ := X
  obtain ⟨hx, hb, -⟩ := ok
  intro H locs ls hR hz hc hl
  cases r with
  | none => exact lv_astoreN hx hb d hl hn hL.symm (fun ls hl => g H locs ls hR hz hc hl)
  | some a => exact lv_astore hx hb d hl hn hL.symm (fun ls hl => g H locs ls hR hz hc hl)
theorem zg_astoreR {i r9 : Nat} {r r0 : Option Nat} (ok : zw_ok X cc own nm nL) (d : decode cc pc = .ok (.astore i, 2)) (hn : i < nL) (k : Nat) (hi9 : r9 + 1 = i) (hk : L[k]? = some (r9, va_rf r0)) (hL : L' = (i, va_rf r) :: L.filter (fun q => !(q.1 == i))) (g : zw_G X kc ks nL h (pc + 2) L' S) : zw_G X kc ks nL h pc L (va_rf r :: S) := by
  obtain ⟨p, l, e, R, s, m, args, below, meth, c, Z, Q⟩ := X
  obtain ⟨hx, hb, -⟩ := ok
  intro H locs ls hR hz hc hl
  subst hi9
  have hs := zw_sub_ref hl hk rfl
  have key : ∀ ls9, lv_has ls9 nL ((r9 + 1, va_rf r) :: L.filter (fun q => !(q.1 == r9 + 1) && !(q.1 + 1 == r9 + 1 && q.2.category == 2))) → lv_has ls9 nL L' := by
    intro ls9 hl9
    refine ⟨hl9.1, hl9.2.1, fun q hq => ?_⟩
    rw [hL] at hq
    rcases List.mem_cons.mp hq with e1 | e1
    · exact hl9.2.2 q (List.mem_cons.mpr (Or.inl e1))
    · exact hl9.2.2 q (List.mem_cons.mpr (Or.inr (hs q e1)))
  cases r with
  | none => exact lv_astoreN hx hb d hl hn rfl (fun ls hl => g H locs ls hR hz hc (key _ hl))
  | some a => exact lv_astore hx hb d hl hn rfl (fun ls hl => g H locs ls hR hz hc (key _ hl))
theorem zg_iinc {i k : Nat} {n : Int} {x v : Int32} (ok : zw_ok X cc own nm nL) (d : decode cc pc = .ok (.iinc i n, 3)) (hk : L[k]? = some (i, .int x)) (hv : x + Int32.ofInt n = v) (hn : i < nL) (hL : L' = (i, .int v) :: L.filter (fun q => !(q.1 == i) && !(q.1 + 1 == i && q.2.category == 2))) (g : zw_G X kc ks nL h (pc + 3) L' S) : zw_G X kc ks nL h pc L S := by
  obtain ⟨p, l, e, R, s, m, args, below, meth, c, Z, Q⟩ := X
  obtain ⟨hx, hb, -⟩ := ok
  intro H locs ls hR hz hc hl
  exact lv_iinc hx hb d hl hk hv hn hL.symm (fun ls hl => g H locs ls hR hz hc hl)
theorem zg_iincR {i r9 k k9 : Nat} {n : Int} {r : Option Nat} {x v : Int32} (ok : zw_ok X cc own nm nL) (d : decode cc pc = .ok (.iinc i n, 3)) (hk : L[k]? = some (i, .int x)) (hv : x + Int32.ofInt n = v) (hn : i < nL) (hi9 : r9 + 1 = i) (hk9 : L[k9]? = some (r9, va_rf r)) (hL : L' = (i, .int v) :: L.filter (fun q => !(q.1 == i))) (g : zw_G X kc ks nL h (pc + 3) L' S) : zw_G X kc ks nL h pc L S := by
  obtain ⟨p, l, e, R, s, m, args, below, meth, c, Z, Q⟩ := X
  obtain ⟨hx, hb, -⟩ := ok
  intro H locs ls hR hz hc hl
  refine lv_iinc hx hb d hl hk hv hn rfl (fun ls9 hl9 => g H locs ls9 hR hz hc ?_)
  subst hi9
  have hs := zw_sub_ref hl hk9 rfl
  refine ⟨hl9.1, hl9.2.1, fun q hq => ?_⟩
  rw [hL] at hq
  rcases List.mem_cons.mp hq with e1 | e1
  · exact hl9.2.2 q (List.mem_cons.mpr (Or.inl e1))
  · exact hl9.2.2 q (List.mem_cons.mpr (Or.inr (hs q e1)))
/-- fewer locals, in another order -/
theorem zg_sub (ps : List Nat) (hL : lv_pick L ps = L') (g : zw_G X kc ks nL h pc L' S) : zw_G X kc ks nL h pc L S := by
  obtain ⟨p, l, e, R, s, m, args, below, meth, c, Z, Q⟩ := X
  intro H locs ls hR hz hc hl
  exact g H locs ls hR hz hc (lv_sub hl ps hL)
theorem zg_wide {kc2 ks2 : Nat} (h1 : kc ≤ kc2) (h2 : ks ≤ ks2) (g : zw_G X kc2 ks2 nL h pc L S) : zw_G X kc ks nL h pc L S := by
  obtain ⟨p, l, e, R, s, m, args, below, meth, c, Z, Q⟩ := X
  intro H locs ls hR hz hc hl
  exact W.widen h1 h2 (g H locs ls hR hz hc hl)
theorem zg_goto {off : Int} {tgt : Nat} (ok : zw_ok X cc own nm nL) (d : decode cc pc = .ok (.goto off, 3)) (ht : (pc : Int) + off = (tgt : Int)) (g : zw_G X kc ks nL h tgt L S) : zw_G X kc ks nL h pc L S := by
  obtain ⟨p, l, e, R, s, m, args, below, meth, c, Z, Q⟩ := X
  obtain ⟨hx, hb, -⟩ := ok
  intro H locs ls hR hz hc hl
  exact lv_goto hx hb d ht (g H locs ls hR hz hc hl)
theorem zg_if_eq {x : Int32} {off : Int} {tgt : Nat} {A B : Prop} (ok : zw_ok X cc own nm nL) (d : decode cc pc = .ok (.ifCond .eq off, 3)) (ht : (pc : Int) + off = (tgt : Int)) (hE : if x = 0 then A else B) (g1 : A → zw_G X kc ks nL h tgt L S) (g2 : B → zw_G X kc ks nL h (pc + 3) L S) : zw_G X kc ks nL h pc L (.int x :: S) := by
  obtain ⟨p, l, e, R, s, m, args, below, meth, c, Z, Q⟩ := X
  obtain ⟨hx, hb, -⟩ := ok
  intro H locs ls hR hz hc hl
  exact lv_if_eq hx hb d ht (fun c9 => g1 (by rw [if_pos c9] at hE; exact hE) H locs ls hR hz hc hl) (fun c9 => g2 (by rw [if_neg c9] at hE; exact hE) H locs ls hR hz hc hl)
theorem zg_icmp_eq {x y : Int32} {off : Int} {tgt : Nat} {A B : Prop} (ok : zw_ok X cc own nm nL) (d : decode cc pc = .ok (.if_icmp .eq off, 3)) (ht : (pc : Int) + off = (tgt : Int)) (hE : if x = y then A else B) (g1 : A → zw_G X kc ks nL h tgt L S) (g2 : B → zw_G X kc ks nL h (pc + 3) L S) : zw_G X kc ks nL h pc L (.int y :: .int x :: S) := by
  obtain ⟨p, l, e, R, s, m, args, below, meth, c, Z, Q⟩ := X
  obtain ⟨hx, hb, -⟩ := ok
  intro H locs ls hR hz hc hl
  exact lv_icmp_eq hx hb d ht (fun c9 => g1 (by rw [if_pos c9] at hE; exact hE) H locs ls hR hz hc hl) (fun c9 => g2 (by rw [if_neg c9] at hE; exact hE) H locs ls hR hz hc hl)
theorem zg_if_ne {x : Int32} {off : Int} {tgt : Nat} {A B : Prop} (ok : zw_ok X cc own nm nL) (d : decode cc pc = .ok (.ifCond .ne off, 3)) (ht : (pc : Int) + off = (tgt : Int)) (hE : if x ≠ 0 then A else B) (g1 : A → zw_G X kc ks nL h tgt L S) (g2 : B → zw_G X kc ks nL h (pc + 3) L S) : zw_G X kc ks nL h pc L (.int x :: S) := by
  obtain ⟨p, l, e, R, s, m, args, below, meth, c, Z, Q⟩ := X
  obtain ⟨hx, hb, -⟩ := ok
  intro H locs ls hR hz hc hl
  exact lv_if_ne hx hb d ht (fun c9 => g1 (by rw [if_pos c9] at hE; exact hE) H locs ls hR hz hc hl) (fun c9 => g2 (by rw [if_neg (fun z => z c9)] at hE; exact hE) H locs ls hR hz hc hl)
theorem zg_icmp_ne {x y : Int32} {off : Int} {tgt : Nat} {A B : Prop} (ok : zw_ok X cc own nm nL) (d : decode cc pc = .ok (.if_icmp .ne off, 3)) (ht : (pc : Int) + off = (tgt : Int)) (hE : if x ≠ y then A else B) (g1 : A → zw_G X kc ks nL h tgt L S) (g2 : B → zw_G X kc ks nL h (pc + 3) L S) : zw_G X kc ks nL h pc L (.int y :: .int x :: S) := by
  obtain ⟨p, l, e, R, s, m, args, below, meth, c, Z, Q⟩ := X
  obtain ⟨hx, hb, -⟩ := ok
  intro H locs ls hR hz hc hl
  exact lv_icmp_ne hx hb d ht (fun c9 => g1 (by rw [if_pos c9] at hE; exact hE) H locs ls hR hz hc hl) (fun c9 => g2 (by rw [if_neg (fun z => z c9)] at hE; exact hE) H locs ls hR hz hc hl)
theorem zg_if_lt {x : Int32} {off : Int} {tgt : Nat} {A B : Prop} (ok : zw_ok X cc own nm nL) (d : decode cc pc = .ok (.ifCond .lt off, 3)) (ht : (pc : Int) + off = (tgt : Int)) (hE : if x < 0 then A else B) (g1 : A → zw_G X kc ks nL h tgt L S) (g2 : B → zw_G X kc ks nL h (pc + 3) L S) : zw_G X kc ks nL h pc L (.int x :: S) := by
  obtain ⟨p, l, e, R, s, m, args, below, meth, c, Z, Q⟩ := X
  obtain ⟨hx, hb, -⟩ := ok
  intro H locs ls hR hz hc hl
  exact lv_if_lt hx hb d ht (fun c9 => g1 (by rw [if_pos c9] at hE; exact hE) H locs ls hR hz hc hl) (fun c9 => g2 (by rw [if_neg c9] at hE; exact hE) H locs ls hR hz hc hl)
theorem zg_icmp_lt {x y : Int32} {off : Int} {tgt : Nat} {A B : Prop} (ok : zw_ok X cc own nm nL) (d : decode cc pc = .ok (.if_icmp .lt off, 3)) (ht : (pc : Int) + off = (tgt : Int)) (hE : if x < y then A else B) (g1 : A → zw_G X kc ks nL h tgt L S) (g2 : B → zw_G X kc ks nL h (pc + 3) L S) : zw_G X kc ks nL h pc L (.int y :: .int x :: S) := by
  obtain ⟨p, l, e, R, s, m, args, below, meth, c, Z, Q⟩ := X
  obtain ⟨hx, hb, -⟩ := ok
  intro H locs ls hR hz hc hl
  exact lv_icmp_lt hx hb d ht (fun c9 => g1 (by rw [if_pos c9] at hE; exact hE) H locs ls hR hz hc hl) (fun c9 => g2 (by rw [if_neg c9] at hE; exact hE) H locs ls hR hz hc hl)
theorem zg_if_ge {x : Int32} {off : Int} {tgt : Nat} {A B : Prop} (ok : zw_ok X cc own nm nL) (d : decode cc pc = .ok (.ifCond .ge off, 3)) (ht : (pc : Int) + off = (tgt : Int)) (hE : if 0 ≤ x then A else B) (g1 : A → zw_G X kc ks nL h tgt L S) (g2 : B → zw_G X kc ks nL h (pc + 3) L S) : zw_G X kc ks nL h pc L (.int x :: S) := by
  obtain ⟨p, l, e, R, s, m, args, below, meth, c, Z, Q⟩ := X
  obtain ⟨hx, hb, -⟩ := ok
  intro H locs ls hR hz hc hl
  exact lv_if_ge hx hb d ht (fun c9 => g1 (by rw [if_pos c9] at hE; exact hE) H locs ls hR hz hc hl) (fun c9 => g2 (by rw [if_neg c9] at hE; exact hE) H locs ls hR hz hc hl)
theorem zg_icmp_ge {x y : Int32} {off : Int} {tgt : Nat} {A B : Prop} (ok : zw_ok X cc own nm nL) (d : decode cc pc = .ok (.if_icmp .ge off, 3)) (ht : (pc : Int) + off = (tgt : Int)) (hE : if y ≤ x then A else B) (g1 : A → zw_G X kc ks nL h tgt L S) (g2 : B → zw_G X kc ks nL h (pc + 3) L S) : zw_G X kc ks nL h pc L (.int y :: .int x :: S) := by
  obtain ⟨p, l, e, R, s, m, args, below, meth, c, Z, Q⟩ := X
  obtain ⟨hx, hb, -⟩ := ok
  intro H locs ls hR hz hc hl
  exact lv_icmp_ge hx hb d ht (fun c9 => g1 (by rw [if_pos c9] at hE; exact hE) H locs ls hR hz hc hl) (fun c9 => g2 (by rw [if_neg c9] at hE; exact hE) H locs ls hR hz hc hl)
theorem zg_if_gt {x : Int32} {off : Int} {tgt : Nat} {A B : Prop} (ok : zw_ok X cc own nm nL) (d : decode cc pc = .ok (.ifCond .gt off, 3)) (ht : (pc : Int) + off = (tgt : Int)) (hE : if 0 < x then A else B) (g1 : A → zw_G X kc ks nL h tgt L S) (g2 : B → zw_G X kc ks nL h (pc + 3) L S) : zw_G X kc ks nL h pc L (.int x :: S) := by
  obtain ⟨p, l, e, R, s, m, args, below, meth, c, Z, Q⟩ := X
  obtain ⟨hx, hb, -⟩ := ok
  intro H locs ls hR hz hc hl
  exact lv_if_gt hx hb d ht (fun c9 => g1 (by rw [if_pos c9] at hE; exact hE) H locs ls hR hz hc hl) (fun c9 => g2 (by rw [if_neg c9] at hE; exact hE) H locs ls hR hz hc hl)
theorem zg_icmp_gt {x y : Int32} {off : Int} {tgt : Nat} {A B : Prop} (ok : zw_ok X cc own nm nL) (d : decode cc pc = .ok (.if_icmp .gt off, 3)) (ht : (pc : Int) + off = (tgt : Int)) (hE : if y < x then A else B) (g1 : A → zw_G X kc ks nL h tgt L S) (g2 : B → zw_G X kc ks nL h (pc + 3) L S) : zw_G X kc ks nL h pc L (.int y :: .int x :: S) := by
  obtain ⟨p, l, e, R, s, m, args, below, meth, c, Z, Q⟩ := X
  obtain ⟨hx, hb, -⟩ := ok
  intro H locs ls hR hz hc hl
  exact lv_icmp_gt hx hb d ht (fun c9 => g1 (by rw [if_pos c9] at hE; exact hE) H locs ls hR hz hc hl) (fun c9 => g2 (by rw [if_neg c9] at hE; exact hE) H locs ls hR hz hc hl)
theorem zg_if_le {x : Int32} {off : Int} {tgt : Nat} {A B : Prop} (ok : zw_ok X cc own nm nL) (d : decode cc pc = .ok (.ifCond .le off, 3)) (ht : (pc : Int) + off = (tgt : Int)) (hE : if x ≤ 0 then A else B) (g1 : A → zw_G X kc ks nL h tgt L S) (g2 : B → zw_G X kc ks nL h (pc + 3) L S) : zw_G X kc ks nL h pc L (.int x :: S) := by
  obtain ⟨p, l, e, R, s, m, args, below, meth, c, Z, Q⟩ := X
  obtain ⟨hx, hb, -⟩ := ok
  intro H locs ls hR hz hc hl
  exact lv_if_le hx hb d ht (fun c9 => g1 (by rw [if_pos c9] at hE; exact hE) H locs ls hR hz hc hl) (fun c9 => g2 (by rw [if_neg c9] at hE; exact hE) H locs ls hR hz hc hl)
theorem zg_icmp_le {x y : Int32} {off : Int} {tgt : Nat} {A B : Prop} (ok : zw_ok X cc own nm nL) (d : decode cc pc = .ok (.if_icmp .le off, 3)) (ht : (pc : Int) + off = (tgt : Int)) (hE : if x ≤ y then A else B) (g1 : A → zw_G X kc ks nL h tgt L S) (g2 : B → zw_G X kc ks nL h (pc + 3) L S) : zw_G X kc ks nL h pc L (.int y :: .int x :: S) := by
  obtain ⟨p, l, e, R, s, m, args, below, meth, c, Z, Q⟩ := X
  obtain ⟨hx, hb, -⟩ := ok
  intro H locs ls hR hz hc hl
  exact lv_icmp_le hx hb d ht (fun c9 => g1 (by rw [if_pos c9] at hE; exact hE) H locs ls hR hz hc hl) (fun c9 => g2 (by rw [if_neg c9] at hE; exact hE) H locs ls hR hz hc hl)
theorem zg_acmp_eq {x y : Option Nat} {off : Int} {tgt : Nat} {A B : Prop} (ok : zw_ok X cc own nm nL) (d : decode cc pc = .ok (.if_acmp .eq off, 3)) (ht : (pc : Int) + off = (tgt : Int)) (hE : if x = y then A else B) (g1 : A → zw_G X kc ks nL h tgt L S) (g2 : B → zw_G X kc ks nL h (pc + 3) L S) : zw_G X kc ks nL h pc L (va_rf y :: va_rf x :: S) := by
  obtain ⟨p, l, e, R, s, m, args, below, meth, c, Z, Q⟩ := X
  obtain ⟨hx, hb, -⟩ := ok
  intro H locs ls hR hz hc hl
  exact lv_acmp_eq hx hb d ht (fun c9 => g1 (by rw [if_pos c9] at hE; exact hE) H locs ls hR hz hc hl) (fun c9 => g2 (by rw [if_neg c9] at hE; exact hE) H locs ls hR hz hc hl)
theorem zg_acmp_ne {x y : Option Nat} {off : Int} {tgt : Nat} {A B : Prop} (ok : zw_ok X cc own nm nL) (d : decode cc pc = .ok (.if_acmp .ne off, 3)) (ht : (pc : Int) + off = (tgt : Int)) (hE : if x ≠ y then A else B) (g1 : A → zw_G X kc ks nL h tgt L S) (g2 : B → zw_G X kc ks nL h (pc + 3) L S) : zw_G X kc ks nL h pc L (va_rf y :: va_rf x :: S) := by
  obtain ⟨p, l, e, R, s, m, args, below, meth, c, Z, Q⟩ := X
  obtain ⟨hx, hb, -⟩ := ok
  intro H locs ls hR hz hc hl
  exact lv_acmp_ne hx hb d ht (fun c9 => g1 (by rw [if_pos c9] at hE; exact hE) H locs ls hR hz hc hl) (fun c9 => g2 (by rw [if_neg (fun z => z c9)] at hE; exact hE) H locs ls hR hz hc hl)
theorem zg_ifnull {r : Option Nat} {off : Int} {tgt : Nat} {A B : Prop} (ok : zw_ok X cc own nm nL) (d : decode cc pc = .ok (.ifnull off, 3)) (ht : (pc : Int) + off = (tgt : Int)) (hE : if r = none then A else B) (g1 : A → zw_G X kc ks nL h tgt L S) (g2 : B → zw_G X kc ks nL h (pc + 3) L S) : zw_G X kc ks nL h pc L (va_rf r :: S) := by
  obtain ⟨p, l, e, R, s, m, args, below, meth, c, Z, Q⟩ := X
  obtain ⟨hx, hb, -⟩ := ok
  intro H locs ls hR hz hc hl
  cases r with
  | none => exact lv_ifnullN hx hb d ht (g1 (by simpa using hE) H locs ls hR hz hc hl)
  | some a => exact lv_ifnull hx hb d (g2 (by simpa using hE) H locs ls hR hz hc hl)
theorem zg_ifnonnull {r : Option Nat} {off : Int} {tgt : Nat} {A B : Prop} (ok : zw_ok X cc own nm nL) (d : decode cc pc = .ok (.ifnonnull off, 3)) (ht : (pc : Int) + off = (tgt : Int)) (hE : if r ≠ none then A else B) (g1 : A → zw_G X kc ks nL h tgt L S) (g2 : B → zw_G X kc ks nL h (pc + 3) L S) : zw_G X kc ks nL h pc L (va_rf r :: S) := by
  obtain ⟨p, l, e, R, s, m, args, below, meth, c, Z, Q⟩ := X
  obtain ⟨hx, hb, -⟩ := ok
  intro H locs ls hR hz hc hl
  cases r with
  | none => exact lv_ifnonnullN hx hb d (g2 (by simpa using hE) H locs ls hR hz hc hl)
  | some a => exact lv_ifnonnull hx hb d ht (g1 (by simpa using hE) H locs ls hR hz hc hl)
end ZWP
