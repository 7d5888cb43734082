section XR
variable {G : xG} {M : xM} {d K : Nat} {Q : xR → xH → Prop} {k pc : Nat} {L : List (Option xV)} {st : List xV} {h : xH}
theorem xw_iconst {n : Int} (v : Int32) (hd : decode M.2.2.1 pc = .ok (.iconst n, 1)) (hv : Int32.ofInt n = v) (kk : xWp G M d K Q k (pc + 1) L (xi v :: st) h) : xWp G M d K Q k pc L st h :=
  fun p l e R s m args below meth c H locs cells slots ls hs h1 h2 hS hR hL => lv_iconst hs.1 hs.2.1 hd hv (kk p l e R s m args below meth c H locs cells slots ls hs h1 h2 hS hR hL)
theorem xw_bipush {n : Int} (v : Int32) (hd : decode M.2.2.1 pc = .ok (.bipush n, 2)) (hv : (Int8.ofInt n).toInt32 = v) (kk : xWp G M d K Q k (pc + 2) L (xi v :: st) h) : xWp G M d K Q k pc L st h :=
  fun p l e R s m args below meth c H locs cells slots ls hs h1 h2 hS hR hL => lv_bipush hs.1 hs.2.1 hd hv (kk p l e R s m args below meth c H locs cells slots ls hs h1 h2 hS hR hL)
theorem xw_sipush {n : Int} (v : Int32) (hd : decode M.2.2.1 pc = .ok (.sipush n, 3)) (hv : (Int16.ofInt n).toInt32 = v) (kk : xWp G M d K Q k (pc + 3) L (xi v :: st) h) : xWp G M d K Q k pc L st h :=
  fun p l e R s m args below meth c H locs cells slots ls hs h1 h2 hS hR hL => lv_sipush hs.1 hs.2.1 hd hv (kk p l e R s m args below meth c H locs cells slots ls hs h1 h2 hS hR hL)
theorem xw_null  (hd : decode M.2.2.1 pc = .ok (.aconst_null, 1)) (kk : xWp G M d K Q k (pc + 1) L (xr none :: st) h) : xWp G M d K Q k pc L st h :=
  fun p l e R s m args below meth c H locs cells slots ls hs h1 h2 hS hR hL => lv_null hs.1 hs.2.1 hd (kk p l e R s m args below meth c H locs cells slots ls hs h1 h2 hS hR hL)
theorem xw_lconst {n : Fin 2} (v : Int64) (hd : decode M.2.2.1 pc = .ok (.lconst n, 1)) (hv : Int64.ofNat (n : Nat) = v) (kk : xWp G M d K Q k (pc + 1) L (xj v :: st) h) : xWp G M d K Q k pc L st h :=
  fun p l e R s m args below meth c H locs cells slots ls hs h1 h2 hS hR hL => lv_lconst hs.1 hs.2.1 hd hv (kk p l e R s m args below meth c H locs cells slots ls hs h1 h2 hS hR hL)
theorem xw_fconst0  (hd : decode M.2.2.1 pc = .ok (.fconst 0, 1)) (kk : xWp G M d K Q k (pc + 1) L (xf FP.fconst0 :: st) h) : xWp G M d K Q k pc L st h :=
  fun p l e R s m args below meth c H locs cells slots ls hs h1 h2 hS hR hL => lv_fconst0 hs.1 hs.2.1 hd (kk p l e R s m args below meth c H locs cells slots ls hs h1 h2 hS hR hL)
theorem xw_dconst0  (hd : decode M.2.2.1 pc = .ok (.dconst 0, 1)) (kk : xWp G M d K Q k (pc + 1) L (xd FP.dconst0 :: st) h) : xWp G M d K Q k pc L st h :=
  fun p l e R s m args below meth c H locs cells slots ls hs h1 h2 hS hR hL => lv_dconst0 hs.1 hs.2.1 hd (kk p l e R s m args below meth c H locs cells slots ls hs h1 h2 hS hR hL)
theorem xw_iadd {x y : Int32} (hd : decode M.2.2.1 pc = .ok (.iadd, 1)) (kk : xWp G M d K Q k (pc + 1) L (xi (x + y) :: st) h) : xWp G M d K Q k pc L (xi y :: xi x :: st) h :=
  fun p l e R s m args below meth c H locs cells slots ls hs h1 h2 hS hR hL => lv_iadd hs.1 hs.2.1 hd (kk p l e R s m args below meth c H locs cells slots ls hs h1 h2 hS hR hL)
theorem xw_isub {x y : Int32} (hd : decode M.2.2.1 pc = .ok (.isub, 1)) (kk : xWp G M d K Q k (pc + 1) L (xi (x - y) :: st) h) : xWp G M d K Q k pc L (xi y :: xi x :: st) h :=
  fun p l e R s m args below meth c H locs cells slots ls hs h1 h2 hS hR hL => lv_isub hs.1 hs.2.1 hd (kk p l e R s m args below meth c H locs cells slots ls hs h1 h2 hS hR hL)
theorem xw_imul {x y : Int32} (hd : decode M.2.2.1 pc = .ok (.imul, 1)) (kk : xWp G M d K Q k (pc + 1) L (xi (x * y) :: st) h) : xWp G M d K Q k pc L (xi y :: xi x :: st) h :=
  fun p l e R s m args below meth c H locs cells slots ls hs h1 h2 hS hR hL => lv_imul hs.1 hs.2.1 hd (kk p l e R s m args below meth c H locs cells slots ls hs h1 h2 hS hR hL)
theorem xw_iand {x y : Int32} (hd : decode M.2.2.1 pc = .ok (.iand, 1)) (kk : xWp G M d K Q k (pc + 1) L (xi (x &&& y) :: st) h) : xWp G M d K Q k pc L (xi y :: xi x :: st) h :=
  fun p l e R s m args below meth c H locs cells slots ls hs h1 h2 hS hR hL => lv_iand hs.1 hs.2.1 hd (kk p l e R s m args below meth c H locs cells slots ls hs h1 h2 hS hR hL)
theorem xw_ior {x y : Int32} (hd : decode M.2.2.1 pc = .ok (.ior, 1)) (kk : xWp G M d K Q k (pc + 1) L (xi (x ||| y) :: st) h) : xWp G M d K Q k pc L (xi y :: xi x :: st) h :=
  fun p l e R s m args below meth c H locs cells slots ls hs h1 h2 hS hR hL => lv_ior hs.1 hs.2.1 hd (kk p l e R s m args below meth c H locs cells slots ls hs h1 h2 hS hR hL)
theorem xw_ixor {x y : Int32} (hd : decode M.2.2.1 pc = .ok (.ixor, 1)) (kk : xWp G M d K Q k (pc + 1) L (xi (x ^^^ y) :: st) h) : xWp G M d K Q k pc L (xi y :: xi x :: st) h :=
  fun p l e R s m args below meth c H locs cells slots ls hs h1 h2 hS hR hL => lv_ixor hs.1 hs.2.1 hd (kk p l e R s m args below meth c H locs cells slots ls hs h1 h2 hS hR hL)
theorem xw_ishl {x y : Int32} (hd : decode M.2.2.1 pc = .ok (.ishl, 1)) (kk : xWp G M d K Q k (pc + 1) L (xi (x <<< (y &&& 31)) :: st) h) : xWp G M d K Q k pc L (xi y :: xi x :: st) h :=
  fun p l e R s m args below meth c H locs cells slots ls hs h1 h2 hS hR hL => lv_ishl hs.1 hs.2.1 hd (kk p l e R s m args below meth c H locs cells slots ls hs h1 h2 hS hR hL)
theorem xw_ishr {x y : Int32} (hd : decode M.2.2.1 pc = .ok (.ishr, 1)) (kk : xWp G M d K Q k (pc + 1) L (xi (x >>> (y &&& 31)) :: st) h) : xWp G M d K Q k pc L (xi y :: xi x :: st) h :=
  fun p l e R s m args below meth c H locs cells slots ls hs h1 h2 hS hR hL => lv_ishr hs.1 hs.2.1 hd (kk p l e R s m args below meth c H locs cells slots ls hs h1 h2 hS hR hL)
theorem xw_iushr {x y : Int32} (hd : decode M.2.2.1 pc = .ok (.iushr, 1)) (kk : xWp G M d K Q k (pc + 1) L (xi ((x.toUInt32 >>> (y.toUInt32 &&& Int32.toUInt32 31)).toInt32) :: st) h) : xWp G M d K Q k pc L (xi y :: xi x :: st) h :=
  fun p l e R s m args below meth c H locs cells slots ls hs h1 h2 hS hR hL => lv_iushr hs.1 hs.2.1 hd rfl (kk p l e R s m args below meth c H locs cells slots ls hs h1 h2 hS hR hL)
theorem xw_idiv {x y : Int32} (hd : decode M.2.2.1 pc = .ok (.idiv, 1)) (hne : ¬ y = 0) (kk : xWp G M d K Q k (pc + 1) L (xi (x / y) :: st) h) : xWp G M d K Q k pc L (xi y :: xi x :: st) h :=
  fun p l e R s m args below meth c H locs cells slots ls hs h1 h2 hS hR hL => lv_idiv hs.1 hs.2.1 hd hne (kk p l e R s m args below meth c H locs cells slots ls hs h1 h2 hS hR hL)
theorem xw_irem {x y : Int32} (hd : decode M.2.2.1 pc = .ok (.irem, 1)) (hne : ¬ y = 0) (kk : xWp G M d K Q k (pc + 1) L (xi (x - x / y * y) :: st) h) : xWp G M d K Q k pc L (xi y :: xi x :: st) h :=
  fun p l e R s m args below meth c H locs cells slots ls hs h1 h2 hS hR hL => lv_irem hs.1 hs.2.1 hd hne (kk p l e R s m args below meth c H locs cells slots ls hs h1 h2 hS hR hL)
theorem xw_ineg {x : Int32} (hd : decode M.2.2.1 pc = .ok (.ineg, 1)) (kk : xWp G M d K Q k (pc + 1) L (xi (-x) :: st) h) : xWp G M d K Q k pc L (xi x :: st) h :=
  fun p l e R s m args below meth c H locs cells slots ls hs h1 h2 hS hR hL => lv_ineg hs.1 hs.2.1 hd (kk p l e R s m args below meth c H locs cells slots ls hs h1 h2 hS hR hL)
theorem xw_i2b {x : Int32} (hd : decode M.2.2.1 pc = .ok (.i2b, 1)) (kk : xWp G M d K Q k (pc + 1) L (xi x.toInt8.toInt32 :: st) h) : xWp G M d K Q k pc L (xi x :: st) h :=
  fun p l e R s m args below meth c H locs cells slots ls hs h1 h2 hS hR hL => lv_i2b hs.1 hs.2.1 hd rfl (kk p l e R s m args below meth c H locs cells slots ls hs h1 h2 hS hR hL)
theorem xw_i2c {x : Int32} (hd : decode M.2.2.1 pc = .ok (.i2c, 1)) (kk : xWp G M d K Q k (pc + 1) L (xi (x.toUInt32 % 65536).toInt32 :: st) h) : xWp G M d K Q k pc L (xi x :: st) h :=
  fun p l e R s m args below meth c H locs cells slots ls hs h1 h2 hS hR hL => lv_i2c hs.1 hs.2.1 hd rfl (kk p l e R s m args below meth c H locs cells slots ls hs h1 h2 hS hR hL)
theorem xw_i2l {x : Int32} (hd : decode M.2.2.1 pc = .ok (.i2l, 1)) (kk : xWp G M d K Q k (pc + 1) L (xj x.toInt64 :: st) h) : xWp G M d K Q k pc L (xi x :: st) h :=
  fun p l e R s m args below meth c H locs cells slots ls hs h1 h2 hS hR hL => lv_i2l hs.1 hs.2.1 hd rfl (kk p l e R s m args below meth c H locs cells slots ls hs h1 h2 hS hR hL)
theorem xw_i2f {x : Int32} (hd : decode M.2.2.1 pc = .ok (.i2f, 1)) (kk : xWp G M d K Q k (pc + 1) L (xf (FP.i2f x) :: st) h) : xWp G M d K Q k pc L (xi x :: st) h :=
  fun p l e R s m args below meth c H locs cells slots ls hs h1 h2 hS hR hL => lv_i2f hs.1 hs.2.1 hd (kk p l e R s m args below meth c H locs cells slots ls hs h1 h2 hS hR hL)
theorem xw_i2d {x : Int32} (hd : decode M.2.2.1 pc = .ok (.i2d, 1)) (kk : xWp G M d K Q k (pc + 1) L (xd (FP.i2d x) :: st) h) : xWp G M d K Q k pc L (xi x :: st) h :=
  fun p l e R s m args below meth c H locs cells slots ls hs h1 h2 hS hR hL => lv_i2d hs.1 hs.2.1 hd (kk p l e R s m args below meth c H locs cells slots ls hs h1 h2 hS hR hL)
theorem xw_f2d {x : UInt32} (hd : decode M.2.2.1 pc = .ok (.f2d, 1)) (hne : vf_n64 (FP.f2d x)) (kk : xWp G M d K Q k (pc + 1) L (xd (FP.f2d x) :: st) h) : xWp G M d K Q k pc L (xf x :: st) h :=
  fun p l e R s m args below meth c H locs cells slots ls hs h1 h2 hS hR hL => lv_f2d hs.1 hs.2.1 hd hne (kk p l e R s m args below meth c H locs cells slots ls hs h1 h2 hS hR hL)
theorem xw_l2i {x : Int64} (hd : decode M.2.2.1 pc = .ok (.l2i, 1)) (kk : xWp G M d K Q k (pc + 1) L (xi x.toInt32 :: st) h) : xWp G M d K Q k pc L (xj x :: st) h :=
  fun p l e R s m args below meth c H locs cells slots ls hs h1 h2 hS hR hL => lv_l2i hs.1 hs.2.1 hd rfl (kk p l e R s m args below meth c H locs cells slots ls hs h1 h2 hS hR hL)
theorem xw_ladd {x y : Int64} (hd : decode M.2.2.1 pc = .ok (.ladd, 1)) (kk : xWp G M d K Q k (pc + 1) L (xj (x + y) :: st) h) : xWp G M d K Q k pc L (xj y :: xj x :: st) h :=
  fun p l e R s m args below meth c H locs cells slots ls hs h1 h2 hS hR hL => lv_ladd hs.1 hs.2.1 hd (kk p l e R s m args below meth c H locs cells slots ls hs h1 h2 hS hR hL)
theorem xw_lsub {x y : Int64} (hd : decode M.2.2.1 pc = .ok (.lsub, 1)) (kk : xWp G M d K Q k (pc + 1) L (xj (x - y) :: st) h) : xWp G M d K Q k pc L (xj y :: xj x :: st) h :=
  fun p l e R s m args below meth c H locs cells slots ls hs h1 h2 hS hR hL => lv_lsub hs.1 hs.2.1 hd (kk p l e R s m args below meth c H locs cells slots ls hs h1 h2 hS hR hL)
theorem xw_land {x y : Int64} (hd : decode M.2.2.1 pc = .ok (.land, 1)) (kk : xWp G M d K Q k (pc + 1) L (xj (x &&& y) :: st) h) : xWp G M d K Q k pc L (xj y :: xj x :: st) h :=
  fun p l e R s m args below meth c H locs cells slots ls hs h1 h2 hS hR hL => lv_land hs.1 hs.2.1 hd (kk p l e R s m args below meth c H locs cells slots ls hs h1 h2 hS hR hL)
theorem xw_lor {x y : Int64} (hd : decode M.2.2.1 pc = .ok (.lor, 1)) (kk : xWp G M d K Q k (pc + 1) L (xj (x ||| y) :: st) h) : xWp G M d K Q k pc L (xj y :: xj x :: st) h :=
  fun p l e R s m args below meth c H locs cells slots ls hs h1 h2 hS hR hL => lv_lor hs.1 hs.2.1 hd (kk p l e R s m args below meth c H locs cells slots ls hs h1 h2 hS hR hL)
theorem xw_lxor {x y : Int64} (hd : decode M.2.2.1 pc = .ok (.lxor, 1)) (kk : xWp G M d K Q k (pc + 1) L (xj (x ^^^ y) :: st) h) : xWp G M d K Q k pc L (xj y :: xj x :: st) h :=
  fun p l e R s m args below meth c H locs cells slots ls hs h1 h2 hS hR hL => lv_lxor hs.1 hs.2.1 hd (kk p l e R s m args below meth c H locs cells slots ls hs h1 h2 hS hR hL)
theorem xw_lshl {x : Int64} {y : Int32} (hd : decode M.2.2.1 pc = .ok (.lshl, 1)) (kk : xWp G M d K Q k (pc + 1) L (xj (x <<< (y.toInt64 &&& 63)) :: st) h) : xWp G M d K Q k pc L (xi y :: xj x :: st) h :=
  fun p l e R s m args below meth c H locs cells slots ls hs h1 h2 hS hR hL => lv_lshl hs.1 hs.2.1 hd rfl (kk p l e R s m args below meth c H locs cells slots ls hs h1 h2 hS hR hL)
theorem xw_lshr {x : Int64} {y : Int32} (hd : decode M.2.2.1 pc = .ok (.lshr, 1)) (kk : xWp G M d K Q k (pc + 1) L (xj (x >>> (y.toInt64 &&& 63)) :: st) h) : xWp G M d K Q k pc L (xi y :: xj x :: st) h :=
  fun p l e R s m args below meth c H locs cells slots ls hs h1 h2 hS hR hL => lv_lshr hs.1 hs.2.1 hd rfl (kk p l e R s m args below meth c H locs cells slots ls hs h1 h2 hS hR hL)
theorem xw_lushr {x : Int64} {y : Int32} (hd : decode M.2.2.1 pc = .ok (.lushr, 1)) (kk : xWp G M d K Q k (pc + 1) L (xj ((x.toUInt64 >>> (y.toInt64.toUInt64 &&& Int64.toUInt64 63)).toInt64) :: st) h) : xWp G M d K Q k pc L (xi y :: xj x :: st) h :=
  fun p l e R s m args below meth c H locs cells slots ls hs h1 h2 hS hR hL => lv_lushr hs.1 hs.2.1 hd rfl (kk p l e R s m args below meth c H locs cells slots ls hs h1 h2 hS hR hL)
theorem xw_fdiv {x y : UInt32} (hd : decode M.2.2.1 pc = .ok (.fdiv, 1)) (hne : vf_n32 (FP.fdiv x y)) (kk : xWp G M d K Q k (pc + 1) L (xf (FP.fdiv x y) :: st) h) : xWp G M d K Q k pc L (xf y :: xf x :: st) h :=
  fun p l e R s m args below meth c H locs cells slots ls hs h1 h2 hS hR hL => lv_fdiv hs.1 hs.2.1 hd hne (kk p l e R s m args below meth c H locs cells slots ls hs h1 h2 hS hR hL)
theorem xw_ddiv {x y : UInt64} (hd : decode M.2.2.1 pc = .ok (.ddiv, 1)) (hne : vf_n64 (FP.ddiv x y)) (kk : xWp G M d K Q k (pc + 1) L (xd (FP.ddiv x y) :: st) h) : xWp G M d K Q k pc L (xd y :: xd x :: st) h :=
  fun p l e R s m args below meth c H locs cells slots ls hs h1 h2 hS hR hL => lv_ddiv hs.1 hs.2.1 hd hne (kk p l e R s m args below meth c H locs cells slots ls hs h1 h2 hS hR hL)
theorem xw_dcmp {x y : UInt64} {op : CmpOp} (hd : decode M.2.2.1 pc = .ok (.dcmp op, 1)) (kk : xWp G M d K Q k (pc + 1) L (xi (Op.cmpValue (FP.dcmp x y) op) :: st) h) : xWp G M d K Q k pc L (xd y :: xd x :: st) h :=
  fun p l e R s m args below meth c H locs cells slots ls hs h1 h2 hS hR hL => lv_dcmp hs.1 hs.2.1 hd (kk p l e R s m args below meth c H locs cells slots ls hs h1 h2 hS hR hL)
theorem xw_lcmp {x y : Int64} (hd : decode M.2.2.1 pc = .ok (.lcmp, 1)) (kk : xWp G M d K Q k (pc + 1) L (xi (lg_cmp x y) :: st) h) : xWp G M d K Q k pc L (xj y :: xj x :: st) h :=
  fun p l e R s m args below meth c H locs cells slots ls hs h1 h2 hS hR hL => W.lcmp hs.1 hs.2.1 hd (kk p l e R s m args below meth c H locs cells slots ls hs h1 h2 hS hR hL)
theorem xw_dup {va : xV} (hd : decode M.2.2.1 pc = .ok (.dup, 1)) (ha : xcat va = 1) (kk : xWp G M d K Q k (pc + 1) L (va :: va :: st) h) : xWp G M d K Q k pc L (va :: st) h :=
  fun p l e R s m args below meth c H locs cells slots ls hs h1 h2 hS hR hL => lv_dup hs.1 hs.2.1 hd ((toV_cat _).trans ha) (kk p l e R s m args below meth c H locs cells slots ls hs h1 h2 hS hR hL)
theorem xw_pop {va : xV} (hd : decode M.2.2.1 pc = .ok (.pop, 1)) (ha : xcat va = 1) (kk : xWp G M d K Q k (pc + 1) L st h) : xWp G M d K Q k pc L (va :: st) h :=
  fun p l e R s m args below meth c H locs cells slots ls hs h1 h2 hS hR hL => lv_pop hs.1 hs.2.1 hd ((toV_cat _).trans ha) (kk p l e R s m args below meth c H locs cells slots ls hs h1 h2 hS hR hL)
theorem xw_dup_x1 {va vb : xV} (hd : decode M.2.2.1 pc = .ok (.dup_x1, 1)) (ha : xcat va = 1) (hb : xcat vb = 1) (kk : xWp G M d K Q k (pc + 1) L (va :: vb :: va :: st) h) : xWp G M d K Q k pc L (va :: vb :: st) h :=
  fun p l e R s m args below meth c H locs cells slots ls hs h1 h2 hS hR hL => lv_dup_x1 hs.1 hs.2.1 hd ((toV_cat _).trans ha) ((toV_cat _).trans hb) (kk p l e R s m args below meth c H locs cells slots ls hs h1 h2 hS hR hL)
theorem xw_dup2 {va vb : xV} (hd : decode M.2.2.1 pc = .ok (.dup2, 1)) (ha : xcat va = 1) (hb : xcat vb = 1) (kk : xWp G M d K Q k (pc + 1) L (va :: vb :: va :: vb :: st) h) : xWp G M d K Q k pc L (va :: vb :: st) h :=
  fun p l e R s m args below meth c H locs cells slots ls hs h1 h2 hS hR hL => lv_dup2_11 hs.1 hs.2.1 hd ((toV_cat _).trans ha) ((toV_cat _).trans hb) (kk p l e R s m args below meth c H locs cells slots ls hs h1 h2 hS hR hL)
theorem xw_iload_n {kf : Fin 4} {x : Int32} (hd : decode M.2.2.1 pc = .ok (.iload_n kf, 1)) (hl : L[(kf : Nat)]? = some (some (xi x))) (kk : xWp G M d K Q k (pc + 1) L (xi x :: st) h) : xWp G M d K Q k pc L st h :=
  fun p l e R s m args below meth c H locs cells slots ls hs h1 h2 hS hR hL => lv_iload_n hs.1 hs.2.1 hd rfl (hL.at hl) (kk p l e R s m args below meth c H locs cells slots ls hs h1 h2 hS hR hL)
theorem xw_iload {i : Nat} {x : Int32} (hd : decode M.2.2.1 pc = .ok (.iload i, 2)) (hl : L[i]? = some (some (xi x))) (kk : xWp G M d K Q k (pc + 2) L (xi x :: st) h) : xWp G M d K Q k pc L st h :=
  fun p l e R s m args below meth c H locs cells slots ls hs h1 h2 hS hR hL => lv_iload hs.1 hs.2.1 hd (hL.at hl) (kk p l e R s m args below meth c H locs cells slots ls hs h1 h2 hS hR hL)
theorem xw_lload_n {kf : Fin 4} {x : Int64} (hd : decode M.2.2.1 pc = .ok (.lload_n kf, 1)) (hl : L[(kf : Nat)]? = some (some (xj x))) (kk : xWp G M d K Q k (pc + 1) L (xj x :: st) h) : xWp G M d K Q k pc L st h :=
  fun p l e R s m args below meth c H locs cells slots ls hs h1 h2 hS hR hL => lv_lload_n hs.1 hs.2.1 hd rfl (hL.at hl) (kk p l e R s m args below meth c H locs cells slots ls hs h1 h2 hS hR hL)
theorem xw_lload {i : Nat} {x : Int64} (hd : decode M.2.2.1 pc = .ok (.lload i, 2)) (hl : L[i]? = some (some (xj x))) (kk : xWp G M d K Q k (pc + 2) L (xj x :: st) h) : xWp G M d K Q k pc L st h :=
  fun p l e R s m args below meth c H locs cells slots ls hs h1 h2 hS hR hL => lv_lload hs.1 hs.2.1 hd (hL.at hl) (kk p l e R s m args below meth c H locs cells slots ls hs h1 h2 hS hR hL)
theorem xw_fload_n {kf : Fin 4} {x : UInt32} (hd : decode M.2.2.1 pc = .ok (.fload_n kf, 1)) (hl : L[(kf : Nat)]? = some (some (xf x))) (kk : xWp G M d K Q k (pc + 1) L (xf x :: st) h) : xWp G M d K Q k pc L st h :=
  fun p l e R s m args below meth c H locs cells slots ls hs h1 h2 hS hR hL => lv_fload_n hs.1 hs.2.1 hd rfl (hL.at hl) (kk p l e R s m args below meth c H locs cells slots ls hs h1 h2 hS hR hL)
theorem xw_dload_n {kf : Fin 4} {x : UInt64} (hd : decode M.2.2.1 pc = .ok (.dload_n kf, 1)) (hl : L[(kf : Nat)]? = some (some (xd x))) (kk : xWp G M d K Q k (pc + 1) L (xd x :: st) h) : xWp G M d K Q k pc L st h :=
  fun p l e R s m args below meth c H locs cells slots ls hs h1 h2 hS hR hL => lv_dload_n hs.1 hs.2.1 hd rfl (hL.at hl) (kk p l e R s m args below meth c H locs cells slots ls hs h1 h2 hS hR hL)
theorem xw_dload {i : Nat} {x : UInt64} (hd : decode M.2.2.1 pc = .ok (.dload i, 2)) (hl : L[i]? = some (some (xd x))) (kk : xWp G M d K Q k (pc + 2) L (xd x :: st) h) : xWp G M d K Q k pc L st h :=
  fun p l e R s m args below meth c H locs cells slots ls hs h1 h2 hS hR hL => lv_dload hs.1 hs.2.1 hd (hL.at hl) (kk p l e R s m args below meth c H locs cells slots ls hs h1 h2 hS hR hL)
theorem xw_aload_n {kf : Fin 4} {o : Option Nat} (hd : decode M.2.2.1 pc = .ok (.aload_n kf, 1)) (hl : L[(kf : Nat)]? = some (some (xr o))) (kk : xWp G M d K Q k (pc + 1) L (xr o :: st) h) : xWp G M d K Q k pc L st h := by
  refine fun p l e R s m args below meth c H locs cells slots ls hs h1 h2 hS hR hL => ?_
  cases o with
  | none => exact lv_aload_nN hs.1 hs.2.1 hd rfl (hL.at hl) (kk p l e R s m args below meth c H locs cells slots ls hs h1 h2 hS hR hL)
  | some a => exact lv_aload_n hs.1 hs.2.1 hd rfl (hL.at hl) (kk p l e R s m args below meth c H locs cells slots ls hs h1 h2 hS hR hL)
theorem xw_aload {i : Nat} {o : Option Nat} (hd : decode M.2.2.1 pc = .ok (.aload i, 2)) (hl : L[i]? = some (some (xr o))) (kk : xWp G M d K Q k (pc + 2) L (xr o :: st) h) : xWp G M d K Q k pc L st h := by
  refine fun p l e R s m args below meth c H locs cells slots ls hs h1 h2 hS hR hL => ?_
  cases o with
  | none => exact lv_aloadN hs.1 hs.2.1 hd (hL.at hl) (kk p l e R s m args below meth c H locs cells slots ls hs h1 h2 hS hR hL)
  | some a => exact lv_aload hs.1 hs.2.1 hd (hL.at hl) (kk p l e R s m args below meth c H locs cells slots ls hs h1 h2 hS hR hL)
theorem xw_istore_n {kf : Fin 4} {x : Int32} (hd : decode M.2.2.1 pc = .ok (.istore_n kf, 1)) (hn : (kf : Nat) < M.2.2.2.1) {L9 : List (Option xV)} (hL9 : xst L (kf : Nat) (xi x) = L9) (kk : xWp G M d K Q k (pc + 1) L9 st h) : xWp G M d K Q k pc L (xi x :: st) h :=
  fun p l e R s m args below meth c H locs cells slots ls hs h1 h2 hS hR hL => lv_istore_n hs.1 hs.2.1 hd rfl hL hn rfl (fun ls2 hL2 => kk p l e R s m args below meth c H locs cells slots ls2 hs h1 h2 hS hR  (hL9 ▸ xst_of1 (v := xi x) rfl hL2))
theorem xw_istore {i : Nat} {x : Int32} (hd : decode M.2.2.1 pc = .ok (.istore i, 2)) (hn : i < M.2.2.2.1) {L9 : List (Option xV)} (hL9 : xst L i (xi x) = L9) (kk : xWp G M d K Q k (pc + 2) L9 st h) : xWp G M d K Q k pc L (xi x :: st) h :=
  fun p l e R s m args below meth c H locs cells slots ls hs h1 h2 hS hR hL => lv_istore hs.1 hs.2.1 hd hL hn rfl (fun ls2 hL2 => kk p l e R s m args below meth c H locs cells slots ls2 hs h1 h2 hS hR  (hL9 ▸ xst_of1 (v := xi x) rfl hL2))
theorem xw_lstore_n {kf : Fin 4} {x : Int64} (hd : decode M.2.2.1 pc = .ok (.lstore_n kf, 1)) (hn : (kf : Nat) + 1 < M.2.2.2.1) {L9 : List (Option xV)} (hL9 : xst L (kf : Nat) (xj x) = L9) (kk : xWp G M d K Q k (pc + 1) L9 st h) : xWp G M d K Q k pc L (xj x :: st) h :=
  fun p l e R s m args below meth c H locs cells slots ls hs h1 h2 hS hR hL => lv_lstore_n hs.1 hs.2.1 hd rfl hL hn rfl (fun ls2 hL2 => kk p l e R s m args below meth c H locs cells slots ls2 hs h1 h2 hS hR  (hL9 ▸ xst_of2 (v := xj x) rfl hL2))
theorem xw_lstore {i : Nat} {x : Int64} (hd : decode M.2.2.1 pc = .ok (.lstore i, 2)) (hn : i + 1 < M.2.2.2.1) {L9 : List (Option xV)} (hL9 : xst L i (xj x) = L9) (kk : xWp G M d K Q k (pc + 2) L9 st h) : xWp G M d K Q k pc L (xj x :: st) h :=
  fun p l e R s m args below meth c H locs cells slots ls hs h1 h2 hS hR hL => lv_lstore hs.1 hs.2.1 hd hL hn rfl (fun ls2 hL2 => kk p l e R s m args below meth c H locs cells slots ls2 hs h1 h2 hS hR  (hL9 ▸ xst_of2 (v := xj x) rfl hL2))
theorem xw_dstore_n {kf : Fin 4} {x : UInt64} (hd : decode M.2.2.1 pc = .ok (.dstore_n kf, 1)) (hn : (kf : Nat) + 1 < M.2.2.2.1) {L9 : List (Option xV)} (hL9 : xst L (kf : Nat) (xd x) = L9) (kk : xWp G M d K Q k (pc + 1) L9 st h) : xWp G M d K Q k pc L (xd x :: st) h :=
  fun p l e R s m args below meth c H locs cells slots ls hs h1 h2 hS hR hL => lv_dstore_n hs.1 hs.2.1 hd rfl hL hn rfl (fun ls2 hL2 => kk p l e R s m args below meth c H locs cells slots ls2 hs h1 h2 hS hR  (hL9 ▸ xst_of2 (v := xd x) rfl hL2))
theorem xw_dstore {i : Nat} {x : UInt64} (hd : decode M.2.2.1 pc = .ok (.dstore i, 2)) (hn : i + 1 < M.2.2.2.1) {L9 : List (Option xV)} (hL9 : xst L i (xd x) = L9) (kk : xWp G M d K Q k (pc + 2) L9 st h) : xWp G M d K Q k pc L (xd x :: st) h :=
  fun p l e R s m args below meth c H locs cells slots ls hs h1 h2 hS hR hL => lv_dstore hs.1 hs.2.1 hd hL hn rfl (fun ls2 hL2 => kk p l e R s m args below meth c H locs cells slots ls2 hs h1 h2 hS hR  (hL9 ▸ xst_of2 (v := xd x) rfl hL2))
theorem xw_astore_n {kf : Fin 4} {o : Option Nat} (hd : decode M.2.2.1 pc = .ok (.astore_n kf, 1)) (hn : (kf : Nat) < M.2.2.2.1) {L9 : List (Option xV)} (hL9 : xst L (kf : Nat) (xr o) = L9) (kk : xWp G M d K Q k (pc + 1) L9 st h) : xWp G M d K Q k pc L (xr o :: st) h := by
  refine fun p l e R s m args below meth c H locs cells slots ls hs h1 h2 hS hR hL => ?_
  cases o with
  | none => exact lv_astore_nN hs.1 hs.2.1 hd rfl hL hn rfl (fun ls2 hL2 => kk p l e R s m args below meth c H locs cells slots ls2 hs h1 h2 hS hR  (hL9 ▸ xst_of1 (v := xr none) rfl hL2))
  | some a => exact lv_astore_n hs.1 hs.2.1 hd rfl hL hn rfl (fun ls2 hL2 => kk p l e R s m args below meth c H locs cells slots ls2 hs h1 h2 hS hR  (hL9 ▸ xst_of1 (v := xr (some a)) rfl hL2))
theorem xw_astore {i : Nat} {o : Option Nat} (hd : decode M.2.2.1 pc = .ok (.astore i, 2)) (hn : i < M.2.2.2.1) {L9 : List (Option xV)} (hL9 : xst L i (xr o) = L9) (kk : xWp G M d K Q k (pc + 2) L9 st h) : xWp G M d K Q k pc L (xr o :: st) h := by
  refine fun p l e R s m args below meth c H locs cells slots ls hs h1 h2 hS hR hL => ?_
  cases o with
  | none => exact lv_astoreN hs.1 hs.2.1 hd hL hn rfl (fun ls2 hL2 => kk p l e R s m args below meth c H locs cells slots ls2 hs h1 h2 hS hR  (hL9 ▸ xst_of1 (v := xr none) rfl hL2))
  | some a => exact lv_astore hs.1 hs.2.1 hd hL hn rfl (fun ls2 hL2 => kk p l e R s m args below meth c H locs cells slots ls2 hs h1 h2 hS hR  (hL9 ▸ xst_of1 (v := xr (some a)) rfl hL2))
theorem xw_iinc {i : Nat} {n : Int} {x : Int32} (v : Int32) (hd : decode M.2.2.1 pc = .ok (.iinc i n, 3)) (hl : L[i]? = some (some (xi x))) (hv : Int32.ofInt n = v) (hn : i < M.2.2.2.1) {L9 : List (Option xV)} (hL9 : xst L i (xi (x + v)) = L9) (kk : xWp G M d K Q k (pc + 3) L9 st h) : xWp G M d K Q k pc L st h := by
  refine fun p l e R s m args below meth c H locs cells slots ls hs h1 h2 hS hR hL => ?_
  have hm : (i, toV (xi x)) ∈ xas 0 L := (xas_mem L 0 _).mpr ⟨i, _, hl, by rw [Nat.zero_add]⟩
  obtain ⟨kx, hk⟩ := List.getElem?_of_mem hm
  exact lv_iinc (v := x + v) hs.1 hs.2.1 hd hL hk (by rw [hv]) hn rfl (fun ls2 hL2 => kk p l e R s m args below meth c H locs cells slots ls2 hs h1 h2 hS hR  (hL9 ▸ xst_of1 (v := xi (x + v)) rfl hL2))
theorem xw_if_eq {x : Int32} {off : Int} (tgt : Nat) (hd : decode M.2.2.1 pc = .ok (.ifCond .eq off, 3)) (ht : (pc : Int) + off = (tgt : Int)) (kt : x = 0 → xWp G M d K Q k tgt L st h) (kf : ¬ x = 0 → xWp G M d K Q k (pc + 3) L st h) : xWp G M d K Q k pc L (xi x :: st) h :=
  fun p l e R s m args below meth c H locs cells slots ls hs h1 h2 hS hR hL => lv_if_eq hs.1 hs.2.1 hd ht (fun z => kt z p l e R s m args below meth c H locs cells slots ls hs h1 h2 hS hR hL) (fun z => kf z p l e R s m args below meth c H locs cells slots ls hs h1 h2 hS hR hL)
theorem xw_if_ne {x : Int32} {off : Int} (tgt : Nat) (hd : decode M.2.2.1 pc = .ok (.ifCond .ne off, 3)) (ht : (pc : Int) + off = (tgt : Int)) (kt : ¬ x = 0 → xWp G M d K Q k tgt L st h) (kf : x = 0 → xWp G M d K Q k (pc + 3) L st h) : xWp G M d K Q k pc L (xi x :: st) h :=
  fun p l e R s m args below meth c H locs cells slots ls hs h1 h2 hS hR hL => lv_if_ne hs.1 hs.2.1 hd ht (fun z => kt z p l e R s m args below meth c H locs cells slots ls hs h1 h2 hS hR hL) (fun z => kf z p l e R s m args below meth c H locs cells slots ls hs h1 h2 hS hR hL)
theorem xw_if_lt {x : Int32} {off : Int} (tgt : Nat) (hd : decode M.2.2.1 pc = .ok (.ifCond .lt off, 3)) (ht : (pc : Int) + off = (tgt : Int)) (kt : x < 0 → xWp G M d K Q k tgt L st h) (kf : ¬ x < 0 → xWp G M d K Q k (pc + 3) L st h) : xWp G M d K Q k pc L (xi x :: st) h :=
  fun p l e R s m args below meth c H locs cells slots ls hs h1 h2 hS hR hL => lv_if_lt hs.1 hs.2.1 hd ht (fun z => kt z p l e R s m args below meth c H locs cells slots ls hs h1 h2 hS hR hL) (fun z => kf z p l e R s m args below meth c H locs cells slots ls hs h1 h2 hS hR hL)
theorem xw_if_ge {x : Int32} {off : Int} (tgt : Nat) (hd : decode M.2.2.1 pc = .ok (.ifCond .ge off, 3)) (ht : (pc : Int) + off = (tgt : Int)) (kt : 0 ≤ x → xWp G M d K Q k tgt L st h) (kf : ¬ 0 ≤ x → xWp G M d K Q k (pc + 3) L st h) : xWp G M d K Q k pc L (xi x :: st) h :=
  fun p l e R s m args below meth c H locs cells slots ls hs h1 h2 hS hR hL => lv_if_ge hs.1 hs.2.1 hd ht (fun z => kt z p l e R s m args below meth c H locs cells slots ls hs h1 h2 hS hR hL) (fun z => kf z p l e R s m args below meth c H locs cells slots ls hs h1 h2 hS hR hL)
theorem xw_if_gt {x : Int32} {off : Int} (tgt : Nat) (hd : decode M.2.2.1 pc = .ok (.ifCond .gt off, 3)) (ht : (pc : Int) + off = (tgt : Int)) (kt : 0 < x → xWp G M d K Q k tgt L st h) (kf : ¬ 0 < x → xWp G M d K Q k (pc + 3) L st h) : xWp G M d K Q k pc L (xi x :: st) h :=
  fun p l e R s m args below meth c H locs cells slots ls hs h1 h2 hS hR hL => lv_if_gt hs.1 hs.2.1 hd ht (fun z => kt z p l e R s m args below meth c H locs cells slots ls hs h1 h2 hS hR hL) (fun z => kf z p l e R s m args below meth c H locs cells slots ls hs h1 h2 hS hR hL)
theorem xw_if_le {x : Int32} {off : Int} (tgt : Nat) (hd : decode M.2.2.1 pc = .ok (.ifCond .le off, 3)) (ht : (pc : Int) + off = (tgt : Int)) (kt : x ≤ 0 → xWp G M d K Q k tgt L st h) (kf : ¬ x ≤ 0 → xWp G M d K Q k (pc + 3) L st h) : xWp G M d K Q k pc L (xi x :: st) h :=
  fun p l e R s m args below meth c H locs cells slots ls hs h1 h2 hS hR hL => lv_if_le hs.1 hs.2.1 hd ht (fun z => kt z p l e R s m args below meth c H locs cells slots ls hs h1 h2 hS hR hL) (fun z => kf z p l e R s m args below meth c H locs cells slots ls hs h1 h2 hS hR hL)
theorem xw_icmp_eq {x y : Int32} {off : Int} (tgt : Nat) (hd : decode M.2.2.1 pc = .ok (.if_icmp .eq off, 3)) (ht : (pc : Int) + off = (tgt : Int)) (kt : x = y → xWp G M d K Q k tgt L st h) (kf : ¬ x = y → xWp G M d K Q k (pc + 3) L st h) : xWp G M d K Q k pc L (xi y :: xi x :: st) h :=
  fun p l e R s m args below meth c H locs cells slots ls hs h1 h2 hS hR hL => lv_icmp_eq hs.1 hs.2.1 hd ht (fun z => kt z p l e R s m args below meth c H locs cells slots ls hs h1 h2 hS hR hL) (fun z => kf z p l e R s m args below meth c H locs cells slots ls hs h1 h2 hS hR hL)
theorem xw_icmp_ne {x y : Int32} {off : Int} (tgt : Nat) (hd : decode M.2.2.1 pc = .ok (.if_icmp .ne off, 3)) (ht : (pc : Int) + off = (tgt : Int)) (kt : ¬ x = y → xWp G M d K Q k tgt L st h) (kf : x = y → xWp G M d K Q k (pc + 3) L st h) : xWp G M d K Q k pc L (xi y :: xi x :: st) h :=
  fun p l e R s m args below meth c H locs cells slots ls hs h1 h2 hS hR hL => lv_icmp_ne hs.1 hs.2.1 hd ht (fun z => kt z p l e R s m args below meth c H locs cells slots ls hs h1 h2 hS hR hL) (fun z => kf z p l e R s m args below meth c H locs cells slots ls hs h1 h2 hS hR hL)
theorem xw_icmp_lt {x y : Int32} {off : Int} (tgt : Nat) (hd : decode M.2.2.1 pc = .ok (.if_icmp .lt off, 3)) (ht : (pc : Int) + off = (tgt : Int)) (kt : x < y → xWp G M d K Q k tgt L st h) (kf : ¬ x < y → xWp G M d K Q k (pc + 3) L st h) : xWp G M d K Q k pc L (xi y :: xi x :: st) h :=
  fun p l e R s m args below meth c H locs cells slots ls hs h1 h2 hS hR hL => lv_icmp_lt hs.1 hs.2.1 hd ht (fun z => kt z p l e R s m args below meth c H locs cells slots ls hs h1 h2 hS hR hL) (fun z => kf z p l e R s m args below meth c H locs cells slots ls hs h1 h2 hS hR hL)
theorem xw_icmp_ge {x y : Int32} {off : Int} (tgt : Nat) (hd : decode M.2.2.1 pc = .ok (.if_icmp .ge off, 3)) (ht : (pc : Int) + off = (tgt : Int)) (kt : y ≤ x → xWp G M d K Q k tgt L st h) (kf : ¬ y ≤ x → xWp G M d K Q k (pc + 3) L st h) : xWp G M d K Q k pc L (xi y :: xi x :: st) h :=
  fun p l e R s m args below meth c H locs cells slots ls hs h1 h2 hS hR hL => lv_icmp_ge hs.1 hs.2.1 hd ht (fun z => kt z p l e R s m args below meth c H locs cells slots ls hs h1 h2 hS hR hL) (fun z => kf z p l e R s m args below meth c H locs cells slots ls hs h1 h2 hS hR hL)
theorem xw_icmp_gt {x y : Int32} {off : Int} (tgt : Nat) (hd : decode M.2.2.1 pc = .ok (.if_icmp .gt off, 3)) (ht : (pc : Int) + off = (tgt : Int)) (kt : y < x → xWp G M d K Q k tgt L st h) (kf : ¬ y < x → xWp G M d K Q k (pc + 3) L st h) : xWp G M d K Q k pc L (xi y :: xi x :: st) h :=
  fun p l e R s m args below meth c H locs cells slots ls hs h1 h2 hS hR hL => lv_icmp_gt hs.1 hs.2.1 hd ht (fun z => kt z p l e R s m args below meth c H locs cells slots ls hs h1 h2 hS hR hL) (fun z => kf z p l e R s m args below meth c H locs cells slots ls hs h1 h2 hS hR hL)
theorem xw_icmp_le {x y : Int32} {off : Int} (tgt : Nat) (hd : decode M.2.2.1 pc = .ok (.if_icmp .le off, 3)) (ht : (pc : Int) + off = (tgt : Int)) (kt : x ≤ y → xWp G M d K Q k tgt L st h) (kf : ¬ x ≤ y → xWp G M d K Q k (pc + 3) L st h) : xWp G M d K Q k pc L (xi y :: xi x :: st) h :=
  fun p l e R s m args below meth c H locs cells slots ls hs h1 h2 hS hR hL => lv_icmp_le hs.1 hs.2.1 hd ht (fun z => kt z p l e R s m args below meth c H locs cells slots ls hs h1 h2 hS hR hL) (fun z => kf z p l e R s m args below meth c H locs cells slots ls hs h1 h2 hS hR hL)
theorem xw_acmp_eq {x y : Option Nat} {off : Int} (tgt : Nat) (hd : decode M.2.2.1 pc = .ok (.if_acmp .eq off, 3)) (ht : (pc : Int) + off = (tgt : Int)) (kt : x = y → xWp G M d K Q k tgt L st h) (kf : ¬ x = y → xWp G M d K Q k (pc + 3) L st h) : xWp G M d K Q k pc L (xr y :: xr x :: st) h :=
  fun p l e R s m args below meth c H locs cells slots ls hs h1 h2 hS hR hL => lv_acmp_eq hs.1 hs.2.1 hd ht (fun z => kt z p l e R s m args below meth c H locs cells slots ls hs h1 h2 hS hR hL) (fun z => kf z p l e R s m args below meth c H locs cells slots ls hs h1 h2 hS hR hL)
theorem xw_acmp_ne {x y : Option Nat} {off : Int} (tgt : Nat) (hd : decode M.2.2.1 pc = .ok (.if_acmp .ne off, 3)) (ht : (pc : Int) + off = (tgt : Int)) (kt : ¬ x = y → xWp G M d K Q k tgt L st h) (kf : x = y → xWp G M d K Q k (pc + 3) L st h) : xWp G M d K Q k pc L (xr y :: xr x :: st) h :=
  fun p l e R s m args below meth c H locs cells slots ls hs h1 h2 hS hR hL => lv_acmp_ne hs.1 hs.2.1 hd ht (fun z => kt z p l e R s m args below meth c H locs cells slots ls hs h1 h2 hS hR hL) (fun z => kf z p l e R s m args below meth c H locs cells slots ls hs h1 h2 hS hR hL)
theorem xw_ifnull {o : Option Nat} {off : Int} (tgt : Nat) (hd : decode M.2.2.1 pc = .ok (.ifnull off, 3)) (ht : (pc : Int) + off = (tgt : Int)) (kt : o = none → xWp G M d K Q k tgt L st h) (kf : ∀ a, o = some a → xWp G M d K Q k (pc + 3) L st h) : xWp G M d K Q k pc L (xr o :: st) h := by
  refine fun p l e R s m args below meth c H locs cells slots ls hs h1 h2 hS hR hL => ?_
  cases o with
  | none => exact lv_ifnullN hs.1 hs.2.1 hd ht (kt rfl p l e R s m args below meth c H locs cells slots ls hs h1 h2 hS hR hL)
  | some a => exact lv_ifnull hs.1 hs.2.1 hd (kf a rfl p l e R s m args below meth c H locs cells slots ls hs h1 h2 hS hR hL)
theorem xw_ifnonnull {o : Option Nat} {off : Int} (tgt : Nat) (hd : decode M.2.2.1 pc = .ok (.ifnonnull off, 3)) (ht : (pc : Int) + off = (tgt : Int)) (kt : ∀ a, o = some a → xWp G M d K Q k tgt L st h) (kf : o = none → xWp G M d K Q k (pc + 3) L st h) : xWp G M d K Q k pc L (xr o :: st) h := by
  refine fun p l e R s m args below meth c H locs cells slots ls hs h1 h2 hS hR hL => ?_
  cases o with
  | none => exact lv_ifnonnullN hs.1 hs.2.1 hd (kf rfl p l e R s m args below meth c H locs cells slots ls hs h1 h2 hS hR hL)
  | some a => exact lv_ifnonnull hs.1 hs.2.1 hd ht (kt a rfl p l e R s m args below meth c H locs cells slots ls hs h1 h2 hS hR hL)
theorem xw_goto {off : Int} (tgt : Nat) (hd : decode M.2.2.1 pc = .ok (.goto off, 3)) (ht : (pc : Int) + off = (tgt : Int)) (kk : xWp G M d K Q k tgt L st h) : xWp G M d K Q k pc L st h :=
  fun p l e R s m args below meth c H locs cells slots ls hs h1 h2 hS hR hL => lv_goto hs.1 hs.2.1 hd ht (kk p l e R s m args below meth c H locs cells slots ls hs h1 h2 hS hR hL)
theorem xw_tableIn {dflt lo hi : Int} {offs : Array Int} {len : Nat} {x : Int32} {off : Int} (tgt : Nat) (hd : decode M.2.2.1 pc = .ok (.tableswitch dflt lo hi offs, len)) (g1 : ¬ x.toInt < lo) (g2 : ¬ hi < x.toInt) (ho : offs[(x.toInt - lo).toNat]? = some off) (ht : (pc : Int) + off = (tgt : Int)) (kk : xWp G M d K Q k tgt L st h) : xWp G M d K Q k pc L (xi x :: st) h :=
  fun p l e R s m args below meth c H locs cells slots ls hs h1 h2 hS hR hL => lv_tableIn hs.1 hs.2.1 hd g1 g2 ho ht (kk p l e R s m args below meth c H locs cells slots ls hs h1 h2 hS hR hL)
theorem xw_tableOut {dflt lo hi : Int} {offs : Array Int} {len : Nat} {x : Int32} (tgt : Nat) (hd : decode M.2.2.1 pc = .ok (.tableswitch dflt lo hi offs, len)) (g1 : x.toInt < lo ∨ hi < x.toInt) (ht : (pc : Int) + dflt = (tgt : Int)) (kk : xWp G M d K Q k tgt L st h) : xWp G M d K Q k pc L (xi x :: st) h :=
  fun p l e R s m args below meth c H locs cells slots ls hs h1 h2 hS hR hL => lv_tableOut hs.1 hs.2.1 hd g1 ht (kk p l e R s m args below meth c H locs cells slots ls hs h1 h2 hS hR hL)
theorem xw_lookup {dflt : Int} {ps : Array (Int × Int)} {len : Nat} {x : Int32} {off : Int} (tgt : Nat) (hd : decode M.2.2.1 pc = .ok (.lookupswitch dflt ps, len)) (hp : (ps.toList.zip (ps.toList.drop 1)).all (fun (a, next) => a.1 < next.1) = true) (ho : Op.lookupswitch.offset ps.toList dflt x.toInt = off) (ht : (pc : Int) + off = (tgt : Int)) (kk : xWp G M d K Q k tgt L st h) : xWp G M d K Q k pc L (xi x :: st) h :=
  fun p l e R s m args below meth c H locs cells slots ls hs h1 h2 hS hR hL => lv_lookup hs.1 hs.2.1 hd hp ho ht (kk p l e R s m args below meth c H locs cells slots ls hs h1 h2 hS hR hL)
theorem xw_ldc {idx : Nat} {v : Int32} (hd : decode M.2.2.1 pc = .ok (.ldc idx, 2)) (hw : Cond.constant M.1 idx v ∈ lw_all) (kk : xWp G M d K Q k (pc + 2) L (xi v :: st) h) : xWp G M d K Q k pc L st h :=
  fun p l e R s m args below meth c H locs cells slots ls hs h1 h2 hS hR hL => lv_ldc hs.1 hs.2.1 hs.2.2.2.2.2.1 (hs.2.2.2.2.2.2.2.1 _ hw) hd (kk p l e R s m args below meth c H locs cells slots ls hs h1 h2 hS hR hL)
theorem xw_ldcw {idx : Nat} {v : Int32} (hd : decode M.2.2.1 pc = .ok (.ldc_w idx, 3)) (hw : Cond.constant M.1 idx v ∈ lw_all) (kk : xWp G M d K Q k (pc + 3) L (xi v :: st) h) : xWp G M d K Q k pc L st h :=
  fun p l e R s m args below meth c H locs cells slots ls hs h1 h2 hS hR hL => lv_ldcw hs.1 hs.2.1 hs.2.2.2.2.2.1 (hs.2.2.2.2.2.2.2.1 _ hw) hd (kk p l e R s m args below meth c H locs cells slots ls hs h1 h2 hS hR hL)
theorem xw_ldc2 {idx : Nat} {v : Int64} (hd : decode M.2.2.1 pc = .ok (.ldc2_w idx, 3)) (hw : Cond.constantLong M.1 idx v ∈ lw_all) (kk : xWp G M d K Q k (pc + 3) L (xj v :: st) h) : xWp G M d K Q k pc L st h :=
  fun p l e R s m args below meth c H locs cells slots ls hs h1 h2 hS hR hL => lv_ldc2 hs.1 hs.2.1 hs.2.2.2.2.2.1 (hs.2.2.2.2.2.2.2.1 _ hw) hd (kk p l e R s m args below meth c H locs cells slots ls hs h1 h2 hS hR hL)
theorem xw_castN {idx : Nat} (hd : decode M.2.2.1 pc = .ok (.checkcast idx, 3)) (kk : xWp G M d K Q k (pc + 3) L (xr none :: st) h) : xWp G M d K Q k pc L (xr none :: st) h :=
  fun p l e R s m args below meth c H locs cells slots ls hs h1 h2 hS hR hL => lv_castN hs.1 hs.2.1 hd (kk p l e R s m args below meth c H locs cells slots ls hs h1 h2 hS hR hL)
theorem xw_instN {idx : Nat} (hd : decode M.2.2.1 pc = .ok (.instanceof idx, 3)) (kk : xWp G M d K Q k (pc + 3) L (xi 0 :: st) h) : xWp G M d K Q k pc L (xr none :: st) h :=
  fun p l e R s m args below meth c H locs cells slots ls hs h1 h2 hS hR hL => lv_instN hs.1 hs.2.1 hd (kk p l e R s m args below meth c H locs cells slots ls hs h1 h2 hS hR hL)
end XR
