/-! ===== L0: simple rows, written by mk_rows.py ===== -/
set_option maxRecDepth 100000
section ZR
variable {s0 : zE} {M : zM} {d pc : Nat} {ls : List (Option Value)} {st : List Value} {h : zH} {Q : Value → zH → Prop} {E : Nat → zH → Prop}
theorem z_iconst {n : Int} {v : Int32} (hv : Int32.ofInt n = v) (hd : decode M.2.1 pc = .ok (.iconst n, 1)) (K : zP s0 M d (pc + 1) ls (.int v :: st) h Q E) : zP s0 M d pc ls st h Q E :=
  zP.step (fun _ _ _ _ _ _ _ _ _ _ _ _ _ _ _ _ C L k => lv_iconst C.1 C.2.1 hd hv (k _ L)) K
theorem z_bipush {n : Int} {v : Int32} (hv : (Int8.ofInt n).toInt32 = v) (hd : decode M.2.1 pc = .ok (.bipush n, 2)) (K : zP s0 M d (pc + 2) ls (.int v :: st) h Q E) : zP s0 M d pc ls st h Q E :=
  zP.step (fun _ _ _ _ _ _ _ _ _ _ _ _ _ _ _ _ C L k => lv_bipush C.1 C.2.1 hd hv (k _ L)) K
theorem z_sipush {n : Int} {v : Int32} (hv : (Int16.ofInt n).toInt32 = v) (hd : decode M.2.1 pc = .ok (.sipush n, 3)) (K : zP s0 M d (pc + 3) ls (.int v :: st) h Q E) : zP s0 M d pc ls st h Q E :=
  zP.step (fun _ _ _ _ _ _ _ _ _ _ _ _ _ _ _ _ C L k => lv_sipush C.1 C.2.1 hd hv (k _ L)) K
theorem z_lconst {n : Fin 2} {v : Int64} (hv : Int64.ofNat (n : Nat) = v) (hd : decode M.2.1 pc = .ok (.lconst n, 1)) (K : zP s0 M d (pc + 1) ls (.long v :: st) h Q E) : zP s0 M d pc ls st h Q E :=
  zP.step (fun _ _ _ _ _ _ _ _ _ _ _ _ _ _ _ _ C L k => lv_lconst C.1 C.2.1 hd hv (k _ L)) K
theorem z_null (hd : decode M.2.1 pc = .ok (.aconst_null, 1)) (K : zP s0 M d (pc + 1) ls (zr 0 :: st) h Q E) : zP s0 M d pc ls st h Q E :=
  zP.step (fun _ _ _ _ _ _ _ _ _ _ _ _ _ _ _ _ C L k => lv_null C.1 C.2.1 hd (k _ L)) K
theorem z_iadd {x y : Int32} (hd : decode M.2.1 pc = .ok (.iadd, 1)) (K : zP s0 M d (pc + 1) ls (.int (x + y) :: st) h Q E) : zP s0 M d pc ls (.int y :: .int x :: st) h Q E :=
  zP.step (fun _ _ _ _ _ _ _ _ _ _ _ _ _ _ _ _ C L k => lv_iadd C.1 C.2.1 hd (k _ L)) K
theorem z_isub {x y : Int32} (hd : decode M.2.1 pc = .ok (.isub, 1)) (K : zP s0 M d (pc + 1) ls (.int (x - y) :: st) h Q E) : zP s0 M d pc ls (.int y :: .int x :: st) h Q E :=
  zP.step (fun _ _ _ _ _ _ _ _ _ _ _ _ _ _ _ _ C L k => lv_isub C.1 C.2.1 hd (k _ L)) K
theorem z_imul {x y : Int32} (hd : decode M.2.1 pc = .ok (.imul, 1)) (K : zP s0 M d (pc + 1) ls (.int (x * y) :: st) h Q E) : zP s0 M d pc ls (.int y :: .int x :: st) h Q E :=
  zP.step (fun _ _ _ _ _ _ _ _ _ _ _ _ _ _ _ _ C L k => lv_imul C.1 C.2.1 hd (k _ L)) K
theorem z_iand {x y : Int32} (hd : decode M.2.1 pc = .ok (.iand, 1)) (K : zP s0 M d (pc + 1) ls (.int (x &&& y) :: st) h Q E) : zP s0 M d pc ls (.int y :: .int x :: st) h Q E :=
  zP.step (fun _ _ _ _ _ _ _ _ _ _ _ _ _ _ _ _ C L k => lv_iand C.1 C.2.1 hd (k _ L)) K
theorem z_ior {x y : Int32} (hd : decode M.2.1 pc = .ok (.ior, 1)) (K : zP s0 M d (pc + 1) ls (.int (x ||| y) :: st) h Q E) : zP s0 M d pc ls (.int y :: .int x :: st) h Q E :=
  zP.step (fun _ _ _ _ _ _ _ _ _ _ _ _ _ _ _ _ C L k => lv_ior C.1 C.2.1 hd (k _ L)) K
theorem z_ixor {x y : Int32} (hd : decode M.2.1 pc = .ok (.ixor, 1)) (K : zP s0 M d (pc + 1) ls (.int (x ^^^ y) :: st) h Q E) : zP s0 M d pc ls (.int y :: .int x :: st) h Q E :=
  zP.step (fun _ _ _ _ _ _ _ _ _ _ _ _ _ _ _ _ C L k => lv_ixor C.1 C.2.1 hd (k _ L)) K
theorem z_ishl {x y : Int32} (hd : decode M.2.1 pc = .ok (.ishl, 1)) (K : zP s0 M d (pc + 1) ls (.int (x <<< (y &&& 31)) :: st) h Q E) : zP s0 M d pc ls (.int y :: .int x :: st) h Q E :=
  zP.step (fun _ _ _ _ _ _ _ _ _ _ _ _ _ _ _ _ C L k => lv_ishl C.1 C.2.1 hd (k _ L)) K
theorem z_ishr {x y : Int32} (hd : decode M.2.1 pc = .ok (.ishr, 1)) (K : zP s0 M d (pc + 1) ls (.int (x >>> (y &&& 31)) :: st) h Q E) : zP s0 M d pc ls (.int y :: .int x :: st) h Q E :=
  zP.step (fun _ _ _ _ _ _ _ _ _ _ _ _ _ _ _ _ C L k => lv_ishr C.1 C.2.1 hd (k _ L)) K
theorem z_iushr {x y : Int32} (hd : decode M.2.1 pc = .ok (.iushr, 1)) (K : zP s0 M d (pc + 1) ls (.int (x.toUInt32 >>> (y.toUInt32 &&& Int32.toUInt32 31)).toInt32 :: st) h Q E) : zP s0 M d pc ls (.int y :: .int x :: st) h Q E :=
  zP.step (fun _ _ _ _ _ _ _ _ _ _ _ _ _ _ _ _ C L k => lv_iushr C.1 C.2.1 hd rfl (k _ L)) K
theorem z_idiv {x y : Int32} (hy : ¬ y = 0) (hd : decode M.2.1 pc = .ok (.idiv, 1)) (K : zP s0 M d (pc + 1) ls (.int (x / y) :: st) h Q E) : zP s0 M d pc ls (.int y :: .int x :: st) h Q E :=
  zP.step (fun _ _ _ _ _ _ _ _ _ _ _ _ _ _ _ _ C L k => lv_idiv C.1 C.2.1 hd hy (k _ L)) K
theorem z_irem {x y : Int32} (hy : ¬ y = 0) (hd : decode M.2.1 pc = .ok (.irem, 1)) (K : zP s0 M d (pc + 1) ls (.int (x - x / y * y) :: st) h Q E) : zP s0 M d pc ls (.int y :: .int x :: st) h Q E :=
  zP.step (fun _ _ _ _ _ _ _ _ _ _ _ _ _ _ _ _ C L k => lv_irem C.1 C.2.1 hd hy (k _ L)) K
theorem z_ineg {x : Int32} (hd : decode M.2.1 pc = .ok (.ineg, 1)) (K : zP s0 M d (pc + 1) ls (.int (-x) :: st) h Q E) : zP s0 M d pc ls (.int x :: st) h Q E :=
  zP.step (fun _ _ _ _ _ _ _ _ _ _ _ _ _ _ _ _ C L k => lv_ineg C.1 C.2.1 hd (k _ L)) K
theorem z_i2l {x : Int32} (hd : decode M.2.1 pc = .ok (.i2l, 1)) (K : zP s0 M d (pc + 1) ls (.long x.toInt64 :: st) h Q E) : zP s0 M d pc ls (.int x :: st) h Q E :=
  zP.step (fun _ _ _ _ _ _ _ _ _ _ _ _ _ _ _ _ C L k => lv_i2l C.1 C.2.1 hd rfl (k _ L)) K
theorem z_l2i {x : Int64} (hd : decode M.2.1 pc = .ok (.l2i, 1)) (K : zP s0 M d (pc + 1) ls (.int x.toInt32 :: st) h Q E) : zP s0 M d pc ls (.long x :: st) h Q E :=
  zP.step (fun _ _ _ _ _ _ _ _ _ _ _ _ _ _ _ _ C L k => lv_l2i C.1 C.2.1 hd rfl (k _ L)) K
theorem z_i2b {x : Int32} (hd : decode M.2.1 pc = .ok (.i2b, 1)) (K : zP s0 M d (pc + 1) ls (.int x.toInt8.toInt32 :: st) h Q E) : zP s0 M d pc ls (.int x :: st) h Q E :=
  zP.step (fun _ _ _ _ _ _ _ _ _ _ _ _ _ _ _ _ C L k => lv_i2b C.1 C.2.1 hd rfl (k _ L)) K
theorem z_i2c {x : Int32} (hd : decode M.2.1 pc = .ok (.i2c, 1)) (K : zP s0 M d (pc + 1) ls (.int (x.toUInt32 % 65536).toInt32 :: st) h Q E) : zP s0 M d pc ls (.int x :: st) h Q E :=
  zP.step (fun _ _ _ _ _ _ _ _ _ _ _ _ _ _ _ _ C L k => lv_i2c C.1 C.2.1 hd rfl (k _ L)) K
theorem z_ladd {x y : Int64} (hd : decode M.2.1 pc = .ok (.ladd, 1)) (K : zP s0 M d (pc + 1) ls (.long (x + y) :: st) h Q E) : zP s0 M d pc ls (.long y :: .long x :: st) h Q E :=
  zP.step (fun _ _ _ _ _ _ _ _ _ _ _ _ _ _ _ _ C L k => lv_ladd C.1 C.2.1 hd (k _ L)) K
theorem z_lsub {x y : Int64} (hd : decode M.2.1 pc = .ok (.lsub, 1)) (K : zP s0 M d (pc + 1) ls (.long (x - y) :: st) h Q E) : zP s0 M d pc ls (.long y :: .long x :: st) h Q E :=
  zP.step (fun _ _ _ _ _ _ _ _ _ _ _ _ _ _ _ _ C L k => lv_lsub C.1 C.2.1 hd (k _ L)) K
theorem z_lmul {x y : Int64} (hd : decode M.2.1 pc = .ok (.lmul, 1)) (K : zP s0 M d (pc + 1) ls (.long (x * y) :: st) h Q E) : zP s0 M d pc ls (.long y :: .long x :: st) h Q E :=
  zP.step (fun _ _ _ _ _ _ _ _ _ _ _ _ _ _ _ _ C L k => lv_lmul C.1 C.2.1 hd (k _ L)) K
theorem z_land {x y : Int64} (hd : decode M.2.1 pc = .ok (.land, 1)) (K : zP s0 M d (pc + 1) ls (.long (x &&& y) :: st) h Q E) : zP s0 M d pc ls (.long y :: .long x :: st) h Q E :=
  zP.step (fun _ _ _ _ _ _ _ _ _ _ _ _ _ _ _ _ C L k => lv_land C.1 C.2.1 hd (k _ L)) K
theorem z_lor {x y : Int64} (hd : decode M.2.1 pc = .ok (.lor, 1)) (K : zP s0 M d (pc + 1) ls (.long (x ||| y) :: st) h Q E) : zP s0 M d pc ls (.long y :: .long x :: st) h Q E :=
  zP.step (fun _ _ _ _ _ _ _ _ _ _ _ _ _ _ _ _ C L k => lv_lor C.1 C.2.1 hd (k _ L)) K
theorem z_lxor {x y : Int64} (hd : decode M.2.1 pc = .ok (.lxor, 1)) (K : zP s0 M d (pc + 1) ls (.long (x ^^^ y) :: st) h Q E) : zP s0 M d pc ls (.long y :: .long x :: st) h Q E :=
  zP.step (fun _ _ _ _ _ _ _ _ _ _ _ _ _ _ _ _ C L k => lv_lxor C.1 C.2.1 hd (k _ L)) K
theorem z_ldiv {x y : Int64} (hy : ¬ y = 0) (hd : decode M.2.1 pc = .ok (.ldiv, 1)) (K : zP s0 M d (pc + 1) ls (.long (x / y) :: st) h Q E) : zP s0 M d pc ls (.long y :: .long x :: st) h Q E :=
  zP.step (fun _ _ _ _ _ _ _ _ _ _ _ _ _ _ _ _ C L k => lv_ldiv C.1 C.2.1 hd hy (k _ L)) K
theorem z_lshl {x : Int64} {y : Int32} (hd : decode M.2.1 pc = .ok (.lshl, 1)) (K : zP s0 M d (pc + 1) ls (.long (x <<< (y.toInt64 &&& 63)) :: st) h Q E) : zP s0 M d pc ls (.int y :: .long x :: st) h Q E :=
  zP.step (fun _ _ _ _ _ _ _ _ _ _ _ _ _ _ _ _ C L k => lv_lshl C.1 C.2.1 hd rfl (k _ L)) K
theorem z_lshr {x : Int64} {y : Int32} (hd : decode M.2.1 pc = .ok (.lshr, 1)) (K : zP s0 M d (pc + 1) ls (.long (x >>> (y.toInt64 &&& 63)) :: st) h Q E) : zP s0 M d pc ls (.int y :: .long x :: st) h Q E :=
  zP.step (fun _ _ _ _ _ _ _ _ _ _ _ _ _ _ _ _ C L k => lv_lshr C.1 C.2.1 hd rfl (k _ L)) K
theorem z_lushr {x : Int64} {y : Int32} (hd : decode M.2.1 pc = .ok (.lushr, 1)) (K : zP s0 M d (pc + 1) ls (.long (x.toUInt64 >>> (y.toInt64.toUInt64 &&& Int64.toUInt64 63)).toInt64 :: st) h Q E) : zP s0 M d pc ls (.int y :: .long x :: st) h Q E :=
  zP.step (fun _ _ _ _ _ _ _ _ _ _ _ _ _ _ _ _ C L k => lv_lushr C.1 C.2.1 hd rfl (k _ L)) K
theorem z_lcmp {x y : Int64} (hd : decode M.2.1 pc = .ok (.lcmp, 1)) (K : zP s0 M d (pc + 1) ls (.int (lg_cmp x y) :: st) h Q E) : zP s0 M d pc ls (.long y :: .long x :: st) h Q E :=
  zP.step (fun _ _ _ _ _ _ _ _ _ _ _ _ _ _ _ _ C L k => W.lcmp C.1 C.2.1 hd (k _ L)) K
theorem z_dup {v : Value} (hv : v.category = 1) (hd : decode M.2.1 pc = .ok (.dup, 1)) (K : zP s0 M d (pc + 1) ls (v :: v :: st) h Q E) : zP s0 M d pc ls (v :: st) h Q E :=
  zP.step (fun _ _ _ _ _ _ _ _ _ _ _ _ _ _ _ _ C L k => lv_dup C.1 C.2.1 hd hv (k _ L)) K
theorem z_dup_x1 {v w : Value} (hv : v.category = 1) (hw : w.category = 1) (hd : decode M.2.1 pc = .ok (.dup_x1, 1)) (K : zP s0 M d (pc + 1) ls (v :: w :: v :: st) h Q E) : zP s0 M d pc ls (v :: w :: st) h Q E :=
  zP.step (fun _ _ _ _ _ _ _ _ _ _ _ _ _ _ _ _ C L k => lv_dup_x1 C.1 C.2.1 hd hv hw (k _ L)) K
theorem z_dup_x2 {v w u : Value} (hv : v.category = 1) (hw : w.category = 1) (hu : u.category = 1) (hd : decode M.2.1 pc = .ok (.dup_x2, 1)) (K : zP s0 M d (pc + 1) ls (v :: w :: u :: v :: st) h Q E) : zP s0 M d pc ls (v :: w :: u :: st) h Q E :=
  zP.step (fun _ _ _ _ _ _ _ _ _ _ _ _ _ _ _ _ C L k => lv_dup_x2 C.1 C.2.1 hd hv hw hu (k _ L)) K
theorem z_pop {v : Value} (hv : v.category = 1) (hd : decode M.2.1 pc = .ok (.pop, 1)) (K : zP s0 M d (pc + 1) ls st h Q E) : zP s0 M d pc ls (v :: st) h Q E :=
  zP.step (fun _ _ _ _ _ _ _ _ _ _ _ _ _ _ _ _ C L k => lv_pop C.1 C.2.1 hd hv (k _ L)) K
theorem z_ldc {idx : Nat} {v : Int32} (hc : Cond.constant M.1.cls idx v ∈ lw_all) (hd : decode M.2.1 pc = .ok (.ldc idx, 2)) (K : zP s0 M d (pc + 2) ls (.int v :: st) h Q E) : zP s0 M d pc ls st h Q E :=
  zP.step (fun _ _ _ _ _ _ _ _ _ _ _ _ _ _ _ _ C L k => lv_ldc C.1 C.2.1 C.2.2.2.2.2.1 (C.tt.w hc C.wm) hd (k _ L)) K
theorem z_ldcw {idx : Nat} {v : Int32} (hc : Cond.constant M.1.cls idx v ∈ lw_all) (hd : decode M.2.1 pc = .ok (.ldc_w idx, 3)) (K : zP s0 M d (pc + 3) ls (.int v :: st) h Q E) : zP s0 M d pc ls st h Q E :=
  zP.step (fun _ _ _ _ _ _ _ _ _ _ _ _ _ _ _ _ C L k => lv_ldcw C.1 C.2.1 C.2.2.2.2.2.1 (C.tt.w hc C.wm) hd (k _ L)) K
theorem z_ldc2 {idx : Nat} {v : Int64} (hc : Cond.constantLong M.1.cls idx v ∈ lw_all) (hd : decode M.2.1 pc = .ok (.ldc2_w idx, 3)) (K : zP s0 M d (pc + 3) ls (.long v :: st) h Q E) : zP s0 M d pc ls st h Q E :=
  zP.step (fun _ _ _ _ _ _ _ _ _ _ _ _ _ _ _ _ C L k => lv_ldc2 C.1 C.2.1 C.2.2.2.2.2.1 (C.tt.w hc C.wm) hd (k _ L)) K
theorem z_ldcf {idx : Nat} {v : UInt32} (hc : Cond.constantFloat M.1.cls idx v ∈ lw_all) (hd : decode M.2.1 pc = .ok (.ldc idx, 2)) (K : zP s0 M d (pc + 2) ls (.float v :: st) h Q E) : zP s0 M d pc ls st h Q E :=
  zP.step (fun _ _ _ _ _ _ _ _ _ _ _ _ _ _ _ _ C L k => lv_ldcf C.1 C.2.1 C.2.2.2.2.2.1 (C.tt.w hc C.wm) hd (k _ L)) K
theorem z_iload_n {k : Fin 4} {x : Int32} (hl : ls[(k : Nat)]? = some (some (.int x))) (hd : decode M.2.1 pc = .ok (.iload_n k, 1)) (K : zP s0 M d (pc + 1) ls (.int x :: st) h Q E) : zP s0 M d pc ls st h Q E :=
  zP.step (fun _ _ _ _ _ _ _ _ _ _ _ _ _ _ _ _ C L k => lv_iload_n C.1 C.2.1 hd rfl (L.2.2.2 _ _ hl) (k _ L)) K
theorem z_iload {i : Nat} {x : Int32} (hl : ls[i]? = some (some (.int x))) (hd : decode M.2.1 pc = .ok (.iload i, 2)) (K : zP s0 M d (pc + 2) ls (.int x :: st) h Q E) : zP s0 M d pc ls st h Q E :=
  zP.step (fun _ _ _ _ _ _ _ _ _ _ _ _ _ _ _ _ C L k => lv_iload C.1 C.2.1 hd (L.2.2.2 _ _ hl) (k _ L)) K
theorem z_lload_n {k : Fin 4} {x : Int64} (hl : ls[(k : Nat)]? = some (some (.long x))) (hd : decode M.2.1 pc = .ok (.lload_n k, 1)) (K : zP s0 M d (pc + 1) ls (.long x :: st) h Q E) : zP s0 M d pc ls st h Q E :=
  zP.step (fun _ _ _ _ _ _ _ _ _ _ _ _ _ _ _ _ C L k => lv_lload_n C.1 C.2.1 hd rfl (L.2.2.2 _ _ hl) (k _ L)) K
theorem z_lload {i : Nat} {x : Int64} (hl : ls[i]? = some (some (.long x))) (hd : decode M.2.1 pc = .ok (.lload i, 2)) (K : zP s0 M d (pc + 2) ls (.long x :: st) h Q E) : zP s0 M d pc ls st h Q E :=
  zP.step (fun _ _ _ _ _ _ _ _ _ _ _ _ _ _ _ _ C L k => lv_lload C.1 C.2.1 hd (L.2.2.2 _ _ hl) (k _ L)) K
theorem z_aload_n {k : Fin 4} {n : Nat} (hl : ls[(k : Nat)]? = some (some (zr n))) (hd : decode M.2.1 pc = .ok (.aload_n k, 1)) (K : zP s0 M d (pc + 1) ls (zr n :: st) h Q E) : zP s0 M d pc ls st h Q E := by
  cases n with
  | zero => exact zP.step (fun _ _ _ _ _ _ _ _ _ _ _ _ _ _ _ _ C L k2 => lv_aload_nN C.1 C.2.1 hd rfl (L.2.2.2 _ _ hl) (k2 _ L)) K
  | succ a => exact zP.step (fun _ _ _ _ _ _ _ _ _ _ _ _ _ _ _ _ C L k2 => lv_aload_n C.1 C.2.1 hd rfl (L.2.2.2 _ _ hl) (k2 _ L)) K
theorem z_aload {i n : Nat} (hl : ls[i]? = some (some (zr n))) (hd : decode M.2.1 pc = .ok (.aload i, 2)) (K : zP s0 M d (pc + 2) ls (zr n :: st) h Q E) : zP s0 M d pc ls st h Q E := by
  cases n with
  | zero => exact zP.step (fun _ _ _ _ _ _ _ _ _ _ _ _ _ _ _ _ C L k2 => lv_aloadN C.1 C.2.1 hd (L.2.2.2 _ _ hl) (k2 _ L)) K
  | succ a => exact zP.step (fun _ _ _ _ _ _ _ _ _ _ _ _ _ _ _ _ C L k2 => lv_aload C.1 C.2.1 hd (L.2.2.2 _ _ hl) (k2 _ L)) K
theorem z_istore_n {k : Fin 4} (i : Nat) {x : Int32} (hk : (k : Nat) = i) (hi : i < ls.length) (hp : zpre ls i) (hd : decode M.2.1 pc = .ok (.istore_n k, 1)) (K : zP s0 M d (pc + 1) (ls.set i (some (.int x))) st h Q E) : zP s0 M d pc ls (.int x :: st) h Q E :=
  zP.step (fun _ _ _ _ _ _ _ _ _ _ _ _ _ _ _ _ C L k2 => lv_istore_n C.1 C.2.1 hd hk (zal_has L) (Nat.lt_of_lt_of_le hi L.2.2.1) rfl (fun LS2 h2 => k2 LS2 (zL_set1 L.2.2.1 hp h2))) K
theorem z_istore (i : Nat) {x : Int32} (hi : i < ls.length) (hp : zpre ls i) (hd : decode M.2.1 pc = .ok (.istore i, 2)) (K : zP s0 M d (pc + 2) (ls.set i (some (.int x))) st h Q E) : zP s0 M d pc ls (.int x :: st) h Q E :=
  zP.step (fun _ _ _ _ _ _ _ _ _ _ _ _ _ _ _ _ C L k2 => lv_istore C.1 C.2.1 hd (zal_has L) (Nat.lt_of_lt_of_le hi L.2.2.1) rfl (fun LS2 h2 => k2 LS2 (zL_set1 L.2.2.1 hp h2))) K
theorem z_astore_n {k : Fin 4} (i : Nat) {x : Nat} (hk : (k : Nat) = i) (hi : i < ls.length) (hp : zpre ls i) (hd : decode M.2.1 pc = .ok (.astore_n k, 1)) (K : zP s0 M d (pc + 1) (ls.set i (some (zr x))) st h Q E) : zP s0 M d pc ls (zr x :: st) h Q E := by
  cases x with
  | zero => exact zP.step (fun _ _ _ _ _ _ _ _ _ _ _ _ _ _ _ _ C L k2 => lv_astore_nN C.1 C.2.1 hd hk (zal_has L) (Nat.lt_of_lt_of_le hi L.2.2.1) rfl (fun LS2 h2 => k2 LS2 (zL_set1 L.2.2.1 hp h2))) K
  | succ a => exact zP.step (fun _ _ _ _ _ _ _ _ _ _ _ _ _ _ _ _ C L k2 => lv_astore_n C.1 C.2.1 hd hk (zal_has L) (Nat.lt_of_lt_of_le hi L.2.2.1) rfl (fun LS2 h2 => k2 LS2 (zL_set1 L.2.2.1 hp h2))) K
theorem z_astore (i : Nat) {x : Nat} (hi : i < ls.length) (hp : zpre ls i) (hd : decode M.2.1 pc = .ok (.astore i, 2)) (K : zP s0 M d (pc + 2) (ls.set i (some (zr x))) st h Q E) : zP s0 M d pc ls (zr x :: st) h Q E := by
  cases x with
  | zero => exact zP.step (fun _ _ _ _ _ _ _ _ _ _ _ _ _ _ _ _ C L k2 => lv_astoreN C.1 C.2.1 hd (zal_has L) (Nat.lt_of_lt_of_le hi L.2.2.1) rfl (fun LS2 h2 => k2 LS2 (zL_set1 L.2.2.1 hp h2))) K
  | succ a => exact zP.step (fun _ _ _ _ _ _ _ _ _ _ _ _ _ _ _ _ C L k2 => lv_astore C.1 C.2.1 hd (zal_has L) (Nat.lt_of_lt_of_le hi L.2.2.1) rfl (fun LS2 h2 => k2 LS2 (zL_set1 L.2.2.1 hp h2))) K
theorem z_lstore_n {k : Fin 4} (i : Nat) {x : Int64} (hk : (k : Nat) = i) (hi : i + 1 < ls.length) (hp : zpre ls i) (hd : decode M.2.1 pc = .ok (.lstore_n k, 1)) (K : zP s0 M d (pc + 1) ((ls.set i (some (.long x))).set (i + 1) none) st h Q E) : zP s0 M d pc ls (.long x :: st) h Q E :=
  zP.step (fun _ _ _ _ _ _ _ _ _ _ _ _ _ _ _ _ C L k2 => lv_lstore_n C.1 C.2.1 hd hk (zal_has L) (Nat.lt_of_lt_of_le hi L.2.2.1) rfl (fun LS2 h2 => k2 LS2 (zL_set2 L.2.2.1 hp h2))) K
theorem z_lstore (i : Nat) {x : Int64} (hi : i + 1 < ls.length) (hp : zpre ls i) (hd : decode M.2.1 pc = .ok (.lstore i, 2)) (K : zP s0 M d (pc + 2) ((ls.set i (some (.long x))).set (i + 1) none) st h Q E) : zP s0 M d pc ls (.long x :: st) h Q E :=
  zP.step (fun _ _ _ _ _ _ _ _ _ _ _ _ _ _ _ _ C L k2 => lv_lstore C.1 C.2.1 hd (zal_has L) (Nat.lt_of_lt_of_le hi L.2.2.1) rfl (fun LS2 h2 => k2 LS2 (zL_set2 L.2.2.1 hp h2))) K
theorem z_iinc (i : Nat) {n : Int} {x : Int32} (v : Int32) (hl : ls[i]? = some (some (.int x))) (hv : x + Int32.ofInt n = v) (hp : zpre ls i) (hd : decode M.2.1 pc = .ok (.iinc i n, 3)) (K : zP s0 M d (pc + 3) (ls.set i (some (.int v))) st h Q E) : zP s0 M d pc ls st h Q E :=
  zP.step (fun _ _ _ _ _ _ _ _ _ _ _ _ _ _ _ _ C L k2 => (List.getElem?_of_mem (zal_mem.mpr hl)).elim fun j hj => lv_iinc C.1 C.2.1 hd (zal_has L) hj hv (Nat.lt_of_lt_of_le (List.getElem?_eq_some_iff.mp hl).1 L.2.2.1) rfl (fun LS2 h2 => k2 LS2 (zL_set1 L.2.2.1 hp h2))) K
theorem z_ifeq {x : Int32} {off : Int} (tgt : Nat) (ht : (pc : Int) + off = (tgt : Int)) (hd : decode M.2.1 pc = .ok (.ifCond .eq off, 3)) (K1 : (x = 0) → zP s0 M d tgt ls st h Q E) (K2 : (¬ x = 0) → zP s0 M d (pc + 3) ls st h Q E) : zP s0 M d pc ls (.int x :: st) h Q E :=
  zP.br (fun _ _ _ _ _ _ _ _ _ _ _ _ _ _ _ _ C k1 k2 => lv_if_eq C.1 C.2.1 hd ht k1 k2) K1 K2
theorem z_icmpeq {x y : Int32} {off : Int} (tgt : Nat) (ht : (pc : Int) + off = (tgt : Int)) (hd : decode M.2.1 pc = .ok (.if_icmp .eq off, 3)) (K1 : (x = y) → zP s0 M d tgt ls st h Q E) (K2 : (¬ x = y) → zP s0 M d (pc + 3) ls st h Q E) : zP s0 M d pc ls (.int y :: .int x :: st) h Q E :=
  zP.br (fun _ _ _ _ _ _ _ _ _ _ _ _ _ _ _ _ C k1 k2 => lv_icmp_eq C.1 C.2.1 hd ht k1 k2) K1 K2
theorem z_ifne {x : Int32} {off : Int} (tgt : Nat) (ht : (pc : Int) + off = (tgt : Int)) (hd : decode M.2.1 pc = .ok (.ifCond .ne off, 3)) (K1 : (¬ x = 0) → zP s0 M d tgt ls st h Q E) (K2 : (x = 0) → zP s0 M d (pc + 3) ls st h Q E) : zP s0 M d pc ls (.int x :: st) h Q E :=
  zP.br (fun _ _ _ _ _ _ _ _ _ _ _ _ _ _ _ _ C k1 k2 => lv_if_ne C.1 C.2.1 hd ht k1 k2) K1 K2
theorem z_icmpne {x y : Int32} {off : Int} (tgt : Nat) (ht : (pc : Int) + off = (tgt : Int)) (hd : decode M.2.1 pc = .ok (.if_icmp .ne off, 3)) (K1 : (¬ x = y) → zP s0 M d tgt ls st h Q E) (K2 : (x = y) → zP s0 M d (pc + 3) ls st h Q E) : zP s0 M d pc ls (.int y :: .int x :: st) h Q E :=
  zP.br (fun _ _ _ _ _ _ _ _ _ _ _ _ _ _ _ _ C k1 k2 => lv_icmp_ne C.1 C.2.1 hd ht k1 k2) K1 K2
theorem z_iflt {x : Int32} {off : Int} (tgt : Nat) (ht : (pc : Int) + off = (tgt : Int)) (hd : decode M.2.1 pc = .ok (.ifCond .lt off, 3)) (K1 : (x < 0) → zP s0 M d tgt ls st h Q E) (K2 : (¬ x < 0) → zP s0 M d (pc + 3) ls st h Q E) : zP s0 M d pc ls (.int x :: st) h Q E :=
  zP.br (fun _ _ _ _ _ _ _ _ _ _ _ _ _ _ _ _ C k1 k2 => lv_if_lt C.1 C.2.1 hd ht k1 k2) K1 K2
theorem z_icmplt {x y : Int32} {off : Int} (tgt : Nat) (ht : (pc : Int) + off = (tgt : Int)) (hd : decode M.2.1 pc = .ok (.if_icmp .lt off, 3)) (K1 : (x < y) → zP s0 M d tgt ls st h Q E) (K2 : (¬ x < y) → zP s0 M d (pc + 3) ls st h Q E) : zP s0 M d pc ls (.int y :: .int x :: st) h Q E :=
  zP.br (fun _ _ _ _ _ _ _ _ _ _ _ _ _ _ _ _ C k1 k2 => lv_icmp_lt C.1 C.2.1 hd ht k1 k2) K1 K2
theorem z_ifge {x : Int32} {off : Int} (tgt : Nat) (ht : (pc : Int) + off = (tgt : Int)) (hd : decode M.2.1 pc = .ok (.ifCond .ge off, 3)) (K1 : (0 ≤ x) → zP s0 M d tgt ls st h Q E) (K2 : (¬ 0 ≤ x) → zP s0 M d (pc + 3) ls st h Q E) : zP s0 M d pc ls (.int x :: st) h Q E :=
  zP.br (fun _ _ _ _ _ _ _ _ _ _ _ _ _ _ _ _ C k1 k2 => lv_if_ge C.1 C.2.1 hd ht k1 k2) K1 K2
theorem z_icmpge {x y : Int32} {off : Int} (tgt : Nat) (ht : (pc : Int) + off = (tgt : Int)) (hd : decode M.2.1 pc = .ok (.if_icmp .ge off, 3)) (K1 : (y ≤ x) → zP s0 M d tgt ls st h Q E) (K2 : (¬ y ≤ x) → zP s0 M d (pc + 3) ls st h Q E) : zP s0 M d pc ls (.int y :: .int x :: st) h Q E :=
  zP.br (fun _ _ _ _ _ _ _ _ _ _ _ _ _ _ _ _ C k1 k2 => lv_icmp_ge C.1 C.2.1 hd ht k1 k2) K1 K2
theorem z_ifgt {x : Int32} {off : Int} (tgt : Nat) (ht : (pc : Int) + off = (tgt : Int)) (hd : decode M.2.1 pc = .ok (.ifCond .gt off, 3)) (K1 : (0 < x) → zP s0 M d tgt ls st h Q E) (K2 : (¬ 0 < x) → zP s0 M d (pc + 3) ls st h Q E) : zP s0 M d pc ls (.int x :: st) h Q E :=
  zP.br (fun _ _ _ _ _ _ _ _ _ _ _ _ _ _ _ _ C k1 k2 => lv_if_gt C.1 C.2.1 hd ht k1 k2) K1 K2
theorem z_icmpgt {x y : Int32} {off : Int} (tgt : Nat) (ht : (pc : Int) + off = (tgt : Int)) (hd : decode M.2.1 pc = .ok (.if_icmp .gt off, 3)) (K1 : (y < x) → zP s0 M d tgt ls st h Q E) (K2 : (¬ y < x) → zP s0 M d (pc + 3) ls st h Q E) : zP s0 M d pc ls (.int y :: .int x :: st) h Q E :=
  zP.br (fun _ _ _ _ _ _ _ _ _ _ _ _ _ _ _ _ C k1 k2 => lv_icmp_gt C.1 C.2.1 hd ht k1 k2) K1 K2
theorem z_ifle {x : Int32} {off : Int} (tgt : Nat) (ht : (pc : Int) + off = (tgt : Int)) (hd : decode M.2.1 pc = .ok (.ifCond .le off, 3)) (K1 : (x ≤ 0) → zP s0 M d tgt ls st h Q E) (K2 : (¬ x ≤ 0) → zP s0 M d (pc + 3) ls st h Q E) : zP s0 M d pc ls (.int x :: st) h Q E :=
  zP.br (fun _ _ _ _ _ _ _ _ _ _ _ _ _ _ _ _ C k1 k2 => lv_if_le C.1 C.2.1 hd ht k1 k2) K1 K2
theorem z_icmple {x y : Int32} {off : Int} (tgt : Nat) (ht : (pc : Int) + off = (tgt : Int)) (hd : decode M.2.1 pc = .ok (.if_icmp .le off, 3)) (K1 : (x ≤ y) → zP s0 M d tgt ls st h Q E) (K2 : (¬ x ≤ y) → zP s0 M d (pc + 3) ls st h Q E) : zP s0 M d pc ls (.int y :: .int x :: st) h Q E :=
  zP.br (fun _ _ _ _ _ _ _ _ _ _ _ _ _ _ _ _ C k1 k2 => lv_icmp_le C.1 C.2.1 hd ht k1 k2) K1 K2
theorem z_ifnull {n : Nat} {off : Int} (tgt : Nat) (ht : (pc : Int) + off = (tgt : Int)) (hd : decode M.2.1 pc = .ok (.ifnull off, 3)) (K1 : n = 0 → zP s0 M d tgt ls st h Q E) (K2 : ¬ n = 0 → zP s0 M d (pc + 3) ls st h Q E) : zP s0 M d pc ls (zr n :: st) h Q E :=
  zP.br (fun _ _ _ _ _ _ _ _ _ _ _ _ _ _ _ _ C k1 k2 => (match n, k1, k2 with | 0, k1, _ => lv_ifnullN C.1 C.2.1 hd ht (k1 rfl) | a + 1, _, k2 => lv_ifnull C.1 C.2.1 hd (k2 (Nat.succ_ne_zero a)))) K1 K2
theorem z_ifnonnull {n : Nat} {off : Int} (tgt : Nat) (ht : (pc : Int) + off = (tgt : Int)) (hd : decode M.2.1 pc = .ok (.ifnonnull off, 3)) (K1 : ¬ n = 0 → zP s0 M d tgt ls st h Q E) (K2 : n = 0 → zP s0 M d (pc + 3) ls st h Q E) : zP s0 M d pc ls (zr n :: st) h Q E :=
  zP.br (fun _ _ _ _ _ _ _ _ _ _ _ _ _ _ _ _ C k1 k2 => (match n, k1, k2 with | 0, _, k2 => lv_ifnonnullN C.1 C.2.1 hd (k2 rfl) | a + 1, k1, _ => lv_ifnonnull C.1 C.2.1 hd ht (k1 (Nat.succ_ne_zero a)))) K1 K2
theorem z_acmpeq {x y : Nat} {off : Int} (tgt : Nat) (ht : (pc : Int) + off = (tgt : Int)) (hd : decode M.2.1 pc = .ok (.if_acmp .eq off, 3)) (K1 : x = y → zP s0 M d tgt ls st h Q E) (K2 : ¬ x = y → zP s0 M d (pc + 3) ls st h Q E) : zP s0 M d pc ls (zr y :: zr x :: st) h Q E :=
  zP.br (fun _ _ _ _ _ _ _ _ _ _ _ _ _ _ _ _ C k1 k2 => zacmp_eq C.1 C.2.1 hd ht k1 k2) K1 K2
theorem z_acmpne {x y : Nat} {off : Int} (tgt : Nat) (ht : (pc : Int) + off = (tgt : Int)) (hd : decode M.2.1 pc = .ok (.if_acmp .ne off, 3)) (K1 : ¬ x = y → zP s0 M d tgt ls st h Q E) (K2 : x = y → zP s0 M d (pc + 3) ls st h Q E) : zP s0 M d pc ls (zr y :: zr x :: st) h Q E :=
  zP.br (fun _ _ _ _ _ _ _ _ _ _ _ _ _ _ _ _ C k1 k2 => zacmp_ne C.1 C.2.1 hd ht k1 k2) K1 K2
theorem z_goto {off : Int} (tgt : Nat) (ht : (pc : Int) + off = (tgt : Int)) (hd : decode M.2.1 pc = .ok (.goto off, 3)) (K : zP s0 M d tgt ls st h Q E) : zP s0 M d pc ls st h Q E :=
  zP.step (fun _ _ _ _ _ _ _ _ _ _ _ _ _ _ _ _ C L k => lv_goto C.1 C.2.1 hd ht (k _ L)) K
end ZR
