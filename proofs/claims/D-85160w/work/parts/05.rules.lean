/-! THE RULES OF THE PLAIN INSTRUCTIONS: printed by wip/D-85160w/gen/gen_rules.py -/
section XR
variable {l : Launch} {E : EN} {d : Nat} {M : MR} {pc : Nat} {lo : LO} {st : List Value} {h : CH} {Q : Outcome → CH → Prop}
theorem x_iadd {x y : Int32} (hd : decode (mB M) pc = .ok (.iadd, 1))  (kk : Ex l E d M (pc + 1) lo (.int (x + y) :: st) h Q) : Ex l E d M pc lo (.int y :: .int x :: st) h Q := by
  intro p e R s m args below meth c u C ls H locs cells slots hL hC
  exact lv_iadd C.1 C.2.1 hd  (kk p e R s m args below meth c u C ls H locs cells slots hL hC)
theorem x_isub {x y : Int32} (hd : decode (mB M) pc = .ok (.isub, 1))  (kk : Ex l E d M (pc + 1) lo (.int (x - y) :: st) h Q) : Ex l E d M pc lo (.int y :: .int x :: st) h Q := by
  intro p e R s m args below meth c u C ls H locs cells slots hL hC
  exact lv_isub C.1 C.2.1 hd  (kk p e R s m args below meth c u C ls H locs cells slots hL hC)
theorem x_imul {x y : Int32} (hd : decode (mB M) pc = .ok (.imul, 1))  (kk : Ex l E d M (pc + 1) lo (.int (x * y) :: st) h Q) : Ex l E d M pc lo (.int y :: .int x :: st) h Q := by
  intro p e R s m args below meth c u C ls H locs cells slots hL hC
  exact lv_imul C.1 C.2.1 hd  (kk p e R s m args below meth c u C ls H locs cells slots hL hC)
theorem x_iand {x y : Int32} (hd : decode (mB M) pc = .ok (.iand, 1))  (kk : Ex l E d M (pc + 1) lo (.int (x &&& y) :: st) h Q) : Ex l E d M pc lo (.int y :: .int x :: st) h Q := by
  intro p e R s m args below meth c u C ls H locs cells slots hL hC
  exact lv_iand C.1 C.2.1 hd  (kk p e R s m args below meth c u C ls H locs cells slots hL hC)
theorem x_ior {x y : Int32} (hd : decode (mB M) pc = .ok (.ior, 1))  (kk : Ex l E d M (pc + 1) lo (.int (x ||| y) :: st) h Q) : Ex l E d M pc lo (.int y :: .int x :: st) h Q := by
  intro p e R s m args below meth c u C ls H locs cells slots hL hC
  exact lv_ior C.1 C.2.1 hd  (kk p e R s m args below meth c u C ls H locs cells slots hL hC)
theorem x_ixor {x y : Int32} (hd : decode (mB M) pc = .ok (.ixor, 1))  (kk : Ex l E d M (pc + 1) lo (.int (x ^^^ y) :: st) h Q) : Ex l E d M pc lo (.int y :: .int x :: st) h Q := by
  intro p e R s m args below meth c u C ls H locs cells slots hL hC
  exact lv_ixor C.1 C.2.1 hd  (kk p e R s m args below meth c u C ls H locs cells slots hL hC)
theorem x_ishl {x y : Int32} (hd : decode (mB M) pc = .ok (.ishl, 1))  (kk : Ex l E d M (pc + 1) lo (.int (x <<< (y &&& 31)) :: st) h Q) : Ex l E d M pc lo (.int y :: .int x :: st) h Q := by
  intro p e R s m args below meth c u C ls H locs cells slots hL hC
  exact lv_ishl C.1 C.2.1 hd  (kk p e R s m args below meth c u C ls H locs cells slots hL hC)
theorem x_ishr {x y : Int32} (hd : decode (mB M) pc = .ok (.ishr, 1))  (kk : Ex l E d M (pc + 1) lo (.int (x >>> (y &&& 31)) :: st) h Q) : Ex l E d M pc lo (.int y :: .int x :: st) h Q := by
  intro p e R s m args below meth c u C ls H locs cells slots hL hC
  exact lv_ishr C.1 C.2.1 hd  (kk p e R s m args below meth c u C ls H locs cells slots hL hC)
theorem x_idiv {x y : Int32} (hd : decode (mB M) pc = .ok (.idiv, 1)) (hne : ¬ y = 0) (kk : Ex l E d M (pc + 1) lo (.int (x / y) :: st) h Q) : Ex l E d M pc lo (.int y :: .int x :: st) h Q := by
  intro p e R s m args below meth c u C ls H locs cells slots hL hC
  exact lv_idiv C.1 C.2.1 hd hne (kk p e R s m args below meth c u C ls H locs cells slots hL hC)
theorem x_irem {x y : Int32} (hd : decode (mB M) pc = .ok (.irem, 1)) (hne : ¬ y = 0) (kk : Ex l E d M (pc + 1) lo (.int (x - x / y * y) :: st) h Q) : Ex l E d M pc lo (.int y :: .int x :: st) h Q := by
  intro p e R s m args below meth c u C ls H locs cells slots hL hC
  exact lv_irem C.1 C.2.1 hd hne (kk p e R s m args below meth c u C ls H locs cells slots hL hC)
theorem x_ladd {x y : Int64} (hd : decode (mB M) pc = .ok (.ladd, 1))  (kk : Ex l E d M (pc + 1) lo (.long (x + y) :: st) h Q) : Ex l E d M pc lo (.long y :: .long x :: st) h Q := by
  intro p e R s m args below meth c u C ls H locs cells slots hL hC
  exact lv_ladd C.1 C.2.1 hd  (kk p e R s m args below meth c u C ls H locs cells slots hL hC)
theorem x_lsub {x y : Int64} (hd : decode (mB M) pc = .ok (.lsub, 1))  (kk : Ex l E d M (pc + 1) lo (.long (x - y) :: st) h Q) : Ex l E d M pc lo (.long y :: .long x :: st) h Q := by
  intro p e R s m args below meth c u C ls H locs cells slots hL hC
  exact lv_lsub C.1 C.2.1 hd  (kk p e R s m args below meth c u C ls H locs cells slots hL hC)
theorem x_lmul {x y : Int64} (hd : decode (mB M) pc = .ok (.lmul, 1))  (kk : Ex l E d M (pc + 1) lo (.long (x * y) :: st) h Q) : Ex l E d M pc lo (.long y :: .long x :: st) h Q := by
  intro p e R s m args below meth c u C ls H locs cells slots hL hC
  exact lv_lmul C.1 C.2.1 hd  (kk p e R s m args below meth c u C ls H locs cells slots hL hC)
theorem x_lxor {x y : Int64} (hd : decode (mB M) pc = .ok (.lxor, 1))  (kk : Ex l E d M (pc + 1) lo (.long (x ^^^ y) :: st) h Q) : Ex l E d M pc lo (.long y :: .long x :: st) h Q := by
  intro p e R s m args below meth c u C ls H locs cells slots hL hC
  exact lv_lxor C.1 C.2.1 hd  (kk p e R s m args below meth c u C ls H locs cells slots hL hC)
theorem x_ldiv {x y : Int64} (hd : decode (mB M) pc = .ok (.ldiv, 1)) (hne : ¬ y = 0) (kk : Ex l E d M (pc + 1) lo (.long (x / y) :: st) h Q) : Ex l E d M pc lo (.long y :: .long x :: st) h Q := by
  intro p e R s m args below meth c u C ls H locs cells slots hL hC
  exact lv_ldiv C.1 C.2.1 hd hne (kk p e R s m args below meth c u C ls H locs cells slots hL hC)
theorem x_lrem {x y : Int64} (hd : decode (mB M) pc = .ok (.lrem, 1)) (hne : ¬ y = 0) (kk : Ex l E d M (pc + 1) lo (.long (x - x / y * y) :: st) h Q) : Ex l E d M pc lo (.long y :: .long x :: st) h Q := by
  intro p e R s m args below meth c u C ls H locs cells slots hL hC
  exact lv_lrem C.1 C.2.1 hd hne (kk p e R s m args below meth c u C ls H locs cells slots hL hC)
theorem x_iushr {x y : Int32} (hd : decode (mB M) pc = .ok (.iushr, 1)) (kk : Ex l E d M (pc + 1) lo (.int ((x.toUInt32 >>> (y.toUInt32 &&& Int32.toUInt32 31)).toInt32) :: st) h Q) : Ex l E d M pc lo (.int y :: .int x :: st) h Q := by
  intro p e R s m args below meth c u C ls H locs cells slots hL hC
  exact lv_iushr C.1 C.2.1 hd rfl (kk p e R s m args below meth c u C ls H locs cells slots hL hC)
theorem x_lcmp {x y : Int64} (hd : decode (mB M) pc = .ok (.lcmp, 1)) (kk : Ex l E d M (pc + 1) lo (.int (lg_cmp x y) :: st) h Q) : Ex l E d M pc lo (.long y :: .long x :: st) h Q := by
  intro p e R s m args below meth c u C ls H locs cells slots hL hC
  exact W.lcmp C.1 C.2.1 hd (kk p e R s m args below meth c u C ls H locs cells slots hL hC)
theorem x_ineg {x : Int32} (hd : decode (mB M) pc = .ok (.ineg, 1)) (kk : Ex l E d M (pc + 1) lo (.int (-x) :: st) h Q) : Ex l E d M pc lo (.int x :: st) h Q := by
  intro p e R s m args below meth c u C ls H locs cells slots hL hC
  exact lv_ineg C.1 C.2.1 hd  (kk p e R s m args below meth c u C ls H locs cells slots hL hC)
theorem x_lneg {x : Int64} (hd : decode (mB M) pc = .ok (.lneg, 1)) (kk : Ex l E d M (pc + 1) lo (.long (-x) :: st) h Q) : Ex l E d M pc lo (.long x :: st) h Q := by
  intro p e R s m args below meth c u C ls H locs cells slots hL hC
  exact lv_lneg C.1 C.2.1 hd  (kk p e R s m args below meth c u C ls H locs cells slots hL hC)
theorem x_i2l {x : Int32} (hd : decode (mB M) pc = .ok (.i2l, 1)) (kk : Ex l E d M (pc + 1) lo (.long (x.toInt64) :: st) h Q) : Ex l E d M pc lo (.int x :: st) h Q := by
  intro p e R s m args below meth c u C ls H locs cells slots hL hC
  exact lv_i2l C.1 C.2.1 hd rfl (kk p e R s m args below meth c u C ls H locs cells slots hL hC)
theorem x_l2i {x : Int64} (hd : decode (mB M) pc = .ok (.l2i, 1)) (kk : Ex l E d M (pc + 1) lo (.int (x.toInt32) :: st) h Q) : Ex l E d M pc lo (.long x :: st) h Q := by
  intro p e R s m args below meth c u C ls H locs cells slots hL hC
  exact lv_l2i C.1 C.2.1 hd rfl (kk p e R s m args below meth c u C ls H locs cells slots hL hC)
theorem x_i2b {x : Int32} (hd : decode (mB M) pc = .ok (.i2b, 1)) (kk : Ex l E d M (pc + 1) lo (.int (x.toInt8.toInt32) :: st) h Q) : Ex l E d M pc lo (.int x :: st) h Q := by
  intro p e R s m args below meth c u C ls H locs cells slots hL hC
  exact lv_i2b C.1 C.2.1 hd rfl (kk p e R s m args below meth c u C ls H locs cells slots hL hC)
theorem x_i2c {x : Int32} (hd : decode (mB M) pc = .ok (.i2c, 1)) (kk : Ex l E d M (pc + 1) lo (.int ((x.toUInt32 % 65536).toInt32) :: st) h Q) : Ex l E d M pc lo (.int x :: st) h Q := by
  intro p e R s m args below meth c u C ls H locs cells slots hL hC
  exact lv_i2c C.1 C.2.1 hd rfl (kk p e R s m args below meth c u C ls H locs cells slots hL hC)
theorem x_iconst {n : Int} {v : Int32} (hd : decode (mB M) pc = .ok (.iconst n, 1)) (hv : Int32.ofInt n = v) (kk : Ex l E d M (pc + 1) lo (.int v :: st) h Q) : Ex l E d M pc lo (st) h Q := by
  intro p e R s m args below meth c u C ls H locs cells slots hL hC
  exact lv_iconst C.1 C.2.1 hd hv (kk p e R s m args below meth c u C ls H locs cells slots hL hC)
theorem x_bipush {n : Int} {v : Int32} (hd : decode (mB M) pc = .ok (.bipush n, 2)) (hv : (Int8.ofInt n).toInt32 = v) (kk : Ex l E d M (pc + 2) lo (.int v :: st) h Q) : Ex l E d M pc lo (st) h Q := by
  intro p e R s m args below meth c u C ls H locs cells slots hL hC
  exact lv_bipush C.1 C.2.1 hd hv (kk p e R s m args below meth c u C ls H locs cells slots hL hC)
theorem x_sipush {n : Int} {v : Int32} (hd : decode (mB M) pc = .ok (.sipush n, 3)) (hv : (Int16.ofInt n).toInt32 = v) (kk : Ex l E d M (pc + 3) lo (.int v :: st) h Q) : Ex l E d M pc lo (st) h Q := by
  intro p e R s m args below meth c u C ls H locs cells slots hL hC
  exact lv_sipush C.1 C.2.1 hd hv (kk p e R s m args below meth c u C ls H locs cells slots hL hC)
theorem x_lconst {n : Fin 2} {v : Int64} (hd : decode (mB M) pc = .ok (.lconst n, 1)) (hv : Int64.ofNat (n : Nat) = v) (kk : Ex l E d M (pc + 1) lo (.long v :: st) h Q) : Ex l E d M pc lo (st) h Q := by
  intro p e R s m args below meth c u C ls H locs cells slots hL hC
  exact lv_lconst C.1 C.2.1 hd hv (kk p e R s m args below meth c u C ls H locs cells slots hL hC)
theorem x_null (hd : decode (mB M) pc = .ok (.aconst_null, 1)) (kk : Ex l E d M (pc + 1) lo (.null :: st) h Q) : Ex l E d M pc lo (st) h Q := by
  intro p e R s m args below meth c u C ls H locs cells slots hL hC
  exact lv_null C.1 C.2.1 hd (kk p e R s m args below meth c u C ls H locs cells slots hL hC)
theorem x_iload_n {k : Fin 4} {i : Nat} {x : Int32} (hd : decode (mB M) pc = .ok (.iload_n k, 1)) (hi : (k : Nat) = i) (hl : lo[i]? = some (some (.int x))) (kk : Ex l E d M (pc + 1) lo (.int x :: st) h Q) : Ex l E d M pc lo (st) h Q := by
  intro p e R s m args below meth c u C ls H locs cells slots hL hC
  exact lv_iload_n C.1 C.2.1 hd hi (hL.at hl) (kk p e R s m args below meth c u C ls H locs cells slots hL hC)
theorem x_iload {i : Nat} {x : Int32} (hd : decode (mB M) pc = .ok (.iload i, 2)) (hl : lo[i]? = some (some (.int x))) (kk : Ex l E d M (pc + 2) lo (.int x :: st) h Q) : Ex l E d M pc lo (st) h Q := by
  intro p e R s m args below meth c u C ls H locs cells slots hL hC
  exact lv_iload C.1 C.2.1 hd (hL.at hl) (kk p e R s m args below meth c u C ls H locs cells slots hL hC)
theorem x_lload_n {k : Fin 4} {i : Nat} {x : Int64} (hd : decode (mB M) pc = .ok (.lload_n k, 1)) (hi : (k : Nat) = i) (hl : lo[i]? = some (some (.long x))) (kk : Ex l E d M (pc + 1) lo (.long x :: st) h Q) : Ex l E d M pc lo (st) h Q := by
  intro p e R s m args below meth c u C ls H locs cells slots hL hC
  exact lv_lload_n C.1 C.2.1 hd hi (hL.at hl) (kk p e R s m args below meth c u C ls H locs cells slots hL hC)
theorem x_lload {i : Nat} {x : Int64} (hd : decode (mB M) pc = .ok (.lload i, 2)) (hl : lo[i]? = some (some (.long x))) (kk : Ex l E d M (pc + 2) lo (.long x :: st) h Q) : Ex l E d M pc lo (st) h Q := by
  intro p e R s m args below meth c u C ls H locs cells slots hL hC
  exact lv_lload C.1 C.2.1 hd (hL.at hl) (kk p e R s m args below meth c u C ls H locs cells slots hL hC)
theorem x_aload_n {k : Fin 4} {i : Nat} {v : Value} (hd : decode (mB M) pc = .ok (.aload_n k, 1)) (hi : (k : Nat) = i) (hl : lo[i]? = some (some v)) (hr : isR v = true) (kk : Ex l E d M (pc + 1) lo (v :: st) h Q) : Ex l E d M pc lo st h Q := by
  intro p e R s m args below meth c u C ls H locs cells slots hL hC
  cases v with
  | ref a => exact lv_aload_n C.1 C.2.1 hd hi (hL.at hl) (kk p e R s m args below meth c u C ls H locs cells slots hL hC)
  | null => exact lv_aload_nN C.1 C.2.1 hd hi (hL.at hl) (kk p e R s m args below meth c u C ls H locs cells slots hL hC)
  | _ => cases hr
theorem x_aload {i : Nat} {v : Value} (hd : decode (mB M) pc = .ok (.aload i, 2)) (hl : lo[i]? = some (some v)) (hr : isR v = true) (kk : Ex l E d M (pc + 2) lo (v :: st) h Q) : Ex l E d M pc lo st h Q := by
  intro p e R s m args below meth c u C ls H locs cells slots hL hC
  cases v with
  | ref a => exact lv_aload C.1 C.2.1 hd (hL.at hl) (kk p e R s m args below meth c u C ls H locs cells slots hL hC)
  | null => exact lv_aloadN C.1 C.2.1 hd (hL.at hl) (kk p e R s m args below meth c u C ls H locs cells slots hL hC)
  | _ => cases hr
theorem x_istore_n {k : Fin 4} {i : Nat} {x : Int32} {lo' : LO} (hd : decode (mB M) pc = .ok (.istore_n k, 1)) (hi : (k : Nat) = i) (hn : i < lo.length) (hs : st1 lo i (.int x) = lo') (kk : Ex l E d M (pc + 1) lo' st h Q) : Ex l E d M pc lo (.int x :: st) h Q := by
  intro p e R s m args below meth c u C ls H locs cells slots hL hC
  subst hs
  exact lv_istore_n C.1 C.2.1 hd hi hL.has hn rfl (fun ls' h' => kk p e R s m args below meth c u C ls' H locs cells slots (LH.of1 h') hC)
theorem x_istore {i : Nat} {x : Int32} {lo' : LO} (hd : decode (mB M) pc = .ok (.istore i, 2)) (hn : i < lo.length) (hs : st1 lo i (.int x) = lo') (kk : Ex l E d M (pc + 2) lo' st h Q) : Ex l E d M pc lo (.int x :: st) h Q := by
  intro p e R s m args below meth c u C ls H locs cells slots hL hC
  subst hs
  exact lv_istore C.1 C.2.1 hd hL.has hn rfl (fun ls' h' => kk p e R s m args below meth c u C ls' H locs cells slots (LH.of1 h') hC)
theorem x_lstore_n {k : Fin 4} {i : Nat} {x : Int64} {lo' : LO} (hd : decode (mB M) pc = .ok (.lstore_n k, 1)) (hi : (k : Nat) = i) (hn : i + 1 < lo.length) (hs : st2 lo i (.long x) = lo') (kk : Ex l E d M (pc + 1) lo' st h Q) : Ex l E d M pc lo (.long x :: st) h Q := by
  intro p e R s m args below meth c u C ls H locs cells slots hL hC
  subst hs
  exact lv_lstore_n C.1 C.2.1 hd hi hL.has hn rfl (fun ls' h' => kk p e R s m args below meth c u C ls' H locs cells slots (LH.of2 h') hC)
theorem x_lstore {i : Nat} {x : Int64} {lo' : LO} (hd : decode (mB M) pc = .ok (.lstore i, 2)) (hn : i + 1 < lo.length) (hs : st2 lo i (.long x) = lo') (kk : Ex l E d M (pc + 2) lo' st h Q) : Ex l E d M pc lo (.long x :: st) h Q := by
  intro p e R s m args below meth c u C ls H locs cells slots hL hC
  subst hs
  exact lv_lstore C.1 C.2.1 hd hL.has hn rfl (fun ls' h' => kk p e R s m args below meth c u C ls' H locs cells slots (LH.of2 h') hC)
theorem x_astore_n {k : Fin 4} {i : Nat} {v : Value} {lo' : LO} (hd : decode (mB M) pc = .ok (.astore_n k, 1)) (hi : (k : Nat) = i) (hn : i < lo.length) (hr : isR v = true) (hs : st1 lo i v = lo') (kk : Ex l E d M (pc + 1) lo' st h Q) : Ex l E d M pc lo (v :: st) h Q := by
  intro p e R s m args below meth c u C ls H locs cells slots hL hC
  subst hs
  cases v with
  | ref a => exact lv_astore_n C.1 C.2.1 hd hi hL.has hn rfl (fun ls' h' => kk p e R s m args below meth c u C ls' H locs cells slots (LH.of1 h') hC)
  | null => exact lv_astore_nN C.1 C.2.1 hd hi hL.has hn rfl (fun ls' h' => kk p e R s m args below meth c u C ls' H locs cells slots (LH.of1 h') hC)
  | _ => cases hr
theorem x_astore {i : Nat} {v : Value} {lo' : LO} (hd : decode (mB M) pc = .ok (.astore i, 2)) (hn : i < lo.length) (hr : isR v = true) (hs : st1 lo i v = lo') (kk : Ex l E d M (pc + 2) lo' st h Q) : Ex l E d M pc lo (v :: st) h Q := by
  intro p e R s m args below meth c u C ls H locs cells slots hL hC
  subst hs
  cases v with
  | ref a => exact lv_astore C.1 C.2.1 hd hL.has hn rfl (fun ls' h' => kk p e R s m args below meth c u C ls' H locs cells slots (LH.of1 h') hC)
  | null => exact lv_astoreN C.1 C.2.1 hd hL.has hn rfl (fun ls' h' => kk p e R s m args below meth c u C ls' H locs cells slots (LH.of1 h') hC)
  | _ => cases hr
theorem x_iinc {i : Nat} {n : Int} {x v : Int32} {lo' : LO} (hd : decode (mB M) pc = .ok (.iinc i n, 3)) (hl : lo[i]? = some (some (.int x))) (hv : x + Int32.ofInt n = v) (hs : st1 lo i (.int v) = lo') (kk : Ex l E d M (pc + 3) lo' st h Q) : Ex l E d M pc lo st h Q := by
  intro p e R s m args below meth c u C ls H locs cells slots hL hC
  subst hs
  obtain ⟨k, hk⟩ := List.getElem?_of_mem (alo_mem.mpr hl)
  exact lv_iinc C.1 C.2.1 hd hL.has hk hv (List.getElem?_eq_some_iff.mp hl).1 rfl (fun ls' h' => kk p e R s m args below meth c u C ls' H locs cells slots (LH.of1 h') hC)
theorem x_dup {v : Value} (hd : decode (mB M) pc = .ok (.dup, 1)) (hv : v.category = 1) (kk : Ex l E d M (pc + 1) lo (v :: v :: st) h Q) : Ex l E d M pc lo (v :: st) h Q := by
  intro p e R s m args below meth c u C ls H locs cells slots hL hC
  exact lv_dup C.1 C.2.1 hd hv (kk p e R s m args below meth c u C ls H locs cells slots hL hC)
theorem x_pop {v : Value} (hd : decode (mB M) pc = .ok (.pop, 1)) (hv : v.category = 1) (kk : Ex l E d M (pc + 1) lo (st) h Q) : Ex l E d M pc lo (v :: st) h Q := by
  intro p e R s m args below meth c u C ls H locs cells slots hL hC
  exact lv_pop C.1 C.2.1 hd hv (kk p e R s m args below meth c u C ls H locs cells slots hL hC)
theorem x_dup_x1 {v w : Value} (hd : decode (mB M) pc = .ok (.dup_x1, 1)) (hv : v.category = 1) (hw : w.category = 1) (kk : Ex l E d M (pc + 1) lo (v :: w :: v :: st) h Q) : Ex l E d M pc lo (v :: w :: st) h Q := by
  intro p e R s m args below meth c u C ls H locs cells slots hL hC
  exact lv_dup_x1 C.1 C.2.1 hd hv hw (kk p e R s m args below meth c u C ls H locs cells slots hL hC)
theorem x_dup2 {v w : Value} (hd : decode (mB M) pc = .ok (.dup2, 1)) (hv : v.category = 1) (hw : w.category = 1) (kk : Ex l E d M (pc + 1) lo (v :: w :: v :: w :: st) h Q) : Ex l E d M pc lo (v :: w :: st) h Q := by
  intro p e R s m args below meth c u C ls H locs cells slots hL hC
  exact lv_dup2_11 C.1 C.2.1 hd hv hw (kk p e R s m args below meth c u C ls H locs cells slots hL hC)
theorem x_if_eq {x : Int32} {off : Int} {tgt : Nat} (hd : decode (mB M) pc = .ok (.ifCond .eq off, 3)) (ht : (pc : Int) + off = (tgt : Int)) (kt : x = 0 → Ex l E d M tgt lo st h Q) (kf : ¬ (x = 0) → Ex l E d M (pc + 3) lo st h Q) : Ex l E d M pc lo (.int x :: st) h Q := by
  intro p e R s m args below meth c u C ls H locs cells slots hL hC
  exact lv_if_eq C.1 C.2.1 hd ht (fun q => kt q p e R s m args below meth c u C ls H locs cells slots hL hC) (fun q => kf q p e R s m args below meth c u C ls H locs cells slots hL hC)
theorem x_icmp_eq {x y : Int32} {off : Int} {tgt : Nat} (hd : decode (mB M) pc = .ok (.if_icmp .eq off, 3)) (ht : (pc : Int) + off = (tgt : Int)) (kt : x = y → Ex l E d M tgt lo st h Q) (kf : ¬ (x = y) → Ex l E d M (pc + 3) lo st h Q) : Ex l E d M pc lo (.int y :: .int x :: st) h Q := by
  intro p e R s m args below meth c u C ls H locs cells slots hL hC
  exact lv_icmp_eq C.1 C.2.1 hd ht (fun q => kt q p e R s m args below meth c u C ls H locs cells slots hL hC) (fun q => kf q p e R s m args below meth c u C ls H locs cells slots hL hC)
theorem x_if_ne {x : Int32} {off : Int} {tgt : Nat} (hd : decode (mB M) pc = .ok (.ifCond .ne off, 3)) (ht : (pc : Int) + off = (tgt : Int)) (kt : ¬ x = 0 → Ex l E d M tgt lo st h Q) (kf : x = 0 → Ex l E d M (pc + 3) lo st h Q) : Ex l E d M pc lo (.int x :: st) h Q := by
  intro p e R s m args below meth c u C ls H locs cells slots hL hC
  exact lv_if_ne C.1 C.2.1 hd ht (fun q => kt q p e R s m args below meth c u C ls H locs cells slots hL hC) (fun q => kf q p e R s m args below meth c u C ls H locs cells slots hL hC)
theorem x_icmp_ne {x y : Int32} {off : Int} {tgt : Nat} (hd : decode (mB M) pc = .ok (.if_icmp .ne off, 3)) (ht : (pc : Int) + off = (tgt : Int)) (kt : ¬ x = y → Ex l E d M tgt lo st h Q) (kf : x = y → Ex l E d M (pc + 3) lo st h Q) : Ex l E d M pc lo (.int y :: .int x :: st) h Q := by
  intro p e R s m args below meth c u C ls H locs cells slots hL hC
  exact lv_icmp_ne C.1 C.2.1 hd ht (fun q => kt q p e R s m args below meth c u C ls H locs cells slots hL hC) (fun q => kf q p e R s m args below meth c u C ls H locs cells slots hL hC)
theorem x_if_lt {x : Int32} {off : Int} {tgt : Nat} (hd : decode (mB M) pc = .ok (.ifCond .lt off, 3)) (ht : (pc : Int) + off = (tgt : Int)) (kt : x < 0 → Ex l E d M tgt lo st h Q) (kf : ¬ (x < 0) → Ex l E d M (pc + 3) lo st h Q) : Ex l E d M pc lo (.int x :: st) h Q := by
  intro p e R s m args below meth c u C ls H locs cells slots hL hC
  exact lv_if_lt C.1 C.2.1 hd ht (fun q => kt q p e R s m args below meth c u C ls H locs cells slots hL hC) (fun q => kf q p e R s m args below meth c u C ls H locs cells slots hL hC)
theorem x_icmp_lt {x y : Int32} {off : Int} {tgt : Nat} (hd : decode (mB M) pc = .ok (.if_icmp .lt off, 3)) (ht : (pc : Int) + off = (tgt : Int)) (kt : x < y → Ex l E d M tgt lo st h Q) (kf : ¬ (x < y) → Ex l E d M (pc + 3) lo st h Q) : Ex l E d M pc lo (.int y :: .int x :: st) h Q := by
  intro p e R s m args below meth c u C ls H locs cells slots hL hC
  exact lv_icmp_lt C.1 C.2.1 hd ht (fun q => kt q p e R s m args below meth c u C ls H locs cells slots hL hC) (fun q => kf q p e R s m args below meth c u C ls H locs cells slots hL hC)
theorem x_if_ge {x : Int32} {off : Int} {tgt : Nat} (hd : decode (mB M) pc = .ok (.ifCond .ge off, 3)) (ht : (pc : Int) + off = (tgt : Int)) (kt : 0 ≤ x → Ex l E d M tgt lo st h Q) (kf : ¬ (0 ≤ x) → Ex l E d M (pc + 3) lo st h Q) : Ex l E d M pc lo (.int x :: st) h Q := by
  intro p e R s m args below meth c u C ls H locs cells slots hL hC
  exact lv_if_ge C.1 C.2.1 hd ht (fun q => kt q p e R s m args below meth c u C ls H locs cells slots hL hC) (fun q => kf q p e R s m args below meth c u C ls H locs cells slots hL hC)
theorem x_icmp_ge {x y : Int32} {off : Int} {tgt : Nat} (hd : decode (mB M) pc = .ok (.if_icmp .ge off, 3)) (ht : (pc : Int) + off = (tgt : Int)) (kt : y ≤ x → Ex l E d M tgt lo st h Q) (kf : ¬ (y ≤ x) → Ex l E d M (pc + 3) lo st h Q) : Ex l E d M pc lo (.int y :: .int x :: st) h Q := by
  intro p e R s m args below meth c u C ls H locs cells slots hL hC
  exact lv_icmp_ge C.1 C.2.1 hd ht (fun q => kt q p e R s m args below meth c u C ls H locs cells slots hL hC) (fun q => kf q p e R s m args below meth c u C ls H locs cells slots hL hC)
theorem x_if_gt {x : Int32} {off : Int} {tgt : Nat} (hd : decode (mB M) pc = .ok (.ifCond .gt off, 3)) (ht : (pc : Int) + off = (tgt : Int)) (kt : 0 < x → Ex l E d M tgt lo st h Q) (kf : ¬ (0 < x) → Ex l E d M (pc + 3) lo st h Q) : Ex l E d M pc lo (.int x :: st) h Q := by
  intro p e R s m args below meth c u C ls H locs cells slots hL hC
  exact lv_if_gt C.1 C.2.1 hd ht (fun q => kt q p e R s m args below meth c u C ls H locs cells slots hL hC) (fun q => kf q p e R s m args below meth c u C ls H locs cells slots hL hC)
theorem x_icmp_gt {x y : Int32} {off : Int} {tgt : Nat} (hd : decode (mB M) pc = .ok (.if_icmp .gt off, 3)) (ht : (pc : Int) + off = (tgt : Int)) (kt : y < x → Ex l E d M tgt lo st h Q) (kf : ¬ (y < x) → Ex l E d M (pc + 3) lo st h Q) : Ex l E d M pc lo (.int y :: .int x :: st) h Q := by
  intro p e R s m args below meth c u C ls H locs cells slots hL hC
  exact lv_icmp_gt C.1 C.2.1 hd ht (fun q => kt q p e R s m args below meth c u C ls H locs cells slots hL hC) (fun q => kf q p e R s m args below meth c u C ls H locs cells slots hL hC)
theorem x_if_le {x : Int32} {off : Int} {tgt : Nat} (hd : decode (mB M) pc = .ok (.ifCond .le off, 3)) (ht : (pc : Int) + off = (tgt : Int)) (kt : x ≤ 0 → Ex l E d M tgt lo st h Q) (kf : ¬ (x ≤ 0) → Ex l E d M (pc + 3) lo st h Q) : Ex l E d M pc lo (.int x :: st) h Q := by
  intro p e R s m args below meth c u C ls H locs cells slots hL hC
  exact lv_if_le C.1 C.2.1 hd ht (fun q => kt q p e R s m args below meth c u C ls H locs cells slots hL hC) (fun q => kf q p e R s m args below meth c u C ls H locs cells slots hL hC)
theorem x_icmp_le {x y : Int32} {off : Int} {tgt : Nat} (hd : decode (mB M) pc = .ok (.if_icmp .le off, 3)) (ht : (pc : Int) + off = (tgt : Int)) (kt : x ≤ y → Ex l E d M tgt lo st h Q) (kf : ¬ (x ≤ y) → Ex l E d M (pc + 3) lo st h Q) : Ex l E d M pc lo (.int y :: .int x :: st) h Q := by
  intro p e R s m args below meth c u C ls H locs cells slots hL hC
  exact lv_icmp_le C.1 C.2.1 hd ht (fun q => kt q p e R s m args below meth c u C ls H locs cells slots hL hC) (fun q => kf q p e R s m args below meth c u C ls H locs cells slots hL hC)
theorem x_goto {off : Int} {tgt : Nat} (hd : decode (mB M) pc = .ok (.goto off, 3)) (ht : (pc : Int) + off = (tgt : Int)) (kk : Ex l E d M tgt lo st h Q) : Ex l E d M pc lo st h Q := by
  intro p e R s m args below meth c u C ls H locs cells slots hL hC
  exact lv_goto C.1 C.2.1 hd ht (kk p e R s m args below meth c u C ls H locs cells slots hL hC)
theorem x_ifnull {v : Value} {off : Int} {tgt : Nat} (hd : decode (mB M) pc = .ok (.ifnull off, 3)) (ht : (pc : Int) + off = (tgt : Int)) (hr : isR v = true) (kt : v = .null → Ex l E d M tgt lo st h Q) (kf : ∀ a, v = .ref a → Ex l E d M (pc + 3) lo st h Q) : Ex l E d M pc lo (v :: st) h Q := by
  intro p e R s m args below meth c u C ls H locs cells slots hL hC
  cases v with
  | ref a => exact lv_ifnull C.1 C.2.1 hd (kf a rfl p e R s m args below meth c u C ls H locs cells slots hL hC)
  | null => exact lv_ifnullN C.1 C.2.1 hd ht (kt rfl p e R s m args below meth c u C ls H locs cells slots hL hC)
  | _ => cases hr
theorem x_ifnonnull {v : Value} {off : Int} {tgt : Nat} (hd : decode (mB M) pc = .ok (.ifnonnull off, 3)) (ht : (pc : Int) + off = (tgt : Int)) (hr : isR v = true) (kt : ∀ a, v = .ref a → Ex l E d M tgt lo st h Q) (kf : v = .null → Ex l E d M (pc + 3) lo st h Q) : Ex l E d M pc lo (v :: st) h Q := by
  intro p e R s m args below meth c u C ls H locs cells slots hL hC
  cases v with
  | ref a => exact lv_ifnonnull C.1 C.2.1 hd ht (kt a rfl p e R s m args below meth c u C ls H locs cells slots hL hC)
  | null => exact lv_ifnonnullN C.1 C.2.1 hd (kf rfl p e R s m args below meth c u C ls H locs cells slots hL hC)
  | _ => cases hr
theorem x_tableIn {dflt lo0 hi : Int} {offs : Array Int} {len : Nat} {x : Int32} {off : Int} {tgt : Nat} (hd : decode (mB M) pc = .ok (.tableswitch dflt lo0 hi offs, len)) (h1 : ¬ x.toInt < lo0) (h2 : ¬ hi < x.toInt) (ho : offs[(x.toInt - lo0).toNat]? = some off) (ht : (pc : Int) + off = (tgt : Int)) (kk : Ex l E d M tgt lo st h Q) : Ex l E d M pc lo (.int x :: st) h Q := by
  intro p e R s m args below meth c u C ls H locs cells slots hL hC
  exact lv_tableIn C.1 C.2.1 hd h1 h2 ho ht (kk p e R s m args below meth c u C ls H locs cells slots hL hC)
theorem x_tableOut {dflt lo0 hi : Int} {offs : Array Int} {len : Nat} {x : Int32} {tgt : Nat} (hd : decode (mB M) pc = .ok (.tableswitch dflt lo0 hi offs, len)) (h1 : x.toInt < lo0 ∨ hi < x.toInt) (ht : (pc : Int) + dflt = (tgt : Int)) (kk : Ex l E d M tgt lo st h Q) : Ex l E d M pc lo (.int x :: st) h Q := by
  intro p e R s m args below meth c u C ls H locs cells slots hL hC
  exact lv_tableOut C.1 C.2.1 hd h1 ht (kk p e R s m args below meth c u C ls H locs cells slots hL hC)
theorem x_lookup {dflt : Int} {ps : Array (Int × Int)} {len : Nat} {x : Int32} {off : Int} {tgt : Nat} (hd : decode (mB M) pc = .ok (.lookupswitch dflt ps, len)) (hp : (ps.toList.zip (ps.toList.drop 1)).all (fun (a, next) => a.1 < next.1) = true) (ho : Op.lookupswitch.offset ps.toList dflt x.toInt = off) (ht : (pc : Int) + off = (tgt : Int)) (kk : Ex l E d M tgt lo st h Q) : Ex l E d M pc lo (.int x :: st) h Q := by
  intro p e R s m args below meth c u C ls H locs cells slots hL hC
  exact lv_lookup C.1 C.2.1 hd hp ho ht (kk p e R s m args below meth c u C ls H locs cells slots hL hC)
end XR
