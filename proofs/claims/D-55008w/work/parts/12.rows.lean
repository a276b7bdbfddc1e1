/-! ROWS over V: constants, locals, stack, arithmetic, branches (printed by gen/mkrows.py) -/
set_option maxRecDepth 100000
set_option maxHeartbeats 1000000
theorem v_iconst {g : CT} {h : AH} {pc pc' : Nat} {lv : List (Nat × Value)} {rest : List Value} {cc : ByteArray} (hc : gC g = cc) {n : Int} {v : Int32} (d : decode cc pc = .ok (.iconst n, 1)) (hp : pc + 1 = pc') (hv : Int32.ofInt n = v) (k : V g h pc' lv (.int v :: rest)) : V g h pc lv (rest) := by
  subst hp
  exact v_op hc (fun hx hb L k => lv_iconst hx hb d hv k) k
theorem v_bipush {g : CT} {h : AH} {pc pc' : Nat} {lv : List (Nat × Value)} {rest : List Value} {cc : ByteArray} (hc : gC g = cc) {n : Int} {v : Int32} (d : decode cc pc = .ok (.bipush n, 2)) (hp : pc + 2 = pc') (hv : (Int8.ofInt n).toInt32 = v) (k : V g h pc' lv (.int v :: rest)) : V g h pc lv (rest) := by
  subst hp
  exact v_op hc (fun hx hb L k => lv_bipush hx hb d hv k) k
theorem v_sipush {g : CT} {h : AH} {pc pc' : Nat} {lv : List (Nat × Value)} {rest : List Value} {cc : ByteArray} (hc : gC g = cc) {n : Int} {v : Int32} (d : decode cc pc = .ok (.sipush n, 3)) (hp : pc + 3 = pc') (hv : (Int16.ofInt n).toInt32 = v) (k : V g h pc' lv (.int v :: rest)) : V g h pc lv (rest) := by
  subst hp
  exact v_op hc (fun hx hb L k => lv_sipush hx hb d hv k) k
theorem v_lconst {g : CT} {h : AH} {pc pc' : Nat} {lv : List (Nat × Value)} {rest : List Value} {cc : ByteArray} (hc : gC g = cc) {n : Fin 2} {v : Int64} (d : decode cc pc = .ok (.lconst n, 1)) (hp : pc + 1 = pc') (hv : Int64.ofNat (n : Nat) = v) (k : V g h pc' lv (.long v :: rest)) : V g h pc lv (rest) := by
  subst hp
  exact v_op hc (fun hx hb L k => lv_lconst hx hb d hv k) k
theorem v_null {g : CT} {h : AH} {pc pc' : Nat} {lv : List (Nat × Value)} {rest : List Value} {cc : ByteArray} (hc : gC g = cc)  (d : decode cc pc = .ok (.aconst_null, 1)) (hp : pc + 1 = pc')  (k : V g h pc' lv (.null :: rest)) : V g h pc lv (rest) := by
  subst hp
  exact v_op hc (fun hx hb L k => lv_null hx hb d  k) k
theorem v_fconst0 {g : CT} {h : AH} {pc pc' : Nat} {lv : List (Nat × Value)} {rest : List Value} {cc : ByteArray} (hc : gC g = cc)  (d : decode cc pc = .ok (.fconst 0, 1)) (hp : pc + 1 = pc')  (k : V g h pc' lv (.float 0 :: rest)) : V g h pc lv (rest) := by
  subst hp
  exact v_op hc (fun hx hb L k => lv_fconst0 hx hb d  k) k
theorem v_dconst0 {g : CT} {h : AH} {pc pc' : Nat} {lv : List (Nat × Value)} {rest : List Value} {cc : ByteArray} (hc : gC g = cc)  (d : decode cc pc = .ok (.dconst 0, 1)) (hp : pc + 1 = pc')  (k : V g h pc' lv (.double 0 :: rest)) : V g h pc lv (rest) := by
  subst hp
  exact v_op hc (fun hx hb L k => lv_dconst0 hx hb d  k) k
theorem v_iload_n {g : CT} {h : AH} {pc pc' : Nat} {lv : List (Nat × Value)} {rest : List Value} {cc : ByteArray} (hc : gC g = cc) {k0 : Fin 4} {i : Nat} {x : Int32} (d : decode cc pc = .ok (.iload_n k0, 1)) (hp : pc + 1 = pc') (hi : (k0 : Nat) = i) (j : Nat) (hl : lv[j]? = some (i, .int x)) (k : V g h pc' lv (.int x :: rest)) : V g h pc lv rest := by
  subst hp
  exact v_op hc (fun hx hb L k => lv_iload_n hx hb d hi (lv_at L j hl) k) k
theorem v_iload {g : CT} {h : AH} {pc pc' : Nat} {lv : List (Nat × Value)} {rest : List Value} {cc : ByteArray} (hc : gC g = cc) {i : Nat} {x : Int32} (d : decode cc pc = .ok (.iload i, 2)) (hp : pc + 2 = pc') (j : Nat) (hl : lv[j]? = some (i, .int x)) (k : V g h pc' lv (.int x :: rest)) : V g h pc lv rest := by
  subst hp
  exact v_op hc (fun hx hb L k => lv_iload hx hb d (lv_at L j hl) k) k
theorem v_aload_n {g : CT} {h : AH} {pc pc' : Nat} {lv : List (Nat × Value)} {rest : List Value} {cc : ByteArray} (hc : gC g = cc) {k0 : Fin 4} {i : Nat} {x : Nat} (d : decode cc pc = .ok (.aload_n k0, 1)) (hp : pc + 1 = pc') (hi : (k0 : Nat) = i) (j : Nat) (hl : lv[j]? = some (i, .ref x)) (k : V g h pc' lv (.ref x :: rest)) : V g h pc lv rest := by
  subst hp
  exact v_op hc (fun hx hb L k => lv_aload_n hx hb d hi (lv_at L j hl) k) k
theorem v_aload {g : CT} {h : AH} {pc pc' : Nat} {lv : List (Nat × Value)} {rest : List Value} {cc : ByteArray} (hc : gC g = cc) {i : Nat} {x : Nat} (d : decode cc pc = .ok (.aload i, 2)) (hp : pc + 2 = pc') (j : Nat) (hl : lv[j]? = some (i, .ref x)) (k : V g h pc' lv (.ref x :: rest)) : V g h pc lv rest := by
  subst hp
  exact v_op hc (fun hx hb L k => lv_aload hx hb d (lv_at L j hl) k) k
theorem v_aload_nN {g : CT} {h : AH} {pc pc' : Nat} {lv : List (Nat × Value)} {rest : List Value} {cc : ByteArray} (hc : gC g = cc) {k0 : Fin 4} {i : Nat} (d : decode cc pc = .ok (.aload_n k0, 1)) (hp : pc + 1 = pc') (hi : (k0 : Nat) = i) (j : Nat) (hl : lv[j]? = some (i, .null)) (k : V g h pc' lv (.null :: rest)) : V g h pc lv rest := by
  subst hp
  exact v_op hc (fun hx hb L k => lv_aload_nN hx hb d hi (lv_at L j hl) k) k
theorem v_aloadN {g : CT} {h : AH} {pc pc' : Nat} {lv : List (Nat × Value)} {rest : List Value} {cc : ByteArray} (hc : gC g = cc) {i : Nat} (d : decode cc pc = .ok (.aload i, 2)) (hp : pc + 2 = pc') (j : Nat) (hl : lv[j]? = some (i, .null)) (k : V g h pc' lv (.null :: rest)) : V g h pc lv rest := by
  subst hp
  exact v_op hc (fun hx hb L k => lv_aloadN hx hb d (lv_at L j hl) k) k
theorem v_fload {g : CT} {h : AH} {pc pc' : Nat} {lv : List (Nat × Value)} {rest : List Value} {cc : ByteArray} (hc : gC g = cc) {i : Nat} {x : UInt32} (d : decode cc pc = .ok (.fload i, 2)) (hp : pc + 2 = pc') (j : Nat) (hl : lv[j]? = some (i, .float x)) (k : V g h pc' lv (.float x :: rest)) : V g h pc lv rest := by
  subst hp
  exact v_op hc (fun hx hb L k => lv_fload hx hb d (lv_at L j hl) k) k
theorem v_dload {g : CT} {h : AH} {pc pc' : Nat} {lv : List (Nat × Value)} {rest : List Value} {cc : ByteArray} (hc : gC g = cc) {i : Nat} {x : UInt64} (d : decode cc pc = .ok (.dload i, 2)) (hp : pc + 2 = pc') (j : Nat) (hl : lv[j]? = some (i, .double x)) (k : V g h pc' lv (.double x :: rest)) : V g h pc lv rest := by
  subst hp
  exact v_op hc (fun hx hb L k => lv_dload hx hb d (lv_at L j hl) k) k
theorem v_istore_n {g : CT} {h : AH} {pc pc' : Nat} {lv : List (Nat × Value)} {rest : List Value} {cc : ByteArray} {lv' : List (Nat × Value)} (hc : gC g = cc) {k0 : Fin 4} {i : Nat} {x : Int32} (d : decode cc pc = .ok (.istore_n k0, 1)) (hp : pc + 1 = pc') (hi : (k0 : Nat) = i) (hn : i < gN g) (hl : (i, Value.int x) :: lv.filter (fun q => !(q.1 == i) && !(q.1 + 1 == i && q.2.category == 2)) = lv') (k : V g h pc' lv' rest) : V g h pc lv (Value.int x :: rest) := by
  subst hp
  exact v_stp hc (fun hx hb L k => lv_istore_n hx hb d hi L hn hl k) k
theorem v_istore {g : CT} {h : AH} {pc pc' : Nat} {lv : List (Nat × Value)} {rest : List Value} {cc : ByteArray} {lv' : List (Nat × Value)} (hc : gC g = cc) {i : Nat} {x : Int32} (d : decode cc pc = .ok (.istore i, 2)) (hp : pc + 2 = pc') (hn : i < gN g) (hl : (i, Value.int x) :: lv.filter (fun q => !(q.1 == i) && !(q.1 + 1 == i && q.2.category == 2)) = lv') (k : V g h pc' lv' rest) : V g h pc lv (Value.int x :: rest) := by
  subst hp
  exact v_stp hc (fun hx hb L k => lv_istore hx hb d L hn hl k) k
theorem v_astore_n {g : CT} {h : AH} {pc pc' : Nat} {lv : List (Nat × Value)} {rest : List Value} {cc : ByteArray} {lv' : List (Nat × Value)} (hc : gC g = cc) {k0 : Fin 4} {i : Nat} {x : Nat} (d : decode cc pc = .ok (.astore_n k0, 1)) (hp : pc + 1 = pc') (hi : (k0 : Nat) = i) (hn : i < gN g) (hl : (i, Value.ref x) :: lv.filter (fun q => !(q.1 == i) && !(q.1 + 1 == i && q.2.category == 2)) = lv') (k : V g h pc' lv' rest) : V g h pc lv (Value.ref x :: rest) := by
  subst hp
  exact v_stp hc (fun hx hb L k => lv_astore_n hx hb d hi L hn hl k) k
theorem v_astore {g : CT} {h : AH} {pc pc' : Nat} {lv : List (Nat × Value)} {rest : List Value} {cc : ByteArray} {lv' : List (Nat × Value)} (hc : gC g = cc) {i : Nat} {x : Nat} (d : decode cc pc = .ok (.astore i, 2)) (hp : pc + 2 = pc') (hn : i < gN g) (hl : (i, Value.ref x) :: lv.filter (fun q => !(q.1 == i) && !(q.1 + 1 == i && q.2.category == 2)) = lv') (k : V g h pc' lv' rest) : V g h pc lv (Value.ref x :: rest) := by
  subst hp
  exact v_stp hc (fun hx hb L k => lv_astore hx hb d L hn hl k) k
theorem v_astore_nN {g : CT} {h : AH} {pc pc' : Nat} {lv : List (Nat × Value)} {rest : List Value} {cc : ByteArray} {lv' : List (Nat × Value)} (hc : gC g = cc) {k0 : Fin 4} {i : Nat}  (d : decode cc pc = .ok (.astore_n k0, 1)) (hp : pc + 1 = pc') (hi : (k0 : Nat) = i) (hn : i < gN g) (hl : (i, Value.null) :: lv.filter (fun q => !(q.1 == i) && !(q.1 + 1 == i && q.2.category == 2)) = lv') (k : V g h pc' lv' rest) : V g h pc lv (Value.null :: rest) := by
  subst hp
  exact v_stp hc (fun hx hb L k => lv_astore_nN hx hb d hi L hn hl k) k
theorem v_astoreN {g : CT} {h : AH} {pc pc' : Nat} {lv : List (Nat × Value)} {rest : List Value} {cc : ByteArray} {lv' : List (Nat × Value)} (hc : gC g = cc) {i : Nat}  (d : decode cc pc = .ok (.astore i, 2)) (hp : pc + 2 = pc') (hn : i < gN g) (hl : (i, Value.null) :: lv.filter (fun q => !(q.1 == i) && !(q.1 + 1 == i && q.2.category == 2)) = lv') (k : V g h pc' lv' rest) : V g h pc lv (Value.null :: rest) := by
  subst hp
  exact v_stp hc (fun hx hb L k => lv_astoreN hx hb d L hn hl k) k
theorem v_fstore {g : CT} {h : AH} {pc pc' : Nat} {lv : List (Nat × Value)} {rest : List Value} {cc : ByteArray} {lv' : List (Nat × Value)} (hc : gC g = cc) {i : Nat} {x : UInt32} (d : decode cc pc = .ok (.fstore i, 2)) (hp : pc + 2 = pc') (hn : i < gN g) (hl : (i, Value.float x) :: lv.filter (fun q => !(q.1 == i) && !(q.1 + 1 == i && q.2.category == 2)) = lv') (k : V g h pc' lv' rest) : V g h pc lv (Value.float x :: rest) := by
  subst hp
  exact v_stp hc (fun hx hb L k => lv_fstore hx hb d L hn hl k) k
theorem v_dstore {g : CT} {h : AH} {pc pc' : Nat} {lv : List (Nat × Value)} {rest : List Value} {cc : ByteArray} {lv' : List (Nat × Value)} (hc : gC g = cc) {i : Nat} {x : UInt64} (d : decode cc pc = .ok (.dstore i, 2)) (hp : pc + 2 = pc') (hn : i + 1 < gN g) (hl : (i, Value.double x) :: lv.filter (fun q => !(q.1 == i) && (!(q.1 == i + 1) && !(q.1 + 1 == i && q.2.category == 2))) = lv') (k : V g h pc' lv' rest) : V g h pc lv (Value.double x :: rest) := by
  subst hp
  exact v_stp hc (fun hx hb L k => lv_dstore hx hb d L hn hl k) k
theorem v_iinc {g : CT} {h : AH} {pc pc' : Nat} {lv : List (Nat × Value)} {rest : List Value} {cc : ByteArray} {lv' : List (Nat × Value)} (hc : gC g = cc) {i : Nat} {n : Int} {x v : Int32} (d : decode cc pc = .ok (.iinc i n, 3)) (hp : pc + 3 = pc') (j : Nat) (hk : lv[j]? = some (i, .int x)) (hv : x + Int32.ofInt n = v) (hn : i < gN g) (hl : (i, Value.int v) :: lv.filter (fun q => !(q.1 == i) && !(q.1 + 1 == i && q.2.category == 2)) = lv') (k : V g h pc' lv' rest) : V g h pc lv rest := by
  subst hp
  exact v_stp hc (fun hx hb L k => lv_iinc hx hb d L hk hv hn hl k) k
theorem v_iadd {g : CT} {h : AH} {pc pc' : Nat} {lv : List (Nat × Value)} {rest : List Value} {cc : ByteArray} (hc : gC g = cc) {x y : Int32} (d : decode cc pc = .ok (.iadd, 1)) (hp : pc + 1 = pc')  (k : V g h pc' lv (.int (x + y) :: rest)) : V g h pc lv (.int y :: .int x :: rest) := by
  subst hp
  exact v_op hc (fun hx hb L k => lv_iadd hx hb d  k) k
theorem v_isub {g : CT} {h : AH} {pc pc' : Nat} {lv : List (Nat × Value)} {rest : List Value} {cc : ByteArray} (hc : gC g = cc) {x y : Int32} (d : decode cc pc = .ok (.isub, 1)) (hp : pc + 1 = pc')  (k : V g h pc' lv (.int (x - y) :: rest)) : V g h pc lv (.int y :: .int x :: rest) := by
  subst hp
  exact v_op hc (fun hx hb L k => lv_isub hx hb d  k) k
theorem v_imul {g : CT} {h : AH} {pc pc' : Nat} {lv : List (Nat × Value)} {rest : List Value} {cc : ByteArray} (hc : gC g = cc) {x y : Int32} (d : decode cc pc = .ok (.imul, 1)) (hp : pc + 1 = pc')  (k : V g h pc' lv (.int (x * y) :: rest)) : V g h pc lv (.int y :: .int x :: rest) := by
  subst hp
  exact v_op hc (fun hx hb L k => lv_imul hx hb d  k) k
theorem v_iand {g : CT} {h : AH} {pc pc' : Nat} {lv : List (Nat × Value)} {rest : List Value} {cc : ByteArray} (hc : gC g = cc) {x y : Int32} (d : decode cc pc = .ok (.iand, 1)) (hp : pc + 1 = pc')  (k : V g h pc' lv (.int (x &&& y) :: rest)) : V g h pc lv (.int y :: .int x :: rest) := by
  subst hp
  exact v_op hc (fun hx hb L k => lv_iand hx hb d  k) k
theorem v_ior {g : CT} {h : AH} {pc pc' : Nat} {lv : List (Nat × Value)} {rest : List Value} {cc : ByteArray} (hc : gC g = cc) {x y : Int32} (d : decode cc pc = .ok (.ior, 1)) (hp : pc + 1 = pc')  (k : V g h pc' lv (.int (x ||| y) :: rest)) : V g h pc lv (.int y :: .int x :: rest) := by
  subst hp
  exact v_op hc (fun hx hb L k => lv_ior hx hb d  k) k
theorem v_idiv {g : CT} {h : AH} {pc pc' : Nat} {lv : List (Nat × Value)} {rest : List Value} {cc : ByteArray} (hc : gC g = cc) {x y : Int32} (d : decode cc pc = .ok (.idiv, 1)) (hp : pc + 1 = pc') (hne : ¬ y = 0) (k : V g h pc' lv (.int (x / y) :: rest)) : V g h pc lv (.int y :: .int x :: rest) := by
  subst hp
  exact v_op hc (fun hx hb L k => lv_idiv hx hb d hne k) k
theorem v_irem {g : CT} {h : AH} {pc pc' : Nat} {lv : List (Nat × Value)} {rest : List Value} {cc : ByteArray} (hc : gC g = cc) {x y : Int32} (d : decode cc pc = .ok (.irem, 1)) (hp : pc + 1 = pc') (hne : ¬ y = 0) (k : V g h pc' lv (.int (x - x / y * y) :: rest)) : V g h pc lv (.int y :: .int x :: rest) := by
  subst hp
  exact v_op hc (fun hx hb L k => lv_irem hx hb d hne k) k
theorem v_ineg {g : CT} {h : AH} {pc pc' : Nat} {lv : List (Nat × Value)} {rest : List Value} {cc : ByteArray} (hc : gC g = cc) {x : Int32} (d : decode cc pc = .ok (.ineg, 1)) (hp : pc + 1 = pc')  (k : V g h pc' lv (.int (-x) :: rest)) : V g h pc lv (.int x :: rest) := by
  subst hp
  exact v_op hc (fun hx hb L k => lv_ineg hx hb d  k) k
theorem v_ishl {g : CT} {h : AH} {pc pc' : Nat} {lv : List (Nat × Value)} {rest : List Value} {cc : ByteArray} (hc : gC g = cc) {x y : Int32} (d : decode cc pc = .ok (.ishl, 1)) (hp : pc + 1 = pc')  (k : V g h pc' lv (.int (x <<< (y &&& 31)) :: rest)) : V g h pc lv (.int y :: .int x :: rest) := by
  subst hp
  exact v_op hc (fun hx hb L k => lv_ishl hx hb d  k) k
theorem v_ishr {g : CT} {h : AH} {pc pc' : Nat} {lv : List (Nat × Value)} {rest : List Value} {cc : ByteArray} (hc : gC g = cc) {x y : Int32} (d : decode cc pc = .ok (.ishr, 1)) (hp : pc + 1 = pc')  (k : V g h pc' lv (.int (x >>> (y &&& 31)) :: rest)) : V g h pc lv (.int y :: .int x :: rest) := by
  subst hp
  exact v_op hc (fun hx hb L k => lv_ishr hx hb d  k) k
theorem v_i2l {g : CT} {h : AH} {pc pc' : Nat} {lv : List (Nat × Value)} {rest : List Value} {cc : ByteArray} (hc : gC g = cc) {x : Int32} (d : decode cc pc = .ok (.i2l, 1)) (hp : pc + 1 = pc')  (k : V g h pc' lv (.long x.toInt64 :: rest)) : V g h pc lv (.int x :: rest) := by
  subst hp
  exact v_op hc (fun hx hb L k => lv_i2l hx hb d rfl k) k
theorem v_i2b {g : CT} {h : AH} {pc pc' : Nat} {lv : List (Nat × Value)} {rest : List Value} {cc : ByteArray} (hc : gC g = cc) {x : Int32} (d : decode cc pc = .ok (.i2b, 1)) (hp : pc + 1 = pc')  (k : V g h pc' lv (.int x.toInt8.toInt32 :: rest)) : V g h pc lv (.int x :: rest) := by
  subst hp
  exact v_op hc (fun hx hb L k => lv_i2b hx hb d rfl k) k
theorem v_i2c {g : CT} {h : AH} {pc pc' : Nat} {lv : List (Nat × Value)} {rest : List Value} {cc : ByteArray} (hc : gC g = cc) {x : Int32} (d : decode cc pc = .ok (.i2c, 1)) (hp : pc + 1 = pc')  (k : V g h pc' lv (.int (x.toUInt32 % 65536).toInt32 :: rest)) : V g h pc lv (.int x :: rest) := by
  subst hp
  exact v_op hc (fun hx hb L k => lv_i2c hx hb d rfl k) k
theorem v_i2d {g : CT} {h : AH} {pc pc' : Nat} {lv : List (Nat × Value)} {rest : List Value} {cc : ByteArray} (hc : gC g = cc) {x : Int32} (d : decode cc pc = .ok (.i2d, 1)) (hp : pc + 1 = pc')  (k : V g h pc' lv (.double (FP.i2d x) :: rest)) : V g h pc lv (.int x :: rest) := by
  subst hp
  exact v_op hc (fun hx hb L k => lv_i2d hx hb d  k) k
theorem v_i2f {g : CT} {h : AH} {pc pc' : Nat} {lv : List (Nat × Value)} {rest : List Value} {cc : ByteArray} (hc : gC g = cc) {x : Int32} (d : decode cc pc = .ok (.i2f, 1)) (hp : pc + 1 = pc')  (k : V g h pc' lv (.float (FP.i2f x) :: rest)) : V g h pc lv (.int x :: rest) := by
  subst hp
  exact v_op hc (fun hx hb L k => lv_i2f hx hb d  k) k
theorem v_lcmp {g : CT} {h : AH} {pc pc' : Nat} {lv : List (Nat × Value)} {rest : List Value} {cc : ByteArray} (hc : gC g = cc) {x y : Int64} (d : decode cc pc = .ok (.lcmp, 1)) (hp : pc + 1 = pc')  (k : V g h pc' lv (.int (lg_cmp x y) :: rest)) : V g h pc lv (.long y :: .long x :: rest) := by
  subst hp
  exact v_op hc (fun hx hb L k => W.lcmp hx hb d  k) k
theorem v_ddiv {g : CT} {h : AH} {pc pc' : Nat} {lv : List (Nat × Value)} {rest : List Value} {cc : ByteArray} (hc : gC g = cc) {x y : UInt64} (d : decode cc pc = .ok (.ddiv, 1)) (hp : pc + 1 = pc') (hne : vf_n64 (FP.ddiv x y)) (k : V g h pc' lv (.double (FP.ddiv x y) :: rest)) : V g h pc lv (.double y :: .double x :: rest) := by
  subst hp
  exact v_op hc (fun hx hb L k => lv_ddiv hx hb d hne k) k
theorem v_fdiv {g : CT} {h : AH} {pc pc' : Nat} {lv : List (Nat × Value)} {rest : List Value} {cc : ByteArray} (hc : gC g = cc) {x y : UInt32} (d : decode cc pc = .ok (.fdiv, 1)) (hp : pc + 1 = pc') (hne : vf_n32 (FP.fdiv x y)) (k : V g h pc' lv (.float (FP.fdiv x y) :: rest)) : V g h pc lv (.float y :: .float x :: rest) := by
  subst hp
  exact v_op hc (fun hx hb L k => lv_fdiv hx hb d hne k) k
theorem v_f2d {g : CT} {h : AH} {pc pc' : Nat} {lv : List (Nat × Value)} {rest : List Value} {cc : ByteArray} (hc : gC g = cc) {x : UInt32} (d : decode cc pc = .ok (.f2d, 1)) (hp : pc + 1 = pc') (hne : vf_n64 (FP.f2d x)) (k : V g h pc' lv (.double (FP.f2d x) :: rest)) : V g h pc lv (.float x :: rest) := by
  subst hp
  exact v_op hc (fun hx hb L k => lv_f2d hx hb d hne k) k
theorem v_dcmp {g : CT} {h : AH} {pc pc' : Nat} {lv : List (Nat × Value)} {rest : List Value} {cc : ByteArray} (hc : gC g = cc) {x y : UInt64} {o : CmpOp} (d : decode cc pc = .ok (.dcmp o, 1)) (hp : pc + 1 = pc')  (k : V g h pc' lv (.int (Op.cmpValue (FP.dcmp x y) o) :: rest)) : V g h pc lv (.double y :: .double x :: rest) := by
  subst hp
  exact v_op hc (fun hx hb L k => lv_dcmp hx hb d  k) k
theorem v_fcmp {g : CT} {h : AH} {pc pc' : Nat} {lv : List (Nat × Value)} {rest : List Value} {cc : ByteArray} (hc : gC g = cc) {x y : UInt32} {o : CmpOp} (d : decode cc pc = .ok (.fcmp o, 1)) (hp : pc + 1 = pc')  (k : V g h pc' lv (.int (Op.cmpValue (FP.fcmp x y) o) :: rest)) : V g h pc lv (.float y :: .float x :: rest) := by
  subst hp
  exact v_op hc (fun hx hb L k => lv_fcmp hx hb d  k) k
theorem v_dup {g : CT} {h : AH} {pc pc' : Nat} {lv : List (Nat × Value)} {rest : List Value} {cc : ByteArray} (hc : gC g = cc) {a : Value} (d : decode cc pc = .ok (.dup, 1)) (hp : pc + 1 = pc') (ha : a.category = 1) (k : V g h pc' lv (a :: a :: rest)) : V g h pc lv (a :: rest) := by
  subst hp
  exact v_op hc (fun hx hb L k => lv_dup hx hb d ha k) k
theorem v_pop {g : CT} {h : AH} {pc pc' : Nat} {lv : List (Nat × Value)} {rest : List Value} {cc : ByteArray} (hc : gC g = cc) {a : Value} (d : decode cc pc = .ok (.pop, 1)) (hp : pc + 1 = pc') (ha : a.category = 1) (k : V g h pc' lv (rest)) : V g h pc lv (a :: rest) := by
  subst hp
  exact v_op hc (fun hx hb L k => lv_pop hx hb d ha k) k
theorem v_dup_x1 {g : CT} {h : AH} {pc pc' : Nat} {lv : List (Nat × Value)} {rest : List Value} {cc : ByteArray} (hc : gC g = cc) {a b : Value} (d : decode cc pc = .ok (.dup_x1, 1)) (hp : pc + 1 = pc') (ha : a.category = 1) (hb2 : b.category = 1) (k : V g h pc' lv (a :: b :: a :: rest)) : V g h pc lv (a :: b :: rest) := by
  subst hp
  exact v_op hc (fun hx hb L k => lv_dup_x1 hx hb d ha hb2 k) k
theorem v_dup2 {g : CT} {h : AH} {pc pc' : Nat} {lv : List (Nat × Value)} {rest : List Value} {cc : ByteArray} (hc : gC g = cc) {a b : Value} (d : decode cc pc = .ok (.dup2, 1)) (hp : pc + 1 = pc') (ha : a.category = 1) (hb2 : b.category = 1) (k : V g h pc' lv (a :: b :: a :: b :: rest)) : V g h pc lv (a :: b :: rest) := by
  subst hp
  exact v_op hc (fun hx hb L k => lv_dup2_11 hx hb d ha hb2 k) k
theorem v_if_eq {g : CT} {h : AH} {pc : Nat} {lv : List (Nat × Value)} {rest : List Value} {cc : ByteArray} {pt pf : Nat} {off : Int} {x : Int32} {β : Type} {X Y : Option β} {o : β} (hc : gC g = cc) (d : decode cc pc = .ok (.ifCond .eq off, 3)) (hp : pc + 3 = pf) (ht : (pc : Int) + off = (pt : Int)) (hf : (if x = 0 then X else Y) = some o) (kt : x = 0 → X = some o → V g h pt lv rest) (kf : ¬ x = 0 → Y = some o → V g h pf lv rest) : V g h pc lv (.int x :: rest) := by
  subst hp
  have kt := fun z => kt z ((ite_of hf).1 z)
  have kf := fun z => kf z ((ite_of hf).2 z)
  exact v_br (cond := x = 0) hc (fun hx hb kt kf => lv_if_eq hx hb d ht kt kf) kt kf
theorem v_if_eqT {g : CT} {h : AH} {pc : Nat} {lv : List (Nat × Value)} {rest : List Value} {cc : ByteArray} {pt : Nat} {off : Int} {x : Int32} (hc : gC g = cc) (d : decode cc pc = .ok (.ifCond .eq off, 3)) (ht : (pc : Int) + off = (pt : Int)) (hd : x = 0) (k : V g h pt lv rest) : V g h pc lv (.int x :: rest) :=
  v_op hc (fun hx hb L k => lv_if_eq hx hb d ht (fun _ => k) (fun z => absurd hd z)) k
theorem v_if_eqF {g : CT} {h : AH} {pc : Nat} {lv : List (Nat × Value)} {rest : List Value} {cc : ByteArray} {pf : Nat} {off : Int} {pt : Nat} {x : Int32} (hc : gC g = cc) (d : decode cc pc = .ok (.ifCond .eq off, 3)) (hp : pc + 3 = pf) (ht : (pc : Int) + off = (pt : Int)) (hd : ¬ (x = 0)) (k : V g h pf lv rest) : V g h pc lv (.int x :: rest) := by
  subst hp
  exact v_op hc (fun hx hb L k => lv_if_eq hx hb d ht (fun z => absurd z hd) (fun _ => k)) k
theorem v_icmp_eq {g : CT} {h : AH} {pc : Nat} {lv : List (Nat × Value)} {rest : List Value} {cc : ByteArray} {pt pf : Nat} {off : Int} {x y : Int32} {β : Type} {X Y : Option β} {o : β} (hc : gC g = cc) (d : decode cc pc = .ok (.if_icmp .eq off, 3)) (hp : pc + 3 = pf) (ht : (pc : Int) + off = (pt : Int)) (hf : (if x = y then X else Y) = some o) (kt : x = y → X = some o → V g h pt lv rest) (kf : ¬ x = y → Y = some o → V g h pf lv rest) : V g h pc lv (.int y :: .int x :: rest) := by
  subst hp
  have kt := fun z => kt z ((ite_of hf).1 z)
  have kf := fun z => kf z ((ite_of hf).2 z)
  exact v_br (cond := x = y) hc (fun hx hb kt kf => lv_icmp_eq hx hb d ht kt kf) kt kf
theorem v_icmp_eqT {g : CT} {h : AH} {pc : Nat} {lv : List (Nat × Value)} {rest : List Value} {cc : ByteArray} {pt : Nat} {off : Int} {x y : Int32} (hc : gC g = cc) (d : decode cc pc = .ok (.if_icmp .eq off, 3)) (ht : (pc : Int) + off = (pt : Int)) (hd : x = y) (k : V g h pt lv rest) : V g h pc lv (.int y :: .int x :: rest) :=
  v_op hc (fun hx hb L k => lv_icmp_eq hx hb d ht (fun _ => k) (fun z => absurd hd z)) k
theorem v_icmp_eqF {g : CT} {h : AH} {pc : Nat} {lv : List (Nat × Value)} {rest : List Value} {cc : ByteArray} {pf : Nat} {off : Int} {pt : Nat} {x y : Int32} (hc : gC g = cc) (d : decode cc pc = .ok (.if_icmp .eq off, 3)) (hp : pc + 3 = pf) (ht : (pc : Int) + off = (pt : Int)) (hd : ¬ (x = y)) (k : V g h pf lv rest) : V g h pc lv (.int y :: .int x :: rest) := by
  subst hp
  exact v_op hc (fun hx hb L k => lv_icmp_eq hx hb d ht (fun z => absurd z hd) (fun _ => k)) k
theorem v_if_ne {g : CT} {h : AH} {pc : Nat} {lv : List (Nat × Value)} {rest : List Value} {cc : ByteArray} {pt pf : Nat} {off : Int} {x : Int32} {β : Type} {X Y : Option β} {o : β} (hc : gC g = cc) (d : decode cc pc = .ok (.ifCond .ne off, 3)) (hp : pc + 3 = pf) (ht : (pc : Int) + off = (pt : Int)) (hf : (if x = 0 then X else Y) = some o) (kt : x = 0 → X = some o → V g h pf lv rest) (kf : ¬ x = 0 → Y = some o → V g h pt lv rest) : V g h pc lv (.int x :: rest) := by
  subst hp
  have kt := fun z => kt z ((ite_of hf).1 z)
  have kf := fun z => kf z ((ite_of hf).2 z)
  exact v_br (cond := x = 0) hc (fun hx hb kt kf => lv_if_ne hx hb d ht (fun z => kf z) (fun z => kt z)) kt kf
theorem v_if_neT {g : CT} {h : AH} {pc : Nat} {lv : List (Nat × Value)} {rest : List Value} {cc : ByteArray} {pt : Nat} {off : Int} {x : Int32} (hc : gC g = cc) (d : decode cc pc = .ok (.ifCond .ne off, 3)) (ht : (pc : Int) + off = (pt : Int)) (hd : ¬ x = 0) (k : V g h pt lv rest) : V g h pc lv (.int x :: rest) :=
  v_op hc (fun hx hb L k => lv_if_ne hx hb d ht (fun _ => k) (fun z => absurd z hd)) k
theorem v_if_neF {g : CT} {h : AH} {pc : Nat} {lv : List (Nat × Value)} {rest : List Value} {cc : ByteArray} {pf : Nat} {off : Int} {pt : Nat} {x : Int32} (hc : gC g = cc) (d : decode cc pc = .ok (.ifCond .ne off, 3)) (hp : pc + 3 = pf) (ht : (pc : Int) + off = (pt : Int)) (hd : x = 0) (k : V g h pf lv rest) : V g h pc lv (.int x :: rest) := by
  subst hp
  exact v_op hc (fun hx hb L k => lv_if_ne hx hb d ht (fun z => absurd hd z) (fun _ => k)) k
theorem v_icmp_ne {g : CT} {h : AH} {pc : Nat} {lv : List (Nat × Value)} {rest : List Value} {cc : ByteArray} {pt pf : Nat} {off : Int} {x y : Int32} {β : Type} {X Y : Option β} {o : β} (hc : gC g = cc) (d : decode cc pc = .ok (.if_icmp .ne off, 3)) (hp : pc + 3 = pf) (ht : (pc : Int) + off = (pt : Int)) (hf : (if x = y then X else Y) = some o) (kt : x = y → X = some o → V g h pf lv rest) (kf : ¬ x = y → Y = some o → V g h pt lv rest) : V g h pc lv (.int y :: .int x :: rest) := by
  subst hp
  have kt := fun z => kt z ((ite_of hf).1 z)
  have kf := fun z => kf z ((ite_of hf).2 z)
  exact v_br (cond := x = y) hc (fun hx hb kt kf => lv_icmp_ne hx hb d ht (fun z => kf z) (fun z => kt z)) kt kf
theorem v_icmp_neT {g : CT} {h : AH} {pc : Nat} {lv : List (Nat × Value)} {rest : List Value} {cc : ByteArray} {pt : Nat} {off : Int} {x y : Int32} (hc : gC g = cc) (d : decode cc pc = .ok (.if_icmp .ne off, 3)) (ht : (pc : Int) + off = (pt : Int)) (hd : ¬ x = y) (k : V g h pt lv rest) : V g h pc lv (.int y :: .int x :: rest) :=
  v_op hc (fun hx hb L k => lv_icmp_ne hx hb d ht (fun _ => k) (fun z => absurd z hd)) k
theorem v_icmp_neF {g : CT} {h : AH} {pc : Nat} {lv : List (Nat × Value)} {rest : List Value} {cc : ByteArray} {pf : Nat} {off : Int} {pt : Nat} {x y : Int32} (hc : gC g = cc) (d : decode cc pc = .ok (.if_icmp .ne off, 3)) (hp : pc + 3 = pf) (ht : (pc : Int) + off = (pt : Int)) (hd : x = y) (k : V g h pf lv rest) : V g h pc lv (.int y :: .int x :: rest) := by
  subst hp
  exact v_op hc (fun hx hb L k => lv_icmp_ne hx hb d ht (fun z => absurd hd z) (fun _ => k)) k
theorem v_if_lt {g : CT} {h : AH} {pc : Nat} {lv : List (Nat × Value)} {rest : List Value} {cc : ByteArray} {pt pf : Nat} {off : Int} {x : Int32} {β : Type} {X Y : Option β} {o : β} (hc : gC g = cc) (d : decode cc pc = .ok (.ifCond .lt off, 3)) (hp : pc + 3 = pf) (ht : (pc : Int) + off = (pt : Int)) (hf : (if x < 0 then X else Y) = some o) (kt : x < 0 → X = some o → V g h pt lv rest) (kf : ¬ x < 0 → Y = some o → V g h pf lv rest) : V g h pc lv (.int x :: rest) := by
  subst hp
  have kt := fun z => kt z ((ite_of hf).1 z)
  have kf := fun z => kf z ((ite_of hf).2 z)
  exact v_br (cond := x < 0) hc (fun hx hb kt kf => lv_if_lt hx hb d ht kt kf) kt kf
theorem v_if_ltT {g : CT} {h : AH} {pc : Nat} {lv : List (Nat × Value)} {rest : List Value} {cc : ByteArray} {pt : Nat} {off : Int} {x : Int32} (hc : gC g = cc) (d : decode cc pc = .ok (.ifCond .lt off, 3)) (ht : (pc : Int) + off = (pt : Int)) (hd : x < 0) (k : V g h pt lv rest) : V g h pc lv (.int x :: rest) :=
  v_op hc (fun hx hb L k => lv_if_lt hx hb d ht (fun _ => k) (fun z => absurd hd z)) k
theorem v_if_ltF {g : CT} {h : AH} {pc : Nat} {lv : List (Nat × Value)} {rest : List Value} {cc : ByteArray} {pf : Nat} {off : Int} {pt : Nat} {x : Int32} (hc : gC g = cc) (d : decode cc pc = .ok (.ifCond .lt off, 3)) (hp : pc + 3 = pf) (ht : (pc : Int) + off = (pt : Int)) (hd : ¬ (x < 0)) (k : V g h pf lv rest) : V g h pc lv (.int x :: rest) := by
  subst hp
  exact v_op hc (fun hx hb L k => lv_if_lt hx hb d ht (fun z => absurd z hd) (fun _ => k)) k
theorem v_icmp_lt {g : CT} {h : AH} {pc : Nat} {lv : List (Nat × Value)} {rest : List Value} {cc : ByteArray} {pt pf : Nat} {off : Int} {x y : Int32} {β : Type} {X Y : Option β} {o : β} (hc : gC g = cc) (d : decode cc pc = .ok (.if_icmp .lt off, 3)) (hp : pc + 3 = pf) (ht : (pc : Int) + off = (pt : Int)) (hf : (if x < y then X else Y) = some o) (kt : x < y → X = some o → V g h pt lv rest) (kf : ¬ x < y → Y = some o → V g h pf lv rest) : V g h pc lv (.int y :: .int x :: rest) := by
  subst hp
  have kt := fun z => kt z ((ite_of hf).1 z)
  have kf := fun z => kf z ((ite_of hf).2 z)
  exact v_br (cond := x < y) hc (fun hx hb kt kf => lv_icmp_lt hx hb d ht kt kf) kt kf
theorem v_icmp_ltT {g : CT} {h : AH} {pc : Nat} {lv : List (Nat × Value)} {rest : List Value} {cc : ByteArray} {pt : Nat} {off : Int} {x y : Int32} (hc : gC g = cc) (d : decode cc pc = .ok (.if_icmp .lt off, 3)) (ht : (pc : Int) + off = (pt : Int)) (hd : x < y) (k : V g h pt lv rest) : V g h pc lv (.int y :: .int x :: rest) :=
  v_op hc (fun hx hb L k => lv_icmp_lt hx hb d ht (fun _ => k) (fun z => absurd hd z)) k
theorem v_icmp_ltF {g : CT} {h : AH} {pc : Nat} {lv : List (Nat × Value)} {rest : List Value} {cc : ByteArray} {pf : Nat} {off : Int} {pt : Nat} {x y : Int32} (hc : gC g = cc) (d : decode cc pc = .ok (.if_icmp .lt off, 3)) (hp : pc + 3 = pf) (ht : (pc : Int) + off = (pt : Int)) (hd : ¬ (x < y)) (k : V g h pf lv rest) : V g h pc lv (.int y :: .int x :: rest) := by
  subst hp
  exact v_op hc (fun hx hb L k => lv_icmp_lt hx hb d ht (fun z => absurd z hd) (fun _ => k)) k
theorem v_if_ge {g : CT} {h : AH} {pc : Nat} {lv : List (Nat × Value)} {rest : List Value} {cc : ByteArray} {pt pf : Nat} {off : Int} {x : Int32} {β : Type} {X Y : Option β} {o : β} (hc : gC g = cc) (d : decode cc pc = .ok (.ifCond .ge off, 3)) (hp : pc + 3 = pf) (ht : (pc : Int) + off = (pt : Int)) (hf : (if 0 ≤ x then X else Y) = some o) (kt : 0 ≤ x → X = some o → V g h pt lv rest) (kf : ¬ 0 ≤ x → Y = some o → V g h pf lv rest) : V g h pc lv (.int x :: rest) := by
  subst hp
  have kt := fun z => kt z ((ite_of hf).1 z)
  have kf := fun z => kf z ((ite_of hf).2 z)
  exact v_br (cond := 0 ≤ x) hc (fun hx hb kt kf => lv_if_ge hx hb d ht kt kf) kt kf
theorem v_if_geT {g : CT} {h : AH} {pc : Nat} {lv : List (Nat × Value)} {rest : List Value} {cc : ByteArray} {pt : Nat} {off : Int} {x : Int32} (hc : gC g = cc) (d : decode cc pc = .ok (.ifCond .ge off, 3)) (ht : (pc : Int) + off = (pt : Int)) (hd : 0 ≤ x) (k : V g h pt lv rest) : V g h pc lv (.int x :: rest) :=
  v_op hc (fun hx hb L k => lv_if_ge hx hb d ht (fun _ => k) (fun z => absurd hd z)) k
theorem v_if_geF {g : CT} {h : AH} {pc : Nat} {lv : List (Nat × Value)} {rest : List Value} {cc : ByteArray} {pf : Nat} {off : Int} {pt : Nat} {x : Int32} (hc : gC g = cc) (d : decode cc pc = .ok (.ifCond .ge off, 3)) (hp : pc + 3 = pf) (ht : (pc : Int) + off = (pt : Int)) (hd : ¬ (0 ≤ x)) (k : V g h pf lv rest) : V g h pc lv (.int x :: rest) := by
  subst hp
  exact v_op hc (fun hx hb L k => lv_if_ge hx hb d ht (fun z => absurd z hd) (fun _ => k)) k
theorem v_icmp_ge {g : CT} {h : AH} {pc : Nat} {lv : List (Nat × Value)} {rest : List Value} {cc : ByteArray} {pt pf : Nat} {off : Int} {x y : Int32} {β : Type} {X Y : Option β} {o : β} (hc : gC g = cc) (d : decode cc pc = .ok (.if_icmp .ge off, 3)) (hp : pc + 3 = pf) (ht : (pc : Int) + off = (pt : Int)) (hf : (if y ≤ x then X else Y) = some o) (kt : y ≤ x → X = some o → V g h pt lv rest) (kf : ¬ y ≤ x → Y = some o → V g h pf lv rest) : V g h pc lv (.int y :: .int x :: rest) := by
  subst hp
  have kt := fun z => kt z ((ite_of hf).1 z)
  have kf := fun z => kf z ((ite_of hf).2 z)
  exact v_br (cond := y ≤ x) hc (fun hx hb kt kf => lv_icmp_ge hx hb d ht kt kf) kt kf
theorem v_icmp_geT {g : CT} {h : AH} {pc : Nat} {lv : List (Nat × Value)} {rest : List Value} {cc : ByteArray} {pt : Nat} {off : Int} {x y : Int32} (hc : gC g = cc) (d : decode cc pc = .ok (.if_icmp .ge off, 3)) (ht : (pc : Int) + off = (pt : Int)) (hd : y ≤ x) (k : V g h pt lv rest) : V g h pc lv (.int y :: .int x :: rest) :=
  v_op hc (fun hx hb L k => lv_icmp_ge hx hb d ht (fun _ => k) (fun z => absurd hd z)) k
theorem v_icmp_geF {g : CT} {h : AH} {pc : Nat} {lv : List (Nat × Value)} {rest : List Value} {cc : ByteArray} {pf : Nat} {off : Int} {pt : Nat} {x y : Int32} (hc : gC g = cc) (d : decode cc pc = .ok (.if_icmp .ge off, 3)) (hp : pc + 3 = pf) (ht : (pc : Int) + off = (pt : Int)) (hd : ¬ (y ≤ x)) (k : V g h pf lv rest) : V g h pc lv (.int y :: .int x :: rest) := by
  subst hp
  exact v_op hc (fun hx hb L k => lv_icmp_ge hx hb d ht (fun z => absurd z hd) (fun _ => k)) k
theorem v_if_gt {g : CT} {h : AH} {pc : Nat} {lv : List (Nat × Value)} {rest : List Value} {cc : ByteArray} {pt pf : Nat} {off : Int} {x : Int32} {β : Type} {X Y : Option β} {o : β} (hc : gC g = cc) (d : decode cc pc = .ok (.ifCond .gt off, 3)) (hp : pc + 3 = pf) (ht : (pc : Int) + off = (pt : Int)) (hf : (if 0 < x then X else Y) = some o) (kt : 0 < x → X = some o → V g h pt lv rest) (kf : ¬ 0 < x → Y = some o → V g h pf lv rest) : V g h pc lv (.int x :: rest) := by
  subst hp
  have kt := fun z => kt z ((ite_of hf).1 z)
  have kf := fun z => kf z ((ite_of hf).2 z)
  exact v_br (cond := 0 < x) hc (fun hx hb kt kf => lv_if_gt hx hb d ht kt kf) kt kf
theorem v_if_gtT {g : CT} {h : AH} {pc : Nat} {lv : List (Nat × Value)} {rest : List Value} {cc : ByteArray} {pt : Nat} {off : Int} {x : Int32} (hc : gC g = cc) (d : decode cc pc = .ok (.ifCond .gt off, 3)) (ht : (pc : Int) + off = (pt : Int)) (hd : 0 < x) (k : V g h pt lv rest) : V g h pc lv (.int x :: rest) :=
  v_op hc (fun hx hb L k => lv_if_gt hx hb d ht (fun _ => k) (fun z => absurd hd z)) k
theorem v_if_gtF {g : CT} {h : AH} {pc : Nat} {lv : List (Nat × Value)} {rest : List Value} {cc : ByteArray} {pf : Nat} {off : Int} {pt : Nat} {x : Int32} (hc : gC g = cc) (d : decode cc pc = .ok (.ifCond .gt off, 3)) (hp : pc + 3 = pf) (ht : (pc : Int) + off = (pt : Int)) (hd : ¬ (0 < x)) (k : V g h pf lv rest) : V g h pc lv (.int x :: rest) := by
  subst hp
  exact v_op hc (fun hx hb L k => lv_if_gt hx hb d ht (fun z => absurd z hd) (fun _ => k)) k
theorem v_icmp_gt {g : CT} {h : AH} {pc : Nat} {lv : List (Nat × Value)} {rest : List Value} {cc : ByteArray} {pt pf : Nat} {off : Int} {x y : Int32} {β : Type} {X Y : Option β} {o : β} (hc : gC g = cc) (d : decode cc pc = .ok (.if_icmp .gt off, 3)) (hp : pc + 3 = pf) (ht : (pc : Int) + off = (pt : Int)) (hf : (if y < x then X else Y) = some o) (kt : y < x → X = some o → V g h pt lv rest) (kf : ¬ y < x → Y = some o → V g h pf lv rest) : V g h pc lv (.int y :: .int x :: rest) := by
  subst hp
  have kt := fun z => kt z ((ite_of hf).1 z)
  have kf := fun z => kf z ((ite_of hf).2 z)
  exact v_br (cond := y < x) hc (fun hx hb kt kf => lv_icmp_gt hx hb d ht kt kf) kt kf
theorem v_icmp_gtT {g : CT} {h : AH} {pc : Nat} {lv : List (Nat × Value)} {rest : List Value} {cc : ByteArray} {pt : Nat} {off : Int} {x y : Int32} (hc : gC g = cc) (d : decode cc pc = .ok (.if_icmp .gt off, 3)) (ht : (pc : Int) + off = (pt : Int)) (hd : y < x) (k : V g h pt lv rest) : V g h pc lv (.int y :: .int x :: rest) :=
  v_op hc (fun hx hb L k => lv_icmp_gt hx hb d ht (fun _ => k) (fun z => absurd hd z)) k
theorem v_icmp_gtF {g : CT} {h : AH} {pc : Nat} {lv : List (Nat × Value)} {rest : List Value} {cc : ByteArray} {pf : Nat} {off : Int} {pt : Nat} {x y : Int32} (hc : gC g = cc) (d : decode cc pc = .ok (.if_icmp .gt off, 3)) (hp : pc + 3 = pf) (ht : (pc : Int) + off = (pt : Int)) (hd : ¬ (y < x)) (k : V g h pf lv rest) : V g h pc lv (.int y :: .int x :: rest) := by
  subst hp
  exact v_op hc (fun hx hb L k => lv_icmp_gt hx hb d ht (fun z => absurd z hd) (fun _ => k)) k
theorem v_if_le {g : CT} {h : AH} {pc : Nat} {lv : List (Nat × Value)} {rest : List Value} {cc : ByteArray} {pt pf : Nat} {off : Int} {x : Int32} {β : Type} {X Y : Option β} {o : β} (hc : gC g = cc) (d : decode cc pc = .ok (.ifCond .le off, 3)) (hp : pc + 3 = pf) (ht : (pc : Int) + off = (pt : Int)) (hf : (if x ≤ 0 then X else Y) = some o) (kt : x ≤ 0 → X = some o → V g h pt lv rest) (kf : ¬ x ≤ 0 → Y = some o → V g h pf lv rest) : V g h pc lv (.int x :: rest) := by
  subst hp
  have kt := fun z => kt z ((ite_of hf).1 z)
  have kf := fun z => kf z ((ite_of hf).2 z)
  exact v_br (cond := x ≤ 0) hc (fun hx hb kt kf => lv_if_le hx hb d ht kt kf) kt kf
theorem v_if_leT {g : CT} {h : AH} {pc : Nat} {lv : List (Nat × Value)} {rest : List Value} {cc : ByteArray} {pt : Nat} {off : Int} {x : Int32} (hc : gC g = cc) (d : decode cc pc = .ok (.ifCond .le off, 3)) (ht : (pc : Int) + off = (pt : Int)) (hd : x ≤ 0) (k : V g h pt lv rest) : V g h pc lv (.int x :: rest) :=
  v_op hc (fun hx hb L k => lv_if_le hx hb d ht (fun _ => k) (fun z => absurd hd z)) k
theorem v_if_leF {g : CT} {h : AH} {pc : Nat} {lv : List (Nat × Value)} {rest : List Value} {cc : ByteArray} {pf : Nat} {off : Int} {pt : Nat} {x : Int32} (hc : gC g = cc) (d : decode cc pc = .ok (.ifCond .le off, 3)) (hp : pc + 3 = pf) (ht : (pc : Int) + off = (pt : Int)) (hd : ¬ (x ≤ 0)) (k : V g h pf lv rest) : V g h pc lv (.int x :: rest) := by
  subst hp
  exact v_op hc (fun hx hb L k => lv_if_le hx hb d ht (fun z => absurd z hd) (fun _ => k)) k
theorem v_icmp_le {g : CT} {h : AH} {pc : Nat} {lv : List (Nat × Value)} {rest : List Value} {cc : ByteArray} {pt pf : Nat} {off : Int} {x y : Int32} {β : Type} {X Y : Option β} {o : β} (hc : gC g = cc) (d : decode cc pc = .ok (.if_icmp .le off, 3)) (hp : pc + 3 = pf) (ht : (pc : Int) + off = (pt : Int)) (hf : (if x ≤ y then X else Y) = some o) (kt : x ≤ y → X = some o → V g h pt lv rest) (kf : ¬ x ≤ y → Y = some o → V g h pf lv rest) : V g h pc lv (.int y :: .int x :: rest) := by
  subst hp
  have kt := fun z => kt z ((ite_of hf).1 z)
  have kf := fun z => kf z ((ite_of hf).2 z)
  exact v_br (cond := x ≤ y) hc (fun hx hb kt kf => lv_icmp_le hx hb d ht kt kf) kt kf
theorem v_icmp_leT {g : CT} {h : AH} {pc : Nat} {lv : List (Nat × Value)} {rest : List Value} {cc : ByteArray} {pt : Nat} {off : Int} {x y : Int32} (hc : gC g = cc) (d : decode cc pc = .ok (.if_icmp .le off, 3)) (ht : (pc : Int) + off = (pt : Int)) (hd : x ≤ y) (k : V g h pt lv rest) : V g h pc lv (.int y :: .int x :: rest) :=
  v_op hc (fun hx hb L k => lv_icmp_le hx hb d ht (fun _ => k) (fun z => absurd hd z)) k
theorem v_icmp_leF {g : CT} {h : AH} {pc : Nat} {lv : List (Nat × Value)} {rest : List Value} {cc : ByteArray} {pf : Nat} {off : Int} {pt : Nat} {x y : Int32} (hc : gC g = cc) (d : decode cc pc = .ok (.if_icmp .le off, 3)) (hp : pc + 3 = pf) (ht : (pc : Int) + off = (pt : Int)) (hd : ¬ (x ≤ y)) (k : V g h pf lv rest) : V g h pc lv (.int y :: .int x :: rest) := by
  subst hp
  exact v_op hc (fun hx hb L k => lv_icmp_le hx hb d ht (fun z => absurd z hd) (fun _ => k)) k
theorem v_goto {g : CT} {h : AH} {pc : Nat} {lv : List (Nat × Value)} {rest : List Value} {cc : ByteArray} {pt : Nat} {off : Int} (hc : gC g = cc) (d : decode cc pc = .ok (.goto off, 3)) (ht : (pc : Int) + off = (pt : Int)) (k : V g h pt lv rest) : V g h pc lv rest :=
  v_op hc (fun hx hb L k => lv_goto hx hb d ht k) k
theorem v_ifnull {g : CT} {h : AH} {pc pc' : Nat} {lv : List (Nat × Value)} {rest : List Value} {cc : ByteArray} (hc : gC g = cc) {off : Int} {x : Nat} (d : decode cc pc = .ok (.ifnull off, 3)) (hp : pc + 3 = pc')  (k : V g h pc' lv (rest)) : V g h pc lv (.ref x :: rest) := by
  subst hp
  exact v_op hc (fun hx hb L k => lv_ifnull hx hb d  k) k
theorem v_ifnonnullN {g : CT} {h : AH} {pc pc' : Nat} {lv : List (Nat × Value)} {rest : List Value} {cc : ByteArray} (hc : gC g = cc) {off : Int} (d : decode cc pc = .ok (.ifnonnull off, 3)) (hp : pc + 3 = pc')  (k : V g h pc' lv (rest)) : V g h pc lv (.null :: rest) := by
  subst hp
  exact v_op hc (fun hx hb L k => lv_ifnonnullN hx hb d  k) k
theorem v_ifnullN {g : CT} {h : AH} {pc : Nat} {lv : List (Nat × Value)} {rest : List Value} {cc : ByteArray} {pt : Nat} {off : Int} {x : Nat} (hc : gC g = cc) (d : decode cc pc = .ok (.ifnull off, 3)) (ht : (pc : Int) + off = (pt : Int)) (k : V g h pt lv rest) : V g h pc lv (.null :: rest) :=
  v_op hc (fun hx hb L k => lv_ifnullN hx hb d ht k) k
theorem v_ifnonnull {g : CT} {h : AH} {pc : Nat} {lv : List (Nat × Value)} {rest : List Value} {cc : ByteArray} {pt : Nat} {off : Int} {x : Nat} (hc : gC g = cc) (d : decode cc pc = .ok (.ifnonnull off, 3)) (ht : (pc : Int) + off = (pt : Int)) (k : V g h pt lv rest) : V g h pc lv (.ref x :: rest) :=
  v_op hc (fun hx hb L k => lv_ifnonnull hx hb d ht k) k
theorem v_acmp_eq {g : CT} {h : AH} {pc : Nat} {lv : List (Nat × Value)} {rest : List Value} {cc : ByteArray} {pt pf : Nat} {off : Int} {x y : Nat} {β : Type} {X Y : Option β} {o : β} (hc : gC g = cc) (d : decode cc pc = .ok (.if_acmp .eq off, 3)) (hp : pc + 3 = pf) (ht : (pc : Int) + off = (pt : Int)) (hf : (if x = y then X else Y) = some o) (kt : x = y → X = some o → V g h pt lv rest) (kf : ¬ x = y → Y = some o → V g h pf lv rest) : V g h pc lv (.ref y :: .ref x :: rest) := by
  subst hp
  have kt := fun z => kt z ((ite_of hf).1 z)
  have kf := fun z => kf z ((ite_of hf).2 z)
  exact v_br (cond := x = y) hc (fun hx hb kt kf => lv_acmp_eq (rx := some x) (ry := some y) hx hb d ht (fun z => kt (Option.some.inj z)) (fun z => kf (fun e => z (by rw [e])))) kt kf
theorem v_acmp_ne {g : CT} {h : AH} {pc : Nat} {lv : List (Nat × Value)} {rest : List Value} {cc : ByteArray} {pt pf : Nat} {off : Int} {x y : Nat} {β : Type} {X Y : Option β} {o : β} (hc : gC g = cc) (d : decode cc pc = .ok (.if_acmp .ne off, 3)) (hp : pc + 3 = pf) (ht : (pc : Int) + off = (pt : Int)) (hf : (if x = y then X else Y) = some o) (kt : x = y → X = some o → V g h pf lv rest) (kf : ¬ x = y → Y = some o → V g h pt lv rest) : V g h pc lv (.ref y :: .ref x :: rest) := by
  subst hp
  have kt := fun z => kt z ((ite_of hf).1 z)
  have kf := fun z => kf z ((ite_of hf).2 z)
  exact v_br (cond := x = y) hc (fun hx hb kt kf => lv_acmp_ne (rx := some x) (ry := some y) hx hb d ht (fun z => kf (fun e => z (by rw [e]))) (fun z => kt (Option.some.inj z))) kt kf
theorem v_castN {g : CT} {h : AH} {pc pc' : Nat} {lv : List (Nat × Value)} {rest : List Value} {cc : ByteArray} (hc : gC g = cc) {index : Nat} (d : decode cc pc = .ok (.checkcast index, 3)) (hp : pc + 3 = pc')  (k : V g h pc' lv (.null :: rest)) : V g h pc lv (.null :: rest) := by
  subst hp
  exact v_op hc (fun hx hb L k => lv_castN hx hb d  k) k
theorem v_instN {g : CT} {h : AH} {pc pc' : Nat} {lv : List (Nat × Value)} {rest : List Value} {cc : ByteArray} (hc : gC g = cc) {index : Nat} (d : decode cc pc = .ok (.instanceof index, 3)) (hp : pc + 3 = pc')  (k : V g h pc' lv (.int 0 :: rest)) : V g h pc lv (.null :: rest) := by
  subst hp
  exact v_op hc (fun hx hb L k => lv_instN hx hb d  k) k
theorem v_lookup {g : CT} {h : AH} {pc : Nat} {lv : List (Nat × Value)} {rest : List Value} {cc : ByteArray} {dflt : Int} {ps : Array (Int × Int)} {len : Nat} {x : Int32} {off : Int} {pt : Nat} (hc : gC g = cc) (d : decode cc pc = .ok (.lookupswitch dflt ps, len)) (hp : (ps.toList.zip (ps.toList.drop 1)).all (fun (a, next) => a.1 < next.1) = true) (ho : Op.lookupswitch.offset ps.toList dflt x.toInt = off) (ht : (pc : Int) + off = (pt : Int)) (k : V g h pt lv rest) : V g h pc lv (.int x :: rest) :=
  v_op hc (fun hx hb L k => lv_lookup hx hb d hp ho ht k) k
theorem v_tblO {g : CT} {h : AH} {pc : Nat} {lv : List (Nat × Value)} {rest : List Value} {cc : ByteArray} {dflt lo hi : Int} {offs : Array Int} {len : Nat} {x : Int32} {pt : Nat} (hc : gC g = cc) (d : decode cc pc = .ok (.tableswitch dflt lo hi offs, len)) (ho : x.toInt < lo ∨ hi < x.toInt) (ht : (pc : Int) + dflt = (pt : Int)) (k : V g h pt lv rest) : V g h pc lv (.int x :: rest) :=
  v_op hc (fun hx hb L k => lv_tableOut hx hb d ho ht k) k
theorem v_tblI {g : CT} {h : AH} {pc : Nat} {lv : List (Nat × Value)} {rest : List Value} {cc : ByteArray} {dflt lo hi : Int} {offs : Array Int} {len : Nat} {x : Int32} {off : Int} {pt : Nat} (hc : gC g = cc) (d : decode cc pc = .ok (.tableswitch dflt lo hi offs, len)) (h1 : ¬ x.toInt < lo) (h2 : ¬ hi < x.toInt) (ho : offs[(x.toInt - lo).toNat]? = some off) (ht : (pc : Int) + off = (pt : Int)) (k : V g h pt lv rest) : V g h pc lv (.int x :: rest) :=
  v_op hc (fun hx hb L k => lv_tableIn hx hb d h1 h2 ho ht k) k
theorem v_pick {g : CT} {h : AH} {pc : Nat} {lv lv' : List (Nat × Value)} {st : List Value} (ks : List Nat) (hl : lv_pick lv ks = lv') (k : V g h pc lv' st) : V g h pc lv st :=
  ⟨k.1, fun h0 p e s m below meth c H locs ls C w S L => k.2 h0 p e s m below meth c H locs ls C w S (lv_sub L ks hl)⟩
