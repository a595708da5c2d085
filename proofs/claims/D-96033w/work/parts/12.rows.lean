set_option maxRecDepth 100000
section GR
variable {X : Cx} {cc : ByteArray} {own : String} {ret : Option FieldType} {y0 : MethodName} {nL F Lo : Nat} {Pst : Option Value → (Nat → Nat → Nat) → St → Prop} {ad : Nat → Nat → Nat} {χ : St} {pc : Nat} {lv lv2 : List (Nat × Value)} {st : List Value}
theorem g_iconst (h : Ok X cc own ret y0 nL F Lo Pst) {n : Int} {v : Int32} (hd : decode cc pc = .ok (.iconst n, 1)) (hv : Int32.ofInt n = v) (k : G X ad χ (pc + 1) lv (.int v :: st)) : G X ad χ pc lv (st) :=
  fun ls H locs cells slots hl hI => lv_iconst h.1 h.2.1 hd hv (k ls H locs cells slots hl hI)
theorem g_bipush (h : Ok X cc own ret y0 nL F Lo Pst) {n : Int} {v : Int32} (hd : decode cc pc = .ok (.bipush n, 2)) (hv : (Int8.ofInt n).toInt32 = v) (k : G X ad χ (pc + 2) lv (.int v :: st)) : G X ad χ pc lv (st) :=
  fun ls H locs cells slots hl hI => lv_bipush h.1 h.2.1 hd hv (k ls H locs cells slots hl hI)
theorem g_sipush (h : Ok X cc own ret y0 nL F Lo Pst) {n : Int} {v : Int32} (hd : decode cc pc = .ok (.sipush n, 3)) (hv : (Int16.ofInt n).toInt32 = v) (k : G X ad χ (pc + 3) lv (.int v :: st)) : G X ad χ pc lv (st) :=
  fun ls H locs cells slots hl hI => lv_sipush h.1 h.2.1 hd hv (k ls H locs cells slots hl hI)
theorem g_lconst (h : Ok X cc own ret y0 nL F Lo Pst) {n : Fin 2} {v : Int64} (hd : decode cc pc = .ok (.lconst n, 1)) (hv : Int64.ofNat (n : Nat) = v) (k : G X ad χ (pc + 1) lv (.long v :: st)) : G X ad χ pc lv (st) :=
  fun ls H locs cells slots hl hI => lv_lconst h.1 h.2.1 hd hv (k ls H locs cells slots hl hI)
theorem g_iload_n (h : Ok X cc own ret y0 nL F Lo Pst) {n : Fin 4} {i : Nat} {x : Int32} (q : Nat) (hd : decode cc pc = .ok (.iload_n n, 1)) (hi : (n : Nat) = i) (hq : lv[q]? = some (i, .int x)) (k : G X ad χ (pc + 1) lv (.int x :: st)) : G X ad χ pc lv (st) :=
  fun ls H locs cells slots hl hI => lv_iload_n h.1 h.2.1 hd hi (lv_at hl q hq) (k ls H locs cells slots hl hI)
theorem g_lload_n (h : Ok X cc own ret y0 nL F Lo Pst) {n : Fin 4} {i : Nat} {x : Int64} (q : Nat) (hd : decode cc pc = .ok (.lload_n n, 1)) (hi : (n : Nat) = i) (hq : lv[q]? = some (i, .long x)) (k : G X ad χ (pc + 1) lv (.long x :: st)) : G X ad χ pc lv (st) :=
  fun ls H locs cells slots hl hI => lv_lload_n h.1 h.2.1 hd hi (lv_at hl q hq) (k ls H locs cells slots hl hI)
theorem g_aload_n (h : Ok X cc own ret y0 nL F Lo Pst) {n : Fin 4} {i : Nat} {x : Nat} (q : Nat) (hd : decode cc pc = .ok (.aload_n n, 1)) (hi : (n : Nat) = i) (hq : lv[q]? = some (i, .ref x)) (k : G X ad χ (pc + 1) lv (.ref x :: st)) : G X ad χ pc lv (st) :=
  fun ls H locs cells slots hl hI => lv_aload_n h.1 h.2.1 hd hi (lv_at hl q hq) (k ls H locs cells slots hl hI)
theorem g_iload (h : Ok X cc own ret y0 nL F Lo Pst) {i : Nat} {x : Int32} (q : Nat) (hd : decode cc pc = .ok (.iload i, 2)) (hq : lv[q]? = some (i, .int x)) (k : G X ad χ (pc + 2) lv (.int x :: st)) : G X ad χ pc lv (st) :=
  fun ls H locs cells slots hl hI => lv_iload h.1 h.2.1 hd (lv_at hl q hq) (k ls H locs cells slots hl hI)
theorem g_lload (h : Ok X cc own ret y0 nL F Lo Pst) {i : Nat} {x : Int64} (q : Nat) (hd : decode cc pc = .ok (.lload i, 2)) (hq : lv[q]? = some (i, .long x)) (k : G X ad χ (pc + 2) lv (.long x :: st)) : G X ad χ pc lv (st) :=
  fun ls H locs cells slots hl hI => lv_lload h.1 h.2.1 hd (lv_at hl q hq) (k ls H locs cells slots hl hI)
theorem g_aload (h : Ok X cc own ret y0 nL F Lo Pst) {i : Nat} {x : Nat} (q : Nat) (hd : decode cc pc = .ok (.aload i, 2)) (hq : lv[q]? = some (i, .ref x)) (k : G X ad χ (pc + 2) lv (.ref x :: st)) : G X ad χ pc lv (st) :=
  fun ls H locs cells slots hl hI => lv_aload h.1 h.2.1 hd (lv_at hl q hq) (k ls H locs cells slots hl hI)
theorem g_aload_nN (h : Ok X cc own ret y0 nL F Lo Pst) {n : Fin 4} {i : Nat} (q : Nat) (hd : decode cc pc = .ok (.aload_n n, 1)) (hi : (n : Nat) = i) (hq : lv[q]? = some (i, .null)) (k : G X ad χ (pc + 1) lv (.null :: st)) : G X ad χ pc lv (st) :=
  fun ls H locs cells slots hl hI => lv_aload_nN h.1 h.2.1 hd hi (lv_at hl q hq) (k ls H locs cells slots hl hI)
theorem g_istore_n (h : Ok X cc own ret y0 nL F Lo Pst) {n : Fin 4} {i : Nat} {x : Int32} (hd : decode cc pc = .ok (.istore_n n, 1)) (hi : (n : Nat) = i) (hn : i < nL) (hl2 : (i, Value.int x) :: lv.filter (fun q => !(q.1 == i) && !(q.1 + 1 == i && q.2.category == 2)) = lv2) (k : G X ad χ (pc + 1) lv2 st) : G X ad χ pc lv (.int x :: st) :=
  fun ls H locs cells slots hl hI => lv_istore_n h.1 h.2.1 hd hi hl (h.2.2.2.2.1.2.symm ▸ hn) hl2 (fun ls hl => k ls H locs cells slots hl hI)
theorem g_istore (h : Ok X cc own ret y0 nL F Lo Pst) {i : Nat} {x : Int32} (hd : decode cc pc = .ok (.istore i, 2)) (hn : i < nL) (hl2 : (i, Value.int x) :: lv.filter (fun q => !(q.1 == i) && !(q.1 + 1 == i && q.2.category == 2)) = lv2) (k : G X ad χ (pc + 2) lv2 st) : G X ad χ pc lv (.int x :: st) :=
  fun ls H locs cells slots hl hI => lv_istore h.1 h.2.1 hd hl (h.2.2.2.2.1.2.symm ▸ hn) hl2 (fun ls hl => k ls H locs cells slots hl hI)
theorem g_astore_n (h : Ok X cc own ret y0 nL F Lo Pst) {n : Fin 4} {i : Nat} {x : Nat} (hd : decode cc pc = .ok (.astore_n n, 1)) (hi : (n : Nat) = i) (hn : i < nL) (hl2 : (i, Value.ref x) :: lv.filter (fun q => !(q.1 == i) && !(q.1 + 1 == i && q.2.category == 2)) = lv2) (k : G X ad χ (pc + 1) lv2 st) : G X ad χ pc lv (.ref x :: st) :=
  fun ls H locs cells slots hl hI => lv_astore_n h.1 h.2.1 hd hi hl (h.2.2.2.2.1.2.symm ▸ hn) hl2 (fun ls hl => k ls H locs cells slots hl hI)
theorem g_astore (h : Ok X cc own ret y0 nL F Lo Pst) {i : Nat} {x : Nat} (hd : decode cc pc = .ok (.astore i, 2)) (hn : i < nL) (hl2 : (i, Value.ref x) :: lv.filter (fun q => !(q.1 == i) && !(q.1 + 1 == i && q.2.category == 2)) = lv2) (k : G X ad χ (pc + 2) lv2 st) : G X ad χ pc lv (.ref x :: st) :=
  fun ls H locs cells slots hl hI => lv_astore h.1 h.2.1 hd hl (h.2.2.2.2.1.2.symm ▸ hn) hl2 (fun ls hl => k ls H locs cells slots hl hI)
theorem g_lstore_n (h : Ok X cc own ret y0 nL F Lo Pst) {n : Fin 4} {i : Nat} {x : Int64} (hd : decode cc pc = .ok (.lstore_n n, 1)) (hi : (n : Nat) = i) (hn : i + 1 < nL) (hl2 : (i, Value.long x) :: lv.filter (fun q => !(q.1 == i) && (!(q.1 == i + 1) && !(q.1 + 1 == i && q.2.category == 2))) = lv2) (k : G X ad χ (pc + 1) lv2 st) : G X ad χ pc lv (.long x :: st) :=
  fun ls H locs cells slots hl hI => lv_lstore_n h.1 h.2.1 hd hi hl (h.2.2.2.2.1.2.symm ▸ hn) hl2 (fun ls hl => k ls H locs cells slots hl hI)
theorem g_lstore (h : Ok X cc own ret y0 nL F Lo Pst) {i : Nat} {x : Int64} (hd : decode cc pc = .ok (.lstore i, 2)) (hn : i + 1 < nL) (hl2 : (i, Value.long x) :: lv.filter (fun q => !(q.1 == i) && (!(q.1 == i + 1) && !(q.1 + 1 == i && q.2.category == 2))) = lv2) (k : G X ad χ (pc + 2) lv2 st) : G X ad χ pc lv (.long x :: st) :=
  fun ls H locs cells slots hl hI => lv_lstore h.1 h.2.1 hd hl (h.2.2.2.2.1.2.symm ▸ hn) hl2 (fun ls hl => k ls H locs cells slots hl hI)
theorem g_iinc (h : Ok X cc own ret y0 nL F Lo Pst) {i : Nat} {n : Int} {x v : Int32} (q : Nat) (hd : decode cc pc = .ok (.iinc i n, 3)) (hq : lv[q]? = some (i, .int x)) (hv : x + Int32.ofInt n = v) (hn : i < nL) (hl2 : (i, Value.int v) :: lv.filter (fun q => !(q.1 == i) && !(q.1 + 1 == i && q.2.category == 2)) = lv2) (k : G X ad χ (pc + 3) lv2 st) : G X ad χ pc lv st :=
  fun ls H locs cells slots hl hI => lv_iinc h.1 h.2.1 hd hl hq hv (h.2.2.2.2.1.2.symm ▸ hn) hl2 (fun ls hl => k ls H locs cells slots hl hI)
theorem g_iadd (h : Ok X cc own ret y0 nL F Lo Pst) {a b : Int32} (hd : decode cc pc = .ok (.iadd, 1)) (k : G X ad χ (pc + 1) lv (.int (a + b) :: st)) : G X ad χ pc lv (.int b :: .int a :: st) :=
  fun ls H locs cells slots hl hI => lv_iadd h.1 h.2.1 hd (k ls H locs cells slots hl hI)
theorem g_isub (h : Ok X cc own ret y0 nL F Lo Pst) {a b : Int32} (hd : decode cc pc = .ok (.isub, 1)) (k : G X ad χ (pc + 1) lv (.int (a - b) :: st)) : G X ad χ pc lv (.int b :: .int a :: st) :=
  fun ls H locs cells slots hl hI => lv_isub h.1 h.2.1 hd (k ls H locs cells slots hl hI)
theorem g_imul (h : Ok X cc own ret y0 nL F Lo Pst) {a b : Int32} (hd : decode cc pc = .ok (.imul, 1)) (k : G X ad χ (pc + 1) lv (.int (a * b) :: st)) : G X ad χ pc lv (.int b :: .int a :: st) :=
  fun ls H locs cells slots hl hI => lv_imul h.1 h.2.1 hd (k ls H locs cells slots hl hI)
theorem g_iand (h : Ok X cc own ret y0 nL F Lo Pst) {a b : Int32} (hd : decode cc pc = .ok (.iand, 1)) (k : G X ad χ (pc + 1) lv (.int (a &&& b) :: st)) : G X ad χ pc lv (.int b :: .int a :: st) :=
  fun ls H locs cells slots hl hI => lv_iand h.1 h.2.1 hd (k ls H locs cells slots hl hI)
theorem g_ior (h : Ok X cc own ret y0 nL F Lo Pst) {a b : Int32} (hd : decode cc pc = .ok (.ior, 1)) (k : G X ad χ (pc + 1) lv (.int (a ||| b) :: st)) : G X ad χ pc lv (.int b :: .int a :: st) :=
  fun ls H locs cells slots hl hI => lv_ior h.1 h.2.1 hd (k ls H locs cells slots hl hI)
theorem g_ixor (h : Ok X cc own ret y0 nL F Lo Pst) {a b : Int32} (hd : decode cc pc = .ok (.ixor, 1)) (k : G X ad χ (pc + 1) lv (.int (a ^^^ b) :: st)) : G X ad χ pc lv (.int b :: .int a :: st) :=
  fun ls H locs cells slots hl hI => lv_ixor h.1 h.2.1 hd (k ls H locs cells slots hl hI)
theorem g_ladd (h : Ok X cc own ret y0 nL F Lo Pst) {a b : Int64} (hd : decode cc pc = .ok (.ladd, 1)) (k : G X ad χ (pc + 1) lv (.long (a + b) :: st)) : G X ad χ pc lv (.long b :: .long a :: st) :=
  fun ls H locs cells slots hl hI => lv_ladd h.1 h.2.1 hd (k ls H locs cells slots hl hI)
theorem g_lsub (h : Ok X cc own ret y0 nL F Lo Pst) {a b : Int64} (hd : decode cc pc = .ok (.lsub, 1)) (k : G X ad χ (pc + 1) lv (.long (a - b) :: st)) : G X ad χ pc lv (.long b :: .long a :: st) :=
  fun ls H locs cells slots hl hI => lv_lsub h.1 h.2.1 hd (k ls H locs cells slots hl hI)
theorem g_lmul (h : Ok X cc own ret y0 nL F Lo Pst) {a b : Int64} (hd : decode cc pc = .ok (.lmul, 1)) (k : G X ad χ (pc + 1) lv (.long (a * b) :: st)) : G X ad χ pc lv (.long b :: .long a :: st) :=
  fun ls H locs cells slots hl hI => lv_lmul h.1 h.2.1 hd (k ls H locs cells slots hl hI)
theorem g_land (h : Ok X cc own ret y0 nL F Lo Pst) {a b : Int64} (hd : decode cc pc = .ok (.land, 1)) (k : G X ad χ (pc + 1) lv (.long (a &&& b) :: st)) : G X ad χ pc lv (.long b :: .long a :: st) :=
  fun ls H locs cells slots hl hI => lv_land h.1 h.2.1 hd (k ls H locs cells slots hl hI)
theorem g_lor (h : Ok X cc own ret y0 nL F Lo Pst) {a b : Int64} (hd : decode cc pc = .ok (.lor, 1)) (k : G X ad χ (pc + 1) lv (.long (a ||| b) :: st)) : G X ad χ pc lv (.long b :: .long a :: st) :=
  fun ls H locs cells slots hl hI => lv_lor h.1 h.2.1 hd (k ls H locs cells slots hl hI)
theorem g_idiv (h : Ok X cc own ret y0 nL F Lo Pst) {a b : Int32} (hd : decode cc pc = .ok (.idiv, 1)) (hne : ¬ b = 0) (k : G X ad χ (pc + 1) lv (.int (a / b) :: st)) : G X ad χ pc lv (.int b :: .int a :: st) :=
  fun ls H locs cells slots hl hI => lv_idiv h.1 h.2.1 hd hne (k ls H locs cells slots hl hI)
theorem g_irem (h : Ok X cc own ret y0 nL F Lo Pst) {a b : Int32} (hd : decode cc pc = .ok (.irem, 1)) (hne : ¬ b = 0) (k : G X ad χ (pc + 1) lv (.int (a - a / b * b) :: st)) : G X ad χ pc lv (.int b :: .int a :: st) :=
  fun ls H locs cells slots hl hI => lv_irem h.1 h.2.1 hd hne (k ls H locs cells slots hl hI)
theorem g_ldiv (h : Ok X cc own ret y0 nL F Lo Pst) {a b : Int64} (hd : decode cc pc = .ok (.ldiv, 1)) (hne : ¬ b = 0) (k : G X ad χ (pc + 1) lv (.long (a / b) :: st)) : G X ad χ pc lv (.long b :: .long a :: st) :=
  fun ls H locs cells slots hl hI => lv_ldiv h.1 h.2.1 hd hne (k ls H locs cells slots hl hI)
theorem g_lrem (h : Ok X cc own ret y0 nL F Lo Pst) {a b : Int64} (hd : decode cc pc = .ok (.lrem, 1)) (hne : ¬ b = 0) (k : G X ad χ (pc + 1) lv (.long (a - a / b * b) :: st)) : G X ad χ pc lv (.long b :: .long a :: st) :=
  fun ls H locs cells slots hl hI => lv_lrem h.1 h.2.1 hd hne (k ls H locs cells slots hl hI)
theorem g_ineg (h : Ok X cc own ret y0 nL F Lo Pst) {a : Int32} (hd : decode cc pc = .ok (.ineg, 1)) (k : G X ad χ (pc + 1) lv (.int (-a) :: st)) : G X ad χ pc lv (.int a :: st) :=
  fun ls H locs cells slots hl hI => lv_ineg h.1 h.2.1 hd (k ls H locs cells slots hl hI)
theorem g_ishl (h : Ok X cc own ret y0 nL F Lo Pst) {a b : Int32} (hd : decode cc pc = .ok (.ishl, 1)) (k : G X ad χ (pc + 1) lv (.int (a <<< (b &&& 31)) :: st)) : G X ad χ pc lv (.int b :: .int a :: st) :=
  fun ls H locs cells slots hl hI => lv_ishl h.1 h.2.1 hd (k ls H locs cells slots hl hI)
theorem g_ishr (h : Ok X cc own ret y0 nL F Lo Pst) {a b : Int32} (hd : decode cc pc = .ok (.ishr, 1)) (k : G X ad χ (pc + 1) lv (.int (a >>> (b &&& 31)) :: st)) : G X ad χ pc lv (.int b :: .int a :: st) :=
  fun ls H locs cells slots hl hI => lv_ishr h.1 h.2.1 hd (k ls H locs cells slots hl hI)
theorem g_iushr (h : Ok X cc own ret y0 nL F Lo Pst) {a b : Int32} (hd : decode cc pc = .ok (.iushr, 1)) (k : G X ad χ (pc + 1) lv (.int (a.toUInt32 >>> (b.toUInt32 &&& Int32.toUInt32 31)).toInt32 :: st)) : G X ad χ pc lv (.int b :: .int a :: st) :=
  fun ls H locs cells slots hl hI => lv_iushr h.1 h.2.1 hd rfl (k ls H locs cells slots hl hI)
theorem g_lshl (h : Ok X cc own ret y0 nL F Lo Pst) {a : Int64} {b : Int32} (hd : decode cc pc = .ok (.lshl, 1)) (k : G X ad χ (pc + 1) lv (.long (a <<< (b.toInt64 &&& 63)) :: st)) : G X ad χ pc lv (.int b :: .long a :: st) :=
  fun ls H locs cells slots hl hI => lv_lshl h.1 h.2.1 hd rfl (k ls H locs cells slots hl hI)
theorem g_i2l (h : Ok X cc own ret y0 nL F Lo Pst) {a : Int32} (hd : decode cc pc = .ok (.i2l, 1)) (k : G X ad χ (pc + 1) lv (.long a.toInt64 :: st)) : G X ad χ pc lv (.int a :: st) :=
  fun ls H locs cells slots hl hI => lv_i2l h.1 h.2.1 hd rfl (k ls H locs cells slots hl hI)
theorem g_l2i (h : Ok X cc own ret y0 nL F Lo Pst) {a : Int64} (hd : decode cc pc = .ok (.l2i, 1)) (k : G X ad χ (pc + 1) lv (.int a.toInt32 :: st)) : G X ad χ pc lv (.long a :: st) :=
  fun ls H locs cells slots hl hI => lv_l2i h.1 h.2.1 hd rfl (k ls H locs cells slots hl hI)
theorem g_i2b (h : Ok X cc own ret y0 nL F Lo Pst) {a : Int32} (hd : decode cc pc = .ok (.i2b, 1)) (k : G X ad χ (pc + 1) lv (.int a.toInt8.toInt32 :: st)) : G X ad χ pc lv (.int a :: st) :=
  fun ls H locs cells slots hl hI => lv_i2b h.1 h.2.1 hd rfl (k ls H locs cells slots hl hI)
theorem g_i2s (h : Ok X cc own ret y0 nL F Lo Pst) {a : Int32} (hd : decode cc pc = .ok (.i2s, 1)) (k : G X ad χ (pc + 1) lv (.int a.toInt16.toInt32 :: st)) : G X ad χ pc lv (.int a :: st) :=
  fun ls H locs cells slots hl hI => lv_i2s h.1 h.2.1 hd rfl (k ls H locs cells slots hl hI)
theorem g_lcmp (h : Ok X cc own ret y0 nL F Lo Pst) {a b : Int64} (hd : decode cc pc = .ok (.lcmp, 1)) (k : G X ad χ (pc + 1) lv (.int (lg_cmp a b) :: st)) : G X ad χ pc lv (.long b :: .long a :: st) :=
  fun ls H locs cells slots hl hI => W.lcmp h.1 h.2.1 hd (k ls H locs cells slots hl hI)
theorem g_dup (h : Ok X cc own ret y0 nL F Lo Pst) {v : Value} (hd : decode cc pc = .ok (.dup, 1)) (hv : v.category = 1) (k : G X ad χ (pc + 1) lv (v :: v :: st)) : G X ad χ pc lv (v :: st) :=
  fun ls H locs cells slots hl hI => lv_dup h.1 h.2.1 hd hv (k ls H locs cells slots hl hI)
theorem g_dup2 (h : Ok X cc own ret y0 nL F Lo Pst) {v w : Value} (hd : decode cc pc = .ok (.dup2, 1)) (hv : v.category = 1) (hw : w.category = 1) (k : G X ad χ (pc + 1) lv (v :: w :: v :: w :: st)) : G X ad χ pc lv (v :: w :: st) :=
  fun ls H locs cells slots hl hI => lv_dup2_11 h.1 h.2.1 hd hv hw (k ls H locs cells slots hl hI)
theorem g_pop (h : Ok X cc own ret y0 nL F Lo Pst) {v : Value} (hd : decode cc pc = .ok (.pop, 1)) (hv : v.category = 1) (k : G X ad χ (pc + 1) lv (st)) : G X ad χ pc lv (v :: st) :=
  fun ls H locs cells slots hl hI => lv_pop h.1 h.2.1 hd hv (k ls H locs cells slots hl hI)
theorem g_null (h : Ok X cc own ret y0 nL F Lo Pst) (hd : decode cc pc = .ok (.aconst_null, 1)) (k : G X ad χ (pc + 1) lv (.null :: st)) : G X ad χ pc lv (st) :=
  fun ls H locs cells slots hl hI => lv_null h.1 h.2.1 hd (k ls H locs cells slots hl hI)
theorem g_if_eq (h : Ok X cc own ret y0 nL F Lo Pst) {a : Int32} {off : Int} (tgt : Nat) (hd : decode cc pc = .ok (.ifCond .eq off, 3)) (ht : (pc : Int) + off = (tgt : Int)) (kt : a = 0 → G X ad χ tgt lv st) (kf : ¬ a = 0 → G X ad χ (pc + 3) lv st) : G X ad χ pc lv (.int a :: st) :=
  fun ls H locs cells slots hl hI => lv_if_eq h.1 h.2.1 hd ht (fun z => kt z ls H locs cells slots hl hI) (fun z => kf z ls H locs cells slots hl hI)
theorem g_if_ne (h : Ok X cc own ret y0 nL F Lo Pst) {a : Int32} {off : Int} (tgt : Nat) (hd : decode cc pc = .ok (.ifCond .ne off, 3)) (ht : (pc : Int) + off = (tgt : Int)) (kt : ¬ a = 0 → G X ad χ tgt lv st) (kf : a = 0 → G X ad χ (pc + 3) lv st) : G X ad χ pc lv (.int a :: st) :=
  fun ls H locs cells slots hl hI => lv_if_ne h.1 h.2.1 hd ht (fun z => kt z ls H locs cells slots hl hI) (fun z => kf z ls H locs cells slots hl hI)
theorem g_if_lt (h : Ok X cc own ret y0 nL F Lo Pst) {a : Int32} {off : Int} (tgt : Nat) (hd : decode cc pc = .ok (.ifCond .lt off, 3)) (ht : (pc : Int) + off = (tgt : Int)) (kt : a < 0 → G X ad χ tgt lv st) (kf : ¬ a < 0 → G X ad χ (pc + 3) lv st) : G X ad χ pc lv (.int a :: st) :=
  fun ls H locs cells slots hl hI => lv_if_lt h.1 h.2.1 hd ht (fun z => kt z ls H locs cells slots hl hI) (fun z => kf z ls H locs cells slots hl hI)
theorem g_if_ge (h : Ok X cc own ret y0 nL F Lo Pst) {a : Int32} {off : Int} (tgt : Nat) (hd : decode cc pc = .ok (.ifCond .ge off, 3)) (ht : (pc : Int) + off = (tgt : Int)) (kt : 0 ≤ a → G X ad χ tgt lv st) (kf : ¬ 0 ≤ a → G X ad χ (pc + 3) lv st) : G X ad χ pc lv (.int a :: st) :=
  fun ls H locs cells slots hl hI => lv_if_ge h.1 h.2.1 hd ht (fun z => kt z ls H locs cells slots hl hI) (fun z => kf z ls H locs cells slots hl hI)
theorem g_if_gt (h : Ok X cc own ret y0 nL F Lo Pst) {a : Int32} {off : Int} (tgt : Nat) (hd : decode cc pc = .ok (.ifCond .gt off, 3)) (ht : (pc : Int) + off = (tgt : Int)) (kt : 0 < a → G X ad χ tgt lv st) (kf : ¬ 0 < a → G X ad χ (pc + 3) lv st) : G X ad χ pc lv (.int a :: st) :=
  fun ls H locs cells slots hl hI => lv_if_gt h.1 h.2.1 hd ht (fun z => kt z ls H locs cells slots hl hI) (fun z => kf z ls H locs cells slots hl hI)
theorem g_if_le (h : Ok X cc own ret y0 nL F Lo Pst) {a : Int32} {off : Int} (tgt : Nat) (hd : decode cc pc = .ok (.ifCond .le off, 3)) (ht : (pc : Int) + off = (tgt : Int)) (kt : a ≤ 0 → G X ad χ tgt lv st) (kf : ¬ a ≤ 0 → G X ad χ (pc + 3) lv st) : G X ad χ pc lv (.int a :: st) :=
  fun ls H locs cells slots hl hI => lv_if_le h.1 h.2.1 hd ht (fun z => kt z ls H locs cells slots hl hI) (fun z => kf z ls H locs cells slots hl hI)
theorem g_icmp_eq (h : Ok X cc own ret y0 nL F Lo Pst) {a b : Int32} {off : Int} (tgt : Nat) (hd : decode cc pc = .ok (.if_icmp .eq off, 3)) (ht : (pc : Int) + off = (tgt : Int)) (kt : a = b → G X ad χ tgt lv st) (kf : ¬ a = b → G X ad χ (pc + 3) lv st) : G X ad χ pc lv (.int b :: .int a :: st) :=
  fun ls H locs cells slots hl hI => lv_icmp_eq h.1 h.2.1 hd ht (fun z => kt z ls H locs cells slots hl hI) (fun z => kf z ls H locs cells slots hl hI)
theorem g_icmp_ne (h : Ok X cc own ret y0 nL F Lo Pst) {a b : Int32} {off : Int} (tgt : Nat) (hd : decode cc pc = .ok (.if_icmp .ne off, 3)) (ht : (pc : Int) + off = (tgt : Int)) (kt : ¬ a = b → G X ad χ tgt lv st) (kf : a = b → G X ad χ (pc + 3) lv st) : G X ad χ pc lv (.int b :: .int a :: st) :=
  fun ls H locs cells slots hl hI => lv_icmp_ne h.1 h.2.1 hd ht (fun z => kt z ls H locs cells slots hl hI) (fun z => kf z ls H locs cells slots hl hI)
theorem g_icmp_lt (h : Ok X cc own ret y0 nL F Lo Pst) {a b : Int32} {off : Int} (tgt : Nat) (hd : decode cc pc = .ok (.if_icmp .lt off, 3)) (ht : (pc : Int) + off = (tgt : Int)) (kt : a < b → G X ad χ tgt lv st) (kf : ¬ a < b → G X ad χ (pc + 3) lv st) : G X ad χ pc lv (.int b :: .int a :: st) :=
  fun ls H locs cells slots hl hI => lv_icmp_lt h.1 h.2.1 hd ht (fun z => kt z ls H locs cells slots hl hI) (fun z => kf z ls H locs cells slots hl hI)
theorem g_icmp_ge (h : Ok X cc own ret y0 nL F Lo Pst) {a b : Int32} {off : Int} (tgt : Nat) (hd : decode cc pc = .ok (.if_icmp .ge off, 3)) (ht : (pc : Int) + off = (tgt : Int)) (kt : b ≤ a → G X ad χ tgt lv st) (kf : ¬ b ≤ a → G X ad χ (pc + 3) lv st) : G X ad χ pc lv (.int b :: .int a :: st) :=
  fun ls H locs cells slots hl hI => lv_icmp_ge h.1 h.2.1 hd ht (fun z => kt z ls H locs cells slots hl hI) (fun z => kf z ls H locs cells slots hl hI)
theorem g_icmp_gt (h : Ok X cc own ret y0 nL F Lo Pst) {a b : Int32} {off : Int} (tgt : Nat) (hd : decode cc pc = .ok (.if_icmp .gt off, 3)) (ht : (pc : Int) + off = (tgt : Int)) (kt : b < a → G X ad χ tgt lv st) (kf : ¬ b < a → G X ad χ (pc + 3) lv st) : G X ad χ pc lv (.int b :: .int a :: st) :=
  fun ls H locs cells slots hl hI => lv_icmp_gt h.1 h.2.1 hd ht (fun z => kt z ls H locs cells slots hl hI) (fun z => kf z ls H locs cells slots hl hI)
theorem g_icmp_le (h : Ok X cc own ret y0 nL F Lo Pst) {a b : Int32} {off : Int} (tgt : Nat) (hd : decode cc pc = .ok (.if_icmp .le off, 3)) (ht : (pc : Int) + off = (tgt : Int)) (kt : a ≤ b → G X ad χ tgt lv st) (kf : ¬ a ≤ b → G X ad χ (pc + 3) lv st) : G X ad χ pc lv (.int b :: .int a :: st) :=
  fun ls H locs cells slots hl hI => lv_icmp_le h.1 h.2.1 hd ht (fun z => kt z ls H locs cells slots hl hI) (fun z => kf z ls H locs cells slots hl hI)
theorem g_goto (h : Ok X cc own ret y0 nL F Lo Pst) {off : Int} (tgt : Nat) (hd : decode cc pc = .ok (.goto off, 3)) (ht : (pc : Int) + off = (tgt : Int)) (k : G X ad χ tgt lv st) : G X ad χ pc lv st :=
  fun ls H locs cells slots hl hI => lv_goto h.1 h.2.1 hd ht (k ls H locs cells slots hl hI)
theorem g_tableIn (h : Ok X cc own ret y0 nL F Lo Pst) {dflt lo hi : Int} {offs : Array Int} {len : Nat} {x : Int32} {off : Int} (tgt : Nat) (hd : decode cc pc = .ok (.tableswitch dflt lo hi offs, len)) (h1 : ¬ x.toInt < lo) (h2 : ¬ hi < x.toInt) (ho : offs[(x.toInt - lo).toNat]? = some off) (ht : (pc : Int) + off = (tgt : Int)) (k : G X ad χ tgt lv st) : G X ad χ pc lv (.int x :: st) :=
  fun ls H locs cells slots hl hI => lv_tableIn h.1 h.2.1 hd h1 h2 ho ht (k ls H locs cells slots hl hI)
theorem g_tableOut (h : Ok X cc own ret y0 nL F Lo Pst) {dflt lo hi : Int} {offs : Array Int} {len : Nat} {x : Int32} (tgt : Nat) (hd : decode cc pc = .ok (.tableswitch dflt lo hi offs, len)) (h1 : x.toInt < lo ∨ hi < x.toInt) (ht : (pc : Int) + dflt = (tgt : Int)) (k : G X ad χ tgt lv st) : G X ad χ pc lv (.int x :: st) :=
  fun ls H locs cells slots hl hI => lv_tableOut h.1 h.2.1 hd h1 ht (k ls H locs cells slots hl hI)
theorem g_lookup (h : Ok X cc own ret y0 nL F Lo Pst) {dflt : Int} {ps : Array (Int × Int)} {len : Nat} {x : Int32} {off : Int} (tgt : Nat) (hd : decode cc pc = .ok (.lookupswitch dflt ps, len)) (hp : (ps.toList.zip (ps.toList.drop 1)).all (fun (a, next) => a.1 < next.1) = true) (ho : Op.lookupswitch.offset ps.toList dflt x.toInt = off) (ht : (pc : Int) + off = (tgt : Int)) (k : G X ad χ tgt lv st) : G X ad χ pc lv (.int x :: st) :=
  fun ls H locs cells slots hl hI => lv_lookup h.1 h.2.1 hd hp ho ht (k ls H locs cells slots hl hI)
theorem g_ldc (h : Ok X cc own ret y0 nL F Lo Pst) {index : Nat} {v : Int32} (hc : Jvm.Cond.constant own index v ∈ lw_all) (hd : decode cc pc = .ok (.ldc index, 2)) (k : G X ad χ (pc + 2) lv (.int v :: st)) : G X ad χ pc lv st :=
  fun ls H locs cells slots hl hI => lv_ldc h.1 h.2.1 h.2.2.2.2.2.1 (h.2.2.2.2.2.2.1 _ hc) hd (k ls H locs cells slots hl hI)
theorem g_ldc2 (h : Ok X cc own ret y0 nL F Lo Pst) {index : Nat} {v : Int64} (hc : Jvm.Cond.constantLong own index v ∈ lw_all) (hd : decode cc pc = .ok (.ldc2_w index, 3)) (k : G X ad χ (pc + 3) lv (.long v :: st)) : G X ad χ pc lv st :=
  fun ls H locs cells slots hl hI => lv_ldc2 h.1 h.2.1 h.2.2.2.2.2.1 (h.2.2.2.2.2.2.1 _ hc) hd (k ls H locs cells slots hl hI)
theorem g_ldcw (h : Ok X cc own ret y0 nL F Lo Pst) {index : Nat} {v : Int32} (hc : Jvm.Cond.constant own index v ∈ lw_all) (hd : decode cc pc = .ok (.ldc_w index, 3)) (k : G X ad χ (pc + 3) lv (.int v :: st)) : G X ad χ pc lv st :=
  fun ls H locs cells slots hl hI => lv_ldcw h.1 h.2.1 h.2.2.2.2.2.1 (h.2.2.2.2.2.2.1 _ hc) hd (k ls H locs cells slots hl hI)
theorem g_ifnull (h : Ok X cc own ret y0 nL F Lo Pst) {x : Nat} {off : Int} (hd : decode cc pc = .ok (.ifnull off, 3)) (k : G X ad χ (pc + 3) lv st) : G X ad χ pc lv (.ref x :: st) :=
  fun ls H locs cells slots hl hI => lv_ifnull h.1 h.2.1 hd (k ls H locs cells slots hl hI)
theorem g_ifnullN (h : Ok X cc own ret y0 nL F Lo Pst) {off : Int} (tgt : Nat) (hd : decode cc pc = .ok (.ifnull off, 3)) (ht : (pc : Int) + off = (tgt : Int)) (k : G X ad χ tgt lv st) : G X ad χ pc lv (.null :: st) :=
  fun ls H locs cells slots hl hI => lv_ifnullN h.1 h.2.1 hd ht (k ls H locs cells slots hl hI)
theorem g_ifnonnull (h : Ok X cc own ret y0 nL F Lo Pst) {x : Nat} {off : Int} (tgt : Nat) (hd : decode cc pc = .ok (.ifnonnull off, 3)) (ht : (pc : Int) + off = (tgt : Int)) (k : G X ad χ tgt lv st) : G X ad χ pc lv (.ref x :: st) :=
  fun ls H locs cells slots hl hI => lv_ifnonnull h.1 h.2.1 hd ht (k ls H locs cells slots hl hI)
theorem g_ifnonnullN (h : Ok X cc own ret y0 nL F Lo Pst) {off : Int} (hd : decode cc pc = .ok (.ifnonnull off, 3)) (k : G X ad χ (pc + 3) lv st) : G X ad χ pc lv (.null :: st) :=
  fun ls H locs cells slots hl hI => lv_ifnonnullN h.1 h.2.1 hd (k ls H locs cells slots hl hI)
theorem g_sub (ks : List Nat) (hk : ks.filterMap (fun k => lv[k]?) = lv2) (k : G X ad χ pc lv2 st) : G X ad χ pc lv st :=
  fun ls H locs cells slots hl hI => k ls H locs cells slots (lv_sub hl ks hk) hI
end GR
