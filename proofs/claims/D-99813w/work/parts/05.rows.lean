/-! ===== rows of the judgement gz_V (printed by gen/mkrows.py) ===== -/
section GZV
variable {Z : gz_S} {X : gz_X} {G : gz_G} {cc : ByteArray} {nL : Nat} {own : String} {fr lo : Nat} {rem : Nat × Nat} {μ : gM} {pc : Nat} {lv : List (Nat × Value)} {st : List Value}
theorem gz_iadd (hX : gz_C Z X G cc nL own fr lo) {x y : Int32} (hd : decode cc pc = .ok (.iadd, 1))  (k : gz_V Z X G nL rem μ (pc + 1) lv (.int (x + y) :: st)) : gz_V Z X G nL rem μ pc lv (.int y :: .int x :: st) :=
  fun H locs ls cs hR hC hA hl => lv_iadd hX.1 hX.2.1 hd  (k H locs ls cs hR hC hA hl)
theorem gz_isub (hX : gz_C Z X G cc nL own fr lo) {x y : Int32} (hd : decode cc pc = .ok (.isub, 1))  (k : gz_V Z X G nL rem μ (pc + 1) lv (.int (x - y) :: st)) : gz_V Z X G nL rem μ pc lv (.int y :: .int x :: st) :=
  fun H locs ls cs hR hC hA hl => lv_isub hX.1 hX.2.1 hd  (k H locs ls cs hR hC hA hl)
theorem gz_imul (hX : gz_C Z X G cc nL own fr lo) {x y : Int32} (hd : decode cc pc = .ok (.imul, 1))  (k : gz_V Z X G nL rem μ (pc + 1) lv (.int (x * y) :: st)) : gz_V Z X G nL rem μ pc lv (.int y :: .int x :: st) :=
  fun H locs ls cs hR hC hA hl => lv_imul hX.1 hX.2.1 hd  (k H locs ls cs hR hC hA hl)
theorem gz_iand (hX : gz_C Z X G cc nL own fr lo) {x y : Int32} (hd : decode cc pc = .ok (.iand, 1))  (k : gz_V Z X G nL rem μ (pc + 1) lv (.int (x &&& y) :: st)) : gz_V Z X G nL rem μ pc lv (.int y :: .int x :: st) :=
  fun H locs ls cs hR hC hA hl => lv_iand hX.1 hX.2.1 hd  (k H locs ls cs hR hC hA hl)
theorem gz_ior (hX : gz_C Z X G cc nL own fr lo) {x y : Int32} (hd : decode cc pc = .ok (.ior, 1))  (k : gz_V Z X G nL rem μ (pc + 1) lv (.int (x ||| y) :: st)) : gz_V Z X G nL rem μ pc lv (.int y :: .int x :: st) :=
  fun H locs ls cs hR hC hA hl => lv_ior hX.1 hX.2.1 hd  (k H locs ls cs hR hC hA hl)
theorem gz_ixor (hX : gz_C Z X G cc nL own fr lo) {x y : Int32} (hd : decode cc pc = .ok (.ixor, 1))  (k : gz_V Z X G nL rem μ (pc + 1) lv (.int (x ^^^ y) :: st)) : gz_V Z X G nL rem μ pc lv (.int y :: .int x :: st) :=
  fun H locs ls cs hR hC hA hl => lv_ixor hX.1 hX.2.1 hd  (k H locs ls cs hR hC hA hl)
theorem gz_ishl (hX : gz_C Z X G cc nL own fr lo) {x y : Int32} (hd : decode cc pc = .ok (.ishl, 1))  (k : gz_V Z X G nL rem μ (pc + 1) lv (.int (x <<< (y &&& 31)) :: st)) : gz_V Z X G nL rem μ pc lv (.int y :: .int x :: st) :=
  fun H locs ls cs hR hC hA hl => lv_ishl hX.1 hX.2.1 hd  (k H locs ls cs hR hC hA hl)
theorem gz_ishr (hX : gz_C Z X G cc nL own fr lo) {x y : Int32} (hd : decode cc pc = .ok (.ishr, 1))  (k : gz_V Z X G nL rem μ (pc + 1) lv (.int (x >>> (y &&& 31)) :: st)) : gz_V Z X G nL rem μ pc lv (.int y :: .int x :: st) :=
  fun H locs ls cs hR hC hA hl => lv_ishr hX.1 hX.2.1 hd  (k H locs ls cs hR hC hA hl)
theorem gz_idiv (hX : gz_C Z X G cc nL own fr lo) {x y : Int32} (hd : decode cc pc = .ok (.idiv, 1)) (hne : ¬ y = 0) (k : gz_V Z X G nL rem μ (pc + 1) lv (.int (x / y) :: st)) : gz_V Z X G nL rem μ pc lv (.int y :: .int x :: st) :=
  fun H locs ls cs hR hC hA hl => lv_idiv hX.1 hX.2.1 hd hne (k H locs ls cs hR hC hA hl)
theorem gz_irem (hX : gz_C Z X G cc nL own fr lo) {x y : Int32} (hd : decode cc pc = .ok (.irem, 1)) (hne : ¬ y = 0) (k : gz_V Z X G nL rem μ (pc + 1) lv (.int (x - x / y * y) :: st)) : gz_V Z X G nL rem μ pc lv (.int y :: .int x :: st) :=
  fun H locs ls cs hR hC hA hl => lv_irem hX.1 hX.2.1 hd hne (k H locs ls cs hR hC hA hl)
theorem gz_ladd (hX : gz_C Z X G cc nL own fr lo) {x y : Int64} (hd : decode cc pc = .ok (.ladd, 1))  (k : gz_V Z X G nL rem μ (pc + 1) lv (.long (x + y) :: st)) : gz_V Z X G nL rem μ pc lv (.long y :: .long x :: st) :=
  fun H locs ls cs hR hC hA hl => lv_ladd hX.1 hX.2.1 hd  (k H locs ls cs hR hC hA hl)
theorem gz_lsub (hX : gz_C Z X G cc nL own fr lo) {x y : Int64} (hd : decode cc pc = .ok (.lsub, 1))  (k : gz_V Z X G nL rem μ (pc + 1) lv (.long (x - y) :: st)) : gz_V Z X G nL rem μ pc lv (.long y :: .long x :: st) :=
  fun H locs ls cs hR hC hA hl => lv_lsub hX.1 hX.2.1 hd  (k H locs ls cs hR hC hA hl)
theorem gz_lmul (hX : gz_C Z X G cc nL own fr lo) {x y : Int64} (hd : decode cc pc = .ok (.lmul, 1))  (k : gz_V Z X G nL rem μ (pc + 1) lv (.long (x * y) :: st)) : gz_V Z X G nL rem μ pc lv (.long y :: .long x :: st) :=
  fun H locs ls cs hR hC hA hl => lv_lmul hX.1 hX.2.1 hd  (k H locs ls cs hR hC hA hl)
theorem gz_land (hX : gz_C Z X G cc nL own fr lo) {x y : Int64} (hd : decode cc pc = .ok (.land, 1))  (k : gz_V Z X G nL rem μ (pc + 1) lv (.long (x &&& y) :: st)) : gz_V Z X G nL rem μ pc lv (.long y :: .long x :: st) :=
  fun H locs ls cs hR hC hA hl => lv_land hX.1 hX.2.1 hd  (k H locs ls cs hR hC hA hl)
theorem gz_ldiv (hX : gz_C Z X G cc nL own fr lo) {x y : Int64} (hd : decode cc pc = .ok (.ldiv, 1)) (hne : ¬ y = 0) (k : gz_V Z X G nL rem μ (pc + 1) lv (.long (x / y) :: st)) : gz_V Z X G nL rem μ pc lv (.long y :: .long x :: st) :=
  fun H locs ls cs hR hC hA hl => lv_ldiv hX.1 hX.2.1 hd hne (k H locs ls cs hR hC hA hl)
theorem gz_lrem (hX : gz_C Z X G cc nL own fr lo) {x y : Int64} (hd : decode cc pc = .ok (.lrem, 1)) (hne : ¬ y = 0) (k : gz_V Z X G nL rem μ (pc + 1) lv (.long (x - x / y * y) :: st)) : gz_V Z X G nL rem μ pc lv (.long y :: .long x :: st) :=
  fun H locs ls cs hR hC hA hl => lv_lrem hX.1 hX.2.1 hd hne (k H locs ls cs hR hC hA hl)
theorem gz_i2l (hX : gz_C Z X G cc nL own fr lo) {x : Int32} (hd : decode cc pc = .ok (.i2l, 1))  (k : gz_V Z X G nL rem μ (pc + 1) lv (.long x.toInt64 :: st)) : gz_V Z X G nL rem μ pc lv (.int x :: st) :=
  fun H locs ls cs hR hC hA hl => lv_i2l hX.1 hX.2.1 hd rfl (k H locs ls cs hR hC hA hl)
theorem gz_l2i (hX : gz_C Z X G cc nL own fr lo) {x : Int64} (hd : decode cc pc = .ok (.l2i, 1))  (k : gz_V Z X G nL rem μ (pc + 1) lv (.int x.toInt32 :: st)) : gz_V Z X G nL rem μ pc lv (.long x :: st) :=
  fun H locs ls cs hR hC hA hl => lv_l2i hX.1 hX.2.1 hd rfl (k H locs ls cs hR hC hA hl)
theorem gz_i2b (hX : gz_C Z X G cc nL own fr lo) {x : Int32} (hd : decode cc pc = .ok (.i2b, 1))  (k : gz_V Z X G nL rem μ (pc + 1) lv (.int x.toInt8.toInt32 :: st)) : gz_V Z X G nL rem μ pc lv (.int x :: st) :=
  fun H locs ls cs hR hC hA hl => lv_i2b hX.1 hX.2.1 hd rfl (k H locs ls cs hR hC hA hl)
theorem gz_i2c (hX : gz_C Z X G cc nL own fr lo) {x : Int32} (hd : decode cc pc = .ok (.i2c, 1))  (k : gz_V Z X G nL rem μ (pc + 1) lv (.int (x.toUInt32 % 65536).toInt32 :: st)) : gz_V Z X G nL rem μ pc lv (.int x :: st) :=
  fun H locs ls cs hR hC hA hl => lv_i2c hX.1 hX.2.1 hd rfl (k H locs ls cs hR hC hA hl)
theorem gz_iushr (hX : gz_C Z X G cc nL own fr lo) {x y : Int32} (hd : decode cc pc = .ok (.iushr, 1))  (k : gz_V Z X G nL rem μ (pc + 1) lv (.int (x.toUInt32 >>> (y.toUInt32 &&& Int32.toUInt32 31)).toInt32 :: st)) : gz_V Z X G nL rem μ pc lv (.int y :: .int x :: st) :=
  fun H locs ls cs hR hC hA hl => lv_iushr hX.1 hX.2.1 hd rfl (k H locs ls cs hR hC hA hl)
theorem gz_lxor (hX : gz_C Z X G cc nL own fr lo) {x y : Int64} (hd : decode cc pc = .ok (.lxor, 1))  (k : gz_V Z X G nL rem μ (pc + 1) lv (.long (x ^^^ y) :: st)) : gz_V Z X G nL rem μ pc lv (.long y :: .long x :: st) :=
  fun H locs ls cs hR hC hA hl => lv_lxor hX.1 hX.2.1 hd  (k H locs ls cs hR hC hA hl)
theorem gz_lor (hX : gz_C Z X G cc nL own fr lo) {x y : Int64} (hd : decode cc pc = .ok (.lor, 1))  (k : gz_V Z X G nL rem μ (pc + 1) lv (.long (x ||| y) :: st)) : gz_V Z X G nL rem μ pc lv (.long y :: .long x :: st) :=
  fun H locs ls cs hR hC hA hl => lv_lor hX.1 hX.2.1 hd  (k H locs ls cs hR hC hA hl)
theorem gz_iconst (hX : gz_C Z X G cc nL own fr lo) {n : Int} {v : Int32} (hd : decode cc pc = .ok (.iconst n, 1)) (hv : Int32.ofInt n = v) (k : gz_V Z X G nL rem μ (pc + 1) lv (.int v :: st)) : gz_V Z X G nL rem μ pc lv (st) :=
  fun H locs ls cs hR hC hA hl => lv_iconst hX.1 hX.2.1 hd hv (k H locs ls cs hR hC hA hl)
theorem gz_bipush (hX : gz_C Z X G cc nL own fr lo) {n : Int} {v : Int32} (hd : decode cc pc = .ok (.bipush n, 2)) (hv : (Int8.ofInt n).toInt32 = v) (k : gz_V Z X G nL rem μ (pc + 2) lv (.int v :: st)) : gz_V Z X G nL rem μ pc lv (st) :=
  fun H locs ls cs hR hC hA hl => lv_bipush hX.1 hX.2.1 hd hv (k H locs ls cs hR hC hA hl)
theorem gz_sipush (hX : gz_C Z X G cc nL own fr lo) {n : Int} {v : Int32} (hd : decode cc pc = .ok (.sipush n, 3)) (hv : (Int16.ofInt n).toInt32 = v) (k : gz_V Z X G nL rem μ (pc + 3) lv (.int v :: st)) : gz_V Z X G nL rem μ pc lv (st) :=
  fun H locs ls cs hR hC hA hl => lv_sipush hX.1 hX.2.1 hd hv (k H locs ls cs hR hC hA hl)
theorem gz_lconst (hX : gz_C Z X G cc nL own fr lo) {n : Fin 2} {v : Int64} (hd : decode cc pc = .ok (.lconst n, 1)) (hv : Int64.ofNat (n : Nat) = v) (k : gz_V Z X G nL rem μ (pc + 1) lv (.long v :: st)) : gz_V Z X G nL rem μ pc lv (st) :=
  fun H locs ls cs hR hC hA hl => lv_lconst hX.1 hX.2.1 hd hv (k H locs ls cs hR hC hA hl)
theorem gz_dup (hX : gz_C Z X G cc nL own fr lo) {va : Value} (hd : decode cc pc = .ok (.dup, 1)) (h1 : va.category = 1) (k : gz_V Z X G nL rem μ (pc + 1) lv (va :: va :: st)) : gz_V Z X G nL rem μ pc lv (va :: st) :=
  fun H locs ls cs hR hC hA hl => lv_dup hX.1 hX.2.1 hd h1 (k H locs ls cs hR hC hA hl)
theorem gz_pop (hX : gz_C Z X G cc nL own fr lo) {va : Value} (hd : decode cc pc = .ok (.pop, 1)) (h1 : va.category = 1) (k : gz_V Z X G nL rem μ (pc + 1) lv (st)) : gz_V Z X G nL rem μ pc lv (va :: st) :=
  fun H locs ls cs hR hC hA hl => lv_pop hX.1 hX.2.1 hd h1 (k H locs ls cs hR hC hA hl)
theorem gz_dup_x1 (hX : gz_C Z X G cc nL own fr lo) {va vb : Value} (hd : decode cc pc = .ok (.dup_x1, 1)) (h1 : va.category = 1) (h2 : vb.category = 1) (k : gz_V Z X G nL rem μ (pc + 1) lv (va :: vb :: va :: st)) : gz_V Z X G nL rem μ pc lv (va :: vb :: st) :=
  fun H locs ls cs hR hC hA hl => lv_dup_x1 hX.1 hX.2.1 hd h1 h2 (k H locs ls cs hR hC hA hl)
theorem gz_dup2_11 (hX : gz_C Z X G cc nL own fr lo) {va vb : Value} (hd : decode cc pc = .ok (.dup2, 1)) (h1 : va.category = 1) (h2 : vb.category = 1) (k : gz_V Z X G nL rem μ (pc + 1) lv (va :: vb :: va :: vb :: st)) : gz_V Z X G nL rem μ pc lv (va :: vb :: st) :=
  fun H locs ls cs hR hC hA hl => lv_dup2_11 hX.1 hX.2.1 hd h1 h2 (k H locs ls cs hR hC hA hl)
theorem gz_null (hX : gz_C Z X G cc nL own fr lo)  (hd : decode cc pc = .ok (.aconst_null, 1))  (k : gz_V Z X G nL rem μ (pc + 1) lv (.null :: st)) : gz_V Z X G nL rem μ pc lv (st) :=
  fun H locs ls cs hR hC hA hl => lv_null hX.1 hX.2.1 hd  (k H locs ls cs hR hC hA hl)
theorem gz_iload (hX : gz_C Z X G cc nL own fr lo) {i : Nat} {x : Int32} (hd : decode cc pc = .ok (.iload i, 2)) (q : Nat) (hq : lv[q]? = some (i, .int x)) (k : gz_V Z X G nL rem μ (pc + 2) lv (.int x :: st)) : gz_V Z X G nL rem μ pc lv (st) :=
  fun H locs ls cs hR hC hA hl => lv_iload hX.1 hX.2.1 hd (lv_at hl q hq) (k H locs ls cs hR hC hA hl)
theorem gz_iload_n (hX : gz_C Z X G cc nL own fr lo) {k : Fin 4} {i : Nat} {x : Int32} (hd : decode cc pc = .ok (.iload_n k, 1)) (hi : (k : Nat) = i) (q : Nat) (hq : lv[q]? = some (i, .int x)) (kk : gz_V Z X G nL rem μ (pc + 1) lv (.int x :: st)) : gz_V Z X G nL rem μ pc lv (st) :=
  fun H locs ls cs hR hC hA hl => lv_iload_n hX.1 hX.2.1 hd hi (lv_at hl q hq) (kk H locs ls cs hR hC hA hl)
theorem gz_lload (hX : gz_C Z X G cc nL own fr lo) {i : Nat} {x : Int64} (hd : decode cc pc = .ok (.lload i, 2)) (q : Nat) (hq : lv[q]? = some (i, .long x)) (k : gz_V Z X G nL rem μ (pc + 2) lv (.long x :: st)) : gz_V Z X G nL rem μ pc lv (st) :=
  fun H locs ls cs hR hC hA hl => lv_lload hX.1 hX.2.1 hd (lv_at hl q hq) (k H locs ls cs hR hC hA hl)
theorem gz_lload_n (hX : gz_C Z X G cc nL own fr lo) {k : Fin 4} {i : Nat} {x : Int64} (hd : decode cc pc = .ok (.lload_n k, 1)) (hi : (k : Nat) = i) (q : Nat) (hq : lv[q]? = some (i, .long x)) (kk : gz_V Z X G nL rem μ (pc + 1) lv (.long x :: st)) : gz_V Z X G nL rem μ pc lv (st) :=
  fun H locs ls cs hR hC hA hl => lv_lload_n hX.1 hX.2.1 hd hi (lv_at hl q hq) (kk H locs ls cs hR hC hA hl)
theorem gz_aload (hX : gz_C Z X G cc nL own fr lo) {i : Nat} {x : Nat} (hd : decode cc pc = .ok (.aload i, 2)) (q : Nat) (hq : lv[q]? = some (i, .ref x)) (k : gz_V Z X G nL rem μ (pc + 2) lv (.ref x :: st)) : gz_V Z X G nL rem μ pc lv (st) :=
  fun H locs ls cs hR hC hA hl => lv_aload hX.1 hX.2.1 hd (lv_at hl q hq) (k H locs ls cs hR hC hA hl)
theorem gz_aload_n (hX : gz_C Z X G cc nL own fr lo) {k : Fin 4} {i : Nat} {x : Nat} (hd : decode cc pc = .ok (.aload_n k, 1)) (hi : (k : Nat) = i) (q : Nat) (hq : lv[q]? = some (i, .ref x)) (kk : gz_V Z X G nL rem μ (pc + 1) lv (.ref x :: st)) : gz_V Z X G nL rem μ pc lv (st) :=
  fun H locs ls cs hR hC hA hl => lv_aload_n hX.1 hX.2.1 hd hi (lv_at hl q hq) (kk H locs ls cs hR hC hA hl)
theorem gz_istore (hX : gz_C Z X G cc nL own fr lo) {i : Nat} {x : Int32} {lw : List (Nat × Value)} (hd : decode cc pc = .ok (.istore i, 2)) (hn : i < nL) (hl9 : (i, Value.int x) :: lv.filter (fun q => !(q.1 == i) && !(q.1 + 1 == i && q.2.category == 2)) = lw) (kk : gz_V Z X G nL rem μ (pc + 2) lw (st)) : gz_V Z X G nL rem μ pc lv (.int x :: st) :=
  fun H locs ls cs hR hC hA hl => lv_istore hX.1 hX.2.1 hd hl hn hl9 (fun ls9 hl2 => kk H locs ls9 cs hR hC hA hl2)
theorem gz_istore_n (hX : gz_C Z X G cc nL own fr lo) {k : Fin 4} {i : Nat} {x : Int32} {lw : List (Nat × Value)} (hd : decode cc pc = .ok (.istore_n k, 1)) (hi : (k : Nat) = i) (hn : i < nL) (hl9 : (i, Value.int x) :: lv.filter (fun q => !(q.1 == i) && !(q.1 + 1 == i && q.2.category == 2)) = lw) (kk : gz_V Z X G nL rem μ (pc + 1) lw (st)) : gz_V Z X G nL rem μ pc lv (.int x :: st) :=
  fun H locs ls cs hR hC hA hl => lv_istore_n hX.1 hX.2.1 hd hi hl hn hl9 (fun ls9 hl2 => kk H locs ls9 cs hR hC hA hl2)
theorem gz_lstore (hX : gz_C Z X G cc nL own fr lo) {i : Nat} {x : Int64} {lw : List (Nat × Value)} (hd : decode cc pc = .ok (.lstore i, 2)) (hn : i + 1 < nL) (hl9 : (i, Value.long x) :: lv.filter (fun q => !(q.1 == i) && (!(q.1 == i + 1) && !(q.1 + 1 == i && q.2.category == 2))) = lw) (kk : gz_V Z X G nL rem μ (pc + 2) lw (st)) : gz_V Z X G nL rem μ pc lv (.long x :: st) :=
  fun H locs ls cs hR hC hA hl => lv_lstore hX.1 hX.2.1 hd hl hn hl9 (fun ls9 hl2 => kk H locs ls9 cs hR hC hA hl2)
theorem gz_lstore_n (hX : gz_C Z X G cc nL own fr lo) {k : Fin 4} {i : Nat} {x : Int64} {lw : List (Nat × Value)} (hd : decode cc pc = .ok (.lstore_n k, 1)) (hi : (k : Nat) = i) (hn : i + 1 < nL) (hl9 : (i, Value.long x) :: lv.filter (fun q => !(q.1 == i) && (!(q.1 == i + 1) && !(q.1 + 1 == i && q.2.category == 2))) = lw) (kk : gz_V Z X G nL rem μ (pc + 1) lw (st)) : gz_V Z X G nL rem μ pc lv (.long x :: st) :=
  fun H locs ls cs hR hC hA hl => lv_lstore_n hX.1 hX.2.1 hd hi hl hn hl9 (fun ls9 hl2 => kk H locs ls9 cs hR hC hA hl2)
theorem gz_astore (hX : gz_C Z X G cc nL own fr lo) {i : Nat} {x : Nat} {lw : List (Nat × Value)} (hd : decode cc pc = .ok (.astore i, 2)) (hn : i < nL) (hl9 : (i, Value.ref x) :: lv.filter (fun q => !(q.1 == i) && !(q.1 + 1 == i && q.2.category == 2)) = lw) (kk : gz_V Z X G nL rem μ (pc + 2) lw (st)) : gz_V Z X G nL rem μ pc lv (.ref x :: st) :=
  fun H locs ls cs hR hC hA hl => lv_astore hX.1 hX.2.1 hd hl hn hl9 (fun ls9 hl2 => kk H locs ls9 cs hR hC hA hl2)
theorem gz_astore_n (hX : gz_C Z X G cc nL own fr lo) {k : Fin 4} {i : Nat} {x : Nat} {lw : List (Nat × Value)} (hd : decode cc pc = .ok (.astore_n k, 1)) (hi : (k : Nat) = i) (hn : i < nL) (hl9 : (i, Value.ref x) :: lv.filter (fun q => !(q.1 == i) && !(q.1 + 1 == i && q.2.category == 2)) = lw) (kk : gz_V Z X G nL rem μ (pc + 1) lw (st)) : gz_V Z X G nL rem μ pc lv (.ref x :: st) :=
  fun H locs ls cs hR hC hA hl => lv_astore_n hX.1 hX.2.1 hd hi hl hn hl9 (fun ls9 hl2 => kk H locs ls9 cs hR hC hA hl2)
theorem gz_iinc (hX : gz_C Z X G cc nL own fr lo) {i k : Nat} {n : Int} {x v : Int32} {lw : List (Nat × Value)} (hd : decode cc pc = .ok (.iinc i n, 3)) (hk : lv[k]? = some (i, .int x)) (hv : x + Int32.ofInt n = v) (hn : i < nL) (hl9 : (i, Value.int v) :: lv.filter (fun q => !(q.1 == i) && !(q.1 + 1 == i && q.2.category == 2)) = lw) (kk : gz_V Z X G nL rem μ (pc + 3) lw (st)) : gz_V Z X G nL rem μ pc lv (st) :=
  fun H locs ls cs hR hC hA hl => lv_iinc hX.1 hX.2.1 hd hl hk hv hn hl9 (fun ls9 hl2 => kk H locs ls9 cs hR hC hA hl2)
theorem gz_icmp_eq (hX : gz_C Z X G cc nL own fr lo) {x y : Int32} {off : Int} {tgt : Nat} (hd : decode cc pc = .ok (.if_icmp .eq off, 3)) (ht : (pc : Int) + off = (tgt : Int)) (kt : x = y → gz_V Z X G nL rem μ tgt lv (st)) (kf : ¬ x = y → gz_V Z X G nL rem μ (pc + 3) lv (st)) : gz_V Z X G nL rem μ pc lv (.int y :: .int x :: st) :=
  fun H locs ls cs hR hC hA hl => lv_icmp_eq hX.1 hX.2.1 hd ht (fun h => kt h H locs ls cs hR hC hA hl) (fun h => kf h H locs ls cs hR hC hA hl)
theorem gz_if_eq (hX : gz_C Z X G cc nL own fr lo) {x : Int32} {off : Int} {tgt : Nat} (hd : decode cc pc = .ok (.ifCond .eq off, 3)) (ht : (pc : Int) + off = (tgt : Int)) (kt : x = 0 → gz_V Z X G nL rem μ tgt lv (st)) (kf : ¬ x = 0 → gz_V Z X G nL rem μ (pc + 3) lv (st)) : gz_V Z X G nL rem μ pc lv (.int x :: st) :=
  fun H locs ls cs hR hC hA hl => lv_if_eq hX.1 hX.2.1 hd ht (fun h => kt h H locs ls cs hR hC hA hl) (fun h => kf h H locs ls cs hR hC hA hl)
theorem gz_icmp_ne (hX : gz_C Z X G cc nL own fr lo) {x y : Int32} {off : Int} {tgt : Nat} (hd : decode cc pc = .ok (.if_icmp .ne off, 3)) (ht : (pc : Int) + off = (tgt : Int)) (kt : ¬ x = y → gz_V Z X G nL rem μ tgt lv (st)) (kf : x = y → gz_V Z X G nL rem μ (pc + 3) lv (st)) : gz_V Z X G nL rem μ pc lv (.int y :: .int x :: st) :=
  fun H locs ls cs hR hC hA hl => lv_icmp_ne hX.1 hX.2.1 hd ht (fun h => kt h H locs ls cs hR hC hA hl) (fun h => kf h H locs ls cs hR hC hA hl)
theorem gz_if_ne (hX : gz_C Z X G cc nL own fr lo) {x : Int32} {off : Int} {tgt : Nat} (hd : decode cc pc = .ok (.ifCond .ne off, 3)) (ht : (pc : Int) + off = (tgt : Int)) (kt : ¬ x = 0 → gz_V Z X G nL rem μ tgt lv (st)) (kf : x = 0 → gz_V Z X G nL rem μ (pc + 3) lv (st)) : gz_V Z X G nL rem μ pc lv (.int x :: st) :=
  fun H locs ls cs hR hC hA hl => lv_if_ne hX.1 hX.2.1 hd ht (fun h => kt h H locs ls cs hR hC hA hl) (fun h => kf h H locs ls cs hR hC hA hl)
theorem gz_icmp_lt (hX : gz_C Z X G cc nL own fr lo) {x y : Int32} {off : Int} {tgt : Nat} (hd : decode cc pc = .ok (.if_icmp .lt off, 3)) (ht : (pc : Int) + off = (tgt : Int)) (kt : x < y → gz_V Z X G nL rem μ tgt lv (st)) (kf : ¬ x < y → gz_V Z X G nL rem μ (pc + 3) lv (st)) : gz_V Z X G nL rem μ pc lv (.int y :: .int x :: st) :=
  fun H locs ls cs hR hC hA hl => lv_icmp_lt hX.1 hX.2.1 hd ht (fun h => kt h H locs ls cs hR hC hA hl) (fun h => kf h H locs ls cs hR hC hA hl)
theorem gz_if_lt (hX : gz_C Z X G cc nL own fr lo) {x : Int32} {off : Int} {tgt : Nat} (hd : decode cc pc = .ok (.ifCond .lt off, 3)) (ht : (pc : Int) + off = (tgt : Int)) (kt : x < 0 → gz_V Z X G nL rem μ tgt lv (st)) (kf : ¬ x < 0 → gz_V Z X G nL rem μ (pc + 3) lv (st)) : gz_V Z X G nL rem μ pc lv (.int x :: st) :=
  fun H locs ls cs hR hC hA hl => lv_if_lt hX.1 hX.2.1 hd ht (fun h => kt h H locs ls cs hR hC hA hl) (fun h => kf h H locs ls cs hR hC hA hl)
theorem gz_icmp_ge (hX : gz_C Z X G cc nL own fr lo) {x y : Int32} {off : Int} {tgt : Nat} (hd : decode cc pc = .ok (.if_icmp .ge off, 3)) (ht : (pc : Int) + off = (tgt : Int)) (kt : y ≤ x → gz_V Z X G nL rem μ tgt lv (st)) (kf : ¬ y ≤ x → gz_V Z X G nL rem μ (pc + 3) lv (st)) : gz_V Z X G nL rem μ pc lv (.int y :: .int x :: st) :=
  fun H locs ls cs hR hC hA hl => lv_icmp_ge hX.1 hX.2.1 hd ht (fun h => kt h H locs ls cs hR hC hA hl) (fun h => kf h H locs ls cs hR hC hA hl)
theorem gz_if_ge (hX : gz_C Z X G cc nL own fr lo) {x : Int32} {off : Int} {tgt : Nat} (hd : decode cc pc = .ok (.ifCond .ge off, 3)) (ht : (pc : Int) + off = (tgt : Int)) (kt : 0 ≤ x → gz_V Z X G nL rem μ tgt lv (st)) (kf : ¬ 0 ≤ x → gz_V Z X G nL rem μ (pc + 3) lv (st)) : gz_V Z X G nL rem μ pc lv (.int x :: st) :=
  fun H locs ls cs hR hC hA hl => lv_if_ge hX.1 hX.2.1 hd ht (fun h => kt h H locs ls cs hR hC hA hl) (fun h => kf h H locs ls cs hR hC hA hl)
theorem gz_icmp_gt (hX : gz_C Z X G cc nL own fr lo) {x y : Int32} {off : Int} {tgt : Nat} (hd : decode cc pc = .ok (.if_icmp .gt off, 3)) (ht : (pc : Int) + off = (tgt : Int)) (kt : y < x → gz_V Z X G nL rem μ tgt lv (st)) (kf : ¬ y < x → gz_V Z X G nL rem μ (pc + 3) lv (st)) : gz_V Z X G nL rem μ pc lv (.int y :: .int x :: st) :=
  fun H locs ls cs hR hC hA hl => lv_icmp_gt hX.1 hX.2.1 hd ht (fun h => kt h H locs ls cs hR hC hA hl) (fun h => kf h H locs ls cs hR hC hA hl)
theorem gz_if_gt (hX : gz_C Z X G cc nL own fr lo) {x : Int32} {off : Int} {tgt : Nat} (hd : decode cc pc = .ok (.ifCond .gt off, 3)) (ht : (pc : Int) + off = (tgt : Int)) (kt : 0 < x → gz_V Z X G nL rem μ tgt lv (st)) (kf : ¬ 0 < x → gz_V Z X G nL rem μ (pc + 3) lv (st)) : gz_V Z X G nL rem μ pc lv (.int x :: st) :=
  fun H locs ls cs hR hC hA hl => lv_if_gt hX.1 hX.2.1 hd ht (fun h => kt h H locs ls cs hR hC hA hl) (fun h => kf h H locs ls cs hR hC hA hl)
theorem gz_icmp_le (hX : gz_C Z X G cc nL own fr lo) {x y : Int32} {off : Int} {tgt : Nat} (hd : decode cc pc = .ok (.if_icmp .le off, 3)) (ht : (pc : Int) + off = (tgt : Int)) (kt : x ≤ y → gz_V Z X G nL rem μ tgt lv (st)) (kf : ¬ x ≤ y → gz_V Z X G nL rem μ (pc + 3) lv (st)) : gz_V Z X G nL rem μ pc lv (.int y :: .int x :: st) :=
  fun H locs ls cs hR hC hA hl => lv_icmp_le hX.1 hX.2.1 hd ht (fun h => kt h H locs ls cs hR hC hA hl) (fun h => kf h H locs ls cs hR hC hA hl)
theorem gz_if_le (hX : gz_C Z X G cc nL own fr lo) {x : Int32} {off : Int} {tgt : Nat} (hd : decode cc pc = .ok (.ifCond .le off, 3)) (ht : (pc : Int) + off = (tgt : Int)) (kt : x ≤ 0 → gz_V Z X G nL rem μ tgt lv (st)) (kf : ¬ x ≤ 0 → gz_V Z X G nL rem μ (pc + 3) lv (st)) : gz_V Z X G nL rem μ pc lv (.int x :: st) :=
  fun H locs ls cs hR hC hA hl => lv_if_le hX.1 hX.2.1 hd ht (fun h => kt h H locs ls cs hR hC hA hl) (fun h => kf h H locs ls cs hR hC hA hl)
theorem gz_lcmp_eq (hX : gz_C Z X G cc nL own fr lo) {x y : Int64} {off : Int} {tgt : Nat} (hd1 : decode cc pc = .ok (.lcmp, 1)) (hd : decode cc (pc + 1) = .ok (.ifCond .eq off, 3)) (ht : ((pc + 1 : Nat) : Int) + off = (tgt : Int)) (kt : x = y → gz_V Z X G nL rem μ tgt lv (st)) (kf : ¬ x = y → gz_V Z X G nL rem μ (pc + 1 + 3) lv (st)) : gz_V Z X G nL rem μ pc lv (.long y :: .long x :: st) :=
  fun H locs ls cs hR hC hA hl => W.lcmp hX.1 hX.2.1 hd1 (lv_if_eq hX.1 hX.2.1 hd ht (fun h => kt ((lg_cmp_eq x y).mp h) H locs ls cs hR hC hA hl) (fun h => kf (fun q => h ((lg_cmp_eq x y).mpr q)) H locs ls cs hR hC hA hl))
theorem gz_lcmp_ne (hX : gz_C Z X G cc nL own fr lo) {x y : Int64} {off : Int} {tgt : Nat} (hd1 : decode cc pc = .ok (.lcmp, 1)) (hd : decode cc (pc + 1) = .ok (.ifCond .ne off, 3)) (ht : ((pc + 1 : Nat) : Int) + off = (tgt : Int)) (kt : ¬ x = y → gz_V Z X G nL rem μ tgt lv (st)) (kf : x = y → gz_V Z X G nL rem μ (pc + 1 + 3) lv (st)) : gz_V Z X G nL rem μ pc lv (.long y :: .long x :: st) :=
  fun H locs ls cs hR hC hA hl => W.lcmp hX.1 hX.2.1 hd1 (lv_if_ne hX.1 hX.2.1 hd ht (fun h => kt (fun q => h ((lg_cmp_eq x y).mpr q)) H locs ls cs hR hC hA hl) (fun h => kf ((lg_cmp_eq x y).mp h) H locs ls cs hR hC hA hl))
theorem gz_lcmp_lt (hX : gz_C Z X G cc nL own fr lo) {x y : Int64} {off : Int} {tgt : Nat} (hd1 : decode cc pc = .ok (.lcmp, 1)) (hd : decode cc (pc + 1) = .ok (.ifCond .lt off, 3)) (ht : ((pc + 1 : Nat) : Int) + off = (tgt : Int)) (kt : x < y → gz_V Z X G nL rem μ tgt lv (st)) (kf : ¬ x < y → gz_V Z X G nL rem μ (pc + 1 + 3) lv (st)) : gz_V Z X G nL rem μ pc lv (.long y :: .long x :: st) :=
  fun H locs ls cs hR hC hA hl => W.lcmp hX.1 hX.2.1 hd1 (lv_if_lt hX.1 hX.2.1 hd ht (fun h => kt ((lg_cmp_lt x y).mp h) H locs ls cs hR hC hA hl) (fun h => kf (fun q => h ((lg_cmp_lt x y).mpr q)) H locs ls cs hR hC hA hl))
theorem gz_lcmp_ge (hX : gz_C Z X G cc nL own fr lo) {x y : Int64} {off : Int} {tgt : Nat} (hd1 : decode cc pc = .ok (.lcmp, 1)) (hd : decode cc (pc + 1) = .ok (.ifCond .ge off, 3)) (ht : ((pc + 1 : Nat) : Int) + off = (tgt : Int)) (kt : y ≤ x → gz_V Z X G nL rem μ tgt lv (st)) (kf : ¬ y ≤ x → gz_V Z X G nL rem μ (pc + 1 + 3) lv (st)) : gz_V Z X G nL rem μ pc lv (.long y :: .long x :: st) :=
  fun H locs ls cs hR hC hA hl => W.lcmp hX.1 hX.2.1 hd1 (lv_if_ge hX.1 hX.2.1 hd ht (fun h => kt ((lg_cmp_ge x y).mp h) H locs ls cs hR hC hA hl) (fun h => kf (fun q => h ((lg_cmp_ge x y).mpr q)) H locs ls cs hR hC hA hl))
theorem gz_lcmp_gt (hX : gz_C Z X G cc nL own fr lo) {x y : Int64} {off : Int} {tgt : Nat} (hd1 : decode cc pc = .ok (.lcmp, 1)) (hd : decode cc (pc + 1) = .ok (.ifCond .gt off, 3)) (ht : ((pc + 1 : Nat) : Int) + off = (tgt : Int)) (kt : y < x → gz_V Z X G nL rem μ tgt lv (st)) (kf : ¬ y < x → gz_V Z X G nL rem μ (pc + 1 + 3) lv (st)) : gz_V Z X G nL rem μ pc lv (.long y :: .long x :: st) :=
  fun H locs ls cs hR hC hA hl => W.lcmp hX.1 hX.2.1 hd1 (lv_if_gt hX.1 hX.2.1 hd ht (fun h => kt ((lg_cmp_gt x y).mp h) H locs ls cs hR hC hA hl) (fun h => kf (fun q => h ((lg_cmp_gt x y).mpr q)) H locs ls cs hR hC hA hl))
theorem gz_lcmp_le (hX : gz_C Z X G cc nL own fr lo) {x y : Int64} {off : Int} {tgt : Nat} (hd1 : decode cc pc = .ok (.lcmp, 1)) (hd : decode cc (pc + 1) = .ok (.ifCond .le off, 3)) (ht : ((pc + 1 : Nat) : Int) + off = (tgt : Int)) (kt : x ≤ y → gz_V Z X G nL rem μ tgt lv (st)) (kf : ¬ x ≤ y → gz_V Z X G nL rem μ (pc + 1 + 3) lv (st)) : gz_V Z X G nL rem μ pc lv (.long y :: .long x :: st) :=
  fun H locs ls cs hR hC hA hl => W.lcmp hX.1 hX.2.1 hd1 (lv_if_le hX.1 hX.2.1 hd ht (fun h => kt ((lg_cmp_le x y).mp h) H locs ls cs hR hC hA hl) (fun h => kf (fun q => h ((lg_cmp_le x y).mpr q)) H locs ls cs hR hC hA hl))
theorem gz_goto (hX : gz_C Z X G cc nL own fr lo) {off : Int} {tgt : Nat} (hd : decode cc pc = .ok (.goto off, 3)) (ht : (pc : Int) + off = (tgt : Int)) (k : gz_V Z X G nL rem μ tgt lv (st)) : gz_V Z X G nL rem μ pc lv (st) :=
  fun H locs ls cs hR hC hA hl => lv_goto hX.1 hX.2.1 hd ht (k H locs ls cs hR hC hA hl)
theorem gz_ldc2 (hX : gz_C Z X G cc nL own fr lo) {index : Nat} {v : Int64} (hq : Cond.constantLong own index v ∈ lw_all) (hd : decode cc pc = .ok (.ldc2_w index, 3)) (k : gz_V Z X G nL rem μ (pc + 3) lv (.long v :: st)) : gz_V Z X G nL rem μ pc lv (st) :=
  fun H locs ls cs hR hC hA hl => lv_ldc2 hX.1 hX.2.1 hX.2.2.2.1 (hX.2.2.2.2.1 _ hq) hd (k H locs ls cs hR hC hA hl)
theorem gz_ldc (hX : gz_C Z X G cc nL own fr lo) {index : Nat} {v : Int32} (hq : Cond.constant own index v ∈ lw_all) (hd : decode cc pc = .ok (.ldc index, 2)) (k : gz_V Z X G nL rem μ (pc + 2) lv (.int v :: st)) : gz_V Z X G nL rem μ pc lv (st) :=
  fun H locs ls cs hR hC hA hl => W.ldc hX.1 hX.2.1 hX.2.2.2.1 (hX.2.2.2.2.1 _ hq) rfl hd (k H locs ls cs hR hC hA hl)
theorem gz_ldcw (hX : gz_C Z X G cc nL own fr lo) {index : Nat} {v : Int32} (hq : Cond.constant own index v ∈ lw_all) (hd : decode cc pc = .ok (.ldc_w index, 3)) (k : gz_V Z X G nL rem μ (pc + 3) lv (.int v :: st)) : gz_V Z X G nL rem μ pc lv (st) :=
  fun H locs ls cs hR hC hA hl => lv_ldcw hX.1 hX.2.1 hX.2.2.2.1 (hX.2.2.2.2.1 _ hq) hd (k H locs ls cs hR hC hA hl)
theorem gz_topi {x y : Int32} (h : x = y) (k : gz_V Z X G nL rem μ pc lv (.int x :: st)) : gz_V Z X G nL rem μ pc lv (.int y :: st) := h ▸ k
theorem gz_topl {x y : Int64} (h : x = y) (k : gz_V Z X G nL rem μ pc lv (.long x :: st)) : gz_V Z X G nL rem μ pc lv (.long y :: st) := h ▸ k
theorem gz_st {st9 : List Value} (h : st9 = st) (k : gz_V Z X G nL rem μ pc lv (st)) : gz_V Z X G nL rem μ pc lv (st9) := by subst h; exact k
theorem gz_sub {lw : List (Nat × Value)} (ks : List Nat) (h : lv_pick lv ks = lw) (k : gz_V Z X G nL rem μ pc lw (st)) : gz_V Z X G nL rem μ pc lv (st) :=
  fun H locs ls cs hR hC hA hl => k H locs ls cs hR hC hA (lv_sub hl ks h)
theorem gz_tsOut (hX : gz_C Z X G cc nL own fr lo) {dflt lo0 hi : Int} {offs : Array Int} {len : Nat} {x : Int32} {tgt : Nat} (hd : decode cc pc = .ok (.tableswitch dflt lo0 hi offs, len)) (h : x.toInt < lo0 ∨ hi < x.toInt) (ht : (pc : Int) + dflt = (tgt : Int)) (k : gz_V Z X G nL rem μ tgt lv (st)) : gz_V Z X G nL rem μ pc lv (.int x :: st) :=
  fun H locs ls cs hR hC hA hl => lv_tableOut hX.1 hX.2.1 hd h ht (k H locs ls cs hR hC hA hl)
theorem gz_tsIn (hX : gz_C Z X G cc nL own fr lo) {dflt lo0 hi : Int} {offs : Array Int} {len : Nat} {x v : Int32} {off : Int} {tgt : Nat} (hx : x = v) (hd : decode cc pc = .ok (.tableswitch dflt lo0 hi offs, len)) (hr : ¬ v.toInt < lo0 ∧ ¬ hi < v.toInt ∧ offs[(v.toInt - lo0).toNat]? = some off) (ht : (pc : Int) + off = (tgt : Int)) (k : gz_V Z X G nL rem μ tgt lv (st)) : gz_V Z X G nL rem μ pc lv (.int x :: st) :=
  fun H locs ls cs hR hC hA hl => lv_tableIn hX.1 hX.2.1 hd (by rw [hx]; exact hr.1) (by rw [hx]; exact hr.2.1) (by rw [hx]; exact hr.2.2) ht (k H locs ls cs hR hC hA hl)
theorem gz_lsw (hX : gz_C Z X G cc nL own fr lo) {dflt : Int} {ps : Array (Int × Int)} {len : Nat} {x : Int32} {off : Int} {tgt : Nat} (hd : decode cc pc = .ok (.lookupswitch dflt ps, len)) (hp : (ps.toList.zip (ps.toList.drop 1)).all (fun (a, next) => a.1 < next.1) = true) (ho : Op.lookupswitch.offset ps.toList dflt x.toInt = off) (ht : (pc : Int) + off = (tgt : Int)) (k : gz_V Z X G nL rem μ tgt lv (st)) : gz_V Z X G nL rem μ pc lv (.int x :: st) :=
  fun H locs ls cs hR hC hA hl => lv_lookup hX.1 hX.2.1 hd hp ho ht (k H locs ls cs hR hC hA hl)
/-- getfield, any kind -/
theorem gz_get (hX : gz_C Z X G cc nL own fr lo) {C : String} {T : u_T} {N ci c k index : Nat} (hc : Z.1[ci]? = some (C, T, N)) (hci : ci < 100) (hin : ∀ w ∈ u_ws C T N, w ∈ lw_all) (hk : k < N) (hlink : Cond.fieldLink own index (T k).1 (T k).2.1 (T k).2.2.1 ∈ lw_all) (hd : decode cc pc = .ok (.getfield index, 3)) (hK : μ.1 c = ci + 1)
    (kk : gz_V Z X G nL rem μ (pc + 3) lv (gz_u (gz_ad G) μ (Z.2.1 ci k) c k :: st)) : gz_V Z X G nL rem μ pc lv (.ref (gz_ad G c) :: st) := by
  intro H locs ls cs hR hC hA hl
  obtain ⟨r, h1, cell, q1, q2, q3, q4⟩ := (hR.1 c).1 ci hK hci
  have hr : r = (C, T, N) := Option.some.inj (h1.symm.trans hc)
  subst hr
  obtain ⟨hS, hfc, kC, hkC, hkind⟩ := hX.2.2.2.2.2.1.1.1 ci _ hc
  obtain ⟨cf, kf, fi, f, hi, hsl⟩ := hS k hk
  refine W.getf hX.1 hX.2.1 hX.2.2.2.1 (hX.2.2.2.2.1 _ hlink) hi (u_facts hfc hkC (u_lays hX.2.2.2.2.1 hin hk) hi).1 q1 (by rw [q3]; exact fun h => by cases h) (v := gz_u (gz_ad G) μ (Z.2.1 ci k) c k) ?_ rfl rfl hd (kk H locs ls cs hR hC hA hl)
  rw [hsl, q4 k hk]
/-- putfield of a field that isn't final: v becomes the field's value in μ' -/
theorem gz_put (hX : gz_C Z X G cc nL own fr lo) {C : String} {T : u_T} {N ci c k index : Nat} {v : Value} {μ' : gM} {ty : FieldType} (hc : Z.1[ci]? = some (C, T, N)) (hci : ci < 100) (hin : ∀ w ∈ u_ws C T N, w ∈ lw_all) (ty0 : Nat → FieldType) (hty : ∀ k, k < N → parseFieldDescriptor (T k).2.2.1 = some (ty0 k)) (hnm : ∀ a, a < N → ∀ b, b < N → a ≠ b → (T a).2.1 ≠ (T b).2.1) (hk : k < N) (hlink : Cond.fieldLink own index (T k).1 (T k).2.1 (T k).2.2.1 ∈ lw_all) (hfin : (T k).2.2.2 = false)
    (hd0 : ty0 k = ty) (hn : narrow ty v = v) (hfit : fits ty v = true) (hd : decode cc pc = .ok (.putfield index, 3)) (hK : μ.1 c = ci + 1) (hw : 1000 ≤ c) (hk1 : μ'.1 = μ.1) (hn1 : μ'.2.1 = μ.2.1) (hz1 : μ'.2.2.2.2.2 = μ.2.2.2.2.2) (ho : ∀ d tc j : Nat, d ≠ c → gz_u (gz_ad G) μ' tc d j = gz_u (gz_ad G) μ tc d j)
    (hv : ∀ j, gz_u (gz_ad G) μ' (Z.2.1 ci j) c j = updV (fun j => gz_u (gz_ad G) μ (Z.2.1 ci j) c j) k v j) (hlc : Z.2.2.2.2 μ.1 μ.2.1 μ.2.2.2.2.1 → Z.2.2.2.2 μ'.1 μ'.2.1 μ'.2.2.2.2.1)
    (kk : gz_V Z X G nL rem μ' (pc + 3) lv (st)) : gz_V Z X G nL rem μ pc lv (v :: .ref (gz_ad G c) :: st) := by
  intro H locs ls cs hR hC hA hl
  subst hd0
  obtain ⟨r, h1, cell, q1, q2, q3, q4⟩ := (hR.1 c).1 ci hK hci
  have hr : r = (C, T, N) := Option.some.inj (h1.symm.trans hc)
  subst hr
  obtain ⟨hS, hfc, kC, hkC, hkind⟩ := hX.2.2.2.2.2.1.1.1 ci _ hc
  obtain ⟨cf, kf, fi, f, hi, hsl⟩ := hS k hk
  have hap := va_apart (own := own) hX.2.2.2.2.1 hin ty0 hty hnm hX.2.2.2.2.2.1.1 hc
  have hlay := hX.2.2.2.2.1 _ (hin _ (u_in_lay hk))
  unfold u_lay at hlay
  rw [if_neg (by rw [hfin]; decide)] at hlay
  have hst := (u_facts hfc hkC (u_lays hX.2.2.2.2.1 hin hk) hi).1
  have h6 := u_store hfc hkC hkind hlay hi (hty k hk) hn hfit
  refine W.putK hX.1 hX.2.1 (f := f) ⟨hX.2.2.2.1, hX.2.2.2.2.1 _ hlink, ⟨_, _, _, hi⟩, hst⟩ (by rw [q2]; exact h6) q1 q3 (by rw [hsl]; exact k2_hasslot (q4 k hk)) rfl rfl hd fun H' e1 e2 e3 => ?_
  rw [hsl] at e1 ⊢
  refine kk H' _ ls cs (hR.put hk1 hn1 hz1 ho (by rw [hK]; exact Nat.succ_ne_zero _) hw e2 e3 ⟨fun ci' hci' hlt => ?_, fun t ht => ?_⟩ hlc) hC ?_ hl
  · rw [hk1, hK] at hci'
    have : ci' = ci := (Nat.succ.inj hci').symm
    subst this
    exact ⟨_, hc, t_OB.to ⟨_, e1, q2, q3, t_set q4 hap hk v⟩ (fun j _ => (hv j).symm)⟩
  · rw [hk1, hK] at ht
    omega
  · intro q hq
    rcases List.mem_append.mp hq with h | h
    · exact hA q h
    · rw [List.mem_singleton.mp h]; exact hR.2.2.1 c hw (by rw [hK]; exact Nat.succ_ne_zero _)
theorem gz_iald (hX : gz_C Z X G cc nL own fr lo) {c : Nat} {i : Int32} (hT : Z.2.2.1[0]? = some .int) (hK : μ.1 c = 101) (hi : gz_in i (μ.2.1 c)) (hd : decode cc pc = .ok (.iaload, 1)) (kk : gz_V Z X G nL rem μ (pc + 1) lv (.int (μ.2.2.1 c (gz_ix i)) :: st)) : gz_V Z X G nL rem μ pc lv (.int i :: .ref (gz_ad G c) :: st) := by
  intro H locs ls cs hR hC hA hl
  exact W.iald (v := .int (μ.2.2.1 c (gz_ix i))) hX.1 hX.2.1 ((hR.1 c).2 0 hK) ((gz_ty hX.2.2.2.2.2.1 hT).1 _ _) (fun q => by cases q) (by rw [arrV_size]; exact gz_in_vp hi) (by rw [arrV_read _ _ hi.2]; rfl) rfl rfl hd (kk H locs ls cs hR hC hA hl)
theorem gz_bald (hX : gz_C Z X G cc nL own fr lo) {c : Nat} {i : Int32} (hT : Z.2.2.1[1]? = some .byte) (hK : μ.1 c = 102) (hi : gz_in i (μ.2.1 c)) (hd : decode cc pc = .ok (.baload, 1)) (kk : gz_V Z X G nL rem μ (pc + 1) lv (.int (μ.2.2.1 c (gz_ix i)) :: st)) : gz_V Z X G nL rem μ pc lv (.int i :: .ref (gz_ad G c) :: st) := by
  intro H locs ls cs hR hC hA hl
  exact W.bald (v := .int (μ.2.2.1 c (gz_ix i))) hX.1 hX.2.1 ((hR.1 c).2 1 hK) ((gz_ty hX.2.2.2.2.2.1 hT).1 _ _) (fun q => by cases q) (by rw [arrV_size]; exact gz_in_vp hi) (by rw [arrV_read _ _ hi.2]; rfl) rfl rfl hd (kk H locs ls cs hR hC hA hl)
theorem gz_cald (hX : gz_C Z X G cc nL own fr lo) {c : Nat} {i : Int32} (hT : Z.2.2.1[2]? = some .char) (hK : μ.1 c = 103) (hi : gz_in i (μ.2.1 c)) (hd : decode cc pc = .ok (.caload, 1)) (kk : gz_V Z X G nL rem μ (pc + 1) lv (.int (μ.2.2.1 c (gz_ix i)) :: st)) : gz_V Z X G nL rem μ pc lv (.int i :: .ref (gz_ad G c) :: st) := by
  intro H locs ls cs hR hC hA hl
  exact W.cald (v := .int (μ.2.2.1 c (gz_ix i))) hX.1 hX.2.1 ((hR.1 c).2 2 hK) ((gz_ty hX.2.2.2.2.2.1 hT).1 _ _) (fun q => by cases q) (by rw [arrV_size]; exact gz_in_vp hi) (by rw [arrV_read _ _ hi.2]; rfl) rfl rfl hd (kk H locs ls cs hR hC hA hl)
theorem gz_zald (hX : gz_C Z X G cc nL own fr lo) {c : Nat} {i : Int32} (hT : Z.2.2.1[3]? = some .boolean) (hK : μ.1 c = 104) (hi : gz_in i (μ.2.1 c)) (hd : decode cc pc = .ok (.baload, 1)) (kk : gz_V Z X G nL rem μ (pc + 1) lv (.int (μ.2.2.1 c (gz_ix i)) :: st)) : gz_V Z X G nL rem μ pc lv (.int i :: .ref (gz_ad G c) :: st) := by
  intro H locs ls cs hR hC hA hl
  exact W.zald (v := .int (μ.2.2.1 c (gz_ix i))) hX.1 hX.2.1 ((hR.1 c).2 3 hK) ((gz_ty hX.2.2.2.2.2.1 hT).1 _ _) (fun q => by cases q) (by rw [arrV_size]; exact gz_in_vp hi) (by rw [arrV_read _ _ hi.2]; rfl) rfl rfl hd (kk H locs ls cs hR hC hA hl)
theorem gz_lald (hX : gz_C Z X G cc nL own fr lo) {c : Nat} {i : Int32} (hT : Z.2.2.1[4]? = some .long) (hK : μ.1 c = 105) (hi : gz_in i (μ.2.1 c)) (hd : decode cc pc = .ok (.laload, 1)) (kk : gz_V Z X G nL rem μ (pc + 1) lv (.long (μ.2.2.2.1 c (gz_ix i)) :: st)) : gz_V Z X G nL rem μ pc lv (.int i :: .ref (gz_ad G c) :: st) := by
  intro H locs ls cs hR hC hA hl
  exact W.lald (v := .long (μ.2.2.2.1 c (gz_ix i))) hX.1 hX.2.1 ((hR.1 c).2 4 hK) ((gz_ty hX.2.2.2.2.2.1 hT).1 _ _) (fun q => by cases q) (by rw [arrV_size]; exact gz_in_vp hi) (by rw [arrV_read _ _ hi.2]; rfl) rfl rfl hd (kk H locs ls cs hR hC hA hl)
theorem gz_iast (hX : gz_C Z X G cc nL own fr lo) {c : Nat} {i : Int32} {x : Int32} {μ' : gM} (hT : Z.2.2.1[0]? = some .int) (hK : μ.1 c = 101) (hw : 1000 ≤ c) (hi : gz_in i (μ.2.1 c)) (hd : decode cc pc = .ok (.iastore, 1)) (hm : μ' = gz_sI μ c (gz_ix i) (x)) (kk : gz_V Z X G nL rem μ' (pc + 1) lv (st)) : gz_V Z X G nL rem μ pc lv (.int x :: .int i :: .ref (gz_ad G c) :: st) := by
  intro H locs ls cs hR hC hA hl
  subst hm
  refine W.iast hX.1 hX.2.1 ((hR.1 c).2 0 hK) ((gz_ty hX.2.2.2.2.2.1 hT).1 _ _) (fun q => by cases q) (by rw [arrV_size]; exact gz_in_vp hi) rfl rfl hd fun H1 e z oq => ?_
  refine kk H1 _ ls cs (hR.put rfl rfl rfl (fun d tc j h => gz_sI_o d tc j h) (by rw [hK]; decide) hw z oq ⟨fun ci' hci' hlt => ?_, fun t' ht' => ?_⟩ (fun h => h)) hC ?_ hl
  · have : μ.1 c = ci' + 1 := hci'
    omega
  · have ht2 : μ.1 c = t' + 101 := ht'
    have : t' = 0 := by omega
    subst this
    rw [e, arrV_store]
    congr 2
    funext j
    exact (gz_sI_v (ad := gz_ad G) (fun _ => gz_et 0) rfl j).symm
  · intro q hq
    rcases List.mem_append.mp hq with h | h
    · exact hA q h
    · rw [List.mem_singleton.mp h]; exact hR.2.2.1 c hw (by rw [hK]; decide)
theorem gz_bast (hX : gz_C Z X G cc nL own fr lo) {c : Nat} {i : Int32} {x : Int32} {μ' : gM} (hT : Z.2.2.1[1]? = some .byte) (hK : μ.1 c = 102) (hw : 1000 ≤ c) (hi : gz_in i (μ.2.1 c)) (hd : decode cc pc = .ok (.bastore, 1)) (hm : μ' = gz_sI μ c (gz_ix i) (x.toInt8.toInt32)) (kk : gz_V Z X G nL rem μ' (pc + 1) lv (st)) : gz_V Z X G nL rem μ pc lv (.int x :: .int i :: .ref (gz_ad G c) :: st) := by
  intro H locs ls cs hR hC hA hl
  subst hm
  refine W.bast hX.1 hX.2.1 ((hR.1 c).2 1 hK) ((gz_ty hX.2.2.2.2.2.1 hT).1 _ _) (fun q => by cases q) (by rw [arrV_size]; exact gz_in_vp hi) rfl rfl hd fun H1 e z oq => ?_
  refine kk H1 _ ls cs (hR.put rfl rfl rfl (fun d tc j h => gz_sI_o d tc j h) (by rw [hK]; decide) hw z oq ⟨fun ci' hci' hlt => ?_, fun t' ht' => ?_⟩ (fun h => h)) hC ?_ hl
  · have : μ.1 c = ci' + 1 := hci'
    omega
  · have ht2 : μ.1 c = t' + 101 := ht'
    have : t' = 1 := by omega
    subst this
    rw [e, arrV_store]
    congr 2
    funext j
    exact (gz_sI_v (ad := gz_ad G) (fun _ => gz_et 1) rfl j).symm
  · intro q hq
    rcases List.mem_append.mp hq with h | h
    · exact hA q h
    · rw [List.mem_singleton.mp h]; exact hR.2.2.1 c hw (by rw [hK]; decide)
theorem gz_cast (hX : gz_C Z X G cc nL own fr lo) {c : Nat} {i : Int32} {x : Int32} {μ' : gM} (hT : Z.2.2.1[2]? = some .char) (hK : μ.1 c = 103) (hw : 1000 ≤ c) (hi : gz_in i (μ.2.1 c)) (hd : decode cc pc = .ok (.castore, 1)) (hm : μ' = gz_sI μ c (gz_ix i) (x.toUInt32.toUInt16.toUInt32.toInt32)) (kk : gz_V Z X G nL rem μ' (pc + 1) lv (st)) : gz_V Z X G nL rem μ pc lv (.int x :: .int i :: .ref (gz_ad G c) :: st) := by
  intro H locs ls cs hR hC hA hl
  subst hm
  refine W.cast hX.1 hX.2.1 ((hR.1 c).2 2 hK) ((gz_ty hX.2.2.2.2.2.1 hT).1 _ _) (fun q => by cases q) (by rw [arrV_size]; exact gz_in_vp hi) rfl rfl hd fun H1 e z oq => ?_
  refine kk H1 _ ls cs (hR.put rfl rfl rfl (fun d tc j h => gz_sI_o d tc j h) (by rw [hK]; decide) hw z oq ⟨fun ci' hci' hlt => ?_, fun t' ht' => ?_⟩ (fun h => h)) hC ?_ hl
  · have : μ.1 c = ci' + 1 := hci'
    omega
  · have ht2 : μ.1 c = t' + 101 := ht'
    have : t' = 2 := by omega
    subst this
    rw [e, arrV_store]
    congr 2
    funext j
    exact (gz_sI_v (ad := gz_ad G) (fun _ => gz_et 2) rfl j).symm
  · intro q hq
    rcases List.mem_append.mp hq with h | h
    · exact hA q h
    · rw [List.mem_singleton.mp h]; exact hR.2.2.1 c hw (by rw [hK]; decide)
theorem gz_zast (hX : gz_C Z X G cc nL own fr lo) {c : Nat} {i : Int32} {x : Int32} {μ' : gM} (hT : Z.2.2.1[3]? = some .boolean) (hK : μ.1 c = 104) (hw : 1000 ≤ c) (hi : gz_in i (μ.2.1 c)) (hd : decode cc pc = .ok (.bastore, 1)) (hm : μ' = gz_sI μ c (gz_ix i) ((x &&& 1))) (kk : gz_V Z X G nL rem μ' (pc + 1) lv (st)) : gz_V Z X G nL rem μ pc lv (.int x :: .int i :: .ref (gz_ad G c) :: st) := by
  intro H locs ls cs hR hC hA hl
  subst hm
  refine W.zast hX.1 hX.2.1 ((hR.1 c).2 3 hK) ((gz_ty hX.2.2.2.2.2.1 hT).1 _ _) (fun q => by cases q) (by rw [arrV_size]; exact gz_in_vp hi) rfl rfl hd fun H1 e z oq => ?_
  refine kk H1 _ ls cs (hR.put rfl rfl rfl (fun d tc j h => gz_sI_o d tc j h) (by rw [hK]; decide) hw z oq ⟨fun ci' hci' hlt => ?_, fun t' ht' => ?_⟩ (fun h => h)) hC ?_ hl
  · have : μ.1 c = ci' + 1 := hci'
    omega
  · have ht2 : μ.1 c = t' + 101 := ht'
    have : t' = 3 := by omega
    subst this
    rw [e, arrV_store]
    congr 2
    funext j
    exact (gz_sI_v (ad := gz_ad G) (fun _ => gz_et 3) rfl j).symm
  · intro q hq
    rcases List.mem_append.mp hq with h | h
    · exact hA q h
    · rw [List.mem_singleton.mp h]; exact hR.2.2.1 c hw (by rw [hK]; decide)
theorem gz_last (hX : gz_C Z X G cc nL own fr lo) {c : Nat} {i : Int32} {x : Int64} {μ' : gM} (hT : Z.2.2.1[4]? = some .long) (hK : μ.1 c = 105) (hw : 1000 ≤ c) (hi : gz_in i (μ.2.1 c)) (hd : decode cc pc = .ok (.lastore, 1)) (hm : μ' = gz_sL μ c (gz_ix i) (x)) (kk : gz_V Z X G nL rem μ' (pc + 1) lv (st)) : gz_V Z X G nL rem μ pc lv (.long x :: .int i :: .ref (gz_ad G c) :: st) := by
  intro H locs ls cs hR hC hA hl
  subst hm
  refine W.last hX.1 hX.2.1 ((hR.1 c).2 4 hK) ((gz_ty hX.2.2.2.2.2.1 hT).1 _ _) (fun q => by cases q) (by rw [arrV_size]; exact gz_in_vp hi) rfl rfl hd fun H1 e z oq => ?_
  refine kk H1 _ ls cs (hR.put rfl rfl rfl (fun d tc j h => gz_sL_o d tc j h) (by rw [hK]; decide) hw z oq ⟨fun ci' hci' hlt => ?_, fun t' ht' => ?_⟩ (fun h => h)) hC ?_ hl
  · have : μ.1 c = ci' + 1 := hci'
    omega
  · have ht2 : μ.1 c = t' + 101 := ht'
    have : t' = 4 := by omega
    subst this
    rw [e, arrV_store]
    congr 2
    funext j
    exact (gz_sL_v (ad := gz_ad G) (fun _ => gz_et 4) rfl j).symm
  · intro q hq
    rcases List.mem_append.mp hq with h | h
    · exact hA q h
    · rw [List.mem_singleton.mp h]; exact hR.2.2.1 c hw (by rw [hK]; decide)
theorem gz_alen (hX : gz_C Z X G cc nL own fr lo) {c t : Nat} {ty : FieldType} (hT : Z.2.2.1[t]? = some ty) (hK : μ.1 c = t + 101) (hd : decode cc pc = .ok (.arraylength, 1)) (kk : gz_V Z X G nL rem μ (pc + 1) lv (.int (nI (μ.2.1 c)) :: st)) : gz_V Z X G nL rem μ pc lv (.ref (gz_ad G c) :: st) := by
  intro H locs ls cs hR hC hA hl
  exact W.alen (n := nI (μ.2.1 c)) hX.1 hX.2.1 ((hR.1 c).2 t hK) ((gz_ty hX.2.2.2.2.2.1 hT).1 _ _) (by rw [arrV_size]; rfl) rfl rfl hd (kk H locs ls cs hR hC hA hl)
/-- a method's contract in this world: from memory μ it returns v, and leaves μ' -/
def gz_Met (Z : gz_S) (G : gz_G) (l : Launch) (y : MethodName) (bytes : ByteArray) (maxL : Nat) (ret : Option FieldType) (rm : Room) (as : List Value) (μ μ' : gM) (v : Option Value) : Prop :=
  Met l y (ws_ y bytes maxL ret) rm (va_Pc as (fun U => gz_R Z G μ U.heap ∧ gz_K Z G U)) (fun _ _ o t => o = .returned v ∧ gz_R Z G μ' t.heap) rm.cells rm.slots (gz_A G)
theorem gz_recv {H : Heap} (hK : gz_K Z G X.2.2.2.2.1) (hR : gz_R Z G μ H) {ci c : Nat} {q : vw_C} (hc : Z.1[ci]? = some q) (hci : ci < 100) (hk : μ.1 c = ci + 1) : ∃ cell : Cell, H[gz_ad G c]? = some cell ∧ cell.vm.isStatics = false ∧ X.2.2.2.2.1.vm.findClass q.1 = some cell.cls := by
  obtain ⟨r, h1, cell, q1, q2, q3, -⟩ := (hR.1 c).1 ci hk hci
  exact ⟨cell, q1, by rw [q3]; rfl, by rw [q2]; exact (hK.1.1 ci q hc).2.1⟩
theorem gz_run {y : MethodName} {mc ms : Nat} {cs : Nat × Nat} {μ' : gM} {v : Option Value} {rest st0 : List Value} {a : Array Value} {H : Heap} {locs : List Loc} {ls : Array Slot}
    (hr : va_Run X.1 X.2.1 X.2.2.1 X.2.2.2.1 X.2.2.2.2.1 X.2.2.2.2.2.1 X.2.2.2.2.2.2.1 X.2.2.2.2.2.2.2.1 X.2.2.2.2.2.2.2.2.1 X.2.2.2.2.2.2.2.2.2.1 H locs cs.1 cs.2 mc ms (F0 X.2.2.2.2.2.1 pc ls st0) rest (fun st o t => o = .returned v ∧ gz_R Z G μ' t.heap) (gz_A G)) (hC : cs.1 + (rem.1 + mc) = X.2.2.2.1.cells ∧ cs.2 + (rem.2 + ms) = X.2.2.2.1.slots) (hA : ∀ q ∈ locs, gz_A G q.base) (hl : lv_has ls nL lv)
    (kk : gz_V Z X G nL rem μ' (pc + 3) lv (v.toList ++ rest)) : W X.1 X.2.1 X.2.2.1 X.2.2.2.1 X.2.2.2.2.1 X.2.2.2.2.2.1 X.2.2.2.2.2.2.1 X.2.2.2.2.2.2.2.1 X.2.2.2.2.2.2.2.2.1 X.2.2.2.2.2.2.2.2.2.1 H locs cs.1 cs.2 X.2.2.2.2.2.2.2.2.2.2 (F0 X.2.2.2.2.2.1 pc ls st0) := by
  intro T hT Y
  obtain ⟨v', st₀, t, T', L, h0, Y', hL, e1, e2, ⟨hv, hR'⟩, go⟩ := hr T hT Y
  cases hv
  obtain ⟨t2, a1, b1⟩ := kk T'.heap (locs ++ L) ls (cs.1 + mc, cs.2 + ms) (by rw [e1]; exact hR') (by have := hC.1; have := hC.2; constructor <;> (dsimp only; omega)) (fun q hq => by
    rcases List.mem_append.mp hq with h | h
    · exact hA q h
    · exact hL q h) hl T' rfl Y'
  exact ⟨t2, go t2 a1, b1⟩
theorem gz_callV (hX : gz_C Z X G cc nL own fr lo) (hE : gz_Es Z) {y : MethodName} {bytes : ByteArray} {maxL n index ci c : Nat} {ret : Option FieldType} {rm : Room} {As rest st0 : List Value} {μ' : gM} {v : Option Value} {q : vw_C}
    (hM : gz_Met Z G X.2.1 y bytes maxL ret rm (.ref (gz_ad G c) :: As) μ μ' v) (hw : GoodIn lw_all (wsV own index q.1 y (ws_ y bytes maxL ret)))
    (hdd : y.cls = q.1 ∧ y.cls ≠ "java/lang/invoke/MethodHandle" ∧ y.cls ≠ "java/lang/invoke/VarHandle" ∧ (parseMethodDescriptor y.desc).map (fun d => d.parameters.length) = some n) (hroom : rm.frames + 1 ≤ fr ∧ 8 + (maxL + 11) + rm.locals ≤ lo) (hn : As.length = n)
    (hc : Z.1[ci]? = some q) (hci : ci < 100) (hk : μ.1 c = ci + 1) (hst : st0 = As.reverse ++ .ref (gz_ad G c) :: rest) (hW : (rest.map fun v => v.category).sum ≤ 8) (hd : decode cc pc = .ok (.invokevirtual index, 3)) 
    (kk : gz_V Z X G nL rem μ' (pc + 3) lv (v.toList ++ rest)) : gz_V Z X G nL (rem.1 + rm.cells, rem.2 + rm.slots) μ pc lv (st0) := by
  intro H locs ls cs hR hC hA hl
  obtain ⟨h1, h2, h3, h4, h5, h6, h7, h8⟩ := hX
  subst hst
  refine gz_run (y := y) (a := (Value.ref (gz_ad G c) :: As).toArray) (va_runV (As := As) (rest := rest) ⟨h1, h2, h3, h4, h5⟩ hM (cwV n h5 hw rfl rfl rfl hdd ⟨Nat.le_trans hroom.1 h7, Nat.le_trans hroom.2 h8⟩) ⟨fun a U g mk z => ⟨z.1, z.2.1, gz_K.same hE g mk a z.2.2⟩, gz_recv h6 hR hc hci hk, fun U hU hW => ⟨rfl, by rw [hU]; exact hR, gz_K.warm hE hW h6⟩⟩ rfl hn hl.1 rfl (lv_room hW) hd ⟨by have := hC.1; dsimp only at this; omega, by have := hC.2; dsimp only at this; omega⟩) hC hA hl kk
theorem gz_callS (hX : gz_C Z X G cc nL own fr lo) (hE : gz_Es Z) {y : MethodName} {bytes : ByteArray} {maxL n index : Nat} {ret : Option FieldType} {rm : Room} {As rest st0 : List Value} {μ' : gM} {v : Option Value}
    (hM : gz_Met Z G X.2.1 y bytes maxL ret rm As μ μ' v) (hw : GoodIn lw_all (va_wsS own index y (ws_ y bytes maxL ret)))
    (hdd : y.cls ≠ "java/lang/invoke/MethodHandle" ∧ y.cls ≠ "java/lang/invoke/VarHandle" ∧ (parseMethodDescriptor y.desc).map (fun d => d.parameters.length) = some n) (hroom : rm.frames + 1 ≤ fr ∧ 8 + (maxL + 11) + rm.locals ≤ lo) (hn : As.length = n)
    (hst : st0 = As.reverse ++ rest) (hW : (rest.map fun v => v.category).sum ≤ 8) (hd : decode cc pc = .ok (.invokestatic index, 3)) 
    (kk : gz_V Z X G nL rem μ' (pc + 3) lv (v.toList ++ rest)) : gz_V Z X G nL (rem.1 + rm.cells, rem.2 + rm.slots) μ pc lv (st0) := by
  intro H locs ls cs hR hC hA hl
  obtain ⟨h1, h2, h3, h4, h5, h6, h7, h8⟩ := hX
  subst hst
  refine gz_run (y := y) (a := As.toArray) (va_runS (As := As) (rest := rest) ⟨h1, h2, h3, h4, h5⟩ hM (va_cwS n h5 hw rfl rfl rfl hdd ⟨Nat.le_trans hroom.1 h7, Nat.le_trans hroom.2 h8⟩) ⟨fun a U g mk z => ⟨z.1, z.2.1, gz_K.same hE g mk a z.2.2⟩, fun U hU hW => ⟨rfl, by rw [hU]; exact hR, gz_K.warm hE hW h6⟩⟩ rfl hn hl.1 rfl (lv_room hW) hd ⟨by have := hC.1; dsimp only at this; omega, by have := hC.2; dsimp only at this; omega⟩) hC hA hl kk
end GZV
/-! ends of methods: what stands behind the last instruction -/
def gz_kI (Z : gz_S) (X : gz_X) (G : gz_G) (nL : Nat) (rem : Nat × Nat) (cc : ByteArray) (μ : gM) (r : Int32) : Prop := ∀ (pc : Nat) (lv : List (Nat × Value)), decode cc pc = .ok (.ireturn, 1) → gz_V Z X G nL rem μ pc lv [.int r]
def gz_kZ (Z : gz_S) (X : gz_X) (G : gz_G) (nL : Nat) (rem : Nat × Nat) (cc : ByteArray) (μ : gM) (r : Int32) : Prop := ∀ (pc : Nat) (lv : List (Nat × Value)), decode cc pc = .ok (.ireturn, 1) → (r = 0 ∨ r = 1) → gz_V Z X G nL rem μ pc lv [.int r]
def gz_kN (Z : gz_S) (X : gz_X) (G : gz_G) (nL : Nat) (rem : Nat × Nat) (cc : ByteArray) (ty : FieldType) (μ : gM) (r : Int32) : Prop := ∀ (pc : Nat) (lv : List (Nat × Value)), decode cc pc = .ok (.ireturn, 1) → narrow ty (.int r) = .int r → gz_V Z X G nL rem μ pc lv [.int r]
def gz_kL (Z : gz_S) (X : gz_X) (G : gz_G) (nL : Nat) (rem : Nat × Nat) (cc : ByteArray) (μ : gM) (r : Int64) : Prop := ∀ (pc : Nat) (lv : List (Nat × Value)), decode cc pc = .ok (.lreturn, 1) → gz_V Z X G nL rem μ pc lv [.long r]
def gz_kV (Z : gz_S) (X : gz_X) (G : gz_G) (nL : Nat) (rem : Nat × Nat) (cc : ByteArray) (μ : gM) : Prop := ∀ (pc : Nat) (lv : List (Nat × Value)), decode cc pc = .ok (.return_, 1) → gz_V Z X G nL rem μ pc lv []
section GZM
variable {Z : gz_S} {G : gz_G} {l : Launch} {y : MethodName} {cc : ByteArray} {nL : Nat} {rm : Room} {as : List Value} {μ μ' : gM}
theorem gz_of {ret : Option FieldType} {v : Option Value} (hy : plainFor y = true) (hsz : (lg_sl as).length ≤ nL)
    (body : ∀ (p : Program) (e : Env) (s : State) (m : MethodId) (args : Array Value) (below : List Frame) (meth : Method) (c : Code) (X : gz_X), X = (p, l, e, rm, s, m, args, below, meth, c, MQ below (fun _ _ o t => o = .returned v ∧ gz_R Z G μ' t.heap) args s rm.cells rm.slots (gz_A G)) → p.tables.exec = Jvm.exec → c.code = cc → meth.sig.returnType = ret → meth.locks = false → gz_C Z X G cc nL y.cls rm.frames rm.locals → meth.name = y.name → gz_V Z X G nL (rm.cells, rm.slots) μ 0 (lv_args 0 as) []) :
    gz_Met Z G l y cc nL ret rm as μ μ' v := by
  unfold gz_Met Met
  refine MetFree.of_bodySF (code := cc) (maxLocals := nL) (ret := ret) hy ?_ ?_
  · intro args s m h hn
    obtain ⟨meth, c, h1, h2, h3, h4, h5, h6, -, -⟩ := Cond.code_spec hn (atoms_spec (ws := ws_ y cc nL ret) h _ List.mem_cons_self)
    exact ⟨meth, c, h1, h2, h3, h4, h5, h6⟩
  · intro p e s m args below meth c s₁ B hml hv _
    obtain ⟨rfl, hR, hK⟩ := hv
    have hts := atoms_spec (ws := ws_ y cc nL ret) B.pre
    have hts : ∀ w ∈ lw_all, w.before _ s = true := fun w h => hts w (List.mem_cons_of_mem _ h)
    have hown : s.vm.findClass y.cls = some m.cls := findClass_of_methodNamed B.named
    have hh0 : s₁.heap = s.heap := by rw [B.state]; rfl
    obtain ⟨t, a1, o, b1, b2, b3⟩ := body p e s m _ below meth c _ rfl B.exec B.bytes B.returns B.notSynchronized ⟨B.exec, B.bytes, hml, hown, hts, hK, Nat.le_refl _, Nat.le_refl _⟩ (name_of_methodNamed B.named B.method).1 s.heap [] _ (0, 0) hR ⟨Nat.zero_add _, Nat.zero_add _⟩ (fun q h => by cases h) (lv_entry as hsz) s₁ hh0 (Stand.of_body B)
    rw [← lg_entry_eq] at a1
    exact ⟨t, o, a1, b1, b2, ⟨b3.1, b3.2⟩⟩
theorem gz_ofI {r : Int32} (hy : plainFor y = true) (hsz : (lg_sl as).length ≤ nL)
    (body : ∀ X : gz_X, X.2.1 = l → gz_C Z X G cc nL y.cls rm.frames rm.locals → gz_kI Z X G nL (0, 0) cc μ' r → gz_V Z X G nL (rm.cells, rm.slots) μ 0 (lv_args 0 as) []) : gz_Met Z G l y cc nL (some .int) rm as μ μ' (some (.int r)) := by
  refine gz_of hy hsz fun p e s m args below meth c X eX hx hb hr hlk hC hnm => ?_
  subst eX
  refine body _ rfl hC fun pc lv hd H locs ls cs hR hC hA hl => ?_
  obtain ⟨c1, c2⟩ := cs
  obtain ⟨e1, e2⟩ := hC
  have e1 : c1 = rm.cells := e1
  have e2 : c2 = rm.slots := e2
  subst e1; subst e2
  show W p l e rm s m args below meth c H locs rm.cells rm.slots (MQ below (fun _ _ o t => o = .returned (some (.int r)) ∧ gz_R Z G μ' t.heap) args s rm.cells rm.slots (gz_A G)) (F0 m pc ls [.int r])
  exact W.iret hx hb hr (fun t ht hW => ⟨rfl, by rw [ht]; exact hR⟩) hA hd hlk
theorem gz_ofZ {r : Int32} (hy : plainFor y = true) (hsz : (lg_sl as).length ≤ nL) 
    (body : ∀ X : gz_X, X.2.1 = l → gz_C Z X G cc nL y.cls rm.frames rm.locals → gz_kZ Z X G nL (0, 0) cc μ' r → gz_V Z X G nL (rm.cells, rm.slots) μ 0 (lv_args 0 as) []) : gz_Met Z G l y cc nL (some .boolean) rm as μ μ' (some (.int r)) := by
  refine gz_of hy hsz fun p e s m args below meth c X eX hx hb hr hlk hC hnm => ?_
  subst eX
  refine body _ rfl hC fun pc lv hd hz H locs ls cs hR hC hA hl => ?_
  obtain ⟨c1, c2⟩ := cs
  obtain ⟨e1, e2⟩ := hC
  have e1 : c1 = rm.cells := e1
  have e2 : c2 = rm.slots := e2
  subst e1; subst e2
  have hn : narrow .boolean (.int r) = .int r := by rcases hz with h | h <;> rw [h] <;> rfl
  show W p l e rm s m args below meth c H locs rm.cells rm.slots (MQ below (fun _ _ o t => o = .returned (some (.int r)) ∧ gz_R Z G μ' t.heap) args s rm.cells rm.slots (gz_A G)) (F0 m pc ls [.int r])
  exact W.zret hx hb hr hn (fun t ht hW => ⟨rfl, by rw [ht]; exact hR⟩) hA hd hlk
theorem gz_ofN {r : Int32} {ty : FieldType} (hy : plainFor y = true) (hsz : (lg_sl as).length ≤ nL) 
    (body : ∀ X : gz_X, X.2.1 = l → gz_C Z X G cc nL y.cls rm.frames rm.locals → gz_kN Z X G nL (0, 0) cc ty μ' r → gz_V Z X G nL (rm.cells, rm.slots) μ 0 (lv_args 0 as) []) : gz_Met Z G l y cc nL (some ty) rm as μ μ' (some (.int r)) := by
  refine gz_of hy hsz fun p e s m args below meth c X eX hx hb hr hlk hC hnm => ?_
  subst eX
  refine body _ rfl hC fun pc lv hd hn H locs ls cs hR hC hA hl => ?_
  obtain ⟨c1, c2⟩ := cs
  obtain ⟨e1, e2⟩ := hC
  have e1 : c1 = rm.cells := e1
  have e2 : c2 = rm.slots := e2
  subst e1; subst e2
  show W p l e rm s m args below meth c H locs rm.cells rm.slots (MQ below (fun _ _ o t => o = .returned (some (.int r)) ∧ gz_R Z G μ' t.heap) args s rm.cells rm.slots (gz_A G)) (F0 m pc ls [.int r])
  exact W.zret hx hb hr hn (fun t ht hW => ⟨rfl, by rw [ht]; exact hR⟩) hA hd hlk
theorem gz_ofL {r : Int64} (hy : plainFor y = true) (hsz : (lg_sl as).length ≤ nL)
    (body : ∀ X : gz_X, X.2.1 = l → gz_C Z X G cc nL y.cls rm.frames rm.locals → gz_kL Z X G nL (0, 0) cc μ' r → gz_V Z X G nL (rm.cells, rm.slots) μ 0 (lv_args 0 as) []) : gz_Met Z G l y cc nL (some .long) rm as μ μ' (some (.long r)) := by
  refine gz_of hy hsz fun p e s m args below meth c X eX hx hb hr hlk hC hnm => ?_
  subst eX
  refine body _ rfl hC fun pc lv hd H locs ls cs hR hC hA hl => ?_
  obtain ⟨c1, c2⟩ := cs
  obtain ⟨e1, e2⟩ := hC
  have e1 : c1 = rm.cells := e1
  have e2 : c2 = rm.slots := e2
  subst e1; subst e2
  show W p l e rm s m args below meth c H locs rm.cells rm.slots (MQ below (fun _ _ o t => o = .returned (some (.long r)) ∧ gz_R Z G μ' t.heap) args s rm.cells rm.slots (gz_A G)) (F0 m pc ls [.long r])
  exact W.lret hx hb hr (fun t ht hW => ⟨rfl, by rw [ht]; exact hR⟩) hA hd hlk
theorem gz_ofV (hy : plainFor y = true) (hsz : (lg_sl as).length ≤ nL)
    (body : ∀ X : gz_X, X.2.1 = l → gz_C Z X G cc nL y.cls rm.frames rm.locals → gz_kV Z X G nL (0, 0) cc μ' → gz_V Z X G nL (rm.cells, rm.slots) μ 0 (lv_args 0 as) []) : gz_Met Z G l y cc nL none rm as μ μ' none := by
  refine gz_of hy hsz fun p e s m args below meth c X eX hx hb hr hlk hC hnm => ?_
  subst eX
  refine body _ rfl hC fun pc lv hd H locs ls cs hR hC hA hl => ?_
  obtain ⟨c1, c2⟩ := cs
  obtain ⟨e1, e2⟩ := hC
  have e1 : c1 = rm.cells := e1
  have e2 : c2 = rm.slots := e2
  subst e1; subst e2
  show W p l e rm s m args below meth c H locs rm.cells rm.slots (MQ below (fun _ _ o t => o = .returned none ∧ gz_R Z G μ' t.heap) args s rm.cells rm.slots (gz_A G)) (F0 m pc ls [])
  exact W.vret hx hb hr (fun t ht hW => ⟨rfl, by rw [ht]; exact hR⟩) hA hd hlk
theorem gz_ofVc (hy : plainFor y = true) (hsz : (lg_sl as).length ≤ nL)
    (body : ∀ X : gz_X, X.2.1 = l → X.2.2.2.2.2.2.2.2.1.name = y.name → gz_C Z X G cc nL y.cls rm.frames rm.locals → gz_kV Z X G nL (0, 0) cc μ' → gz_V Z X G nL (rm.cells, rm.slots) μ 0 (lv_args 0 as) []) : gz_Met Z G l y cc nL none rm as μ μ' none := by
  refine gz_of hy hsz fun p e s m args below meth c X eX hx hb hr hlk hC hnm => ?_
  subst eX
  refine body _ rfl hnm hC fun pc lv hd H locs ls cs hR hC hA hl => ?_
  obtain ⟨c1, c2⟩ := cs
  obtain ⟨e1, e2⟩ := hC
  have e1 : c1 = rm.cells := e1
  have e2 : c2 = rm.slots := e2
  subst e1; subst e2
  show W p l e rm s m args below meth c H locs rm.cells rm.slots (MQ below (fun _ _ o t => o = .returned none ∧ gz_R Z G μ' t.heap) args s rm.cells rm.slots (gz_A G)) (F0 m pc ls [])
  exact W.vret hx hb hr (fun t ht hW => ⟨rfl, by rw [ht]; exact hR⟩) hA hd hlk
end GZM
