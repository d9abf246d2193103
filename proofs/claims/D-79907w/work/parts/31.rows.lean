section JR
variable {Z : jZ} {d : Nat} {cc : ByteArray} {own : String} {ret : Option FieldType} {y : MethodName}
theorem jr_iadd (C : jC Z d cc own ret y) (pc' : Nat) {pc : Nat} {S : jS} {lv : List (Nat × Value)} {st : List Value} {x y0 : Int32} (hp : pc + 1 = pc') (hdg : decode cc pc = .ok (.iadd, 1))  (k : jJ Z S lv pc' (.int (x + y0) :: st)) : jJ Z S lv pc (.int y0 :: .int x :: st) := by
  subst hp
  exact fun H locs cells slots ls hW hz hL hl => lv_iadd C.1 C.2.1 hdg  (k H locs cells slots ls hW hz hL hl)
theorem jr_isub (C : jC Z d cc own ret y) (pc' : Nat) {pc : Nat} {S : jS} {lv : List (Nat × Value)} {st : List Value} {x y0 : Int32} (hp : pc + 1 = pc') (hdg : decode cc pc = .ok (.isub, 1))  (k : jJ Z S lv pc' (.int (x - y0) :: st)) : jJ Z S lv pc (.int y0 :: .int x :: st) := by
  subst hp
  exact fun H locs cells slots ls hW hz hL hl => lv_isub C.1 C.2.1 hdg  (k H locs cells slots ls hW hz hL hl)
theorem jr_imul (C : jC Z d cc own ret y) (pc' : Nat) {pc : Nat} {S : jS} {lv : List (Nat × Value)} {st : List Value} {x y0 : Int32} (hp : pc + 1 = pc') (hdg : decode cc pc = .ok (.imul, 1))  (k : jJ Z S lv pc' (.int (x * y0) :: st)) : jJ Z S lv pc (.int y0 :: .int x :: st) := by
  subst hp
  exact fun H locs cells slots ls hW hz hL hl => lv_imul C.1 C.2.1 hdg  (k H locs cells slots ls hW hz hL hl)
theorem jr_iand (C : jC Z d cc own ret y) (pc' : Nat) {pc : Nat} {S : jS} {lv : List (Nat × Value)} {st : List Value} {x y0 : Int32} (hp : pc + 1 = pc') (hdg : decode cc pc = .ok (.iand, 1))  (k : jJ Z S lv pc' (.int (x &&& y0) :: st)) : jJ Z S lv pc (.int y0 :: .int x :: st) := by
  subst hp
  exact fun H locs cells slots ls hW hz hL hl => lv_iand C.1 C.2.1 hdg  (k H locs cells slots ls hW hz hL hl)
theorem jr_ior (C : jC Z d cc own ret y) (pc' : Nat) {pc : Nat} {S : jS} {lv : List (Nat × Value)} {st : List Value} {x y0 : Int32} (hp : pc + 1 = pc') (hdg : decode cc pc = .ok (.ior, 1))  (k : jJ Z S lv pc' (.int (x ||| y0) :: st)) : jJ Z S lv pc (.int y0 :: .int x :: st) := by
  subst hp
  exact fun H locs cells slots ls hW hz hL hl => lv_ior C.1 C.2.1 hdg  (k H locs cells slots ls hW hz hL hl)
theorem jr_ixor (C : jC Z d cc own ret y) (pc' : Nat) {pc : Nat} {S : jS} {lv : List (Nat × Value)} {st : List Value} {x y0 : Int32} (hp : pc + 1 = pc') (hdg : decode cc pc = .ok (.ixor, 1))  (k : jJ Z S lv pc' (.int (x ^^^ y0) :: st)) : jJ Z S lv pc (.int y0 :: .int x :: st) := by
  subst hp
  exact fun H locs cells slots ls hW hz hL hl => lv_ixor C.1 C.2.1 hdg  (k H locs cells slots ls hW hz hL hl)
theorem jr_idiv (C : jC Z d cc own ret y) (pc' : Nat) {pc : Nat} {S : jS} {lv : List (Nat × Value)} {st : List Value} {x y0 : Int32} (hp : pc + 1 = pc') (hdg : decode cc pc = .ok (.idiv, 1)) (hne : ¬ y0 = 0) (k : jJ Z S lv pc' (.int (x / y0) :: st)) : jJ Z S lv pc (.int y0 :: .int x :: st) := by
  subst hp
  exact fun H locs cells slots ls hW hz hL hl => lv_idiv C.1 C.2.1 hdg hne (k H locs cells slots ls hW hz hL hl)
theorem jr_irem (C : jC Z d cc own ret y) (pc' : Nat) {pc : Nat} {S : jS} {lv : List (Nat × Value)} {st : List Value} {x y0 : Int32} (hp : pc + 1 = pc') (hdg : decode cc pc = .ok (.irem, 1)) (hne : ¬ y0 = 0) (k : jJ Z S lv pc' (.int (x - x / y0 * y0) :: st)) : jJ Z S lv pc (.int y0 :: .int x :: st) := by
  subst hp
  exact fun H locs cells slots ls hW hz hL hl => lv_irem C.1 C.2.1 hdg hne (k H locs cells slots ls hW hz hL hl)
theorem jr_ladd (C : jC Z d cc own ret y) (pc' : Nat) {pc : Nat} {S : jS} {lv : List (Nat × Value)} {st : List Value} {x y0 : Int64} (hp : pc + 1 = pc') (hdg : decode cc pc = .ok (.ladd, 1))  (k : jJ Z S lv pc' (.long (x + y0) :: st)) : jJ Z S lv pc (.long y0 :: .long x :: st) := by
  subst hp
  exact fun H locs cells slots ls hW hz hL hl => lv_ladd C.1 C.2.1 hdg  (k H locs cells slots ls hW hz hL hl)
theorem jr_lsub (C : jC Z d cc own ret y) (pc' : Nat) {pc : Nat} {S : jS} {lv : List (Nat × Value)} {st : List Value} {x y0 : Int64} (hp : pc + 1 = pc') (hdg : decode cc pc = .ok (.lsub, 1))  (k : jJ Z S lv pc' (.long (x - y0) :: st)) : jJ Z S lv pc (.long y0 :: .long x :: st) := by
  subst hp
  exact fun H locs cells slots ls hW hz hL hl => lv_lsub C.1 C.2.1 hdg  (k H locs cells slots ls hW hz hL hl)
theorem jr_lmul (C : jC Z d cc own ret y) (pc' : Nat) {pc : Nat} {S : jS} {lv : List (Nat × Value)} {st : List Value} {x y0 : Int64} (hp : pc + 1 = pc') (hdg : decode cc pc = .ok (.lmul, 1))  (k : jJ Z S lv pc' (.long (x * y0) :: st)) : jJ Z S lv pc (.long y0 :: .long x :: st) := by
  subst hp
  exact fun H locs cells slots ls hW hz hL hl => lv_lmul C.1 C.2.1 hdg  (k H locs cells slots ls hW hz hL hl)
theorem jr_ldiv (C : jC Z d cc own ret y) (pc' : Nat) {pc : Nat} {S : jS} {lv : List (Nat × Value)} {st : List Value} {x y0 : Int64} (hp : pc + 1 = pc') (hdg : decode cc pc = .ok (.ldiv, 1)) (hne : ¬ y0 = 0) (k : jJ Z S lv pc' (.long (x / y0) :: st)) : jJ Z S lv pc (.long y0 :: .long x :: st) := by
  subst hp
  exact fun H locs cells slots ls hW hz hL hl => lv_ldiv C.1 C.2.1 hdg hne (k H locs cells slots ls hW hz hL hl)
theorem jr_lrem (C : jC Z d cc own ret y) (pc' : Nat) {pc : Nat} {S : jS} {lv : List (Nat × Value)} {st : List Value} {x y0 : Int64} (hp : pc + 1 = pc') (hdg : decode cc pc = .ok (.lrem, 1)) (hne : ¬ y0 = 0) (k : jJ Z S lv pc' (.long (x - x / y0 * y0) :: st)) : jJ Z S lv pc (.long y0 :: .long x :: st) := by
  subst hp
  exact fun H locs cells slots ls hW hz hL hl => lv_lrem C.1 C.2.1 hdg hne (k H locs cells slots ls hW hz hL hl)
theorem jr_ishl (C : jC Z d cc own ret y) (pc' : Nat) {pc : Nat} {S : jS} {lv : List (Nat × Value)} {st : List Value} {x y0 : Int32} (hp : pc + 1 = pc') (hdg : decode cc pc = .ok (.ishl, 1))  (k : jJ Z S lv pc' (.int (x <<< (y0 &&& 31)) :: st)) : jJ Z S lv pc (.int y0 :: .int x :: st) := by
  subst hp
  exact fun H locs cells slots ls hW hz hL hl => lv_ishl C.1 C.2.1 hdg  (k H locs cells slots ls hW hz hL hl)
theorem jr_ishr (C : jC Z d cc own ret y) (pc' : Nat) {pc : Nat} {S : jS} {lv : List (Nat × Value)} {st : List Value} {x y0 : Int32} (hp : pc + 1 = pc') (hdg : decode cc pc = .ok (.ishr, 1))  (k : jJ Z S lv pc' (.int (x >>> (y0 &&& 31)) :: st)) : jJ Z S lv pc (.int y0 :: .int x :: st) := by
  subst hp
  exact fun H locs cells slots ls hW hz hL hl => lv_ishr C.1 C.2.1 hdg  (k H locs cells slots ls hW hz hL hl)
theorem jr_iushr (C : jC Z d cc own ret y) (pc' : Nat) {pc : Nat} {S : jS} {lv : List (Nat × Value)} {st : List Value} {x y0 : Int32} (hp : pc + 1 = pc') (hdg : decode cc pc = .ok (.iushr, 1))  (k : jJ Z S lv pc' (.int ((x.toUInt32 >>> (y0.toUInt32 &&& Int32.toUInt32 31)).toInt32) :: st)) : jJ Z S lv pc (.int y0 :: .int x :: st) := by
  subst hp
  exact fun H locs cells slots ls hW hz hL hl => lv_iushr C.1 C.2.1 hdg rfl (k H locs cells slots ls hW hz hL hl)
theorem jr_lshl (C : jC Z d cc own ret y) (pc' : Nat) {pc : Nat} {S : jS} {lv : List (Nat × Value)} {st : List Value} {x : Int64} {y0 : Int32} (hp : pc + 1 = pc') (hdg : decode cc pc = .ok (.lshl, 1))  (k : jJ Z S lv pc' (.long (x <<< (y0.toInt64 &&& 63)) :: st)) : jJ Z S lv pc (.int y0 :: .long x :: st) := by
  subst hp
  exact fun H locs cells slots ls hW hz hL hl => lv_lshl C.1 C.2.1 hdg rfl (k H locs cells slots ls hW hz hL hl)
theorem jr_ineg (C : jC Z d cc own ret y) (pc' : Nat) {pc : Nat} {S : jS} {lv : List (Nat × Value)} {st : List Value} {x : Int32} (hp : pc + 1 = pc') (hdg : decode cc pc = .ok (.ineg, 1))  (k : jJ Z S lv pc' (.int (-x) :: st)) : jJ Z S lv pc (.int x :: st) := by
  subst hp
  exact fun H locs cells slots ls hW hz hL hl => lv_ineg C.1 C.2.1 hdg  (k H locs cells slots ls hW hz hL hl)
theorem jr_i2l (C : jC Z d cc own ret y) (pc' : Nat) {pc : Nat} {S : jS} {lv : List (Nat × Value)} {st : List Value} {x : Int32} (hp : pc + 1 = pc') (hdg : decode cc pc = .ok (.i2l, 1))  (k : jJ Z S lv pc' (.long x.toInt64 :: st)) : jJ Z S lv pc (.int x :: st) := by
  subst hp
  exact fun H locs cells slots ls hW hz hL hl => lv_i2l C.1 C.2.1 hdg rfl (k H locs cells slots ls hW hz hL hl)
theorem jr_l2i (C : jC Z d cc own ret y) (pc' : Nat) {pc : Nat} {S : jS} {lv : List (Nat × Value)} {st : List Value} {x : Int64} (hp : pc + 1 = pc') (hdg : decode cc pc = .ok (.l2i, 1))  (k : jJ Z S lv pc' (.int x.toInt32 :: st)) : jJ Z S lv pc (.long x :: st) := by
  subst hp
  exact fun H locs cells slots ls hW hz hL hl => lv_l2i C.1 C.2.1 hdg rfl (k H locs cells slots ls hW hz hL hl)
theorem jr_i2b (C : jC Z d cc own ret y) (pc' : Nat) {pc : Nat} {S : jS} {lv : List (Nat × Value)} {st : List Value} {x : Int32} (hp : pc + 1 = pc') (hdg : decode cc pc = .ok (.i2b, 1))  (k : jJ Z S lv pc' (.int x.toInt8.toInt32 :: st)) : jJ Z S lv pc (.int x :: st) := by
  subst hp
  exact fun H locs cells slots ls hW hz hL hl => lv_i2b C.1 C.2.1 hdg rfl (k H locs cells slots ls hW hz hL hl)
theorem jr_i2s (C : jC Z d cc own ret y) (pc' : Nat) {pc : Nat} {S : jS} {lv : List (Nat × Value)} {st : List Value} {x : Int32} (hp : pc + 1 = pc') (hdg : decode cc pc = .ok (.i2s, 1))  (k : jJ Z S lv pc' (.int x.toInt16.toInt32 :: st)) : jJ Z S lv pc (.int x :: st) := by
  subst hp
  exact fun H locs cells slots ls hW hz hL hl => lv_i2s C.1 C.2.1 hdg rfl (k H locs cells slots ls hW hz hL hl)
theorem jr_iconst (C : jC Z d cc own ret y) (pc' : Nat) {pc : Nat} {S : jS} {lv : List (Nat × Value)} {st : List Value} {n : Int} {v : Int32} (hp : pc + 1 = pc') (hdg : decode cc pc = .ok (.iconst n, 1)) (hv : Int32.ofInt n = v) (k : jJ Z S lv pc' (.int v :: st)) : jJ Z S lv pc (st) := by
  subst hp
  exact fun H locs cells slots ls hW hz hL hl => lv_iconst C.1 C.2.1 hdg hv (k H locs cells slots ls hW hz hL hl)
theorem jr_bipush (C : jC Z d cc own ret y) (pc' : Nat) {pc : Nat} {S : jS} {lv : List (Nat × Value)} {st : List Value} {n : Int} {v : Int32} (hp : pc + 2 = pc') (hdg : decode cc pc = .ok (.bipush n, 2)) (hv : (Int8.ofInt n).toInt32 = v) (k : jJ Z S lv pc' (.int v :: st)) : jJ Z S lv pc (st) := by
  subst hp
  exact fun H locs cells slots ls hW hz hL hl => lv_bipush C.1 C.2.1 hdg hv (k H locs cells slots ls hW hz hL hl)
theorem jr_sipush (C : jC Z d cc own ret y) (pc' : Nat) {pc : Nat} {S : jS} {lv : List (Nat × Value)} {st : List Value} {n : Int} {v : Int32} (hp : pc + 3 = pc') (hdg : decode cc pc = .ok (.sipush n, 3)) (hv : (Int16.ofInt n).toInt32 = v) (k : jJ Z S lv pc' (.int v :: st)) : jJ Z S lv pc (st) := by
  subst hp
  exact fun H locs cells slots ls hW hz hL hl => lv_sipush C.1 C.2.1 hdg hv (k H locs cells slots ls hW hz hL hl)
theorem jr_lconst (C : jC Z d cc own ret y) (pc' : Nat) {pc : Nat} {S : jS} {lv : List (Nat × Value)} {st : List Value} {n : Fin 2} {v : Int64} (hp : pc + 1 = pc') (hdg : decode cc pc = .ok (.lconst n, 1)) (hv : Int64.ofNat (n : Nat) = v) (k : jJ Z S lv pc' (.long v :: st)) : jJ Z S lv pc (st) := by
  subst hp
  exact fun H locs cells slots ls hW hz hL hl => lv_lconst C.1 C.2.1 hdg hv (k H locs cells slots ls hW hz hL hl)
theorem jr_null (C : jC Z d cc own ret y) (pc' : Nat) {pc : Nat} {S : jS} {lv : List (Nat × Value)} {st : List Value}  (hp : pc + 1 = pc') (hdg : decode cc pc = .ok (.aconst_null, 1))  (k : jJ Z S lv pc' (.null :: st)) : jJ Z S lv pc (st) := by
  subst hp
  exact fun H locs cells slots ls hW hz hL hl => lv_null C.1 C.2.1 hdg  (k H locs cells slots ls hW hz hL hl)
theorem jr_dup (C : jC Z d cc own ret y) (pc' : Nat) {pc : Nat} {S : jS} {lv : List (Nat × Value)} {st : List Value} {va : Value} (hp : pc + 1 = pc') (hdg : decode cc pc = .ok (.dup, 1)) (h1 : va.category = 1) (k : jJ Z S lv pc' (va :: va :: st)) : jJ Z S lv pc (va :: st) := by
  subst hp
  exact fun H locs cells slots ls hW hz hL hl => lv_dup C.1 C.2.1 hdg h1 (k H locs cells slots ls hW hz hL hl)
theorem jr_pop (C : jC Z d cc own ret y) (pc' : Nat) {pc : Nat} {S : jS} {lv : List (Nat × Value)} {st : List Value} {va : Value} (hp : pc + 1 = pc') (hdg : decode cc pc = .ok (.pop, 1)) (h1 : va.category = 1) (k : jJ Z S lv pc' (st)) : jJ Z S lv pc (va :: st) := by
  subst hp
  exact fun H locs cells slots ls hW hz hL hl => lv_pop C.1 C.2.1 hdg h1 (k H locs cells slots ls hW hz hL hl)
theorem jr_dup_x1 (C : jC Z d cc own ret y) (pc' : Nat) {pc : Nat} {S : jS} {lv : List (Nat × Value)} {st : List Value} {va vb : Value} (hp : pc + 1 = pc') (hdg : decode cc pc = .ok (.dup_x1, 1)) (h1 : va.category = 1) (h2 : vb.category = 1) (k : jJ Z S lv pc' (va :: vb :: va :: st)) : jJ Z S lv pc (va :: vb :: st) := by
  subst hp
  exact fun H locs cells slots ls hW hz hL hl => lv_dup_x1 C.1 C.2.1 hdg h1 h2 (k H locs cells slots ls hW hz hL hl)
theorem jr_dup2 (C : jC Z d cc own ret y) (pc' : Nat) {pc : Nat} {S : jS} {lv : List (Nat × Value)} {st : List Value} {va vb : Value} (hp : pc + 1 = pc') (hdg : decode cc pc = .ok (.dup2, 1)) (h1 : va.category = 1) (h2 : vb.category = 1) (k : jJ Z S lv pc' (va :: vb :: va :: vb :: st)) : jJ Z S lv pc (va :: vb :: st) := by
  subst hp
  exact fun H locs cells slots ls hW hz hL hl => lv_dup2_11 C.1 C.2.1 hdg h1 h2 (k H locs cells slots ls hW hz hL hl)
theorem jr_ldc (C : jC Z d cc own ret y) (pc' : Nat) {pc : Nat} {S : jS} {lv : List (Nat × Value)} {st : List Value} {index : Nat} {v : Int32} (hp : pc + 2 = pc') (hdg : decode cc pc = .ok (.ldc index, 2)) (hc : Jvm.Cond.constant own index v ∈ lw_all) (k : jJ Z S lv pc' (.int v :: st)) : jJ Z S lv pc (st) := by
  subst hp
  exact fun H locs cells slots ls hW hz hL hl => lv_ldc C.1 C.2.1 C.2.2.2.1 (C.2.2.2.2.1 _ hc) hdg (k H locs cells slots ls hW hz hL hl)
theorem jr_ldcw (C : jC Z d cc own ret y) (pc' : Nat) {pc : Nat} {S : jS} {lv : List (Nat × Value)} {st : List Value} {index : Nat} {v : Int32} (hp : pc + 3 = pc') (hdg : decode cc pc = .ok (.ldc_w index, 3)) (hc : Jvm.Cond.constant own index v ∈ lw_all) (k : jJ Z S lv pc' (.int v :: st)) : jJ Z S lv pc (st) := by
  subst hp
  exact fun H locs cells slots ls hW hz hL hl => lv_ldcw C.1 C.2.1 C.2.2.2.1 (C.2.2.2.2.1 _ hc) hdg (k H locs cells slots ls hW hz hL hl)
theorem jr_ldc2 (C : jC Z d cc own ret y) (pc' : Nat) {pc : Nat} {S : jS} {lv : List (Nat × Value)} {st : List Value} {index : Nat} {v : Int64} (hp : pc + 3 = pc') (hdg : decode cc pc = .ok (.ldc2_w index, 3)) (hc : Jvm.Cond.constantLong own index v ∈ lw_all) (k : jJ Z S lv pc' (.long v :: st)) : jJ Z S lv pc (st) := by
  subst hp
  exact fun H locs cells slots ls hW hz hL hl => lv_ldc2 C.1 C.2.1 C.2.2.2.1 (C.2.2.2.2.1 _ hc) hdg (k H locs cells slots ls hW hz hL hl)
theorem jr_iload_n (C : jC Z d cc own ret y) (pc' : Nat) {pc : Nat} {S : jS} {lv : List (Nat × Value)} {st : List Value} {k0 : Fin 4} {i : Nat} {x : Int32} (hp : pc + 1 = pc') (hdg : decode cc pc = .ok (.iload_n k0, 1)) (hi : (k0 : Nat) = i) (j : Nat) (hj : lv[j]? = some (i, .int x)) (k : jJ Z S lv pc' (.int x :: st)) : jJ Z S lv pc st := by
  subst hp
  exact fun H locs cells slots ls hW hz hL hl => lv_iload_n C.1 C.2.1 hdg hi (lv_at hl j hj) (k H locs cells slots ls hW hz hL hl)
theorem jr_iload (C : jC Z d cc own ret y) (pc' : Nat) {pc : Nat} {S : jS} {lv : List (Nat × Value)} {st : List Value} {i : Nat} {x : Int32} (hp : pc + 2 = pc') (hdg : decode cc pc = .ok (.iload i, 2)) (j : Nat) (hj : lv[j]? = some (i, .int x)) (k : jJ Z S lv pc' (.int x :: st)) : jJ Z S lv pc st := by
  subst hp
  exact fun H locs cells slots ls hW hz hL hl => lv_iload C.1 C.2.1 hdg (lv_at hl j hj) (k H locs cells slots ls hW hz hL hl)
theorem jr_lload_n (C : jC Z d cc own ret y) (pc' : Nat) {pc : Nat} {S : jS} {lv : List (Nat × Value)} {st : List Value} {k0 : Fin 4} {i : Nat} {x : Int64} (hp : pc + 1 = pc') (hdg : decode cc pc = .ok (.lload_n k0, 1)) (hi : (k0 : Nat) = i) (j : Nat) (hj : lv[j]? = some (i, .long x)) (k : jJ Z S lv pc' (.long x :: st)) : jJ Z S lv pc st := by
  subst hp
  exact fun H locs cells slots ls hW hz hL hl => lv_lload_n C.1 C.2.1 hdg hi (lv_at hl j hj) (k H locs cells slots ls hW hz hL hl)
theorem jr_lload (C : jC Z d cc own ret y) (pc' : Nat) {pc : Nat} {S : jS} {lv : List (Nat × Value)} {st : List Value} {i : Nat} {x : Int64} (hp : pc + 2 = pc') (hdg : decode cc pc = .ok (.lload i, 2)) (j : Nat) (hj : lv[j]? = some (i, .long x)) (k : jJ Z S lv pc' (.long x :: st)) : jJ Z S lv pc st := by
  subst hp
  exact fun H locs cells slots ls hW hz hL hl => lv_lload C.1 C.2.1 hdg (lv_at hl j hj) (k H locs cells slots ls hW hz hL hl)
theorem jr_aload_n (C : jC Z d cc own ret y) (pc' : Nat) {pc : Nat} {S : jS} {lv : List (Nat × Value)} {st : List Value} {k0 : Fin 4} {i : Nat} {x : Nat} (hp : pc + 1 = pc') (hdg : decode cc pc = .ok (.aload_n k0, 1)) (hi : (k0 : Nat) = i) (j : Nat) (hj : lv[j]? = some (i, .ref x)) (k : jJ Z S lv pc' (.ref x :: st)) : jJ Z S lv pc st := by
  subst hp
  exact fun H locs cells slots ls hW hz hL hl => lv_aload_n C.1 C.2.1 hdg hi (lv_at hl j hj) (k H locs cells slots ls hW hz hL hl)
theorem jr_aload (C : jC Z d cc own ret y) (pc' : Nat) {pc : Nat} {S : jS} {lv : List (Nat × Value)} {st : List Value} {i : Nat} {x : Nat} (hp : pc + 2 = pc') (hdg : decode cc pc = .ok (.aload i, 2)) (j : Nat) (hj : lv[j]? = some (i, .ref x)) (k : jJ Z S lv pc' (.ref x :: st)) : jJ Z S lv pc st := by
  subst hp
  exact fun H locs cells slots ls hW hz hL hl => lv_aload C.1 C.2.1 hdg (lv_at hl j hj) (k H locs cells slots ls hW hz hL hl)
theorem jr_aload_nN (C : jC Z d cc own ret y) (pc' : Nat) {pc : Nat} {S : jS} {lv : List (Nat × Value)} {st : List Value} {k0 : Fin 4} {i : Nat} (hp : pc + 1 = pc') (hdg : decode cc pc = .ok (.aload_n k0, 1)) (hi : (k0 : Nat) = i) (j : Nat) (hj : lv[j]? = some (i, .null)) (k : jJ Z S lv pc' (.null :: st)) : jJ Z S lv pc st := by
  subst hp
  exact fun H locs cells slots ls hW hz hL hl => lv_aload_nN C.1 C.2.1 hdg hi (lv_at hl j hj) (k H locs cells slots ls hW hz hL hl)
theorem jr_aload_nQ (C : jC Z d cc own ret y) (pc' : Nat) {pc : Nat} {S : jS} {lv : List (Nat × Value)} {st : List Value} {k0 : Fin 4} {i : Nat} {x : Option Nat} (hp : pc + 1 = pc') (hdg : decode cc pc = .ok (.aload_n k0, 1)) (hi : (k0 : Nat) = i) (j : Nat) (hj : lv[j]? = some (i, va_rf x)) (k : jJ Z S lv pc' (va_rf x :: st)) : jJ Z S lv pc st := by
  cases x with
  | none => exact jr_aload_nN C pc' hp hdg hi j hj k
  | some q => exact jr_aload_n C pc' hp hdg hi j hj k
theorem jr_istore_n (C : jC Z d cc own ret y) (pc' : Nat) {pc : Nat} {S : jS} {lv lv' : List (Nat × Value)} {st : List Value} {k0 : Fin 4} {i : Nat} {x : Int32} (hp : pc + 1 = pc') (hdg : decode cc pc = .ok (.istore_n k0, 1)) (hi : (k0 : Nat) = i) (hn : i < Z.2.2.1) (hlv : (i, .int x) :: lv.filter (fun q => !(q.1 == i) && !(q.1 + 1 == i && q.2.category == 2)) = lv') (k : jJ Z S lv' pc' st) : jJ Z S lv pc (.int x :: st) := by
  subst hp
  exact fun H locs cells slots ls hW hz hL hl => lv_istore_n C.1 C.2.1 hdg hi hl hn hlv (fun ls hl => k H locs cells slots ls hW hz hL hl)
theorem jr_istore (C : jC Z d cc own ret y) (pc' : Nat) {pc : Nat} {S : jS} {lv lv' : List (Nat × Value)} {st : List Value} {i : Nat} {x : Int32} (hp : pc + 2 = pc') (hdg : decode cc pc = .ok (.istore i, 2)) (hn : i < Z.2.2.1) (hlv : (i, .int x) :: lv.filter (fun q => !(q.1 == i) && !(q.1 + 1 == i && q.2.category == 2)) = lv') (k : jJ Z S lv' pc' st) : jJ Z S lv pc (.int x :: st) := by
  subst hp
  exact fun H locs cells slots ls hW hz hL hl => lv_istore C.1 C.2.1 hdg hl hn hlv (fun ls hl => k H locs cells slots ls hW hz hL hl)
theorem jr_lstore_n (C : jC Z d cc own ret y) (pc' : Nat) {pc : Nat} {S : jS} {lv lv' : List (Nat × Value)} {st : List Value} {k0 : Fin 4} {i : Nat} {x : Int64} (hp : pc + 1 = pc') (hdg : decode cc pc = .ok (.lstore_n k0, 1)) (hi : (k0 : Nat) = i) (hn : i + 1 < Z.2.2.1) (hlv : (i, .long x) :: lv.filter (fun q => !(q.1 == i) && (!(q.1 == i + 1) && !(q.1 + 1 == i && q.2.category == 2))) = lv') (k : jJ Z S lv' pc' st) : jJ Z S lv pc (.long x :: st) := by
  subst hp
  exact fun H locs cells slots ls hW hz hL hl => lv_lstore_n C.1 C.2.1 hdg hi hl hn hlv (fun ls hl => k H locs cells slots ls hW hz hL hl)
theorem jr_lstore (C : jC Z d cc own ret y) (pc' : Nat) {pc : Nat} {S : jS} {lv lv' : List (Nat × Value)} {st : List Value} {i : Nat} {x : Int64} (hp : pc + 2 = pc') (hdg : decode cc pc = .ok (.lstore i, 2)) (hn : i + 1 < Z.2.2.1) (hlv : (i, .long x) :: lv.filter (fun q => !(q.1 == i) && (!(q.1 == i + 1) && !(q.1 + 1 == i && q.2.category == 2))) = lv') (k : jJ Z S lv' pc' st) : jJ Z S lv pc (.long x :: st) := by
  subst hp
  exact fun H locs cells slots ls hW hz hL hl => lv_lstore C.1 C.2.1 hdg hl hn hlv (fun ls hl => k H locs cells slots ls hW hz hL hl)
theorem jr_astore_n (C : jC Z d cc own ret y) (pc' : Nat) {pc : Nat} {S : jS} {lv lv' : List (Nat × Value)} {st : List Value} {k0 : Fin 4} {i : Nat} {x : Nat} (hp : pc + 1 = pc') (hdg : decode cc pc = .ok (.astore_n k0, 1)) (hi : (k0 : Nat) = i) (hn : i < Z.2.2.1) (hlv : (i, .ref x) :: lv.filter (fun q => !(q.1 == i) && !(q.1 + 1 == i && q.2.category == 2)) = lv') (k : jJ Z S lv' pc' st) : jJ Z S lv pc (.ref x :: st) := by
  subst hp
  exact fun H locs cells slots ls hW hz hL hl => lv_astore_n C.1 C.2.1 hdg hi hl hn hlv (fun ls hl => k H locs cells slots ls hW hz hL hl)
theorem jr_astore (C : jC Z d cc own ret y) (pc' : Nat) {pc : Nat} {S : jS} {lv lv' : List (Nat × Value)} {st : List Value} {i : Nat} {x : Nat} (hp : pc + 2 = pc') (hdg : decode cc pc = .ok (.astore i, 2)) (hn : i < Z.2.2.1) (hlv : (i, .ref x) :: lv.filter (fun q => !(q.1 == i) && !(q.1 + 1 == i && q.2.category == 2)) = lv') (k : jJ Z S lv' pc' st) : jJ Z S lv pc (.ref x :: st) := by
  subst hp
  exact fun H locs cells slots ls hW hz hL hl => lv_astore C.1 C.2.1 hdg hl hn hlv (fun ls hl => k H locs cells slots ls hW hz hL hl)
theorem jr_astore_nN (C : jC Z d cc own ret y) (pc' : Nat) {pc : Nat} {S : jS} {lv lv' : List (Nat × Value)} {st : List Value} {k0 : Fin 4} {i : Nat}  (hp : pc + 1 = pc') (hdg : decode cc pc = .ok (.astore_n k0, 1)) (hi : (k0 : Nat) = i) (hn : i < Z.2.2.1) (hlv : (i, .null) :: lv.filter (fun q => !(q.1 == i) && !(q.1 + 1 == i && q.2.category == 2)) = lv') (k : jJ Z S lv' pc' st) : jJ Z S lv pc (.null :: st) := by
  subst hp
  exact fun H locs cells slots ls hW hz hL hl => lv_astore_nN C.1 C.2.1 hdg hi hl hn hlv (fun ls hl => k H locs cells slots ls hW hz hL hl)
theorem jr_astoreN (C : jC Z d cc own ret y) (pc' : Nat) {pc : Nat} {S : jS} {lv lv' : List (Nat × Value)} {st : List Value} {i : Nat}  (hp : pc + 2 = pc') (hdg : decode cc pc = .ok (.astore i, 2)) (hn : i < Z.2.2.1) (hlv : (i, .null) :: lv.filter (fun q => !(q.1 == i) && !(q.1 + 1 == i && q.2.category == 2)) = lv') (k : jJ Z S lv' pc' st) : jJ Z S lv pc (.null :: st) := by
  subst hp
  exact fun H locs cells slots ls hW hz hL hl => lv_astoreN C.1 C.2.1 hdg hl hn hlv (fun ls hl => k H locs cells slots ls hW hz hL hl)
theorem jr_iinc (C : jC Z d cc own ret y) (pc' : Nat) {pc : Nat} {S : jS} {lv lv' : List (Nat × Value)} {st : List Value} {i : Nat} {n : Int} {x v : Int32} (hp : pc + 3 = pc') (hdg : decode cc pc = .ok (.iinc i n, 3)) (j : Nat) (hj : lv[j]? = some (i, .int x)) (hv : x + Int32.ofInt n = v) (hn : i < Z.2.2.1) (hlv : (i, .int v) :: lv.filter (fun q => !(q.1 == i) && !(q.1 + 1 == i && q.2.category == 2)) = lv') (k : jJ Z S lv' pc' st) : jJ Z S lv pc st := by
  subst hp
  exact fun H locs cells slots ls hW hz hL hl => lv_iinc C.1 C.2.1 hdg hl hj hv hn hlv (fun ls hl => k H locs cells slots ls hW hz hL hl)
theorem jr_icmp_eq (C : jC Z d cc own ret y) (tgt pc' : Nat) {pc : Nat} {S : jS} {lv : List (Nat × Value)} {st : List Value} {x y0 : Int32} {off : Int} (hp : pc + 3 = pc') (hdg : decode cc pc = .ok (.if_icmp .eq off, 3)) (ht : (pc : Int) + off = (tgt : Int)) (kt : x = y0 → jJ Z S lv tgt st) (kf : ¬ (x = y0) → jJ Z S lv pc' st) : jJ Z S lv pc (.int y0 :: .int x :: st) := by
  subst hp
  exact fun H locs cells slots ls hW hz hL hl => lv_icmp_eq C.1 C.2.1 hdg ht (fun q => kt q H locs cells slots ls hW hz hL hl) (fun q => kf q H locs cells slots ls hW hz hL hl)
theorem jr_if_eq (C : jC Z d cc own ret y) (tgt pc' : Nat) {pc : Nat} {S : jS} {lv : List (Nat × Value)} {st : List Value} {x : Int32} {off : Int} (hp : pc + 3 = pc') (hdg : decode cc pc = .ok (.ifCond .eq off, 3)) (ht : (pc : Int) + off = (tgt : Int)) (kt : x = 0 → jJ Z S lv tgt st) (kf : ¬ (x = 0) → jJ Z S lv pc' st) : jJ Z S lv pc (.int x :: st) := by
  subst hp
  exact fun H locs cells slots ls hW hz hL hl => lv_if_eq C.1 C.2.1 hdg ht (fun q => kt q H locs cells slots ls hW hz hL hl) (fun q => kf q H locs cells slots ls hW hz hL hl)
theorem jr_icmp_lt (C : jC Z d cc own ret y) (tgt pc' : Nat) {pc : Nat} {S : jS} {lv : List (Nat × Value)} {st : List Value} {x y0 : Int32} {off : Int} (hp : pc + 3 = pc') (hdg : decode cc pc = .ok (.if_icmp .lt off, 3)) (ht : (pc : Int) + off = (tgt : Int)) (kt : x < y0 → jJ Z S lv tgt st) (kf : ¬ (x < y0) → jJ Z S lv pc' st) : jJ Z S lv pc (.int y0 :: .int x :: st) := by
  subst hp
  exact fun H locs cells slots ls hW hz hL hl => lv_icmp_lt C.1 C.2.1 hdg ht (fun q => kt q H locs cells slots ls hW hz hL hl) (fun q => kf q H locs cells slots ls hW hz hL hl)
theorem jr_if_lt (C : jC Z d cc own ret y) (tgt pc' : Nat) {pc : Nat} {S : jS} {lv : List (Nat × Value)} {st : List Value} {x : Int32} {off : Int} (hp : pc + 3 = pc') (hdg : decode cc pc = .ok (.ifCond .lt off, 3)) (ht : (pc : Int) + off = (tgt : Int)) (kt : x < 0 → jJ Z S lv tgt st) (kf : ¬ (x < 0) → jJ Z S lv pc' st) : jJ Z S lv pc (.int x :: st) := by
  subst hp
  exact fun H locs cells slots ls hW hz hL hl => lv_if_lt C.1 C.2.1 hdg ht (fun q => kt q H locs cells slots ls hW hz hL hl) (fun q => kf q H locs cells slots ls hW hz hL hl)
theorem jr_icmp_ge (C : jC Z d cc own ret y) (tgt pc' : Nat) {pc : Nat} {S : jS} {lv : List (Nat × Value)} {st : List Value} {x y0 : Int32} {off : Int} (hp : pc + 3 = pc') (hdg : decode cc pc = .ok (.if_icmp .ge off, 3)) (ht : (pc : Int) + off = (tgt : Int)) (kt : y0 ≤ x → jJ Z S lv tgt st) (kf : ¬ (y0 ≤ x) → jJ Z S lv pc' st) : jJ Z S lv pc (.int y0 :: .int x :: st) := by
  subst hp
  exact fun H locs cells slots ls hW hz hL hl => lv_icmp_ge C.1 C.2.1 hdg ht (fun q => kt q H locs cells slots ls hW hz hL hl) (fun q => kf q H locs cells slots ls hW hz hL hl)
theorem jr_if_ge (C : jC Z d cc own ret y) (tgt pc' : Nat) {pc : Nat} {S : jS} {lv : List (Nat × Value)} {st : List Value} {x : Int32} {off : Int} (hp : pc + 3 = pc') (hdg : decode cc pc = .ok (.ifCond .ge off, 3)) (ht : (pc : Int) + off = (tgt : Int)) (kt : 0 ≤ x → jJ Z S lv tgt st) (kf : ¬ (0 ≤ x) → jJ Z S lv pc' st) : jJ Z S lv pc (.int x :: st) := by
  subst hp
  exact fun H locs cells slots ls hW hz hL hl => lv_if_ge C.1 C.2.1 hdg ht (fun q => kt q H locs cells slots ls hW hz hL hl) (fun q => kf q H locs cells slots ls hW hz hL hl)
theorem jr_icmp_gt (C : jC Z d cc own ret y) (tgt pc' : Nat) {pc : Nat} {S : jS} {lv : List (Nat × Value)} {st : List Value} {x y0 : Int32} {off : Int} (hp : pc + 3 = pc') (hdg : decode cc pc = .ok (.if_icmp .gt off, 3)) (ht : (pc : Int) + off = (tgt : Int)) (kt : y0 < x → jJ Z S lv tgt st) (kf : ¬ (y0 < x) → jJ Z S lv pc' st) : jJ Z S lv pc (.int y0 :: .int x :: st) := by
  subst hp
  exact fun H locs cells slots ls hW hz hL hl => lv_icmp_gt C.1 C.2.1 hdg ht (fun q => kt q H locs cells slots ls hW hz hL hl) (fun q => kf q H locs cells slots ls hW hz hL hl)
theorem jr_if_gt (C : jC Z d cc own ret y) (tgt pc' : Nat) {pc : Nat} {S : jS} {lv : List (Nat × Value)} {st : List Value} {x : Int32} {off : Int} (hp : pc + 3 = pc') (hdg : decode cc pc = .ok (.ifCond .gt off, 3)) (ht : (pc : Int) + off = (tgt : Int)) (kt : 0 < x → jJ Z S lv tgt st) (kf : ¬ (0 < x) → jJ Z S lv pc' st) : jJ Z S lv pc (.int x :: st) := by
  subst hp
  exact fun H locs cells slots ls hW hz hL hl => lv_if_gt C.1 C.2.1 hdg ht (fun q => kt q H locs cells slots ls hW hz hL hl) (fun q => kf q H locs cells slots ls hW hz hL hl)
theorem jr_icmp_le (C : jC Z d cc own ret y) (tgt pc' : Nat) {pc : Nat} {S : jS} {lv : List (Nat × Value)} {st : List Value} {x y0 : Int32} {off : Int} (hp : pc + 3 = pc') (hdg : decode cc pc = .ok (.if_icmp .le off, 3)) (ht : (pc : Int) + off = (tgt : Int)) (kt : x ≤ y0 → jJ Z S lv tgt st) (kf : ¬ (x ≤ y0) → jJ Z S lv pc' st) : jJ Z S lv pc (.int y0 :: .int x :: st) := by
  subst hp
  exact fun H locs cells slots ls hW hz hL hl => lv_icmp_le C.1 C.2.1 hdg ht (fun q => kt q H locs cells slots ls hW hz hL hl) (fun q => kf q H locs cells slots ls hW hz hL hl)
theorem jr_if_le (C : jC Z d cc own ret y) (tgt pc' : Nat) {pc : Nat} {S : jS} {lv : List (Nat × Value)} {st : List Value} {x : Int32} {off : Int} (hp : pc + 3 = pc') (hdg : decode cc pc = .ok (.ifCond .le off, 3)) (ht : (pc : Int) + off = (tgt : Int)) (kt : x ≤ 0 → jJ Z S lv tgt st) (kf : ¬ (x ≤ 0) → jJ Z S lv pc' st) : jJ Z S lv pc (.int x :: st) := by
  subst hp
  exact fun H locs cells slots ls hW hz hL hl => lv_if_le C.1 C.2.1 hdg ht (fun q => kt q H locs cells slots ls hW hz hL hl) (fun q => kf q H locs cells slots ls hW hz hL hl)
theorem jr_icmp_ne (C : jC Z d cc own ret y) (tgt pc' : Nat) {pc : Nat} {S : jS} {lv : List (Nat × Value)} {st : List Value} {x y0 : Int32} {off : Int} (hp : pc + 3 = pc') (hdg : decode cc pc = .ok (.if_icmp .ne off, 3)) (ht : (pc : Int) + off = (tgt : Int)) (kf : x = y0 → jJ Z S lv pc' st) (kt : ¬ (x = y0) → jJ Z S lv tgt st) : jJ Z S lv pc (.int y0 :: .int x :: st) := by
  subst hp
  exact fun H locs cells slots ls hW hz hL hl => lv_icmp_ne C.1 C.2.1 hdg ht (fun q => kt q H locs cells slots ls hW hz hL hl) (fun q => kf q H locs cells slots ls hW hz hL hl)
theorem jr_if_ne (C : jC Z d cc own ret y) (tgt pc' : Nat) {pc : Nat} {S : jS} {lv : List (Nat × Value)} {st : List Value} {x : Int32} {off : Int} (hp : pc + 3 = pc') (hdg : decode cc pc = .ok (.ifCond .ne off, 3)) (ht : (pc : Int) + off = (tgt : Int)) (kf : x = 0 → jJ Z S lv pc' st) (kt : ¬ (x = 0) → jJ Z S lv tgt st) : jJ Z S lv pc (.int x :: st) := by
  subst hp
  exact fun H locs cells slots ls hW hz hL hl => lv_if_ne C.1 C.2.1 hdg ht (fun q => kt q H locs cells slots ls hW hz hL hl) (fun q => kf q H locs cells slots ls hW hz hL hl)
theorem jr_acmp_ne (C : jC Z d cc own ret y) (tgt pc' : Nat) {pc : Nat} {S : jS} {lv : List (Nat × Value)} {st : List Value} {rx ry : Option Nat} {off : Int} (hp : pc + 3 = pc') (hdg : decode cc pc = .ok (.if_acmp .ne off, 3)) (ht : (pc : Int) + off = (tgt : Int)) (kf : rx = ry → jJ Z S lv pc' st) (kt : ¬ (rx = ry) → jJ Z S lv tgt st) : jJ Z S lv pc (va_rf ry :: va_rf rx :: st) := by
  subst hp
  exact fun H locs cells slots ls hW hz hL hl => lv_acmp_ne C.1 C.2.1 hdg ht (fun q => kt q H locs cells slots ls hW hz hL hl) (fun q => kf q H locs cells slots ls hW hz hL hl)
theorem jr_acmp_eq (C : jC Z d cc own ret y) (tgt pc' : Nat) {pc : Nat} {S : jS} {lv : List (Nat × Value)} {st : List Value} {rx ry : Option Nat} {off : Int} (hp : pc + 3 = pc') (hdg : decode cc pc = .ok (.if_acmp .eq off, 3)) (ht : (pc : Int) + off = (tgt : Int)) (kt : rx = ry → jJ Z S lv tgt st) (kf : ¬ (rx = ry) → jJ Z S lv pc' st) : jJ Z S lv pc (va_rf ry :: va_rf rx :: st) := by
  subst hp
  exact fun H locs cells slots ls hW hz hL hl => lv_acmp_eq C.1 C.2.1 hdg ht (fun q => kt q H locs cells slots ls hW hz hL hl) (fun q => kf q H locs cells slots ls hW hz hL hl)
theorem jr_goto (C : jC Z d cc own ret y) (tgt : Nat) {pc : Nat} {S : jS} {lv : List (Nat × Value)} {st : List Value} {off : Int} (hdg : decode cc pc = .ok (.goto off, 3)) (ht : (pc : Int) + off = (tgt : Int)) (k : jJ Z S lv tgt st) : jJ Z S lv pc st := fun H locs cells slots ls hW hz hL hl => lv_goto C.1 C.2.1 hdg ht (k H locs cells slots ls hW hz hL hl)
theorem jr_lcmp (C : jC Z d cc own ret y) (pc' : Nat) {pc : Nat} {S : jS} {lv : List (Nat × Value)} {st : List Value} {x y0 : Int64} (hp : pc + 1 = pc') (hdg : decode cc pc = .ok (.lcmp, 1))  (k : jJ Z S lv pc' (.int (lg_cmp x y0) :: st)) : jJ Z S lv pc (.long y0 :: .long x :: st) := by
  subst hp
  exact fun H locs cells slots ls hW hz hL hl => W.lcmp C.1 C.2.1 hdg  (k H locs cells slots ls hW hz hL hl)
theorem jr_ifnull (C : jC Z d cc own ret y) (tgt pc' : Nat) {pc : Nat} {S : jS} {lv : List (Nat × Value)} {st : List Value} {x : Option Nat} {off : Int} (hp : pc + 3 = pc') (hdg : decode cc pc = .ok (.ifnull off, 3)) (ht : (pc : Int) + off = (tgt : Int)) (kt : x = none → jJ Z S lv tgt st) (kf : ¬ x = none → jJ Z S lv pc' st) : jJ Z S lv pc (va_rf x :: st) := by
  subst hp
  intro H locs cells slots ls hW hz hL hl
  cases x with
  | none => exact lv_ifnullN C.1 C.2.1 hdg ht (kt rfl H locs cells slots ls hW hz hL hl)
  | some q => exact lv_ifnull C.1 C.2.1 hdg (kf (fun h => by cases h) H locs cells slots ls hW hz hL hl)
theorem jr_ifnonnull (C : jC Z d cc own ret y) (tgt pc' : Nat) {pc : Nat} {S : jS} {lv : List (Nat × Value)} {st : List Value} {x : Option Nat} {off : Int} (hp : pc + 3 = pc') (hdg : decode cc pc = .ok (.ifnonnull off, 3)) (ht : (pc : Int) + off = (tgt : Int)) (kf : x = none → jJ Z S lv pc' st) (kt : ¬ x = none → jJ Z S lv tgt st) : jJ Z S lv pc (va_rf x :: st) := by
  subst hp
  intro H locs cells slots ls hW hz hL hl
  cases x with
  | none => exact lv_ifnonnullN C.1 C.2.1 hdg (kf rfl H locs cells slots ls hW hz hL hl)
  | some q => exact lv_ifnonnull C.1 C.2.1 hdg ht (kt (fun h => by cases h) H locs cells slots ls hW hz hL hl)
theorem jr_sub {lv lv' : List (Nat × Value)} {pc : Nat} {S : jS} {st : List Value} (ks : List Nat) (h : lv_pick lv ks = lv') (k : jJ Z S lv' pc st) : jJ Z S lv pc st := fun H locs cells slots ls hW hz hL hl => k H locs cells slots ls hW hz hL (lv_sub hl ks h)
end JR
