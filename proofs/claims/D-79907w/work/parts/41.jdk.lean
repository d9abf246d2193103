theorem can_4 : jCan "java/lang/Object" [4, 5] := by
  intro c hc r hr
  rcases List.mem_cons.mp hc with e | hc
  · subst e; cases hr; exact Or.inr (jx_g q1849 rfl)
  · rw [List.mem_singleton.mp hc] at hr; cases hr; exact Or.inr (jx_g q1862 rfl)
theorem canI_4 : (4 = 4) → Cond.castable "[I" "java/lang/Object" ∈ jxw := fun _ => jx_g q1879 rfl
theorem can_4_4 : jCan "java/lang/Object" [4] := by
  intro c hc r hr
  rw [List.mem_singleton.mp hc] at hr; cases hr; exact Or.inr (jx_g q1849 rfl)
theorem fo_14_0 : jFO [14] 0 "java/lang/String" "value" "[B" (.array .byte) true := jFO.one (T := TJ5) (by decide) rfl in_J5 tyJ5_ok nmJ5 (by decide) rfl (tyJ5_ok 0 (by decide)) (fun _ _ _ _ h => h)
theorem fo_14_0_d : ∀ c ∈ ([14] : List Nat), ∀ r : vw_C, jcl[c]? = some r → (r.2.1 0).1 = "java/lang/String" := jdecl1 rfl rfl
theorem fo_14_1 : jFO [14] 1 "java/lang/String" "coder" "B" (.byte) true := jFO.one (T := TJ5) (by decide) rfl in_J5 tyJ5_ok nmJ5 (by decide) rfl (tyJ5_ok 1 (by decide)) (fun _ _ _ _ h => h)
theorem fo_14_1_d : ∀ c ∈ ([14] : List Nat), ∀ r : vw_C, jcl[c]? = some r → (r.2.1 1).1 = "java/lang/String" := jdecl1 rfl rfl
theorem fo_3_0 : jFO [3] 0 "java/util/ArrayList" "modCount" "I" (.int) false := jFO.one (T := TJ2) (by decide) rfl in_J2 tyJ2_ok nmJ2 (by decide) rfl (tyJ2_ok 0 (by decide)) (fun _ _ h0 x h => u_same (h0 _ q158) x h)
theorem fo_3_0_AbstractList : jFO [3] 0 "java/util/AbstractList" "modCount" "I" (.int) false := jFO.one (T := TJ2) (by decide) rfl in_J2 tyJ2_ok nmJ2 (by decide) rfl (tyJ2_ok 0 (by decide)) (fun _ _ _ _ h => h)
theorem fo_3_1 : jFO [3] 1 "java/util/ArrayList" "elementData" "[Ljava/lang/Object;" (.array (.object "java/lang/Object")) false := jFO.one (T := TJ2) (by decide) rfl in_J2 tyJ2_ok nmJ2 (by decide) rfl (tyJ2_ok 1 (by decide)) (fun _ _ _ _ h => h)
theorem fo_3_2 : jFO [3] 2 "java/util/ArrayList" "size" "I" (.int) false := jFO.one (T := TJ2) (by decide) rfl in_J2 tyJ2_ok nmJ2 (by decide) rfl (tyJ2_ok 2 (by decide)) (fun _ _ _ _ h => h)
theorem fo_7_0_Throwable : jFO [7] 0 "java/lang/Throwable" "cause" "Ljava/lang/Throwable;" (.object "java/lang/Throwable") false := jFO.one (T := TX6) (by decide) rfl in_X6 tyX6_ok nmX6 (by decide) rfl (tyX6_ok 0 (by decide)) (fun _ _ _ _ h => h)
theorem fo_7_1_Throwable : jFO [7] 1 "java/lang/Throwable" "stackTrace" "[Ljava/lang/StackTraceElement;" (.array (.object "java/lang/StackTraceElement")) false := jFO.one (T := TX6) (by decide) rfl in_X6 tyX6_ok nmX6 (by decide) rfl (tyX6_ok 1 (by decide)) (fun _ _ _ _ h => h)
theorem fo_7_2_Throwable : jFO [7] 2 "java/lang/Throwable" "suppressedExceptions" "Ljava/util/List;" (.object "java/util/List") false := jFO.one (T := TX6) (by decide) rfl in_X6 tyX6_ok nmX6 (by decide) rfl (tyX6_ok 2 (by decide)) (fun _ _ _ _ h => h)
theorem fo_7_3_Throwable : jFO [7] 3 "java/lang/Throwable" "detailMessage" "Ljava/lang/String;" (.object "java/lang/String") false := jFO.one (T := TX6) (by decide) rfl in_X6 tyX6_ok nmX6 (by decide) rfl (tyX6_ok 3 (by decide)) (fun _ _ _ _ h => h)
theorem nd_J7_max : yJ7_max.cls ≠ "java/lang/invoke/MethodHandle" ∧ yJ7_max.cls ≠ "java/lang/invoke/VarHandle" ∧ (parseMethodDescriptor yJ7_max.desc).map (fun d => d.parameters.length) = some 2 := by decide +kernel
theorem nd_J7_min : yJ7_min.cls ≠ "java/lang/invoke/MethodHandle" ∧ yJ7_min.cls ≠ "java/lang/invoke/VarHandle" ∧ (parseMethodDescriptor yJ7_min.desc).map (fun d => d.parameters.length) = some 2 := by decide +kernel
theorem nd_J19_equals : yJ19_equals.cls ≠ "java/lang/invoke/MethodHandle" ∧ yJ19_equals.cls ≠ "java/lang/invoke/VarHandle" ∧ (parseMethodDescriptor yJ19_equals.desc).map (fun d => d.parameters.length) = some 1 := by decide +kernel
theorem nd_J5_coder : yJ5_coder.cls ≠ "java/lang/invoke/MethodHandle" ∧ yJ5_coder.cls ≠ "java/lang/invoke/VarHandle" ∧ (parseMethodDescriptor yJ5_coder.desc).map (fun d => d.parameters.length) = some 0 := by decide +kernel
theorem ndV_J5_coder : yJ5_coder.cls = ((RJ5, TJ5, 2) : vw_C).1 ∧ yJ5_coder.cls ≠ "java/lang/invoke/MethodHandle" ∧ yJ5_coder.cls ≠ "java/lang/invoke/VarHandle" ∧ (parseMethodDescriptor yJ5_coder.desc).map (fun d => d.parameters.length) = some 0 := ⟨rfl, nd_J5_coder⟩
theorem nd_J5_indexOf_2 : yJ5_indexOf_2.cls ≠ "java/lang/invoke/MethodHandle" ∧ yJ5_indexOf_2.cls ≠ "java/lang/invoke/VarHandle" ∧ (parseMethodDescriptor yJ5_indexOf_2.desc).map (fun d => d.parameters.length) = some 2 := by decide +kernel
theorem ndV_J5_indexOf_2 : yJ5_indexOf_2.cls = ((RJ5, TJ5, 2) : vw_C).1 ∧ yJ5_indexOf_2.cls ≠ "java/lang/invoke/MethodHandle" ∧ yJ5_indexOf_2.cls ≠ "java/lang/invoke/VarHandle" ∧ (parseMethodDescriptor yJ5_indexOf_2.desc).map (fun d => d.parameters.length) = some 2 := ⟨rfl, nd_J5_indexOf_2⟩
theorem nd_J5_isLatin1 : yJ5_isLatin1.cls ≠ "java/lang/invoke/MethodHandle" ∧ yJ5_isLatin1.cls ≠ "java/lang/invoke/VarHandle" ∧ (parseMethodDescriptor yJ5_isLatin1.desc).map (fun d => d.parameters.length) = some 0 := by decide +kernel
theorem ndV_J5_isLatin1 : yJ5_isLatin1.cls = ((RJ5, TJ5, 2) : vw_C).1 ∧ yJ5_isLatin1.cls ≠ "java/lang/invoke/MethodHandle" ∧ yJ5_isLatin1.cls ≠ "java/lang/invoke/VarHandle" ∧ (parseMethodDescriptor yJ5_isLatin1.desc).map (fun d => d.parameters.length) = some 0 := ⟨rfl, nd_J5_isLatin1⟩
theorem nd_J5_length : yJ5_length.cls ≠ "java/lang/invoke/MethodHandle" ∧ yJ5_length.cls ≠ "java/lang/invoke/VarHandle" ∧ (parseMethodDescriptor yJ5_length.desc).map (fun d => d.parameters.length) = some 0 := by decide +kernel
theorem ndV_J5_length : yJ5_length.cls = ((RJ5, TJ5, 2) : vw_C).1 ∧ yJ5_length.cls ≠ "java/lang/invoke/MethodHandle" ∧ yJ5_length.cls ≠ "java/lang/invoke/VarHandle" ∧ (parseMethodDescriptor yJ5_length.desc).map (fun d => d.parameters.length) = some 0 := ⟨rfl, nd_J5_length⟩
theorem nd_J6_canEncode : yJ6_canEncode.cls ≠ "java/lang/invoke/MethodHandle" ∧ yJ6_canEncode.cls ≠ "java/lang/invoke/VarHandle" ∧ (parseMethodDescriptor yJ6_canEncode.desc).map (fun d => d.parameters.length) = some 1 := by decide +kernel
theorem nd_J6_indexOf : yJ6_indexOf.cls ≠ "java/lang/invoke/MethodHandle" ∧ yJ6_indexOf.cls ≠ "java/lang/invoke/VarHandle" ∧ (parseMethodDescriptor yJ6_indexOf.desc).map (fun d => d.parameters.length) = some 4 := by decide +kernel
theorem nd_J6_indexOfChar : yJ6_indexOfChar.cls ≠ "java/lang/invoke/MethodHandle" ∧ yJ6_indexOfChar.cls ≠ "java/lang/invoke/VarHandle" ∧ (parseMethodDescriptor yJ6_indexOfChar.desc).map (fun d => d.parameters.length) = some 4 := by decide +kernel
theorem nd_J3_init_2 : yJ3_init_2.cls ≠ "java/lang/invoke/MethodHandle" ∧ yJ3_init_2.cls ≠ "java/lang/invoke/VarHandle" ∧ (parseMethodDescriptor yJ3_init_2.desc).map (fun d => d.parameters.length) = some 4 := by decide +kernel
theorem nd_J0_init : yJ0_init.cls ≠ "java/lang/invoke/MethodHandle" ∧ yJ0_init.cls ≠ "java/lang/invoke/VarHandle" ∧ (parseMethodDescriptor yJ0_init.desc).map (fun d => d.parameters.length) = some 0 := by decide +kernel
theorem nd_J1_init : yJ1_init.cls ≠ "java/lang/invoke/MethodHandle" ∧ yJ1_init.cls ≠ "java/lang/invoke/VarHandle" ∧ (parseMethodDescriptor yJ1_init.desc).map (fun d => d.parameters.length) = some 0 := by decide +kernel
theorem nd_J2_add_2 : yJ2_add_2.cls ≠ "java/lang/invoke/MethodHandle" ∧ yJ2_add_2.cls ≠ "java/lang/invoke/VarHandle" ∧ (parseMethodDescriptor yJ2_add_2.desc).map (fun d => d.parameters.length) = some 3 := by decide +kernel
theorem ndV_J2_add_2 : yJ2_add_2.cls = ((RJ2, TJ2, 3) : vw_C).1 ∧ yJ2_add_2.cls ≠ "java/lang/invoke/MethodHandle" ∧ yJ2_add_2.cls ≠ "java/lang/invoke/VarHandle" ∧ (parseMethodDescriptor yJ2_add_2.desc).map (fun d => d.parameters.length) = some 3 := ⟨rfl, nd_J2_add_2⟩
theorem nd_J2_elementData : yJ2_elementData.cls ≠ "java/lang/invoke/MethodHandle" ∧ yJ2_elementData.cls ≠ "java/lang/invoke/VarHandle" ∧ (parseMethodDescriptor yJ2_elementData.desc).map (fun d => d.parameters.length) = some 1 := by decide +kernel
theorem ndV_J2_elementData : yJ2_elementData.cls = ((RJ2, TJ2, 3) : vw_C).1 ∧ yJ2_elementData.cls ≠ "java/lang/invoke/MethodHandle" ∧ yJ2_elementData.cls ≠ "java/lang/invoke/VarHandle" ∧ (parseMethodDescriptor yJ2_elementData.desc).map (fun d => d.parameters.length) = some 1 := ⟨rfl, nd_J2_elementData⟩
theorem nd_J2_fastRemove : yJ2_fastRemove.cls ≠ "java/lang/invoke/MethodHandle" ∧ yJ2_fastRemove.cls ≠ "java/lang/invoke/VarHandle" ∧ (parseMethodDescriptor yJ2_fastRemove.desc).map (fun d => d.parameters.length) = some 2 := by decide +kernel
theorem ndV_J2_fastRemove : yJ2_fastRemove.cls = ((RJ2, TJ2, 3) : vw_C).1 ∧ yJ2_fastRemove.cls ≠ "java/lang/invoke/MethodHandle" ∧ yJ2_fastRemove.cls ≠ "java/lang/invoke/VarHandle" ∧ (parseMethodDescriptor yJ2_fastRemove.desc).map (fun d => d.parameters.length) = some 2 := ⟨rfl, nd_J2_fastRemove⟩
theorem nd_J2_grow : yJ2_grow.cls ≠ "java/lang/invoke/MethodHandle" ∧ yJ2_grow.cls ≠ "java/lang/invoke/VarHandle" ∧ (parseMethodDescriptor yJ2_grow.desc).map (fun d => d.parameters.length) = some 0 := by decide +kernel
theorem ndV_J2_grow : yJ2_grow.cls = ((RJ2, TJ2, 3) : vw_C).1 ∧ yJ2_grow.cls ≠ "java/lang/invoke/MethodHandle" ∧ yJ2_grow.cls ≠ "java/lang/invoke/VarHandle" ∧ (parseMethodDescriptor yJ2_grow.desc).map (fun d => d.parameters.length) = some 0 := ⟨rfl, nd_J2_grow⟩
theorem nd_J2_grow_2 : yJ2_grow_2.cls ≠ "java/lang/invoke/MethodHandle" ∧ yJ2_grow_2.cls ≠ "java/lang/invoke/VarHandle" ∧ (parseMethodDescriptor yJ2_grow_2.desc).map (fun d => d.parameters.length) = some 1 := by decide +kernel
theorem ndV_J2_grow_2 : yJ2_grow_2.cls = ((RJ2, TJ2, 3) : vw_C).1 ∧ yJ2_grow_2.cls ≠ "java/lang/invoke/MethodHandle" ∧ yJ2_grow_2.cls ≠ "java/lang/invoke/VarHandle" ∧ (parseMethodDescriptor yJ2_grow_2.desc).map (fun d => d.parameters.length) = some 1 := ⟨rfl, nd_J2_grow_2⟩
theorem nd_J2_indexOfRange : yJ2_indexOfRange.cls ≠ "java/lang/invoke/MethodHandle" ∧ yJ2_indexOfRange.cls ≠ "java/lang/invoke/VarHandle" ∧ (parseMethodDescriptor yJ2_indexOfRange.desc).map (fun d => d.parameters.length) = some 3 := by decide +kernel
theorem ndV_J2_indexOfRange : yJ2_indexOfRange.cls = ((RJ2, TJ2, 3) : vw_C).1 ∧ yJ2_indexOfRange.cls ≠ "java/lang/invoke/MethodHandle" ∧ yJ2_indexOfRange.cls ≠ "java/lang/invoke/VarHandle" ∧ (parseMethodDescriptor yJ2_indexOfRange.desc).map (fun d => d.parameters.length) = some 3 := ⟨rfl, nd_J2_indexOfRange⟩
theorem nd_J13_checkIndex : yJ13_checkIndex.cls ≠ "java/lang/invoke/MethodHandle" ∧ yJ13_checkIndex.cls ≠ "java/lang/invoke/VarHandle" ∧ (parseMethodDescriptor yJ13_checkIndex.desc).map (fun d => d.parameters.length) = some 2 := by decide +kernel
theorem nd_J9_checkIndex : yJ9_checkIndex.cls ≠ "java/lang/invoke/MethodHandle" ∧ yJ9_checkIndex.cls ≠ "java/lang/invoke/VarHandle" ∧ (parseMethodDescriptor yJ9_checkIndex.desc).map (fun d => d.parameters.length) = some 3 := by decide +kernel
abbrev d_J0_init : Nat := 1
def wp_J0_init (S : jS) (x0 : Nat) (K : jS → Unit → Prop) : Prop :=
  K S ()
abbrev d_J9_checkIndex : Nat := 1
def wp_J9_checkIndex (S : jS) (x0 : Int32) (x1 : Int32) (K : jS → Int32 → Prop) : Prop :=
  ((x0 < 0) → False) ∧ ((¬ (x0 < 0)) → ((x0 < x1) → K S x0) ∧ ((¬ (x0 < x1)) → False))
abbrev d_J13_checkIndex : Nat := 2
def wp_J13_checkIndex (S : jS) (x0 : Int32) (x1 : Int32) (K : jS → Int32 → Prop) : Prop :=
  wp_J9_checkIndex S x0 x1 (fun S1 r2 => K S1 r2)
abbrev d_J19_equals : Nat := 1
def wp_J19_equals_10 (S : jS) (t0 : Int32) (K : jS → Int32 → Prop) : Prop :=
  (((t0 : Int32) = 0 ∨ (t0 : Int32) = 1) ∧ K S t0)
def wp_J19_equals (S : jS) (x0 : Nat) (x1 : Nat) (K : jS → Int32 → Prop) : Prop :=
  (((some x0) = (some x1)) → wp_J19_equals_10 S 1 K) ∧ ((¬ ((some x0) = (some x1))) → wp_J19_equals_10 S 0 K)
abbrev d_J1_init : Nat := 2
def wp_J1_init (S : jS) (x0 : Nat) (K : jS → Unit → Prop) : Prop :=
  wp_J0_init S x0 (fun S1 _ => jpi [3] 0 S1 x0 0 (fun S2 => K S2 ()))
abbrev d_J7_max : Nat := 1
def wp_J7_max_10 (S : jS) (t0 : Int32) (K : jS → Int32 → Prop) : Prop :=
  K S t0
def wp_J7_max (S : jS) (x0 : Int32) (x1 : Int32) (K : jS → Int32 → Prop) : Prop :=
  ((x0 < x1) → wp_J7_max_10 S x1 K) ∧ ((¬ (x0 < x1)) → wp_J7_max_10 S x0 K)
abbrev d_J2_grow_2 : Nat := 2
def wp_J2_grow_2 (S : jS) (x0 : Nat) (x1 : Int32) (K : jS → Nat → Prop) : Prop :=
  jgr [3] 1 S x0 (fun v1 => jlen S v1 (fun v2 => ((0 < v2) → False) ∧ ((¬ (0 < v2)) → jgr [3] 1 S x0 (fun v3 => jgs 2 S (fun v4 => (((some v3) = (some v4)) → wp_J7_max S 10 x1 (fun S5 r6 => jnewr 4 S5 r6 (fun S7 a8 => jpr [3] 1 S7 x0 (some a8) (fun S9 => K S9 a8)))) ∧ ((¬ ((some v3) = (some v4))) → False))))))
abbrev d_J2_grow : Nat := 3
def wp_J2_grow (S : jS) (x0 : Nat) (K : jS → Nat → Prop) : Prop :=
  jgi [3] 2 S x0 (fun v1 => jis 3 S x0 ∧ wp_J2_grow_2 S x0 (v1 + 1) (fun S2 r3 => K S2 r3))
abbrev d_J2_add_2 : Nat := 4
def wp_J2_add_2_11 (S : jS) (x0 : Nat) (x1 : Nat) (x2 : Nat) (x3 : Int32) (K : jS → Unit → Prop) : Prop :=
  jars 4 [4, 5] S x2 x3 x1 (fun S1 => jpi [3] 2 S1 x0 (x3 + 1) (fun S2 => K S2 ()))
def wp_J2_add_2 (S : jS) (x0 : Nat) (x1 : Nat) (x2 : Nat) (x3 : Int32) (K : jS → Unit → Prop) : Prop :=
  jlen S x2 (fun v1 => ((x3 = v1) → jis 3 S x0 ∧ wp_J2_grow S x0 (fun S2 r3 => wp_J2_add_2_11 S2 x0 x1 r3 x3 K)) ∧ ((¬ (x3 = v1)) → wp_J2_add_2_11 S x0 x1 x2 x3 K))
abbrev d_J2_add : Nat := 5
def wp_J2_add (S : jS) (x0 : Nat) (x1 : Nat) (K : jS → Int32 → Prop) : Prop :=
  jgi [3] 0 S x0 (fun v1 => jpi [3] 0 S x0 (v1 + 1) (fun S2 => jgr [3] 1 S2 x0 (fun v3 => jgi [3] 2 S2 x0 (fun v4 => jis 3 S2 x0 ∧ wp_J2_add_2 S2 x0 x1 v3 v4 (fun S5 _ => (((1 : Int32) = 0 ∨ (1 : Int32) = 1) ∧ K S5 1))))))
abbrev d_J2_clear : Nat := 1
def wp_J2_clear_27 (S : jS) (x1 : Nat) (x2 : Int32) (x3 : Int32) (Kc27 : jS × Int32 → Prop) (K : jS → Unit → Prop) : Prop :=
  ((x2 ≤ x3) → K S ()) ∧ ((¬ (x2 ≤ x3)) → jarz 4 S x1 x3 (fun S1 => Kc27 (S1, (x3 + 1))))
def wp_J2_clear_27_L (x1 : Nat) (x2 : Int32) (K : jS → Unit → Prop) : (jS × Int32) → ((jS × Int32) → Prop) → Prop := fun z Kc27 => wp_J2_clear_27 z.1 x1 x2 z.2 Kc27 K
def wp_J2_clear (S : jS) (x0 : Nat) (K : jS → Unit → Prop) : Prop :=
  jgi [3] 0 S x0 (fun v1 => jpi [3] 0 S x0 (v1 + 1) (fun S2 => jgr [3] 1 S2 x0 (fun v3 => jgi [3] 2 S2 x0 (fun v4 => jpi [3] 2 S2 x0 0 (fun S5 => ∃ n : Nat, jlp n (wp_J2_clear_27_L v3 v4 K) (S5, 0))))))
abbrev d_J2_elementData : Nat := 1
def wp_J2_elementData (S : jS) (x0 : Nat) (x1 : Int32) (K : jS → Nat → Prop) : Prop :=
  jgr [3] 1 S x0 (fun v1 => jarn 4 S v1 x1 (fun v2 => K S v2))
abbrev d_J2_fastRemove : Nat := 1
def wp_J2_fastRemove_34 (S : jS) (x0 : Nat) (x1 : Nat) (x3 : Int32) (K : jS → Unit → Prop) : Prop :=
  jpi [3] 2 S x0 x3 (fun S1 => jarz 4 S1 x1 x3 (fun S2 => K S2 ()))
def wp_J2_fastRemove (S : jS) (x0 : Nat) (x1 : Nat) (x2 : Int32) (K : jS → Unit → Prop) : Prop :=
  jgi [3] 0 S x0 (fun v1 => jpi [3] 0 S x0 (v1 + 1) (fun S2 => jgi [3] 2 S2 x0 (fun v3 => (((v3 - 1) ≤ x2) → wp_J2_fastRemove_34 S2 x0 x1 (v3 - 1) K) ∧ ((¬ ((v3 - 1) ≤ x2)) → jcq 4 [4] S2 x1 (x2 + 1) x1 x2 ((v3 - 1) - x2) (fun S4 => wp_J2_fastRemove_34 S4 x0 x1 (v3 - 1) K)))))
abbrev d_J2_get : Nat := 3
def wp_J2_get (S : jS) (x0 : Nat) (x1 : Int32) (K : jS → Nat → Prop) : Prop :=
  jgi [3] 2 S x0 (fun v1 => wp_J13_checkIndex S x1 v1 (fun S2 r3 => jis 3 S2 x0 ∧ wp_J2_elementData S2 x0 x1 (fun S4 r5 => K S4 r5)))
def wpD_Object_equals_4 (S : jS) (a : Nat) (x0 : Nat) (K : jS → Int32 → Prop) : Prop := (jis 4 S a ∧ wp_J19_equals S a x0 K)
abbrev d_D_Object_equals_4 : Nat := 1
abbrev d_J2_indexOfRange : Nat := 2
def wp_J2_indexOfRange_44 (S : jS) (t0 : Int32) (x1 : Nat) (x3 : Int32) (x4 : Nat) (x5 : Int32) (Kc42 : jS × Int32 → Prop) (K : jS → Int32 → Prop) : Prop :=
  ((x3 ≤ t0) → K S (-1)) ∧ ((¬ (x3 ≤ t0)) → jarn 4 S x4 x5 (fun v1 => wpD_Object_equals_4 S x1 v1 (fun S2 r3 => ((r3 = 0) → Kc42 (S2, (x5 + 1))) ∧ ((¬ (r3 = 0)) → K S2 x5))))
def wp_J2_indexOfRange_42 (S : jS) (x1 : Nat) (x3 : Int32) (x4 : Nat) (x5 : Int32) (Kc42 : jS × Int32 → Prop) (K : jS → Int32 → Prop) : Prop :=
  wp_J2_indexOfRange_44 S x5 x1 x3 x4 x5 Kc42 K
def wp_J2_indexOfRange_42_L (x1 : Nat) (x3 : Int32) (x4 : Nat) (K : jS → Int32 → Prop) : (jS × Int32) → ((jS × Int32) → Prop) → Prop := fun z Kc42 => wp_J2_indexOfRange_42 z.1 x1 x3 x4 z.2 Kc42 K
def wp_J2_indexOfRange (S : jS) (x0 : Nat) (x1 : Nat) (x2 : Int32) (x3 : Int32) (K : jS → Int32 → Prop) : Prop :=
  jgr [3] 1 S x0 (fun v1 => ((some x1) = none → False) ∧ ((¬ (some x1) = none) → ∃ n : Nat, jlp n (wp_J2_indexOfRange_42_L x1 x3 v1 K) (S, x2)))
abbrev d_J2_indexOf : Nat := 3
def wp_J2_indexOf (S : jS) (x0 : Nat) (x1 : Nat) (K : jS → Int32 → Prop) : Prop :=
  jgi [3] 2 S x0 (fun v1 => jis 3 S x0 ∧ wp_J2_indexOfRange S x0 x1 0 v1 (fun S2 r3 => K S2 r3))
abbrev d_J2_init : Nat := 3
def wp_J2_init (S : jS) (x0 : Nat) (K : jS → Unit → Prop) : Prop :=
  wp_J1_init S x0 (fun S1 _ => jgs 2 S1 (fun v2 => jpr [3] 1 S1 x0 (some v2) (fun S3 => K S3 ())))
abbrev d_J2_isEmpty : Nat := 1
def wp_J2_isEmpty_12 (S : jS) (t0 : Int32) (K : jS → Int32 → Prop) : Prop :=
  (((t0 : Int32) = 0 ∨ (t0 : Int32) = 1) ∧ K S t0)
def wp_J2_isEmpty (S : jS) (x0 : Nat) (K : jS → Int32 → Prop) : Prop :=
  jgi [3] 2 S x0 (fun v1 => ((v1 = 0) → wp_J2_isEmpty_12 S 1 K) ∧ ((¬ (v1 = 0)) → wp_J2_isEmpty_12 S 0 K))
abbrev d_J2_remove : Nat := 3
def wp_J2_remove (S : jS) (x0 : Nat) (x1 : Int32) (K : jS → Nat → Prop) : Prop :=
  jgi [3] 2 S x0 (fun v1 => wp_J13_checkIndex S x1 v1 (fun S2 r3 => jgr [3] 1 S2 x0 (fun v4 => jarn 4 S2 v4 x1 (fun v5 => jis 3 S2 x0 ∧ wp_J2_fastRemove S2 x0 v4 x1 (fun S6 _ => K S6 v5)))))
abbrev d_J2_size : Nat := 1
def wp_J2_size (S : jS) (x0 : Nat) (K : jS → Int32 → Prop) : Prop :=
  jgi [3] 2 S x0 (fun v1 => K S v1)
abbrev d_J3_init_2 : Nat := 1
def wp_J3_init_2_60 (S : jS) (K : jS → Unit → Prop) : Prop :=
  K S ()
def wp_J3_init_2 (S : jS) (x0 : Nat) (x3 : Int32) (x4 : Int32) (K : jS → Unit → Prop) : Prop :=
  jpr [7] 0 S x0 (some x0) (fun S1 => jgso 4 S1 (fun v2 => jpr [7] 1 S1 x0 v2 (fun S3 => jgso 5 S3 (fun v4 => jpr [7] 2 S3 x0 v4 (fun S5 => ((x4 = 0) → jpr [7] 1 S5 x0 none (fun S6 => jpr [7] 3 S6 x0 none (fun S7 => jpr [7] 0 S7 x0 none (fun S8 => ((x3 = 0) → jpr [7] 2 S8 x0 none (fun S9 => wp_J3_init_2_60 S9 K)) ∧ ((¬ (x3 = 0)) → wp_J3_init_2_60 S8 K))))) ∧ ((¬ (x4 = 0)) → False))))))
abbrev d_J4_init : Nat := 2
def wp_J4_init (S : jS) (x0 : Nat) (x3 : Int32) (x4 : Int32) (K : jS → Unit → Prop) : Prop :=
  wp_J3_init_2 S x0 x3 x4 (fun S1 _ => K S1 ())
abbrev d_J5_coder : Nat := 1
def wp_J5_coder (S : jS) (x0 : Nat) (K : jS → Int32 → Prop) : Prop :=
  jgsi 3 S (fun v1 => ((v1 = 0) → False) ∧ ((¬ (v1 = 0)) → jgi [14] 1 S x0 (fun v2 => (narrow .byte (.int v2) = .int v2 ∧ K S v2))))
abbrev d_J5_isLatin1 : Nat := 1
def wp_J5_isLatin1_18 (S : jS) (t0 : Int32) (K : jS → Int32 → Prop) : Prop :=
  (((t0 : Int32) = 0 ∨ (t0 : Int32) = 1) ∧ K S t0)
def wp_J5_isLatin1_17 (S : jS) (K : jS → Int32 → Prop) : Prop :=
  wp_J5_isLatin1_18 S 0 K
def wp_J5_isLatin1 (S : jS) (x0 : Nat) (K : jS → Int32 → Prop) : Prop :=
  jgsi 3 S (fun v1 => ((v1 = 0) → wp_J5_isLatin1_17 S K) ∧ ((¬ (v1 = 0)) → jgi [14] 1 S x0 (fun v2 => ((v2 = 0) → wp_J5_isLatin1_18 S 1 K) ∧ ((¬ (v2 = 0)) → wp_J5_isLatin1_17 S K))))
abbrev d_J5_length : Nat := 2
def wp_J5_length (S : jS) (x0 : Nat) (K : jS → Int32 → Prop) : Prop :=
  jgr [14] 0 S x0 (fun v1 => jlen S v1 (fun v2 => jis 14 S x0 ∧ wp_J5_coder S x0 (fun S3 r4 => K S3 (v2 >>> (r4 &&& 31)))))
abbrev d_J7_min : Nat := 1
def wp_J7_min_10 (S : jS) (t0 : Int32) (K : jS → Int32 → Prop) : Prop :=
  K S t0
def wp_J7_min (S : jS) (x0 : Int32) (x1 : Int32) (K : jS → Int32 → Prop) : Prop :=
  ((x1 < x0) → wp_J7_min_10 S x1 K) ∧ ((¬ (x1 < x0)) → wp_J7_min_10 S x0 K)
abbrev d_J6_canEncode : Nat := 1
def wp_J6_canEncode_16 (S : jS) (t0 : Int32) (K : jS → Int32 → Prop) : Prop :=
  (((t0 : Int32) = 0 ∨ (t0 : Int32) = 1) ∧ K S t0)
def wp_J6_canEncode_15 (S : jS) (K : jS → Int32 → Prop) : Prop :=
  wp_J6_canEncode_16 S 0 K
def wp_J6_canEncode (S : jS) (x0 : Int32) (K : jS → Int32 → Prop) : Prop :=
  ((x0 < 0) → wp_J6_canEncode_15 S K) ∧ ((¬ (x0 < 0)) → ((255 < x0) → wp_J6_canEncode_15 S K) ∧ ((¬ (255 < x0)) → wp_J6_canEncode_16 S 1 K))
abbrev d_J6_indexOfChar : Nat := 1
def wp_J6_indexOfChar_16 (S : jS) (t0 : Nat) (t1 : Int32) (x0 : Nat) (x3 : Int32) (x4 : Int32) (x5 : Int32) (Kc7 : jS × Int32 → Prop) (K : jS → Int32 → Prop) : Prop :=
  jal 13 S t0 t1 (fun v1 => ((v1 = x4) → K S x5) ∧ ((¬ (v1 = x4)) → Kc7 (S, (x5 + 1))))
def wp_J6_indexOfChar_7 (S : jS) (x0 : Nat) (x3 : Int32) (x4 : Int32) (x5 : Int32) (Kc7 : jS × Int32 → Prop) (K : jS → Int32 → Prop) : Prop :=
  ((x3 ≤ x5) → K S (-1)) ∧ ((¬ (x3 ≤ x5)) → wp_J6_indexOfChar_16 S x0 x5 x0 x3 x4 x5 Kc7 K)
def wp_J6_indexOfChar_7_L (x0 : Nat) (x3 : Int32) (x4 : Int32) (K : jS → Int32 → Prop) : (jS × Int32) → ((jS × Int32) → Prop) → Prop := fun z Kc7 => wp_J6_indexOfChar_7 z.1 x0 x3 x4 z.2 Kc7 K
def wp_J6_indexOfChar (S : jS) (x0 : Nat) (x1 : Int32) (x2 : Int32) (x3 : Int32) (K : jS → Int32 → Prop) : Prop :=
  ∃ n : Nat, jlp n (wp_J6_indexOfChar_7_L x0 x3 ((x1 : Int32).toInt8.toInt32) K) (S, x2)
abbrev d_J6_indexOf : Nat := 2
def wp_J6_indexOf (S : jS) (x0 : Nat) (x1 : Int32) (x2 : Int32) (x3 : Int32) (K : jS → Int32 → Prop) : Prop :=
  wp_J6_canEncode S x1 (fun S1 r2 => ((r2 = 0) → K S1 (-1)) ∧ ((¬ (r2 = 0)) → wp_J7_max S1 x2 0 (fun S3 r4 => jlen S3 x0 (fun v5 => wp_J7_min S3 x3 v5 (fun S6 r7 => ((r4 < r7) → wp_J6_indexOfChar S6 x0 x1 r4 r7 (fun S8 r9 => K S8 r9)) ∧ ((¬ (r4 < r7)) → K S6 (-1)))))))
abbrev d_J5_indexOf_2 : Nat := 3
def wp_J5_indexOf_2 (S : jS) (x0 : Nat) (x1 : Int32) (x2 : Int32) (K : jS → Int32 → Prop) : Prop :=
  jis 14 S x0 ∧ wp_J5_isLatin1 S x0 (fun S1 r2 => ((r2 = 0) → False) ∧ ((¬ (r2 = 0)) → jgr [14] 0 S1 x0 (fun v3 => jis 14 S1 x0 ∧ wp_J5_length S1 x0 (fun S4 r5 => wp_J6_indexOf S4 v3 x1 x2 r5 (fun S6 r7 => K S6 r7)))))
abbrev d_J5_indexOf : Nat := 4
def wp_J5_indexOf (S : jS) (x0 : Nat) (x1 : Int32) (K : jS → Int32 → Prop) : Prop :=
  jis 14 S x0 ∧ wp_J5_indexOf_2 S x0 x1 0 (fun S1 r2 => K S1 r2)
theorem wk_J0_init_0 {X : jX} {G : jG} {K : jS → Unit → Prop} (C : jC (X, G, 1, jA X G tvv K) d_J0_init cJ0_init "java/util/AbstractCollection" none yJ0_init) {S : jS} {x0 : Nat}  (h : wp_J0_init S x0 K) : jJ (X, G, 1, jA X G tvv K) S [(0, .ref x0)] 0 [] := by
  unfold wp_J0_init at h
  refine jr_aload_n C 1 rfl dJ0_init_0 rfl 0 rfl ?_
  refine jr_objInit C 4 rfl (by decide) q151 q129 q130 (Nat.le_of_ble_eq_true rfl) dJ0_init_1 ?_
  exact jr_return C dJ0_init_4 h
theorem m_J0_init {l : Launch} (hl : l.stackTraces = false) {G : jG} {K : jS → Unit → Prop} {S : jS} {x0 : Nat} (h : wp_J0_init S x0 K) : jMet l G d_J0_init yJ0_init (ws_ yJ0_init cJ0_init 1 none) [.ref x0] S tvv K :=
  jMet.of hl rfl (by decide) (Nat.le_of_ble_eq_true rfl) (fun X C => jr_sub [0] rfl (wk_J0_init_0 C h))
theorem wk_J9_checkIndex_0 {X : jX} {G : jG} {K : jS → Int32 → Prop} (C : jC (X, G, 3, jA X G tvi K) d_J9_checkIndex cJ9_checkIndex "jdk/internal/util/Preconditions" (some .int) yJ9_checkIndex) {S : jS} {x0 : Int32} {x1 : Int32}  (h : wp_J9_checkIndex S x0 x1 K) : jJ (X, G, 3, jA X G tvi K) S [(0, .int x0), (1, .int x1), (2, .null)] 0 [] := by
  unfold wp_J9_checkIndex at h
  refine jr_iload_n C 1 rfl dJ9_checkIndex_0 rfl 0 rfl ?_
  refine jr_if_lt C 9 4 rfl dJ9_checkIndex_1 (by decide) (fun c2 => ?_) (fun c2 => ?_)
  · have h := h.1 c2
    exact h.elim
  · have h := h.2 c2
    refine jr_iload_n C 5 rfl dJ9_checkIndex_4 rfl 0 rfl ?_
    refine jr_iload_n C 6 rfl dJ9_checkIndex_5 rfl 1 rfl ?_
    refine jr_icmp_lt C 16 9 rfl dJ9_checkIndex_6 (by decide) (fun c1 => ?_) (fun c1 => ?_)
    · have h := h.1 c1
      refine jr_iload_n C 17 rfl dJ9_checkIndex_16 rfl 0 rfl ?_
      exact jr_ireturn C dJ9_checkIndex_17 h
    · have h := h.2 c1
      exact h.elim
theorem m_J9_checkIndex {l : Launch} (hl : l.stackTraces = false) {G : jG} {K : jS → Int32 → Prop} {S : jS} {x0 : Int32} {x1 : Int32} (h : wp_J9_checkIndex S x0 x1 K) : jMet l G d_J9_checkIndex yJ9_checkIndex (ws_ yJ9_checkIndex cJ9_checkIndex 3 (some .int)) [.int x0, .int x1, .null] S tvi K :=
  jMet.of hl rfl (by decide) (Nat.le_of_ble_eq_true rfl) (fun X C => jr_sub [0, 1, 2] rfl (wk_J9_checkIndex_0 C h))
theorem wk_J13_checkIndex_0 {X : jX} {G : jG} {K : jS → Int32 → Prop} (C : jC (X, G, 2, jA X G tvi K) d_J13_checkIndex cJ13_checkIndex "java/util/Objects" (some .int) yJ13_checkIndex) {S : jS} {x0 : Int32} {x1 : Int32}  (h : wp_J13_checkIndex S x0 x1 K) : jJ (X, G, 2, jA X G tvi K) S [(0, .int x0), (1, .int x1)] 0 [] := by
  unfold wp_J13_checkIndex at h
  refine jr_iload_n C 1 rfl dJ13_checkIndex_0 rfl 0 rfl ?_
  refine jr_iload_n C 2 rfl dJ13_checkIndex_1 rfl 1 rfl ?_
  refine jr_null C 3 rfl dJ13_checkIndex_2 ?_
  refine jr_callSi (As := [.int x0, .int x1, .null]) (st := []) C 6 rfl (m_J9_checkIndex C.2.2.2.2.2.2.2.2.2.2.2.2.2.2.2 h) rfl q709 q710 q110 q711 (by decide) (by decide) nd_J9_checkIndex (Nat.le_of_ble_eq_true rfl) dJ13_checkIndex_3 (fun S1 r2 h => ?_)
  exact jr_ireturn C dJ13_checkIndex_6 h
theorem m_J13_checkIndex {l : Launch} (hl : l.stackTraces = false) {G : jG} {K : jS → Int32 → Prop} {S : jS} {x0 : Int32} {x1 : Int32} (h : wp_J13_checkIndex S x0 x1 K) : jMet l G d_J13_checkIndex yJ13_checkIndex (ws_ yJ13_checkIndex cJ13_checkIndex 2 (some .int)) [.int x0, .int x1] S tvi K :=
  jMet.of hl rfl (by decide) (Nat.le_of_ble_eq_true rfl) (fun X C => jr_sub [0, 1] rfl (wk_J13_checkIndex_0 C h))
theorem wk_J19_equals_10 {X : jX} {G : jG} {K : jS → Int32 → Prop} (C : jC (X, G, 2, jA X G tvi K) d_J19_equals cJ19_equals "java/lang/Object" (some .boolean) yJ19_equals) {S : jS} {t0 : Int32}  (h : wp_J19_equals_10 S t0 K) : jJ (X, G, 2, jA X G tvi K) S [] 10 [.int t0] := by
  unfold wp_J19_equals_10 at h
  exact jr_zreturn C dJ19_equals_10 h
theorem wk_J19_equals_0 {X : jX} {G : jG} {K : jS → Int32 → Prop} (C : jC (X, G, 2, jA X G tvi K) d_J19_equals cJ19_equals "java/lang/Object" (some .boolean) yJ19_equals) {S : jS} {x0 : Nat} {x1 : Nat}  (h : wp_J19_equals S x0 x1 K) : jJ (X, G, 2, jA X G tvi K) S [(0, .ref x0), (1, .ref x1)] 0 [] := by
  unfold wp_J19_equals at h
  refine jr_aload_n C 1 rfl dJ19_equals_0 rfl 0 rfl ?_
  refine jr_aload_n C 2 rfl dJ19_equals_1 rfl 1 rfl ?_
  refine jr_acmp_ne (rx := (some x0)) (ry := (some x1)) C 9 5 rfl dJ19_equals_2 (by decide) (fun c1 => ?_) (fun c1 => ?_)
  · have h := h.1 c1
    refine jr_iconst (v := 1) C 6 rfl dJ19_equals_5 (by decide) ?_
    refine jr_goto C 10 dJ19_equals_6 (by decide) ?_
    exact jr_sub [] rfl (wk_J19_equals_10 C  h)
  · have h := h.2 c1
    refine jr_iconst (v := 0) C 10 rfl dJ19_equals_9 (by decide) ?_
    exact jr_sub [] rfl (wk_J19_equals_10 C  h)
theorem m_J19_equals {l : Launch} (hl : l.stackTraces = false) {G : jG} {K : jS → Int32 → Prop} {S : jS} {x0 : Nat} {x1 : Nat} (h : wp_J19_equals S x0 x1 K) : jMet l G d_J19_equals yJ19_equals (ws_ yJ19_equals cJ19_equals 2 (some .boolean)) [.ref x0, .ref x1] S tvi K :=
  jMet.ofF hl rfl (by decide +kernel) (Nat.le_of_ble_eq_true rfl) (fun X C => jr_sub [0, 1] rfl (wk_J19_equals_0 C h))
theorem wk_J1_init_0 {X : jX} {G : jG} {K : jS → Unit → Prop} (C : jC (X, G, 1, jA X G tvv K) d_J1_init cJ1_init "java/util/AbstractList" none yJ1_init) {S : jS} {x0 : Nat}  (h : wp_J1_init S x0 K) : jJ (X, G, 1, jA X G tvv K) S [(0, .ref x0)] 0 [] := by
  unfold wp_J1_init at h
  refine jr_aload_n C 1 rfl dJ1_init_0 rfl 0 rfl ?_
  refine jr_callIv (As := []) (st := []) C 4 rfl (m_J0_init C.2.2.2.2.2.2.2.2.2.2.2.2.2.2.2 h) rfl rfl q148 q149 q97 q150 (by decide) (by decide) nd_J0_init (Nat.le_of_ble_eq_true rfl) dJ1_init_1 (fun S1 _ h => ?_)
  refine jr_aload_n C 5 rfl dJ1_init_4 rfl 0 rfl ?_
  refine jr_iconst (v := 0) C 6 rfl dJ1_init_5 (by decide) ?_
  refine jr_putv C 9 rfl fo_3_0_AbstractList (by decide) q156 dJ1_init_6 rfl rfl h (fun S2 h => ?_)
  exact jr_return C dJ1_init_9 h
theorem m_J1_init {l : Launch} (hl : l.stackTraces = false) {G : jG} {K : jS → Unit → Prop} {S : jS} {x0 : Nat} (h : wp_J1_init S x0 K) : jMet l G d_J1_init yJ1_init (ws_ yJ1_init cJ1_init 1 none) [.ref x0] S tvv K :=
  jMet.of hl rfl (by decide) (Nat.le_of_ble_eq_true rfl) (fun X C => jr_sub [0] rfl (wk_J1_init_0 C h))
theorem wk_J7_max_10 {X : jX} {G : jG} {K : jS → Int32 → Prop} (C : jC (X, G, 2, jA X G tvi K) d_J7_max cJ7_max "java/lang/Math" (some .int) yJ7_max) {S : jS} {t0 : Int32}  (h : wp_J7_max_10 S t0 K) : jJ (X, G, 2, jA X G tvi K) S [] 10 [.int t0] := by
  unfold wp_J7_max_10 at h
  exact jr_ireturn C dJ7_max_10 h
theorem wk_J7_max_0 {X : jX} {G : jG} {K : jS → Int32 → Prop} (C : jC (X, G, 2, jA X G tvi K) d_J7_max cJ7_max "java/lang/Math" (some .int) yJ7_max) {S : jS} {x0 : Int32} {x1 : Int32}  (h : wp_J7_max S x0 x1 K) : jJ (X, G, 2, jA X G tvi K) S [(0, .int x0), (1, .int x1)] 0 [] := by
  unfold wp_J7_max at h
  refine jr_iload_n C 1 rfl dJ7_max_0 rfl 0 rfl ?_
  refine jr_iload_n C 2 rfl dJ7_max_1 rfl 1 rfl ?_
  refine jr_icmp_lt C 9 5 rfl dJ7_max_2 (by decide) (fun c1 => ?_) (fun c1 => ?_)
  · have h := h.1 c1
    refine jr_iload_n C 10 rfl dJ7_max_9 rfl 1 rfl ?_
    exact jr_sub [] rfl (wk_J7_max_10 C  h)
  · have h := h.2 c1
    refine jr_iload_n C 6 rfl dJ7_max_5 rfl 0 rfl ?_
    refine jr_goto C 10 dJ7_max_6 (by decide) ?_
    exact jr_sub [] rfl (wk_J7_max_10 C  h)
theorem m_J7_max {l : Launch} (hl : l.stackTraces = false) {G : jG} {K : jS → Int32 → Prop} {S : jS} {x0 : Int32} {x1 : Int32} (h : wp_J7_max S x0 x1 K) : jMet l G d_J7_max yJ7_max (ws_ yJ7_max cJ7_max 2 (some .int)) [.int x0, .int x1] S tvi K :=
  jMet.ofF hl rfl (by decide +kernel) (Nat.le_of_ble_eq_true rfl) (fun X C => jr_sub [0, 1] rfl (wk_J7_max_0 C h))
theorem wk_J2_grow_2_0 {X : jX} {G : jG} {K : jS → Nat → Prop} (C : jC (X, G, 4, jA X G tvr K) d_J2_grow_2 cJ2_grow_2 "java/util/ArrayList" (some (.array (.object "java/lang/Object"))) yJ2_grow_2) {S : jS} {x0 : Nat} {x1 : Int32}  (h : wp_J2_grow_2 S x0 x1 K) : jJ (X, G, 4, jA X G tvr K) S [(0, .ref x0), (1, .int x1)] 0 [] := by
  unfold wp_J2_grow_2 at h
  refine jr_aload_n C 1 rfl dJ2_grow_2_0 rfl 0 rfl ?_
  refine jr_getr C 4 rfl fo_3_1 q154 dJ2_grow_2_1 h (fun v1 h => ?_)
  refine jr_alen C 5 rfl dJ2_grow_2_4 h (fun v2 h => ?_)
  refine jr_istore_n (lv' := [(2, .int v2), (0, .ref x0), (1, .int x1)]) C 6 rfl dJ2_grow_2_5 rfl (Nat.le_of_ble_eq_true rfl) rfl ?_
  refine jr_iload_n C 7 rfl dJ2_grow_2_6 rfl 0 rfl ?_
  refine jr_if_gt C 20 10 rfl dJ2_grow_2_7 (by decide) (fun c11 => ?_) (fun c11 => ?_)
  · have h := h.1 c11
    exact h.elim
  · have h := h.2 c11
    refine jr_aload_n C 11 rfl dJ2_grow_2_10 rfl 1 rfl ?_
    refine jr_getr C 14 rfl fo_3_1 q154 dJ2_grow_2_11 h (fun v3 h => ?_)
    refine jr_gets C 17 rfl (i := 2) rfl q152 dJ2_grow_2_14 h (fun v4 h => ?_)
    refine jr_acmp_eq (rx := (some v3)) (ry := (some v4)) C 45 20 rfl dJ2_grow_2_17 (by decide) (fun c10 => ?_) (fun c10 => ?_)
    · have h := h.1 c10
      refine jr_aload_n C 46 rfl dJ2_grow_2_45 rfl 1 rfl ?_
      refine jr_bipush (v := 10) C 48 rfl dJ2_grow_2_46 (by decide) ?_
      refine jr_iload_n C 49 rfl dJ2_grow_2_48 rfl 2 rfl ?_
      refine jr_callSi (As := [.int 10, .int x1]) (st := [.ref x0]) C 52 rfl (m_J7_max C.2.2.2.2.2.2.2.2.2.2.2.2.2.2.2 h) rfl q653 q486 q108 q487 (by decide) (by decide) nd_J7_max (Nat.le_of_ble_eq_true rfl) dJ2_grow_2_49 (fun S5 r6 h => ?_)
      refine jr_newr C 55 rfl (t := 4) rfl (by decide) q654 (jx_g q647 rfl) dJ2_grow_2_52 h (fun S7 a8 h => ?_)
      refine jr_dup_x1 C 56 rfl dJ2_grow_2_55 rfl rfl ?_
      refine jr_putv C 59 rfl fo_3_1 (by decide) q154 dJ2_grow_2_56 rfl rfl h (fun S9 h => ?_)
      exact jr_areturn (Or.inr ⟨_, rfl⟩) C dJ2_grow_2_59 h
    · have h := h.2 c10
      exact h.elim
theorem m_J2_grow_2 {l : Launch} (hl : l.stackTraces = false) {G : jG} {K : jS → Nat → Prop} {S : jS} {x0 : Nat} {x1 : Int32} (h : wp_J2_grow_2 S x0 x1 K) : jMet l G d_J2_grow_2 yJ2_grow_2 (ws_ yJ2_grow_2 cJ2_grow_2 4 (some (.array (.object "java/lang/Object")))) [.ref x0, .int x1] S tvr K :=
  jMet.of hl rfl (by decide) (Nat.le_of_ble_eq_true rfl) (fun X C => jr_sub [0, 1] rfl (wk_J2_grow_2_0 C h))
theorem wk_J2_grow_0 {X : jX} {G : jG} {K : jS → Nat → Prop} (C : jC (X, G, 1, jA X G tvr K) d_J2_grow cJ2_grow "java/util/ArrayList" (some (.array (.object "java/lang/Object"))) yJ2_grow) {S : jS} {x0 : Nat}  (h : wp_J2_grow S x0 K) : jJ (X, G, 1, jA X G tvr K) S [(0, .ref x0)] 0 [] := by
  unfold wp_J2_grow at h
  refine jr_aload_n C 1 rfl dJ2_grow_0 rfl 0 rfl ?_
  refine jr_aload_n C 2 rfl dJ2_grow_1 rfl 0 rfl ?_
  refine jr_geti C 5 rfl fo_3_2 q155 dJ2_grow_2 h (fun v1 h => ?_)
  refine jr_iconst (v := 1) C 6 rfl dJ2_grow_5 (by decide) ?_
  refine jr_iadd C 7 rfl dJ2_grow_6 ?_
  obtain ⟨⟨V, hb⟩, h⟩ := h
  refine jr_callVr (r0 := (RJ2, TJ2, 3)) (As := [.int (v1 + 1)]) (st := []) C 10 rfl (m_J2_grow_2 C.2.2.2.2.2.2.2.2.2.2.2.2.2.2.2 h) rfl hb rfl q607 q609 qs3 q99 q610 (by decide) (by decide) ndV_J2_grow_2 (Nat.le_of_ble_eq_true rfl) dJ2_grow_7 (fun S2 r3 h => ?_)
  exact jr_areturn (Or.inr ⟨_, rfl⟩) C dJ2_grow_10 h
theorem m_J2_grow {l : Launch} (hl : l.stackTraces = false) {G : jG} {K : jS → Nat → Prop} {S : jS} {x0 : Nat} (h : wp_J2_grow S x0 K) : jMet l G d_J2_grow yJ2_grow (ws_ yJ2_grow cJ2_grow 1 (some (.array (.object "java/lang/Object")))) [.ref x0] S tvr K :=
  jMet.of hl rfl (by decide) (Nat.le_of_ble_eq_true rfl) (fun X C => jr_sub [0] rfl (wk_J2_grow_0 C h))
theorem wk_J2_add_2_11 {X : jX} {G : jG} {K : jS → Unit → Prop} (C : jC (X, G, 4, jA X G tvv K) d_J2_add_2 cJ2_add_2 "java/util/ArrayList" none yJ2_add_2) {S : jS} {x0 : Nat} {x1 : Nat} {x2 : Nat} {x3 : Int32}  (h : wp_J2_add_2_11 S x0 x1 x2 x3 K) : jJ (X, G, 4, jA X G tvv K) S [(0, .ref x0), (1, .ref x1), (2, .ref x2), (3, .int x3)] 11 [] := by
  unfold wp_J2_add_2_11 at h
  refine jr_aload_n C 12 rfl dJ2_add_2_11 rfl 2 rfl ?_
  refine jr_iload_n C 13 rfl dJ2_add_2_12 rfl 3 rfl ?_
  refine jr_aload_n C 14 rfl dJ2_add_2_13 rfl 1 rfl ?_
  refine jr_aast C 15 rfl (t := 4) rfl (by decide) can_4 canI_4 dJ2_add_2_14 h (fun S1 h => ?_)
  refine jr_aload_n C 16 rfl dJ2_add_2_15 rfl 0 rfl ?_
  refine jr_iload_n C 17 rfl dJ2_add_2_16 rfl 3 rfl ?_
  refine jr_iconst (v := 1) C 18 rfl dJ2_add_2_17 (by decide) ?_
  refine jr_iadd C 19 rfl dJ2_add_2_18 ?_
  refine jr_putv C 22 rfl fo_3_2 (by decide) q155 dJ2_add_2_19 rfl rfl h (fun S2 h => ?_)
  exact jr_return C dJ2_add_2_22 h
theorem wk_J2_add_2_0 {X : jX} {G : jG} {K : jS → Unit → Prop} (C : jC (X, G, 4, jA X G tvv K) d_J2_add_2 cJ2_add_2 "java/util/ArrayList" none yJ2_add_2) {S : jS} {x0 : Nat} {x1 : Nat} {x2 : Nat} {x3 : Int32}  (h : wp_J2_add_2 S x0 x1 x2 x3 K) : jJ (X, G, 4, jA X G tvv K) S [(0, .ref x0), (1, .ref x1), (2, .ref x2), (3, .int x3)] 0 [] := by
  unfold wp_J2_add_2 at h
  refine jr_iload_n C 1 rfl dJ2_add_2_0 rfl 3 rfl ?_
  refine jr_aload_n C 2 rfl dJ2_add_2_1 rfl 2 rfl ?_
  refine jr_alen C 3 rfl dJ2_add_2_2 h (fun v1 h => ?_)
  refine jr_icmp_ne C 11 6 rfl dJ2_add_2_3 (by decide) (fun c4 => ?_) (fun c4 => ?_)
  · have h := h.1 c4
    refine jr_aload_n C 7 rfl dJ2_add_2_6 rfl 0 rfl ?_
    obtain ⟨⟨V, hb⟩, h⟩ := h
    refine jr_callVr (r0 := (RJ2, TJ2, 3)) (As := []) (st := []) C 10 rfl (m_J2_grow C.2.2.2.2.2.2.2.2.2.2.2.2.2.2.2 h) rfl hb rfl q603 q605 qs2 q99 q606 (by decide) (by decide) ndV_J2_grow (Nat.le_of_ble_eq_true rfl) dJ2_add_2_7 (fun S2 r3 h => ?_)
    refine jr_astore_n (lv' := [(2, .ref r3), (0, .ref x0), (1, .ref x1), (3, .int x3)]) C 11 rfl dJ2_add_2_10 rfl (Nat.le_of_ble_eq_true rfl) rfl ?_
    exact jr_sub [1, 2, 0, 3] rfl (wk_J2_add_2_11 C  h)
  · have h := h.2 c4
    exact (wk_J2_add_2_11 C  h)
theorem m_J2_add_2 {l : Launch} (hl : l.stackTraces = false) {G : jG} {K : jS → Unit → Prop} {S : jS} {x0 : Nat} {x1 : Nat} {x2 : Nat} {x3 : Int32} (h : wp_J2_add_2 S x0 x1 x2 x3 K) : jMet l G d_J2_add_2 yJ2_add_2 (ws_ yJ2_add_2 cJ2_add_2 4 none) [.ref x0, .ref x1, .ref x2, .int x3] S tvv K :=
  jMet.of hl rfl (by decide) (Nat.le_of_ble_eq_true rfl) (fun X C => jr_sub [0, 1, 2, 3] rfl (wk_J2_add_2_0 C h))
theorem wk_J2_add_0 {X : jX} {G : jG} {K : jS → Int32 → Prop} (C : jC (X, G, 2, jA X G tvi K) d_J2_add cJ2_add "java/util/ArrayList" (some .boolean) yJ2_add) {S : jS} {x0 : Nat} {x1 : Nat}  (h : wp_J2_add S x0 x1 K) : jJ (X, G, 2, jA X G tvi K) S [(0, .ref x0), (1, .ref x1)] 0 [] := by
  unfold wp_J2_add at h
  refine jr_aload_n C 1 rfl dJ2_add_0 rfl 0 rfl ?_
  refine jr_dup C 2 rfl dJ2_add_1 rfl ?_
  refine jr_geti C 5 rfl fo_3_0 q157 dJ2_add_2 h (fun v1 h => ?_)
  refine jr_iconst (v := 1) C 6 rfl dJ2_add_5 (by decide) ?_
  refine jr_iadd C 7 rfl dJ2_add_6 ?_
  refine jr_putv C 10 rfl fo_3_0 (by decide) q157 dJ2_add_7 rfl rfl h (fun S2 h => ?_)
  refine jr_aload_n C 11 rfl dJ2_add_10 rfl 0 rfl ?_
  refine jr_aload_n C 12 rfl dJ2_add_11 rfl 1 rfl ?_
  refine jr_aload_n C 13 rfl dJ2_add_12 rfl 0 rfl ?_
  refine jr_getr C 16 rfl fo_3_1 q154 dJ2_add_13 h (fun v3 h => ?_)
  refine jr_aload_n C 17 rfl dJ2_add_16 rfl 0 rfl ?_
  refine jr_geti C 20 rfl fo_3_2 q155 dJ2_add_17 h (fun v4 h => ?_)
  obtain ⟨⟨V, hb⟩, h⟩ := h
  refine jr_callVv (r0 := (RJ2, TJ2, 3)) (As := [.ref x1, .ref v3, .int v4]) (st := []) C 23 rfl (m_J2_add_2 C.2.2.2.2.2.2.2.2.2.2.2.2.2.2.2 h) rfl hb rfl q599 q601 qs1 q99 q602 (by decide) (by decide) ndV_J2_add_2 (Nat.le_of_ble_eq_true rfl) dJ2_add_20 (fun S5 _ h => ?_)
  refine jr_iconst (v := 1) C 24 rfl dJ2_add_23 (by decide) ?_
  exact jr_zreturn C dJ2_add_24 h
theorem m_J2_add {l : Launch} (hl : l.stackTraces = false) {G : jG} {K : jS → Int32 → Prop} {S : jS} {x0 : Nat} {x1 : Nat} (h : wp_J2_add S x0 x1 K) : jMet l G d_J2_add yJ2_add (ws_ yJ2_add cJ2_add 2 (some .boolean)) [.ref x0, .ref x1] S tvi K :=
  jMet.of hl rfl (by decide) (Nat.le_of_ble_eq_true rfl) (fun X C => jr_sub [0, 1] rfl (wk_J2_add_0 C h))
theorem wk_J2_clear_27 {X : jX} {G : jG} {K : jS → Unit → Prop} (C : jC (X, G, 4, jA X G tvv K) d_J2_clear cJ2_clear "java/util/ArrayList" none yJ2_clear) {S : jS} {x1 : Nat} {x2 : Int32} {x3 : Int32} {Kc27 : jS × Int32 → Prop} (hc27 : ∀ z : jS × Int32, Kc27 z → jJ (X, G, 4, jA X G tvv K) z.1 [(1, .ref x1), (2, .int x2), (3, .int z.2)] 27 []) (h : wp_J2_clear_27 S x1 x2 x3 Kc27 K) : jJ (X, G, 4, jA X G tvv K) S [(1, .ref x1), (2, .int x2), (3, .int x3)] 27 [] := by
  unfold wp_J2_clear_27 at h
  refine jr_iload_n C 28 rfl dJ2_clear_27 rfl 2 rfl ?_
  refine jr_iload_n C 29 rfl dJ2_clear_28 rfl 1 rfl ?_
  refine jr_icmp_ge C 42 32 rfl dJ2_clear_29 (by decide) (fun c2 => ?_) (fun c2 => ?_)
  · have h := h.1 c2
    exact jr_return C dJ2_clear_42 h
  · have h := h.2 c2
    refine jr_aload_n C 33 rfl dJ2_clear_32 rfl 0 rfl ?_
    refine jr_iload_n C 34 rfl dJ2_clear_33 rfl 2 rfl ?_
    refine jr_null C 35 rfl dJ2_clear_34 ?_
    refine jr_aastz C 36 rfl (t := 4) rfl (by decide) dJ2_clear_35 h (fun S1 h => ?_)
    refine jr_iinc (v := (x3 + 1)) (lv' := [(3, .int (x3 + 1)), (1, .ref x1), (2, .int x2)]) C 39 rfl dJ2_clear_36 2 rfl rfl (Nat.le_of_ble_eq_true rfl) rfl ?_
    refine jr_goto C 27 dJ2_clear_39 (by decide) ?_
    exact jr_sub [1, 2, 0] rfl (hc27 _ h)
theorem wk_J2_clear_27_L {X : jX} {G : jG} {K : jS → Unit → Prop} (C : jC (X, G, 4, jA X G tvv K) d_J2_clear cJ2_clear "java/util/ArrayList" none yJ2_clear) {x1 : Nat} {x2 : Int32}  : ∀ (n : Nat) (z : jS × Int32), jlp n (wp_J2_clear_27_L x1 x2 K) z → jJ (X, G, 4, jA X G tvv K) z.1 [(1, .ref x1), (2, .int x2), (3, .int z.2)] 27 [] := by
  intro n
  induction n with
  | zero => intro z h; exact h.elim
  | succ n ih => intro z h; exact wk_J2_clear_27 C ih h
theorem wk_J2_clear_0 {X : jX} {G : jG} {K : jS → Unit → Prop} (C : jC (X, G, 4, jA X G tvv K) d_J2_clear cJ2_clear "java/util/ArrayList" none yJ2_clear) {S : jS} {x0 : Nat}  (h : wp_J2_clear S x0 K) : jJ (X, G, 4, jA X G tvv K) S [(0, .ref x0)] 0 [] := by
  unfold wp_J2_clear at h
  refine jr_aload_n C 1 rfl dJ2_clear_0 rfl 0 rfl ?_
  refine jr_dup C 2 rfl dJ2_clear_1 rfl ?_
  refine jr_geti C 5 rfl fo_3_0 q157 dJ2_clear_2 h (fun v1 h => ?_)
  refine jr_iconst (v := 1) C 6 rfl dJ2_clear_5 (by decide) ?_
  refine jr_iadd C 7 rfl dJ2_clear_6 ?_
  refine jr_putv C 10 rfl fo_3_0 (by decide) q157 dJ2_clear_7 rfl rfl h (fun S2 h => ?_)
  refine jr_aload_n C 11 rfl dJ2_clear_10 rfl 0 rfl ?_
  refine jr_getr C 14 rfl fo_3_1 q154 dJ2_clear_11 h (fun v3 h => ?_)
  refine jr_astore_n (lv' := [(1, .ref v3), (0, .ref x0)]) C 15 rfl dJ2_clear_14 rfl (Nat.le_of_ble_eq_true rfl) rfl ?_
  refine jr_aload_n C 16 rfl dJ2_clear_15 rfl 1 rfl ?_
  refine jr_geti C 19 rfl fo_3_2 q155 dJ2_clear_16 h (fun v4 h => ?_)
  refine jr_istore_n (lv' := [(2, .int v4), (1, .ref v3), (0, .ref x0)]) C 20 rfl dJ2_clear_19 rfl (Nat.le_of_ble_eq_true rfl) rfl ?_
  refine jr_aload_n C 21 rfl dJ2_clear_20 rfl 2 rfl ?_
  refine jr_iconst (v := 0) C 22 rfl dJ2_clear_21 (by decide) ?_
  refine jr_dup_x1 C 23 rfl dJ2_clear_22 rfl rfl ?_
  refine jr_putv C 26 rfl fo_3_2 (by decide) q155 dJ2_clear_23 rfl rfl h (fun S5 h => ?_)
  refine jr_istore_n (lv' := [(3, .int 0), (2, .int v4), (1, .ref v3), (0, .ref x0)]) C 27 rfl dJ2_clear_26 rfl (Nat.le_of_ble_eq_true rfl) rfl ?_
  obtain ⟨n, h⟩ := h
  exact jr_sub [2, 1, 0] rfl (wk_J2_clear_27_L C  n _ h)
theorem m_J2_clear {l : Launch} (hl : l.stackTraces = false) {G : jG} {K : jS → Unit → Prop} {S : jS} {x0 : Nat} (h : wp_J2_clear S x0 K) : jMet l G d_J2_clear yJ2_clear (ws_ yJ2_clear cJ2_clear 4 none) [.ref x0] S tvv K :=
  jMet.of hl rfl (by decide) (Nat.le_of_ble_eq_true rfl) (fun X C => jr_sub [0] rfl (wk_J2_clear_0 C h))
theorem wk_J2_elementData_0 {X : jX} {G : jG} {K : jS → Nat → Prop} (C : jC (X, G, 2, jA X G tvr K) d_J2_elementData cJ2_elementData "java/util/ArrayList" (some (.object "java/lang/Object")) yJ2_elementData) {S : jS} {x0 : Nat} {x1 : Int32}  (h : wp_J2_elementData S x0 x1 K) : jJ (X, G, 2, jA X G tvr K) S [(0, .ref x0), (1, .int x1)] 0 [] := by
  unfold wp_J2_elementData at h
  refine jr_aload_n C 1 rfl dJ2_elementData_0 rfl 0 rfl ?_
  refine jr_getr C 4 rfl fo_3_1 q154 dJ2_elementData_1 h (fun v1 h => ?_)
  refine jr_iload_n C 5 rfl dJ2_elementData_4 rfl 1 rfl ?_
  refine jr_aaldn C 6 rfl (t := 4) rfl rfl dJ2_elementData_5 h (fun v2 h => ?_)
  exact jr_areturn (Or.inl ⟨_, rfl⟩) C dJ2_elementData_6 h
theorem m_J2_elementData {l : Launch} (hl : l.stackTraces = false) {G : jG} {K : jS → Nat → Prop} {S : jS} {x0 : Nat} {x1 : Int32} (h : wp_J2_elementData S x0 x1 K) : jMet l G d_J2_elementData yJ2_elementData (ws_ yJ2_elementData cJ2_elementData 2 (some (.object "java/lang/Object"))) [.ref x0, .int x1] S tvr K :=
  jMet.of hl rfl (by decide) (Nat.le_of_ble_eq_true rfl) (fun X C => jr_sub [0, 1] rfl (wk_J2_elementData_0 C h))
theorem wk_J2_fastRemove_34 {X : jX} {G : jG} {K : jS → Unit → Prop} (C : jC (X, G, 4, jA X G tvv K) d_J2_fastRemove cJ2_fastRemove "java/util/ArrayList" none yJ2_fastRemove) {S : jS} {x0 : Nat} {x1 : Nat} {x3 : Int32}  (h : wp_J2_fastRemove_34 S x0 x1 x3 K) : jJ (X, G, 4, jA X G tvv K) S [(0, .ref x0), (1, .ref x1), (3, .int x3)] 34 [] := by
  unfold wp_J2_fastRemove_34 at h
  refine jr_aload_n C 35 rfl dJ2_fastRemove_34 rfl 1 rfl ?_
  refine jr_aload_n C 36 rfl dJ2_fastRemove_35 rfl 0 rfl ?_
  refine jr_iload_n C 37 rfl dJ2_fastRemove_36 rfl 2 rfl ?_
  refine jr_dup_x1 C 38 rfl dJ2_fastRemove_37 rfl rfl ?_
  refine jr_putv C 41 rfl fo_3_2 (by decide) q155 dJ2_fastRemove_38 rfl rfl h (fun S1 h => ?_)
  refine jr_null C 42 rfl dJ2_fastRemove_41 ?_
  refine jr_aastz C 43 rfl (t := 4) rfl (by decide) dJ2_fastRemove_42 h (fun S2 h => ?_)
  exact jr_return C dJ2_fastRemove_43 h
theorem wk_J2_fastRemove_0 {X : jX} {G : jG} {K : jS → Unit → Prop} (C : jC (X, G, 4, jA X G tvv K) d_J2_fastRemove cJ2_fastRemove "java/util/ArrayList" none yJ2_fastRemove) {S : jS} {x0 : Nat} {x1 : Nat} {x2 : Int32}  (h : wp_J2_fastRemove S x0 x1 x2 K) : jJ (X, G, 4, jA X G tvv K) S [(0, .ref x0), (1, .ref x1), (2, .int x2)] 0 [] := by
  unfold wp_J2_fastRemove at h
  refine jr_aload_n C 1 rfl dJ2_fastRemove_0 rfl 0 rfl ?_
  refine jr_dup C 2 rfl dJ2_fastRemove_1 rfl ?_
  refine jr_geti C 5 rfl fo_3_0 q157 dJ2_fastRemove_2 h (fun v1 h => ?_)
  refine jr_iconst (v := 1) C 6 rfl dJ2_fastRemove_5 (by decide) ?_
  refine jr_iadd C 7 rfl dJ2_fastRemove_6 ?_
  refine jr_putv C 10 rfl fo_3_0 (by decide) q157 dJ2_fastRemove_7 rfl rfl h (fun S2 h => ?_)
  refine jr_aload_n C 11 rfl dJ2_fastRemove_10 rfl 0 rfl ?_
  refine jr_geti C 14 rfl fo_3_2 q155 dJ2_fastRemove_11 h (fun v3 h => ?_)
  refine jr_iconst (v := 1) C 15 rfl dJ2_fastRemove_14 (by decide) ?_
  refine jr_isub C 16 rfl dJ2_fastRemove_15 ?_
  refine jr_dup C 17 rfl dJ2_fastRemove_16 rfl ?_
  refine jr_istore_n (lv' := [(3, .int (v3 - 1)), (0, .ref x0), (1, .ref x1), (2, .int x2)]) C 18 rfl dJ2_fastRemove_17 rfl (Nat.le_of_ble_eq_true rfl) rfl ?_
  refine jr_iload_n C 19 rfl dJ2_fastRemove_18 rfl 3 rfl ?_
  refine jr_icmp_le C 34 22 rfl dJ2_fastRemove_19 (by decide) (fun c5 => ?_) (fun c5 => ?_)
  · have h := h.1 c5
    exact jr_sub [1, 2, 0] rfl (wk_J2_fastRemove_34 C  h)
  · have h := h.2 c5
    refine jr_aload_n C 23 rfl dJ2_fastRemove_22 rfl 2 rfl ?_
    refine jr_iload_n C 24 rfl dJ2_fastRemove_23 rfl 3 rfl ?_
    refine jr_iconst (v := 1) C 25 rfl dJ2_fastRemove_24 (by decide) ?_
    refine jr_iadd C 26 rfl dJ2_fastRemove_25 ?_
    refine jr_aload_n C 27 rfl dJ2_fastRemove_26 rfl 2 rfl ?_
    refine jr_iload_n C 28 rfl dJ2_fastRemove_27 rfl 3 rfl ?_
    refine jr_iload_n C 29 rfl dJ2_fastRemove_28 rfl 0 rfl ?_
    refine jr_iload_n C 30 rfl dJ2_fastRemove_29 rfl 3 rfl ?_
    refine jr_isub C 31 rfl dJ2_fastRemove_30 ?_
    refine jr_copyq (st := []) C 34 rfl (t := 4) rfl (by decide) can_4_4 q797 dJ2_fastRemove_31 (Nat.le_of_ble_eq_true rfl) (Nat.le_of_ble_eq_true rfl) h (fun S4 h => ?_)
    exact jr_sub [1, 2, 0] rfl (wk_J2_fastRemove_34 C  h)
theorem m_J2_fastRemove {l : Launch} (hl : l.stackTraces = false) {G : jG} {K : jS → Unit → Prop} {S : jS} {x0 : Nat} {x1 : Nat} {x2 : Int32} (h : wp_J2_fastRemove S x0 x1 x2 K) : jMet l G d_J2_fastRemove yJ2_fastRemove (ws_ yJ2_fastRemove cJ2_fastRemove 4 none) [.ref x0, .ref x1, .int x2] S tvv K :=
  jMet.of hl rfl (by decide) (Nat.le_of_ble_eq_true rfl) (fun X C => jr_sub [0, 1, 2] rfl (wk_J2_fastRemove_0 C h))
theorem wk_J2_get_0 {X : jX} {G : jG} {K : jS → Nat → Prop} (C : jC (X, G, 2, jA X G tvr K) d_J2_get cJ2_get "java/util/ArrayList" (some (.object "java/lang/Object")) yJ2_get) {S : jS} {x0 : Nat} {x1 : Int32}  (h : wp_J2_get S x0 x1 K) : jJ (X, G, 2, jA X G tvr K) S [(0, .ref x0), (1, .int x1)] 0 [] := by
  unfold wp_J2_get at h
  refine jr_iload_n C 1 rfl dJ2_get_0 rfl 1 rfl ?_
  refine jr_aload_n C 2 rfl dJ2_get_1 rfl 0 rfl ?_
  refine jr_geti C 5 rfl fo_3_2 q155 dJ2_get_2 h (fun v1 h => ?_)
  refine jr_callSi (As := [.int x1, .int v1]) (st := []) C 8 rfl (m_J13_checkIndex C.2.2.2.2.2.2.2.2.2.2.2.2.2.2.2 h) rfl q706 q707 q117 q708 (by decide) (by decide) nd_J13_checkIndex (Nat.le_of_ble_eq_true rfl) dJ2_get_5 (fun S2 r3 h => ?_)
  refine jr_pop C 9 rfl dJ2_get_8 rfl ?_
  refine jr_aload_n C 10 rfl dJ2_get_9 rfl 0 rfl ?_
  refine jr_iload_n C 11 rfl dJ2_get_10 rfl 1 rfl ?_
  obtain ⟨⟨V, hb⟩, h⟩ := h
  refine jr_callVr (r0 := (RJ2, TJ2, 3)) (As := [.int x1]) (st := []) C 14 rfl (m_J2_elementData C.2.2.2.2.2.2.2.2.2.2.2.2.2.2.2 h) rfl hb rfl q712 q713 q714 q99 q715 (by decide) (by decide) ndV_J2_elementData (Nat.le_of_ble_eq_true rfl) dJ2_get_11 (fun S4 r5 h => ?_)
  exact jr_areturn (Or.inl ⟨_, rfl⟩) C dJ2_get_14 h
theorem m_J2_get {l : Launch} (hl : l.stackTraces = false) {G : jG} {K : jS → Nat → Prop} {S : jS} {x0 : Nat} {x1 : Int32} (h : wp_J2_get S x0 x1 K) : jMet l G d_J2_get yJ2_get (ws_ yJ2_get cJ2_get 2 (some (.object "java/lang/Object"))) [.ref x0, .int x1] S tvr K :=
  jMet.of hl rfl (by decide) (Nat.le_of_ble_eq_true rfl) (fun X C => jr_sub [0, 1] rfl (wk_J2_get_0 C h))
theorem ndD_Object_equals_4 : ("java/lang/Object" : String) ≠ "java/lang/invoke/MethodHandle" ∧ ("java/lang/Object" : String) ≠ "java/lang/invoke/VarHandle" ∧ (parseMethodDescriptor "(Ljava/lang/Object;)Z").map (fun d => d.parameters.length) = some 1 := by decide +kernel
theorem dr_Object_equals_4 {Z : jZ} {d : Nat} {cc : ByteArray} {own : String} {ret : Option FieldType} {y : MethodName} {pc : Nat} {S : jS} {lv : List (Nat × Value)} {st As : List Value} (C : jC Z d cc own ret y) (pc' : Nat) (hp : pc + 3 = pc') {a : Nat} {x0 : Nat} {K : jS → Int32 → Prop} {stk : List Value} (h : wpD_Object_equals_4 S a x0 K) (hstk : [.ref x0].reverse ++ .ref a :: st = stk) {index : Nat} (q1 : Cond.methodLink own index (⟨"java/lang/Object", "equals", "(Ljava/lang/Object;)Z"⟩ : MethodName) ∈ lw_all) (hd : d_D_Object_equals_4 + 1 ≤ d) (hst : (st.map fun v => v.category).sum ≤ 8) (hdg : decode cc pc = .ok (.invokevirtual index, 3)) (kk : ∀ (S1 : jS) (r : Int32), K S1 r → jJ Z S1 lv pc' (.int r :: st)) : jJ Z S lv pc stk := by
  unfold wpD_Object_equals_4 at h
  obtain ⟨⟨V, hb⟩, h⟩ := h
  exact jr_callUi (As := [.ref x0]) (r0 := (RX7, TX7, 8)) (owner := "java/lang/Object") C pc' hp (m_J19_equals C.2.2.2.2.2.2.2.2.2.2.2.2.2.2.2 h) hstk hb rfl (va_Decl.abs (C.2.2.2.2.2.2.2.1.2.2.2.1 _ (jx_g q931 rfl))) q1 q934 (C.2.2.2.2.1 _ q941) q933 q1841 q958 (Nat.le_trans (Nat.le_of_ble_eq_true rfl) hd) (by decide) ndD_Object_equals_4 hst hdg kk
theorem wk_J2_indexOfRange_44 {X : jX} {G : jG} {K : jS → Int32 → Prop} (C : jC (X, G, 6, jA X G tvi K) d_J2_indexOfRange cJ2_indexOfRange "java/util/ArrayList" (some .int) yJ2_indexOfRange) {S : jS} {t0 : Int32} {x1 : Nat} {x3 : Int32} {x4 : Nat} {x5 : Int32} {Kc42 : jS × Int32 → Prop} (hc42 : ∀ z : jS × Int32, Kc42 z → jJ (X, G, 6, jA X G tvi K) z.1 [(1, .ref x1), (3, .int x3), (4, .ref x4), (5, .int z.2)] 42 []) (h : wp_J2_indexOfRange_44 S t0 x1 x3 x4 x5 Kc42 K) : jJ (X, G, 6, jA X G tvi K) S [(1, .ref x1), (3, .int x3), (4, .ref x4), (5, .int x5)] 44 [.int t0] := by
  unfold wp_J2_indexOfRange_44 at h
  refine jr_iload_n C 45 rfl dJ2_indexOfRange_44 rfl 1 rfl ?_
  refine jr_icmp_ge C 69 48 rfl dJ2_indexOfRange_45 (by decide) (fun c5 => ?_) (fun c5 => ?_)
  · have h := h.1 c5
    refine jr_iconst (v := (-1)) C 70 rfl dJ2_indexOfRange_69 (by decide) ?_
    exact jr_ireturn C dJ2_indexOfRange_70 h
  · have h := h.2 c5
    refine jr_aload_n C 49 rfl dJ2_indexOfRange_48 rfl 0 rfl ?_
    refine jr_aload C 51 rfl dJ2_indexOfRange_49 2 rfl ?_
    refine jr_iload C 53 rfl dJ2_indexOfRange_51 3 rfl ?_
    refine jr_aaldn C 54 rfl (t := 4) rfl rfl dJ2_indexOfRange_53 h (fun v1 h => ?_)
    refine dr_Object_equals_4 (As := [.ref v1]) (st := []) C 57 rfl h rfl q932 (by decide) (Nat.le_of_ble_eq_true rfl) dJ2_indexOfRange_54 (fun S2 r3 h => ?_)
    refine jr_if_eq C 63 60 rfl dJ2_indexOfRange_57 (by decide) (fun c4 => ?_) (fun c4 => ?_)
    · have h := h.1 c4
      refine jr_iinc (v := (x5 + 1)) (lv' := [(5, .int (x5 + 1)), (1, .ref x1), (3, .int x3), (4, .ref x4)]) C 66 rfl dJ2_indexOfRange_63 3 rfl rfl (Nat.le_of_ble_eq_true rfl) rfl ?_
      refine jr_goto C 42 dJ2_indexOfRange_66 (by decide) ?_
      exact jr_sub [1, 2, 3, 0] rfl (hc42 _ h)
    · have h := h.2 c4
      refine jr_iload C 62 rfl dJ2_indexOfRange_60 3 rfl ?_
      exact jr_ireturn C dJ2_indexOfRange_62 h
theorem wk_J2_indexOfRange_42 {X : jX} {G : jG} {K : jS → Int32 → Prop} (C : jC (X, G, 6, jA X G tvi K) d_J2_indexOfRange cJ2_indexOfRange "java/util/ArrayList" (some .int) yJ2_indexOfRange) {S : jS} {x1 : Nat} {x3 : Int32} {x4 : Nat} {x5 : Int32} {Kc42 : jS × Int32 → Prop} (hc42 : ∀ z : jS × Int32, Kc42 z → jJ (X, G, 6, jA X G tvi K) z.1 [(1, .ref x1), (3, .int x3), (4, .ref x4), (5, .int z.2)] 42 []) (h : wp_J2_indexOfRange_42 S x1 x3 x4 x5 Kc42 K) : jJ (X, G, 6, jA X G tvi K) S [(1, .ref x1), (3, .int x3), (4, .ref x4), (5, .int x5)] 42 [] := by
  unfold wp_J2_indexOfRange_42 at h
  refine jr_iload C 44 rfl dJ2_indexOfRange_42 3 rfl ?_
  exact (wk_J2_indexOfRange_44 C hc42 h)
theorem wk_J2_indexOfRange_42_L {X : jX} {G : jG} {K : jS → Int32 → Prop} (C : jC (X, G, 6, jA X G tvi K) d_J2_indexOfRange cJ2_indexOfRange "java/util/ArrayList" (some .int) yJ2_indexOfRange) {x1 : Nat} {x3 : Int32} {x4 : Nat}  : ∀ (n : Nat) (z : jS × Int32), jlp n (wp_J2_indexOfRange_42_L x1 x3 x4 K) z → jJ (X, G, 6, jA X G tvi K) z.1 [(1, .ref x1), (3, .int x3), (4, .ref x4), (5, .int z.2)] 42 [] := by
  intro n
  induction n with
  | zero => intro z h; exact h.elim
  | succ n ih => intro z h; exact wk_J2_indexOfRange_42 C ih h
theorem wk_J2_indexOfRange_0 {X : jX} {G : jG} {K : jS → Int32 → Prop} (C : jC (X, G, 6, jA X G tvi K) d_J2_indexOfRange cJ2_indexOfRange "java/util/ArrayList" (some .int) yJ2_indexOfRange) {S : jS} {x0 : Nat} {x1 : Nat} {x2 : Int32} {x3 : Int32}  (h : wp_J2_indexOfRange S x0 x1 x2 x3 K) : jJ (X, G, 6, jA X G tvi K) S [(0, .ref x0), (1, .ref x1), (2, .int x2), (3, .int x3)] 0 [] := by
  unfold wp_J2_indexOfRange at h
  refine jr_aload_n C 1 rfl dJ2_indexOfRange_0 rfl 0 rfl ?_
  refine jr_getr C 4 rfl fo_3_1 q154 dJ2_indexOfRange_1 h (fun v1 h => ?_)
  refine jr_astore (lv' := [(4, .ref v1), (0, .ref x0), (1, .ref x1), (2, .int x2), (3, .int x3)]) C 6 rfl dJ2_indexOfRange_4 (Nat.le_of_ble_eq_true rfl) rfl ?_
  refine jr_aload_n C 7 rfl dJ2_indexOfRange_6 rfl 2 rfl ?_
  refine jr_ifnonnull (x := (some x1)) C 39 10 rfl dJ2_indexOfRange_7 (by decide) (fun c2 => ?_) (fun c2 => ?_)
  · have h := h.1 c2
    exact h.elim
  · have h := h.2 c2
    refine jr_iload_n C 40 rfl dJ2_indexOfRange_39 rfl 3 rfl ?_
    refine jr_istore (lv' := [(5, .int x2), (4, .ref v1), (0, .ref x0), (1, .ref x1), (2, .int x2), (3, .int x3)]) C 42 rfl dJ2_indexOfRange_40 (Nat.le_of_ble_eq_true rfl) rfl ?_
    obtain ⟨n, h⟩ := h
    exact jr_sub [3, 5, 1, 0] rfl (wk_J2_indexOfRange_42_L C  n _ h)
theorem m_J2_indexOfRange {l : Launch} (hl : l.stackTraces = false) {G : jG} {K : jS → Int32 → Prop} {S : jS} {x0 : Nat} {x1 : Nat} {x2 : Int32} {x3 : Int32} (h : wp_J2_indexOfRange S x0 x1 x2 x3 K) : jMet l G d_J2_indexOfRange yJ2_indexOfRange (ws_ yJ2_indexOfRange cJ2_indexOfRange 6 (some .int)) [.ref x0, .ref x1, .int x2, .int x3] S tvi K :=
  jMet.of hl rfl (by decide) (Nat.le_of_ble_eq_true rfl) (fun X C => jr_sub [0, 1, 2, 3] rfl (wk_J2_indexOfRange_0 C h))
theorem wk_J2_indexOf_0 {X : jX} {G : jG} {K : jS → Int32 → Prop} (C : jC (X, G, 2, jA X G tvi K) d_J2_indexOf cJ2_indexOf "java/util/ArrayList" (some .int) yJ2_indexOf) {S : jS} {x0 : Nat} {x1 : Nat}  (h : wp_J2_indexOf S x0 x1 K) : jJ (X, G, 2, jA X G tvi K) S [(0, .ref x0), (1, .ref x1)] 0 [] := by
  unfold wp_J2_indexOf at h
  refine jr_aload_n C 1 rfl dJ2_indexOf_0 rfl 0 rfl ?_
  refine jr_aload_n C 2 rfl dJ2_indexOf_1 rfl 1 rfl ?_
  refine jr_iconst (v := 0) C 3 rfl dJ2_indexOf_2 (by decide) ?_
  refine jr_aload_n C 4 rfl dJ2_indexOf_3 rfl 0 rfl ?_
  refine jr_geti C 7 rfl fo_3_2 q155 dJ2_indexOf_4 h (fun v1 h => ?_)
  obtain ⟨⟨V, hb⟩, h⟩ := h
  refine jr_callVi (r0 := (RJ2, TJ2, 3)) (As := [.ref x1, .int 0, .int v1]) (st := []) C 10 rfl (m_J2_indexOfRange C.2.2.2.2.2.2.2.2.2.2.2.2.2.2.2 h) rfl hb rfl q927 q928 q929 q99 q930 (by decide) (by decide) ndV_J2_indexOfRange (Nat.le_of_ble_eq_true rfl) dJ2_indexOf_7 (fun S2 r3 h => ?_)
  exact jr_ireturn C dJ2_indexOf_10 h
theorem m_J2_indexOf {l : Launch} (hl : l.stackTraces = false) {G : jG} {K : jS → Int32 → Prop} {S : jS} {x0 : Nat} {x1 : Nat} (h : wp_J2_indexOf S x0 x1 K) : jMet l G d_J2_indexOf yJ2_indexOf (ws_ yJ2_indexOf cJ2_indexOf 2 (some .int)) [.ref x0, .ref x1] S tvi K :=
  jMet.of hl rfl (by decide) (Nat.le_of_ble_eq_true rfl) (fun X C => jr_sub [0, 1] rfl (wk_J2_indexOf_0 C h))
theorem wk_J2_init_0 {X : jX} {G : jG} {K : jS → Unit → Prop} (C : jC (X, G, 1, jA X G tvv K) d_J2_init cJ2_init "java/util/ArrayList" none yJ2_init) {S : jS} {x0 : Nat}  (h : wp_J2_init S x0 K) : jJ (X, G, 1, jA X G tvv K) S [(0, .ref x0)] 0 [] := by
  unfold wp_J2_init at h
  refine jr_aload_n C 1 rfl dJ2_init_0 rfl 0 rfl ?_
  refine jr_callIv (As := []) (st := []) C 4 rfl (m_J1_init C.2.2.2.2.2.2.2.2.2.2.2.2.2.2.2 h) rfl rfl q145 q146 q98 q147 (by decide) (by decide) nd_J1_init (Nat.le_of_ble_eq_true rfl) dJ2_init_1 (fun S1 _ h => ?_)
  refine jr_aload_n C 5 rfl dJ2_init_4 rfl 0 rfl ?_
  refine jr_gets C 8 rfl (i := 2) rfl q152 dJ2_init_5 h (fun v2 h => ?_)
  refine jr_putv C 11 rfl fo_3_1 (by decide) q154 dJ2_init_8 rfl rfl h (fun S3 h => ?_)
  exact jr_return C dJ2_init_11 h
theorem m_J2_init {l : Launch} (hl : l.stackTraces = false) {G : jG} {K : jS → Unit → Prop} {S : jS} {x0 : Nat} (h : wp_J2_init S x0 K) : jMet l G d_J2_init yJ2_init (ws_ yJ2_init cJ2_init 1 none) [.ref x0] S tvv K :=
  jMet.of hl rfl (by decide) (Nat.le_of_ble_eq_true rfl) (fun X C => jr_sub [0] rfl (wk_J2_init_0 C h))
theorem wk_J2_isEmpty_12 {X : jX} {G : jG} {K : jS → Int32 → Prop} (C : jC (X, G, 1, jA X G tvi K) d_J2_isEmpty cJ2_isEmpty "java/util/ArrayList" (some .boolean) yJ2_isEmpty) {S : jS} {t0 : Int32}  (h : wp_J2_isEmpty_12 S t0 K) : jJ (X, G, 1, jA X G tvi K) S [] 12 [.int t0] := by
  unfold wp_J2_isEmpty_12 at h
  exact jr_zreturn C dJ2_isEmpty_12 h
theorem wk_J2_isEmpty_0 {X : jX} {G : jG} {K : jS → Int32 → Prop} (C : jC (X, G, 1, jA X G tvi K) d_J2_isEmpty cJ2_isEmpty "java/util/ArrayList" (some .boolean) yJ2_isEmpty) {S : jS} {x0 : Nat}  (h : wp_J2_isEmpty S x0 K) : jJ (X, G, 1, jA X G tvi K) S [(0, .ref x0)] 0 [] := by
  unfold wp_J2_isEmpty at h
  refine jr_aload_n C 1 rfl dJ2_isEmpty_0 rfl 0 rfl ?_
  refine jr_geti C 4 rfl fo_3_2 q155 dJ2_isEmpty_1 h (fun v1 h => ?_)
  refine jr_if_ne C 11 7 rfl dJ2_isEmpty_4 (by decide) (fun c2 => ?_) (fun c2 => ?_)
  · have h := h.1 c2
    refine jr_iconst (v := 1) C 8 rfl dJ2_isEmpty_7 (by decide) ?_
    refine jr_goto C 12 dJ2_isEmpty_8 (by decide) ?_
    exact jr_sub [] rfl (wk_J2_isEmpty_12 C  h)
  · have h := h.2 c2
    refine jr_iconst (v := 0) C 12 rfl dJ2_isEmpty_11 (by decide) ?_
    exact jr_sub [] rfl (wk_J2_isEmpty_12 C  h)
theorem m_J2_isEmpty {l : Launch} (hl : l.stackTraces = false) {G : jG} {K : jS → Int32 → Prop} {S : jS} {x0 : Nat} (h : wp_J2_isEmpty S x0 K) : jMet l G d_J2_isEmpty yJ2_isEmpty (ws_ yJ2_isEmpty cJ2_isEmpty 1 (some .boolean)) [.ref x0] S tvi K :=
  jMet.of hl rfl (by decide) (Nat.le_of_ble_eq_true rfl) (fun X C => jr_sub [0] rfl (wk_J2_isEmpty_0 C h))
theorem wk_J2_remove_0 {X : jX} {G : jG} {K : jS → Nat → Prop} (C : jC (X, G, 4, jA X G tvr K) d_J2_remove cJ2_remove "java/util/ArrayList" (some (.object "java/lang/Object")) yJ2_remove) {S : jS} {x0 : Nat} {x1 : Int32}  (h : wp_J2_remove S x0 x1 K) : jJ (X, G, 4, jA X G tvr K) S [(0, .ref x0), (1, .int x1)] 0 [] := by
  unfold wp_J2_remove at h
  refine jr_iload_n C 1 rfl dJ2_remove_0 rfl 1 rfl ?_
  refine jr_aload_n C 2 rfl dJ2_remove_1 rfl 0 rfl ?_
  refine jr_geti C 5 rfl fo_3_2 q155 dJ2_remove_2 h (fun v1 h => ?_)
  refine jr_callSi (As := [.int x1, .int v1]) (st := []) C 8 rfl (m_J13_checkIndex C.2.2.2.2.2.2.2.2.2.2.2.2.2.2.2 h) rfl q706 q707 q117 q708 (by decide) (by decide) nd_J13_checkIndex (Nat.le_of_ble_eq_true rfl) dJ2_remove_5 (fun S2 r3 h => ?_)
  refine jr_pop C 9 rfl dJ2_remove_8 rfl ?_
  refine jr_aload_n C 10 rfl dJ2_remove_9 rfl 0 rfl ?_
  refine jr_getr C 13 rfl fo_3_1 q154 dJ2_remove_10 h (fun v4 h => ?_)
  refine jr_astore_n (lv' := [(2, .ref v4), (0, .ref x0), (1, .int x1)]) C 14 rfl dJ2_remove_13 rfl (Nat.le_of_ble_eq_true rfl) rfl ?_
  refine jr_aload_n C 15 rfl dJ2_remove_14 rfl 0 rfl ?_
  refine jr_iload_n C 16 rfl dJ2_remove_15 rfl 2 rfl ?_
  refine jr_aaldn C 17 rfl (t := 4) rfl rfl dJ2_remove_16 h (fun v5 h => ?_)
  refine jr_astore_n (lv' := [(3, .ref v5), (2, .ref v4), (0, .ref x0), (1, .int x1)]) C 18 rfl dJ2_remove_17 rfl (Nat.le_of_ble_eq_true rfl) rfl ?_
  refine jr_aload_n C 19 rfl dJ2_remove_18 rfl 2 rfl ?_
  refine jr_aload_n C 20 rfl dJ2_remove_19 rfl 1 rfl ?_
  refine jr_iload_n C 21 rfl dJ2_remove_20 rfl 3 rfl ?_
  obtain ⟨⟨V, hb⟩, h⟩ := h
  refine jr_callVv (r0 := (RJ2, TJ2, 3)) (As := [.ref v4, .int x1]) (st := []) C 24 rfl (m_J2_fastRemove C.2.2.2.2.2.2.2.2.2.2.2.2.2.2.2 h) rfl hb rfl q793 q795 qs8 q99 q796 (by decide) (by decide) ndV_J2_fastRemove (Nat.le_of_ble_eq_true rfl) dJ2_remove_21 (fun S6 _ h => ?_)
  refine jr_aload_n C 25 rfl dJ2_remove_24 rfl 0 rfl ?_
  exact jr_areturn (Or.inl ⟨_, rfl⟩) C dJ2_remove_25 h
theorem m_J2_remove {l : Launch} (hl : l.stackTraces = false) {G : jG} {K : jS → Nat → Prop} {S : jS} {x0 : Nat} {x1 : Int32} (h : wp_J2_remove S x0 x1 K) : jMet l G d_J2_remove yJ2_remove (ws_ yJ2_remove cJ2_remove 4 (some (.object "java/lang/Object"))) [.ref x0, .int x1] S tvr K :=
  jMet.of hl rfl (by decide) (Nat.le_of_ble_eq_true rfl) (fun X C => jr_sub [0, 1] rfl (wk_J2_remove_0 C h))
theorem wk_J2_size_0 {X : jX} {G : jG} {K : jS → Int32 → Prop} (C : jC (X, G, 1, jA X G tvi K) d_J2_size cJ2_size "java/util/ArrayList" (some .int) yJ2_size) {S : jS} {x0 : Nat}  (h : wp_J2_size S x0 K) : jJ (X, G, 1, jA X G tvi K) S [(0, .ref x0)] 0 [] := by
  unfold wp_J2_size at h
  refine jr_aload_n C 1 rfl dJ2_size_0 rfl 0 rfl ?_
  refine jr_geti C 4 rfl fo_3_2 q155 dJ2_size_1 h (fun v1 h => ?_)
  exact jr_ireturn C dJ2_size_4 h
theorem m_J2_size {l : Launch} (hl : l.stackTraces = false) {G : jG} {K : jS → Int32 → Prop} {S : jS} {x0 : Nat} (h : wp_J2_size S x0 K) : jMet l G d_J2_size yJ2_size (ws_ yJ2_size cJ2_size 1 (some .int)) [.ref x0] S tvi K :=
  jMet.of hl rfl (by decide) (Nat.le_of_ble_eq_true rfl) (fun X C => jr_sub [0] rfl (wk_J2_size_0 C h))
theorem wk_J3_init_2_60 {X : jX} {G : jG} {K : jS → Unit → Prop} (C : jC (X, G, 5, jA X G tvv K) d_J3_init_2 cJ3_init_2 "java/lang/Throwable" none yJ3_init_2) {S : jS}   (h : wp_J3_init_2_60 S K) : jJ (X, G, 5, jA X G tvv K) S [] 60 [] := by
  unfold wp_J3_init_2_60 at h
  exact jr_return C dJ3_init_2_60 h
theorem wk_J3_init_2_0 {X : jX} {G : jG} {K : jS → Unit → Prop} (C : jC (X, G, 5, jA X G tvv K) d_J3_init_2 cJ3_init_2 "java/lang/Throwable" none yJ3_init_2) {S : jS} {x0 : Nat} {x3 : Int32} {x4 : Int32}  (h : wp_J3_init_2 S x0 x3 x4 K) : jJ (X, G, 5, jA X G tvv K) S [(0, .ref x0), (1, .null), (2, .null), (3, .int x3), (4, .int x4)] 0 [] := by
  unfold wp_J3_init_2 at h
  refine jr_aload_n C 1 rfl dJ3_init_2_0 rfl 0 rfl ?_
  refine jr_objInit C 4 rfl (by decide) q407 q129 q130 (Nat.le_of_ble_eq_true rfl) dJ3_init_2_1 ?_
  refine jr_aload_n C 5 rfl dJ3_init_2_4 rfl 0 rfl ?_
  refine jr_aload_n C 6 rfl dJ3_init_2_5 rfl 0 rfl ?_
  refine jr_putv C 9 rfl fo_7_0_Throwable (by decide) q437 dJ3_init_2_6 rfl rfl h (fun S1 h => ?_)
  refine jr_aload_n C 10 rfl dJ3_init_2_9 rfl 0 rfl ?_
  refine jr_getso C 13 rfl (i := 4) rfl q408 dJ3_init_2_10 h (fun v2 h => ?_)
  refine jr_putv C 16 rfl fo_7_1_Throwable (by decide) q438 dJ3_init_2_13 (j_nr _ rfl) (j_fr _ rfl) h (fun S3 h => ?_)
  refine jr_aload_n C 17 rfl dJ3_init_2_16 rfl 0 rfl ?_
  refine jr_getso C 20 rfl (i := 5) rfl q410 dJ3_init_2_17 h (fun v4 h => ?_)
  refine jr_putv C 23 rfl fo_7_2_Throwable (by decide) q439 dJ3_init_2_20 (j_nr _ rfl) (j_fr _ rfl) h (fun S5 h => ?_)
  refine jr_iload C 25 rfl dJ3_init_2_23 4 rfl ?_
  refine jr_if_eq C 36 28 rfl dJ3_init_2_25 (by decide) (fun c11 => ?_) (fun c11 => ?_)
  · have h := h.1 c11
    refine jr_aload_n C 37 rfl dJ3_init_2_36 rfl 0 rfl ?_
    refine jr_null C 38 rfl dJ3_init_2_37 ?_
    refine jr_putv C 41 rfl fo_7_1_Throwable (by decide) q438 dJ3_init_2_38 rfl rfl h (fun S6 h => ?_)
    refine jr_aload_n C 42 rfl dJ3_init_2_41 rfl 0 rfl ?_
    refine jr_aload_nN C 43 rfl dJ3_init_2_42 rfl 1 rfl ?_
    refine jr_putv C 46 rfl fo_7_3_Throwable (by decide) q436 dJ3_init_2_43 rfl rfl h (fun S7 h => ?_)
    refine jr_aload_n C 47 rfl dJ3_init_2_46 rfl 0 rfl ?_
    refine jr_aload_nN C 48 rfl dJ3_init_2_47 rfl 2 rfl ?_
    refine jr_putv C 51 rfl fo_7_0_Throwable (by decide) q437 dJ3_init_2_48 rfl rfl h (fun S8 h => ?_)
    refine jr_iload_n C 52 rfl dJ3_init_2_51 rfl 3 rfl ?_
    refine jr_if_ne C 60 55 rfl dJ3_init_2_52 (by decide) (fun c10 => ?_) (fun c10 => ?_)
    · have h := h.1 c10
      refine jr_aload_n C 56 rfl dJ3_init_2_55 rfl 0 rfl ?_
      refine jr_null C 57 rfl dJ3_init_2_56 ?_
      refine jr_putv C 60 rfl fo_7_2_Throwable (by decide) q439 dJ3_init_2_57 rfl rfl h (fun S9 h => ?_)
      exact jr_sub [] rfl (wk_J3_init_2_60 C  h)
    · have h := h.2 c10
      exact jr_sub [] rfl (wk_J3_init_2_60 C  h)
  · have h := h.2 c11
    exact h.elim
theorem m_J3_init_2 {l : Launch} (hl : l.stackTraces = false) {G : jG} {K : jS → Unit → Prop} {S : jS} {x0 : Nat} {x3 : Int32} {x4 : Int32} (h : wp_J3_init_2 S x0 x3 x4 K) : jMet l G d_J3_init_2 yJ3_init_2 (ws_ yJ3_init_2 cJ3_init_2 5 none) [.ref x0, .null, .null, .int x3, .int x4] S tvv K :=
  jMet.of hl rfl (by decide) (Nat.le_of_ble_eq_true rfl) (fun X C => jr_sub [0, 1, 2, 3, 4] rfl (wk_J3_init_2_0 C h))
theorem wk_J4_init_0 {X : jX} {G : jG} {K : jS → Unit → Prop} (C : jC (X, G, 5, jA X G tvv K) d_J4_init cJ4_init "java/lang/Exception" none yJ4_init) {S : jS} {x0 : Nat} {x3 : Int32} {x4 : Int32}  (h : wp_J4_init S x0 x3 x4 K) : jJ (X, G, 5, jA X G tvv K) S [(0, .ref x0), (1, .null), (2, .null), (3, .int x3), (4, .int x4)] 0 [] := by
  unfold wp_J4_init at h
  refine jr_aload_n C 1 rfl dJ4_init_0 rfl 0 rfl ?_
  refine jr_aload_nN C 2 rfl dJ4_init_1 rfl 1 rfl ?_
  refine jr_aload_nN C 3 rfl dJ4_init_2 rfl 2 rfl ?_
  refine jr_iload_n C 4 rfl dJ4_init_3 rfl 3 rfl ?_
  refine jr_iload C 6 rfl dJ4_init_4 4 rfl ?_
  refine jr_callIv (As := [.null, .null, .int x3, .int x4]) (st := []) C 9 rfl (m_J3_init_2 C.2.2.2.2.2.2.2.2.2.2.2.2.2.2.2 h) rfl rfl q430 q431 q103 q432 (by decide) (by decide) nd_J3_init_2 (Nat.le_of_ble_eq_true rfl) dJ4_init_6 (fun S1 _ h => ?_)
  exact jr_return C dJ4_init_9 h
theorem m_J4_init {l : Launch} (hl : l.stackTraces = false) {G : jG} {K : jS → Unit → Prop} {S : jS} {x0 : Nat} {x3 : Int32} {x4 : Int32} (h : wp_J4_init S x0 x3 x4 K) : jMet l G d_J4_init yJ4_init (ws_ yJ4_init cJ4_init 5 none) [.ref x0, .null, .null, .int x3, .int x4] S tvv K :=
  jMet.of hl rfl (by decide) (Nat.le_of_ble_eq_true rfl) (fun X C => jr_sub [0, 1, 2, 3, 4] rfl (wk_J4_init_0 C h))
theorem wk_J5_coder_0 {X : jX} {G : jG} {K : jS → Int32 → Prop} (C : jC (X, G, 1, jA X G tvi K) d_J5_coder cJ5_coder "java/lang/String" (some (.byte)) yJ5_coder) {S : jS} {x0 : Nat}  (h : wp_J5_coder S x0 K) : jJ (X, G, 1, jA X G tvi K) S [(0, .ref x0)] 0 [] := by
  unfold wp_J5_coder at h
  refine jr_getsi C 3 rfl (i := 3) rfl q469 dJ5_coder_0 h (fun v1 h => ?_)
  refine jr_if_eq C 13 6 rfl dJ5_coder_3 (by decide) (fun c3 => ?_) (fun c3 => ?_)
  · have h := h.1 c3
    exact h.elim
  · have h := h.2 c3
    refine jr_aload_n C 7 rfl dJ5_coder_6 rfl 0 rfl ?_
    refine jr_geti C 10 rfl fo_14_1 q1885 dJ5_coder_7 h (fun v2 h => ?_)
    refine jr_goto C 14 dJ5_coder_10 (by decide) ?_
    exact jr_breturn C dJ5_coder_14 h
theorem m_J5_coder {l : Launch} (hl : l.stackTraces = false) {G : jG} {K : jS → Int32 → Prop} {S : jS} {x0 : Nat} (h : wp_J5_coder S x0 K) : jMet l G d_J5_coder yJ5_coder (ws_ yJ5_coder cJ5_coder 1 (some (.byte))) [.ref x0] S tvi K :=
  jMet.of hl rfl (by decide) (Nat.le_of_ble_eq_true rfl) (fun X C => jr_sub [0] rfl (wk_J5_coder_0 C h))
theorem wk_J5_isLatin1_18 {X : jX} {G : jG} {K : jS → Int32 → Prop} (C : jC (X, G, 1, jA X G tvi K) d_J5_isLatin1 cJ5_isLatin1 "java/lang/String" (some .boolean) yJ5_isLatin1) {S : jS} {t0 : Int32}  (h : wp_J5_isLatin1_18 S t0 K) : jJ (X, G, 1, jA X G tvi K) S [] 18 [.int t0] := by
  unfold wp_J5_isLatin1_18 at h
  exact jr_zreturn C dJ5_isLatin1_18 h
theorem wk_J5_isLatin1_17 {X : jX} {G : jG} {K : jS → Int32 → Prop} (C : jC (X, G, 1, jA X G tvi K) d_J5_isLatin1 cJ5_isLatin1 "java/lang/String" (some .boolean) yJ5_isLatin1) {S : jS}   (h : wp_J5_isLatin1_17 S K) : jJ (X, G, 1, jA X G tvi K) S [] 17 [] := by
  unfold wp_J5_isLatin1_17 at h
  refine jr_iconst (v := 0) C 18 rfl dJ5_isLatin1_17 (by decide) ?_
  exact (wk_J5_isLatin1_18 C  h)
theorem wk_J5_isLatin1_0 {X : jX} {G : jG} {K : jS → Int32 → Prop} (C : jC (X, G, 1, jA X G tvi K) d_J5_isLatin1 cJ5_isLatin1 "java/lang/String" (some .boolean) yJ5_isLatin1) {S : jS} {x0 : Nat}  (h : wp_J5_isLatin1 S x0 K) : jJ (X, G, 1, jA X G tvi K) S [(0, .ref x0)] 0 [] := by
  unfold wp_J5_isLatin1 at h
  refine jr_getsi C 3 rfl (i := 3) rfl q469 dJ5_isLatin1_0 h (fun v1 h => ?_)
  refine jr_if_eq C 17 6 rfl dJ5_isLatin1_3 (by decide) (fun c4 => ?_) (fun c4 => ?_)
  · have h := h.1 c4
    exact jr_sub [] rfl (wk_J5_isLatin1_17 C  h)
  · have h := h.2 c4
    refine jr_aload_n C 7 rfl dJ5_isLatin1_6 rfl 0 rfl ?_
    refine jr_geti C 10 rfl fo_14_1 q1885 dJ5_isLatin1_7 h (fun v2 h => ?_)
    refine jr_if_ne C 17 13 rfl dJ5_isLatin1_10 (by decide) (fun c3 => ?_) (fun c3 => ?_)
    · have h := h.1 c3
      refine jr_iconst (v := 1) C 14 rfl dJ5_isLatin1_13 (by decide) ?_
      refine jr_goto C 18 dJ5_isLatin1_14 (by decide) ?_
      exact jr_sub [] rfl (wk_J5_isLatin1_18 C  h)
    · have h := h.2 c3
      exact jr_sub [] rfl (wk_J5_isLatin1_17 C  h)
theorem m_J5_isLatin1 {l : Launch} (hl : l.stackTraces = false) {G : jG} {K : jS → Int32 → Prop} {S : jS} {x0 : Nat} (h : wp_J5_isLatin1 S x0 K) : jMet l G d_J5_isLatin1 yJ5_isLatin1 (ws_ yJ5_isLatin1 cJ5_isLatin1 1 (some .boolean)) [.ref x0] S tvi K :=
  jMet.of hl rfl (by decide) (Nat.le_of_ble_eq_true rfl) (fun X C => jr_sub [0] rfl (wk_J5_isLatin1_0 C h))
theorem wk_J5_length_0 {X : jX} {G : jG} {K : jS → Int32 → Prop} (C : jC (X, G, 1, jA X G tvi K) d_J5_length cJ5_length "java/lang/String" (some .int) yJ5_length) {S : jS} {x0 : Nat}  (h : wp_J5_length S x0 K) : jJ (X, G, 1, jA X G tvi K) S [(0, .ref x0)] 0 [] := by
  unfold wp_J5_length at h
  refine jr_aload_n C 1 rfl dJ5_length_0 rfl 0 rfl ?_
  refine jr_getr C 4 rfl fo_14_0 q1886 dJ5_length_1 h (fun v1 h => ?_)
  refine jr_alen C 5 rfl dJ5_length_4 h (fun v2 h => ?_)
  refine jr_aload_n C 6 rfl dJ5_length_5 rfl 0 rfl ?_
  obtain ⟨⟨V, hb⟩, h⟩ := h
  refine jr_callVi (r0 := (RJ5, TJ5, 2)) (As := []) (st := [.int v2]) C 9 rfl (m_J5_coder C.2.2.2.2.2.2.2.2.2.2.2.2.2.2.2 h) rfl hb rfl q475 q476 q477 q106 q478 (by decide) (by decide) ndV_J5_coder (Nat.le_of_ble_eq_true rfl) dJ5_length_6 (fun S3 r4 h => ?_)
  refine jr_ishr C 10 rfl dJ5_length_9 ?_
  exact jr_ireturn C dJ5_length_10 h
theorem m_J5_length {l : Launch} (hl : l.stackTraces = false) {G : jG} {K : jS → Int32 → Prop} {S : jS} {x0 : Nat} (h : wp_J5_length S x0 K) : jMet l G d_J5_length yJ5_length (ws_ yJ5_length cJ5_length 1 (some .int)) [.ref x0] S tvi K :=
  jMet.of hl rfl (by decide) (Nat.le_of_ble_eq_true rfl) (fun X C => jr_sub [0] rfl (wk_J5_length_0 C h))
theorem wk_J7_min_10 {X : jX} {G : jG} {K : jS → Int32 → Prop} (C : jC (X, G, 2, jA X G tvi K) d_J7_min cJ7_min "java/lang/Math" (some .int) yJ7_min) {S : jS} {t0 : Int32}  (h : wp_J7_min_10 S t0 K) : jJ (X, G, 2, jA X G tvi K) S [] 10 [.int t0] := by
  unfold wp_J7_min_10 at h
  exact jr_ireturn C dJ7_min_10 h
theorem wk_J7_min_0 {X : jX} {G : jG} {K : jS → Int32 → Prop} (C : jC (X, G, 2, jA X G tvi K) d_J7_min cJ7_min "java/lang/Math" (some .int) yJ7_min) {S : jS} {x0 : Int32} {x1 : Int32}  (h : wp_J7_min S x0 x1 K) : jJ (X, G, 2, jA X G tvi K) S [(0, .int x0), (1, .int x1)] 0 [] := by
  unfold wp_J7_min at h
  refine jr_iload_n C 1 rfl dJ7_min_0 rfl 0 rfl ?_
  refine jr_iload_n C 2 rfl dJ7_min_1 rfl 1 rfl ?_
  refine jr_icmp_gt C 9 5 rfl dJ7_min_2 (by decide) (fun c1 => ?_) (fun c1 => ?_)
  · have h := h.1 c1
    refine jr_iload_n C 10 rfl dJ7_min_9 rfl 1 rfl ?_
    exact jr_sub [] rfl (wk_J7_min_10 C  h)
  · have h := h.2 c1
    refine jr_iload_n C 6 rfl dJ7_min_5 rfl 0 rfl ?_
    refine jr_goto C 10 dJ7_min_6 (by decide) ?_
    exact jr_sub [] rfl (wk_J7_min_10 C  h)
theorem m_J7_min {l : Launch} (hl : l.stackTraces = false) {G : jG} {K : jS → Int32 → Prop} {S : jS} {x0 : Int32} {x1 : Int32} (h : wp_J7_min S x0 x1 K) : jMet l G d_J7_min yJ7_min (ws_ yJ7_min cJ7_min 2 (some .int)) [.int x0, .int x1] S tvi K :=
  jMet.ofF hl rfl (by decide +kernel) (Nat.le_of_ble_eq_true rfl) (fun X C => jr_sub [0, 1] rfl (wk_J7_min_0 C h))
theorem wk_J6_canEncode_16 {X : jX} {G : jG} {K : jS → Int32 → Prop} (C : jC (X, G, 1, jA X G tvi K) d_J6_canEncode cJ6_canEncode "java/lang/StringLatin1" (some .boolean) yJ6_canEncode) {S : jS} {t0 : Int32}  (h : wp_J6_canEncode_16 S t0 K) : jJ (X, G, 1, jA X G tvi K) S [] 16 [.int t0] := by
  unfold wp_J6_canEncode_16 at h
  exact jr_zreturn C dJ6_canEncode_16 h
theorem wk_J6_canEncode_15 {X : jX} {G : jG} {K : jS → Int32 → Prop} (C : jC (X, G, 1, jA X G tvi K) d_J6_canEncode cJ6_canEncode "java/lang/StringLatin1" (some .boolean) yJ6_canEncode) {S : jS}   (h : wp_J6_canEncode_15 S K) : jJ (X, G, 1, jA X G tvi K) S [] 15 [] := by
  unfold wp_J6_canEncode_15 at h
  refine jr_iconst (v := 0) C 16 rfl dJ6_canEncode_15 (by decide) ?_
  exact (wk_J6_canEncode_16 C  h)
theorem wk_J6_canEncode_0 {X : jX} {G : jG} {K : jS → Int32 → Prop} (C : jC (X, G, 1, jA X G tvi K) d_J6_canEncode cJ6_canEncode "java/lang/StringLatin1" (some .boolean) yJ6_canEncode) {S : jS} {x0 : Int32}  (h : wp_J6_canEncode S x0 K) : jJ (X, G, 1, jA X G tvi K) S [(0, .int x0)] 0 [] := by
  unfold wp_J6_canEncode at h
  refine jr_iload_n C 1 rfl dJ6_canEncode_0 rfl 0 rfl ?_
  refine jr_if_lt C 15 4 rfl dJ6_canEncode_1 (by decide) (fun c2 => ?_) (fun c2 => ?_)
  · have h := h.1 c2
    exact jr_sub [] rfl (wk_J6_canEncode_15 C  h)
  · have h := h.2 c2
    refine jr_iload_n C 5 rfl dJ6_canEncode_4 rfl 0 rfl ?_
    refine jr_sipush (v := 255) C 8 rfl dJ6_canEncode_5 (by decide) ?_
    refine jr_icmp_gt C 15 11 rfl dJ6_canEncode_8 (by decide) (fun c1 => ?_) (fun c1 => ?_)
    · have h := h.1 c1
      exact jr_sub [] rfl (wk_J6_canEncode_15 C  h)
    · have h := h.2 c1
      refine jr_iconst (v := 1) C 12 rfl dJ6_canEncode_11 (by decide) ?_
      refine jr_goto C 16 dJ6_canEncode_12 (by decide) ?_
      exact jr_sub [] rfl (wk_J6_canEncode_16 C  h)
theorem m_J6_canEncode {l : Launch} (hl : l.stackTraces = false) {G : jG} {K : jS → Int32 → Prop} {S : jS} {x0 : Int32} (h : wp_J6_canEncode S x0 K) : jMet l G d_J6_canEncode yJ6_canEncode (ws_ yJ6_canEncode cJ6_canEncode 1 (some .boolean)) [.int x0] S tvi K :=
  jMet.of hl rfl (by decide) (Nat.le_of_ble_eq_true rfl) (fun X C => jr_sub [0] rfl (wk_J6_canEncode_0 C h))
theorem wk_J6_indexOfChar_16 {X : jX} {G : jG} {K : jS → Int32 → Prop} (C : jC (X, G, 6, jA X G tvi K) d_J6_indexOfChar cJ6_indexOfChar "java/lang/StringLatin1" (some .int) yJ6_indexOfChar) {S : jS} {t0 : Nat} {t1 : Int32} {x0 : Nat} {x3 : Int32} {x4 : Int32} {x5 : Int32} {Kc7 : jS × Int32 → Prop} (hc7 : ∀ z : jS × Int32, Kc7 z → jJ (X, G, 6, jA X G tvi K) z.1 [(0, .ref x0), (3, .int x3), (4, .int x4), (5, .int z.2)] 7 []) (h : wp_J6_indexOfChar_16 S t0 t1 x0 x3 x4 x5 Kc7 K) : jJ (X, G, 6, jA X G tvi K) S [(0, .ref x0), (3, .int x3), (4, .int x4), (5, .int x5)] 16 [.int t1, .ref t0] := by
  unfold wp_J6_indexOfChar_16 at h
  refine jr_bald13 C 17 rfl dJ6_indexOfChar_16 h (fun v1 h => ?_)
  refine jr_iload C 19 rfl dJ6_indexOfChar_17 2 rfl ?_
  refine jr_icmp_ne C 25 22 rfl dJ6_indexOfChar_19 (by decide) (fun c2 => ?_) (fun c2 => ?_)
  · have h := h.1 c2
    refine jr_iload C 24 rfl dJ6_indexOfChar_22 3 rfl ?_
    exact jr_ireturn C dJ6_indexOfChar_24 h
  · have h := h.2 c2
    refine jr_iinc (v := (x5 + 1)) (lv' := [(5, .int (x5 + 1)), (0, .ref x0), (3, .int x3), (4, .int x4)]) C 28 rfl dJ6_indexOfChar_25 3 rfl rfl (Nat.le_of_ble_eq_true rfl) rfl ?_
    refine jr_goto C 7 dJ6_indexOfChar_28 (by decide) ?_
    exact jr_sub [1, 2, 3, 0] rfl (hc7 _ h)
theorem wk_J6_indexOfChar_7 {X : jX} {G : jG} {K : jS → Int32 → Prop} (C : jC (X, G, 6, jA X G tvi K) d_J6_indexOfChar cJ6_indexOfChar "java/lang/StringLatin1" (some .int) yJ6_indexOfChar) {S : jS} {x0 : Nat} {x3 : Int32} {x4 : Int32} {x5 : Int32} {Kc7 : jS × Int32 → Prop} (hc7 : ∀ z : jS × Int32, Kc7 z → jJ (X, G, 6, jA X G tvi K) z.1 [(0, .ref x0), (3, .int x3), (4, .int x4), (5, .int z.2)] 7 []) (h : wp_J6_indexOfChar_7 S x0 x3 x4 x5 Kc7 K) : jJ (X, G, 6, jA X G tvi K) S [(0, .ref x0), (3, .int x3), (4, .int x4), (5, .int x5)] 7 [] := by
  unfold wp_J6_indexOfChar_7 at h
  refine jr_iload C 9 rfl dJ6_indexOfChar_7 3 rfl ?_
  refine jr_iload_n C 10 rfl dJ6_indexOfChar_9 rfl 1 rfl ?_
  refine jr_icmp_ge C 31 13 rfl dJ6_indexOfChar_10 (by decide) (fun c1 => ?_) (fun c1 => ?_)
  · have h := h.1 c1
    refine jr_iconst (v := (-1)) C 32 rfl dJ6_indexOfChar_31 (by decide) ?_
    exact jr_ireturn C dJ6_indexOfChar_32 h
  · have h := h.2 c1
    refine jr_aload_n C 14 rfl dJ6_indexOfChar_13 rfl 0 rfl ?_
    refine jr_iload C 16 rfl dJ6_indexOfChar_14 3 rfl ?_
    exact (wk_J6_indexOfChar_16 C hc7 h)
theorem wk_J6_indexOfChar_7_L {X : jX} {G : jG} {K : jS → Int32 → Prop} (C : jC (X, G, 6, jA X G tvi K) d_J6_indexOfChar cJ6_indexOfChar "java/lang/StringLatin1" (some .int) yJ6_indexOfChar) {x0 : Nat} {x3 : Int32} {x4 : Int32}  : ∀ (n : Nat) (z : jS × Int32), jlp n (wp_J6_indexOfChar_7_L x0 x3 x4 K) z → jJ (X, G, 6, jA X G tvi K) z.1 [(0, .ref x0), (3, .int x3), (4, .int x4), (5, .int z.2)] 7 [] := by
  intro n
  induction n with
  | zero => intro z h; exact h.elim
  | succ n ih => intro z h; exact wk_J6_indexOfChar_7 C ih h
theorem wk_J6_indexOfChar_0 {X : jX} {G : jG} {K : jS → Int32 → Prop} (C : jC (X, G, 6, jA X G tvi K) d_J6_indexOfChar cJ6_indexOfChar "java/lang/StringLatin1" (some .int) yJ6_indexOfChar) {S : jS} {x0 : Nat} {x1 : Int32} {x2 : Int32} {x3 : Int32}  (h : wp_J6_indexOfChar S x0 x1 x2 x3 K) : jJ (X, G, 6, jA X G tvi K) S [(0, .ref x0), (1, .int x1), (2, .int x2), (3, .int x3)] 0 [] := by
  unfold wp_J6_indexOfChar at h
  refine jr_iload_n C 1 rfl dJ6_indexOfChar_0 rfl 1 rfl ?_
  refine jr_i2b C 2 rfl dJ6_indexOfChar_1 ?_
  refine jr_istore (lv' := [(4, .int ((x1 : Int32).toInt8.toInt32)), (0, .ref x0), (1, .int x1), (2, .int x2), (3, .int x3)]) C 4 rfl dJ6_indexOfChar_2 (Nat.le_of_ble_eq_true rfl) rfl ?_
  refine jr_iload_n C 5 rfl dJ6_indexOfChar_4 rfl 3 rfl ?_
  refine jr_istore (lv' := [(5, .int x2), (4, .int ((x1 : Int32).toInt8.toInt32)), (0, .ref x0), (1, .int x1), (2, .int x2), (3, .int x3)]) C 7 rfl dJ6_indexOfChar_5 (Nat.le_of_ble_eq_true rfl) rfl ?_
  obtain ⟨n, h⟩ := h
  exact jr_sub [2, 5, 1, 0] rfl (wk_J6_indexOfChar_7_L C  n _ h)
theorem m_J6_indexOfChar {l : Launch} (hl : l.stackTraces = false) {G : jG} {K : jS → Int32 → Prop} {S : jS} {x0 : Nat} {x1 : Int32} {x2 : Int32} {x3 : Int32} (h : wp_J6_indexOfChar S x0 x1 x2 x3 K) : jMet l G d_J6_indexOfChar yJ6_indexOfChar (ws_ yJ6_indexOfChar cJ6_indexOfChar 6 (some .int)) [.ref x0, .int x1, .int x2, .int x3] S tvi K :=
  jMet.of hl rfl (by decide) (Nat.le_of_ble_eq_true rfl) (fun X C => jr_sub [0, 1, 2, 3] rfl (wk_J6_indexOfChar_0 C h))
theorem wk_J6_indexOf_0 {X : jX} {G : jG} {K : jS → Int32 → Prop} (C : jC (X, G, 4, jA X G tvi K) d_J6_indexOf cJ6_indexOf "java/lang/StringLatin1" (some .int) yJ6_indexOf) {S : jS} {x0 : Nat} {x1 : Int32} {x2 : Int32} {x3 : Int32}  (h : wp_J6_indexOf S x0 x1 x2 x3 K) : jJ (X, G, 4, jA X G tvi K) S [(0, .ref x0), (1, .int x1), (2, .int x2), (3, .int x3)] 0 [] := by
  unfold wp_J6_indexOf at h
  refine jr_iload_n C 1 rfl dJ6_indexOf_0 rfl 1 rfl ?_
  refine jr_callSi (As := [.int x1]) (st := []) C 4 rfl (m_J6_canEncode C.2.2.2.2.2.2.2.2.2.2.2.2.2.2.2 h) rfl q482 q483 q107 q484 (by decide) (by decide) nd_J6_canEncode (Nat.le_of_ble_eq_true rfl) dJ6_indexOf_1 (fun S1 r2 h => ?_)
  refine jr_if_ne C 9 7 rfl dJ6_indexOf_4 (by decide) (fun c11 => ?_) (fun c11 => ?_)
  · have h := h.1 c11
    refine jr_iconst (v := (-1)) C 8 rfl dJ6_indexOf_7 (by decide) ?_
    exact jr_ireturn C dJ6_indexOf_8 h
  · have h := h.2 c11
    refine jr_iload_n C 10 rfl dJ6_indexOf_9 rfl 2 rfl ?_
    refine jr_iconst (v := 0) C 11 rfl dJ6_indexOf_10 (by decide) ?_
    refine jr_callSi (As := [.int x2, .int 0]) (st := []) C 14 rfl (m_J7_max C.2.2.2.2.2.2.2.2.2.2.2.2.2.2.2 h) rfl q485 q486 q108 q487 (by decide) (by decide) nd_J7_max (Nat.le_of_ble_eq_true rfl) dJ6_indexOf_11 (fun S3 r4 h => ?_)
    refine jr_istore_n (lv' := [(2, .int r4), (0, .ref x0), (1, .int x1), (3, .int x3)]) C 15 rfl dJ6_indexOf_14 rfl (Nat.le_of_ble_eq_true rfl) rfl ?_
    refine jr_iload_n C 16 rfl dJ6_indexOf_15 rfl 3 rfl ?_
    refine jr_aload_n C 17 rfl dJ6_indexOf_16 rfl 1 rfl ?_
    refine jr_alen C 18 rfl dJ6_indexOf_17 h (fun v5 h => ?_)
    refine jr_callSi (As := [.int x3, .int v5]) (st := []) C 21 rfl (m_J7_min C.2.2.2.2.2.2.2.2.2.2.2.2.2.2.2 h) rfl q488 q489 q108 q490 (by decide) (by decide) nd_J7_min (Nat.le_of_ble_eq_true rfl) dJ6_indexOf_18 (fun S6 r7 h => ?_)
    refine jr_istore_n (lv' := [(3, .int r7), (2, .int r4), (0, .ref x0), (1, .int x1)]) C 22 rfl dJ6_indexOf_21 rfl (Nat.le_of_ble_eq_true rfl) rfl ?_
    refine jr_iload_n C 23 rfl dJ6_indexOf_22 rfl 1 rfl ?_
    refine jr_iload_n C 24 rfl dJ6_indexOf_23 rfl 0 rfl ?_
    refine jr_icmp_lt C 29 27 rfl dJ6_indexOf_24 (by decide) (fun c10 => ?_) (fun c10 => ?_)
    · have h := h.1 c10
      refine jr_aload_n C 30 rfl dJ6_indexOf_29 rfl 2 rfl ?_
      refine jr_iload_n C 31 rfl dJ6_indexOf_30 rfl 3 rfl ?_
      refine jr_iload_n C 32 rfl dJ6_indexOf_31 rfl 1 rfl ?_
      refine jr_iload_n C 33 rfl dJ6_indexOf_32 rfl 0 rfl ?_
      refine jr_callSi (As := [.ref x0, .int x1, .int r4, .int r7]) (st := []) C 36 rfl (m_J6_indexOfChar C.2.2.2.2.2.2.2.2.2.2.2.2.2.2.2 h) rfl q491 q492 q107 q493 (by decide) (by decide) nd_J6_indexOfChar (Nat.le_of_ble_eq_true rfl) dJ6_indexOf_33 (fun S8 r9 h => ?_)
      exact jr_ireturn C dJ6_indexOf_36 h
    · have h := h.2 c10
      refine jr_iconst (v := (-1)) C 28 rfl dJ6_indexOf_27 (by decide) ?_
      exact jr_ireturn C dJ6_indexOf_28 h
theorem m_J6_indexOf {l : Launch} (hl : l.stackTraces = false) {G : jG} {K : jS → Int32 → Prop} {S : jS} {x0 : Nat} {x1 : Int32} {x2 : Int32} {x3 : Int32} (h : wp_J6_indexOf S x0 x1 x2 x3 K) : jMet l G d_J6_indexOf yJ6_indexOf (ws_ yJ6_indexOf cJ6_indexOf 4 (some .int)) [.ref x0, .int x1, .int x2, .int x3] S tvi K :=
  jMet.of hl rfl (by decide) (Nat.le_of_ble_eq_true rfl) (fun X C => jr_sub [0, 1, 2, 3] rfl (wk_J6_indexOf_0 C h))
theorem wk_J5_indexOf_2_0 {X : jX} {G : jG} {K : jS → Int32 → Prop} (C : jC (X, G, 3, jA X G tvi K) d_J5_indexOf_2 cJ5_indexOf_2 "java/lang/String" (some .int) yJ5_indexOf_2) {S : jS} {x0 : Nat} {x1 : Int32} {x2 : Int32}  (h : wp_J5_indexOf_2 S x0 x1 x2 K) : jJ (X, G, 3, jA X G tvi K) S [(0, .ref x0), (1, .int x1), (2, .int x2)] 0 [] := by
  unfold wp_J5_indexOf_2 at h
  refine jr_aload_n C 1 rfl dJ5_indexOf_2_0 rfl 0 rfl ?_
  obtain ⟨⟨V, hb⟩, h⟩ := h
  refine jr_callVi (r0 := (RJ5, TJ5, 2)) (As := []) (st := []) C 4 rfl (m_J5_isLatin1 C.2.2.2.2.2.2.2.2.2.2.2.2.2.2.2 h) rfl hb rfl q465 q466 q467 q106 q468 (by decide) (by decide) ndV_J5_isLatin1 (Nat.le_of_ble_eq_true rfl) dJ5_indexOf_2_1 (fun S1 r2 h => ?_)
  refine jr_if_eq C 23 7 rfl dJ5_indexOf_2_4 (by decide) (fun c8 => ?_) (fun c8 => ?_)
  · have h := h.1 c8
    exact h.elim
  · have h := h.2 c8
    refine jr_aload_n C 8 rfl dJ5_indexOf_2_7 rfl 0 rfl ?_
    refine jr_getr C 11 rfl fo_14_0 q1886 dJ5_indexOf_2_8 h (fun v3 h => ?_)
    refine jr_iload_n C 12 rfl dJ5_indexOf_2_11 rfl 1 rfl ?_
    refine jr_iload_n C 13 rfl dJ5_indexOf_2_12 rfl 2 rfl ?_
    refine jr_aload_n C 14 rfl dJ5_indexOf_2_13 rfl 0 rfl ?_
    obtain ⟨⟨V, hb⟩, h⟩ := h
    refine jr_callVi (r0 := (RJ5, TJ5, 2)) (As := []) (st := [.int x2, .int x1, .ref v3]) C 17 rfl (m_J5_length C.2.2.2.2.2.2.2.2.2.2.2.2.2.2.2 h) rfl hb rfl q471 q472 q473 q106 q474 (by decide) (by decide) ndV_J5_length (Nat.le_of_ble_eq_true rfl) dJ5_indexOf_2_14 (fun S4 r5 h => ?_)
    refine jr_callSi (As := [.ref v3, .int x1, .int x2, .int r5]) (st := []) C 20 rfl (m_J6_indexOf C.2.2.2.2.2.2.2.2.2.2.2.2.2.2.2 h) rfl q479 q480 q107 q481 (by decide) (by decide) nd_J6_indexOf (Nat.le_of_ble_eq_true rfl) dJ5_indexOf_2_17 (fun S6 r7 h => ?_)
    refine jr_goto C 36 dJ5_indexOf_2_20 (by decide) ?_
    exact jr_ireturn C dJ5_indexOf_2_36 h
theorem m_J5_indexOf_2 {l : Launch} (hl : l.stackTraces = false) {G : jG} {K : jS → Int32 → Prop} {S : jS} {x0 : Nat} {x1 : Int32} {x2 : Int32} (h : wp_J5_indexOf_2 S x0 x1 x2 K) : jMet l G d_J5_indexOf_2 yJ5_indexOf_2 (ws_ yJ5_indexOf_2 cJ5_indexOf_2 3 (some .int)) [.ref x0, .int x1, .int x2] S tvi K :=
  jMet.of hl rfl (by decide) (Nat.le_of_ble_eq_true rfl) (fun X C => jr_sub [0, 1, 2] rfl (wk_J5_indexOf_2_0 C h))
theorem wk_J5_indexOf_0 {X : jX} {G : jG} {K : jS → Int32 → Prop} (C : jC (X, G, 2, jA X G tvi K) d_J5_indexOf cJ5_indexOf "java/lang/String" (some .int) yJ5_indexOf) {S : jS} {x0 : Nat} {x1 : Int32}  (h : wp_J5_indexOf S x0 x1 K) : jJ (X, G, 2, jA X G tvi K) S [(0, .ref x0), (1, .int x1)] 0 [] := by
  unfold wp_J5_indexOf at h
  refine jr_aload_n C 1 rfl dJ5_indexOf_0 rfl 0 rfl ?_
  refine jr_iload_n C 2 rfl dJ5_indexOf_1 rfl 1 rfl ?_
  refine jr_iconst (v := 0) C 3 rfl dJ5_indexOf_2 (by decide) ?_
  obtain ⟨⟨V, hb⟩, h⟩ := h
  refine jr_callVi (r0 := (RJ5, TJ5, 2)) (As := [.int x1, .int 0]) (st := []) C 6 rfl (m_J5_indexOf_2 C.2.2.2.2.2.2.2.2.2.2.2.2.2.2.2 h) rfl hb rfl q461 q462 q463 q106 q464 (by decide) (by decide) ndV_J5_indexOf_2 (Nat.le_of_ble_eq_true rfl) dJ5_indexOf_3 (fun S1 r2 h => ?_)
  exact jr_ireturn C dJ5_indexOf_6 h
theorem m_J5_indexOf {l : Launch} (hl : l.stackTraces = false) {G : jG} {K : jS → Int32 → Prop} {S : jS} {x0 : Nat} {x1 : Int32} (h : wp_J5_indexOf S x0 x1 K) : jMet l G d_J5_indexOf yJ5_indexOf (ws_ yJ5_indexOf cJ5_indexOf 2 (some .int)) [.ref x0, .int x1] S tvi K :=
  jMet.of hl rfl (by decide) (Nat.le_of_ble_eq_true rfl) (fun X C => jr_sub [0, 1] rfl (wk_J5_indexOf_0 C h))
