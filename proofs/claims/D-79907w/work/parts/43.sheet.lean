theorem fo_6_0 : jFO [6] 0 "Samovar$Sheet" "row" "Ljava/lang/Object;" (.object "java/lang/Object") false := jFO.one (T := TX4) (by decide) rfl in_X4 tyX4_ok nmX4 (by decide) rfl (tyX4_ok 0 (by decide)) (fun _ _ _ _ h => h)
theorem nd_X4_type : yX4_type.cls ≠ "java/lang/invoke/MethodHandle" ∧ yX4_type.cls ≠ "java/lang/invoke/VarHandle" ∧ (parseMethodDescriptor yX4_type.desc).map (fun d => d.parameters.length) = some 0 := by decide +kernel
theorem ndV_X4_type : yX4_type.cls = ((RX4, TX4, 1) : vw_C).1 ∧ yX4_type.cls ≠ "java/lang/invoke/MethodHandle" ∧ yX4_type.cls ≠ "java/lang/invoke/VarHandle" ∧ (parseMethodDescriptor yX4_type.desc).map (fun d => d.parameters.length) = some 0 := ⟨rfl, nd_X4_type⟩
abbrev d_X0_rowOf : Nat := 171
def wp_X0_rowOf (S : jS) (x0 : Int32) (x1 : Int32) (K : jS → Nat → Prop) (KX : jS → Nat → Nat → Prop) : Prop :=
  ((x0 = 0) → jnewax 1 S x1 (fun S3 a4 => K S3 a4) (∀ q2 : Nat, KX (jth S) 3 q2)) ∧ ((¬ (x0 = 0)) → ((x0 = 1) → jnewax 2 S x1 (fun S7 a8 => K S7 a8) (∀ q6 : Nat, KX (jth S) 3 q6)) ∧ ((¬ (x0 = 1)) → jnewax 0 S x1 (fun S10 a11 => K S10 a11) (∀ q9 : Nat, KX (jth S) 3 q9)))
abbrev d_X4_item : Nat := 171
def wp_X4_item (S : jS) (x0 : Nat) (x1 : Int32) (x2 : Int32) (K : jS → Int32 → Prop) (KX : jS → Nat → Nat → Prop) : Prop :=
  ((x1 = 0) → jgr [6] 0 S x0 (fun v2 => jcax 1 S v2 (jalx 1 S v2 x2 (fun v5 => K S v5) (∀ q4 : Nat, KX (jth S) 2 q4)) (∀ q3 : Nat, KX (jth S) 1 q3))) ∧ ((¬ (x1 = 0)) → ((x1 = 1) → jgr [6] 0 S x0 (fun v7 => jcax 2 S v7 (jalx 2 S v7 x2 (fun v10 => K S v10) (∀ q9 : Nat, KX (jth S) 2 q9)) (∀ q8 : Nat, KX (jth S) 1 q8))) ∧ ((¬ (x1 = 1)) → jgr [6] 0 S x0 (fun v11 => jcax 0 S v11 (jalx 0 S v11 x2 (fun v14 => K S v14) (∀ q13 : Nat, KX (jth S) 2 q13)) (∀ q12 : Nat, KX (jth S) 1 q12))))
abbrev d_X4_lay : Nat := 171
def wp_X4_lay_66 (S : jS) (K : jS → Unit → Prop) (KX : jS → Nat → Nat → Prop) : Prop :=
  K S ()
def wp_X4_lay (S : jS) (x0 : Nat) (x1 : Int32) (x2 : Int32) (x3 : Int32) (K : jS → Unit → Prop) (KX : jS → Nat → Nat → Prop) : Prop :=
  ((x1 = 0) → jgr [6] 0 S x0 (fun v2 => jcax 1 S v2 (jasx 1 S v2 x2 ((x3 : Int32).toInt8.toInt32) (fun S5 => wp_X4_lay_66 S5 K KX) (∀ q4 : Nat, KX (jth S) 2 q4)) (∀ q3 : Nat, KX (jth S) 1 q3))) ∧ ((¬ (x1 = 0)) → ((x1 = 1) → jgr [6] 0 S x0 (fun v7 => jcax 2 S v7 (jasx 2 S v7 x2 ((x3 : Int32).toInt16.toInt32) (fun S10 => wp_X4_lay_66 S10 K KX) (∀ q9 : Nat, KX (jth S) 2 q9)) (∀ q8 : Nat, KX (jth S) 1 q8))) ∧ ((¬ (x1 = 1)) → jgr [6] 0 S x0 (fun v11 => jcax 0 S v11 (jasx 0 S v11 x2 x3 (fun S14 => wp_X4_lay_66 S14 K KX) (∀ q13 : Nat, KX (jth S) 2 q13)) (∀ q12 : Nat, KX (jth S) 1 q12))))
abbrev d_X4_type : Nat := 1
def wp_X4_type_29 (S : jS) (t0 : Int32) (K : jS → Int32 → Prop) : Prop :=
  K S t0
def wp_X4_type (S : jS) (x0 : Nat) (K : jS → Int32 → Prop) : Prop :=
  jgr [6] 0 S x0 (fun v1 => jia 1 S v1 (fun v2 => ((v2 = 0) → jgr [6] 0 S x0 (fun v3 => jia 2 S v3 (fun v4 => ((v4 = 0) → wp_X4_type_29 S 2 K) ∧ ((¬ (v4 = 0)) → wp_X4_type_29 S 1 K)))) ∧ ((¬ (v2 = 0)) → wp_X4_type_29 S 0 K)))
abbrev d_X4_size : Nat := 2
def wp_X4_size (S : jS) (x0 : Nat) (K : jS → Int32 → Prop) : Prop :=
  jis 6 S x0 ∧ wp_X4_type S x0 (fun S1 r2 => ((r2 = 0) → jgr [6] 0 S1 x0 (fun v4 => jca 1 S1 v4 ∧ (jlen S1 v4 (fun v5 => K S1 v5)))) ∧ ((¬ (r2 = 0)) → ((r2 = 1) → jgr [6] 0 S1 x0 (fun v7 => jca 2 S1 v7 ∧ (jlen S1 v7 (fun v8 => K S1 v8)))) ∧ ((¬ (r2 = 1)) → jgr [6] 0 S1 x0 (fun v9 => jca 0 S1 v9 ∧ (jlen S1 v9 (fun v10 => K S1 v10))))))
theorem wk_X0_rowOf_0 {X : jX} {G : jG} {K : jS → Nat → Prop} {KX : jS → Nat → Nat → Prop} (C : jC (X, G, 2, jAX X G tvr K KX) d_X0_rowOf cX0_rowOf "Samovar" (some (.object "java/lang/Object")) yX0_rowOf) (hT : (zc (X, G, 2, jAX X G tvr K KX)).exceptionTable.toList = []) {S : jS} {x0 : Int32} {x1 : Int32}  (h : wp_X0_rowOf S x0 x1 K KX) : jJ (X, G, 2, jAX X G tvr K KX) S [(0, .int x0), (1, .int x1)] 0 [] := by
  unfold wp_X0_rowOf at h
  refine jr_iload_n C 1 rfl dX0_rowOf_0 rfl 0 rfl ?_
  by_cases c1 : x0 = 0
  · have h := h.1 c1
    refine jr_lsw (off := 27) C 28 dX0_rowOf_1 (by decide) (by rw [c1]; decide) (by decide) ?_
    refine jr_iload_n C 29 rfl dX0_rowOf_28 rfl 1 rfl ?_
    refine jr_newaX C 31 rfl (t := 1) rfl (by decide) rfl rfl (by decide) q166 dX0_rowOf_29 (by decide) (Nat.le_of_ble_eq_true rfl) h (fun S3 a4 h => ?_) (fun q2 h => jx_out C hT (by intro x hx; cases hx) h)
    exact jx_retW (jr_areturn (Or.inl ⟨_, rfl⟩) C.aim dX0_rowOf_31 h)
  have h := h.2 c1
  by_cases c5 : x0 = 1
  · have h := h.1 c5
    refine jr_lsw (off := 31) C 32 dX0_rowOf_1 (by decide) (by rw [c5]; decide) (by decide) ?_
    refine jr_iload_n C 33 rfl dX0_rowOf_32 rfl 1 rfl ?_
    refine jr_newaX C 35 rfl (t := 2) rfl (by decide) rfl rfl (by decide) q1178 dX0_rowOf_33 (by decide) (Nat.le_of_ble_eq_true rfl) h (fun S7 a8 h => ?_) (fun q6 h => jx_out C hT (by intro x hx; cases hx) h)
    exact jx_retW (jr_areturn (Or.inl ⟨_, rfl⟩) C.aim dX0_rowOf_35 h)
  have h := h.2 c5
  refine jr_lsw (off := 35) C 36 dX0_rowOf_1 (by decide) (by dsimp only; rw [lv_osw c1 (show (0 : Int32).toInt = 0 by decide), lv_osw c5 (show (1 : Int32).toInt = 1 by decide)]; rfl) (by decide) ?_
  refine jr_iload_n C 37 rfl dX0_rowOf_36 rfl 1 rfl ?_
  refine jr_newaX C 39 rfl (t := 0) rfl (by decide) rfl rfl (by decide) q227 dX0_rowOf_37 (by decide) (Nat.le_of_ble_eq_true rfl) h (fun S10 a11 h => ?_) (fun q9 h => jx_out C hT (by intro x hx; cases hx) h)
  exact jx_retW (jr_areturn (Or.inl ⟨_, rfl⟩) C.aim dX0_rowOf_39 h)
theorem m_X0_rowOf {l : Launch} (hl : l.stackTraces = false) {G : jG} {K : jS → Nat → Prop} {KX : jS → Nat → Nat → Prop} {S : jS} {x0 : Int32} {x1 : Int32} (h : wp_X0_rowOf S x0 x1 K KX) : jXMet l G d_X0_rowOf yX0_rowOf (ws_ yX0_rowOf cX0_rowOf 2 (some (.object "java/lang/Object"))) [.int x0, .int x1] S tvr K KX :=
  jXMet.of hl rfl (by decide) (Nat.le_of_ble_eq_true rfl) (fun X C hT => jr_sub [0, 1] rfl (wk_X0_rowOf_0 C hT h))
theorem wk_X4_item_0 {X : jX} {G : jG} {K : jS → Int32 → Prop} {KX : jS → Nat → Nat → Prop} (C : jC (X, G, 3, jAX X G tvi K KX) d_X4_item cX4_item "Samovar$Sheet" (some .int) yX4_item) (hT : (zc (X, G, 3, jAX X G tvi K KX)).exceptionTable.toList = []) {S : jS} {x0 : Nat} {x1 : Int32} {x2 : Int32}  (h : wp_X4_item S x0 x1 x2 K KX) : jJ (X, G, 3, jAX X G tvi K KX) S [(0, .ref x0), (1, .int x1), (2, .int x2)] 0 [] := by
  unfold wp_X4_item at h
  refine jr_iload_n C 1 rfl dX4_item_0 rfl 1 rfl ?_
  by_cases c1 : x1 = 0
  · have h := h.1 c1
    refine jr_lsw (off := 27) C 28 dX4_item_1 (by decide) (by rw [c1]; decide) (by decide) ?_
    refine jr_aload_n C 29 rfl dX4_item_28 rfl 0 rfl ?_
    refine jr_getr C 32 rfl fo_6_0 q222 dX4_item_29 h (fun v2 h => ?_)
    refine jr_castX C 35 rfl (t := 1) (eq_true (by decide)) (by decide) (nm := "[B") rfl q818 dX4_item_32 (by decide) (Nat.le_of_ble_eq_true rfl) h (fun h => ?_) (fun q3 h => jx_out C hT (by intro x hx; cases hx) h)
    refine jr_iload_n C 36 rfl dX4_item_35 rfl 2 rfl ?_
    refine jr_baldX C 37 rfl dX4_item_36 (by decide) (Nat.le_of_ble_eq_true rfl) h (fun v5 h => ?_) (fun q4 h => jx_out C hT (by intro x hx; cases hx) h)
    exact jx_retW (jr_ireturn C.aim dX4_item_37 h)
  have h := h.2 c1
  by_cases c6 : x1 = 1
  · have h := h.1 c6
    refine jr_lsw (off := 37) C 38 dX4_item_1 (by decide) (by rw [c6]; decide) (by decide) ?_
    refine jr_aload_n C 39 rfl dX4_item_38 rfl 0 rfl ?_
    refine jr_getr C 42 rfl fo_6_0 q222 dX4_item_39 h (fun v7 h => ?_)
    refine jr_castX C 45 rfl (t := 2) (eq_true (by decide)) (by decide) (nm := "[S") rfl q819 dX4_item_42 (by decide) (Nat.le_of_ble_eq_true rfl) h (fun h => ?_) (fun q8 h => jx_out C hT (by intro x hx; cases hx) h)
    refine jr_iload_n C 46 rfl dX4_item_45 rfl 2 rfl ?_
    refine jr_saldX C 47 rfl dX4_item_46 (by decide) (Nat.le_of_ble_eq_true rfl) h (fun v10 h => ?_) (fun q9 h => jx_out C hT (by intro x hx; cases hx) h)
    exact jx_retW (jr_ireturn C.aim dX4_item_47 h)
  have h := h.2 c6
  refine jr_lsw (off := 47) C 48 dX4_item_1 (by decide) (by dsimp only; rw [lv_osw c1 (show (0 : Int32).toInt = 0 by decide), lv_osw c6 (show (1 : Int32).toInt = 1 by decide)]; rfl) (by decide) ?_
  refine jr_aload_n C 49 rfl dX4_item_48 rfl 0 rfl ?_
  refine jr_getr C 52 rfl fo_6_0 q222 dX4_item_49 h (fun v11 h => ?_)
  refine jr_castX C 55 rfl (t := 0) (eq_true (by decide)) (by decide) (nm := "[I") rfl q820 dX4_item_52 (by decide) (Nat.le_of_ble_eq_true rfl) h (fun h => ?_) (fun q12 h => jx_out C hT (by intro x hx; cases hx) h)
  refine jr_iload_n C 56 rfl dX4_item_55 rfl 2 rfl ?_
  refine jr_ialdX C 57 rfl dX4_item_56 (by decide) (Nat.le_of_ble_eq_true rfl) h (fun v14 h => ?_) (fun q13 h => jx_out C hT (by intro x hx; cases hx) h)
  exact jx_retW (jr_ireturn C.aim dX4_item_57 h)
theorem m_X4_item {l : Launch} (hl : l.stackTraces = false) {G : jG} {K : jS → Int32 → Prop} {KX : jS → Nat → Nat → Prop} {S : jS} {x0 : Nat} {x1 : Int32} {x2 : Int32} (h : wp_X4_item S x0 x1 x2 K KX) : jXMet l G d_X4_item yX4_item (ws_ yX4_item cX4_item 3 (some .int)) [.ref x0, .int x1, .int x2] S tvi K KX :=
  jXMet.of hl rfl (by decide) (Nat.le_of_ble_eq_true rfl) (fun X C hT => jr_sub [0, 1, 2] rfl (wk_X4_item_0 C hT h))
theorem wk_X4_lay_66 {X : jX} {G : jG} {K : jS → Unit → Prop} {KX : jS → Nat → Nat → Prop} (C : jC (X, G, 4, jAX X G tvv K KX) d_X4_lay cX4_lay "Samovar$Sheet" none yX4_lay) (hT : (zc (X, G, 4, jAX X G tvv K KX)).exceptionTable.toList = []) {S : jS}   (h : wp_X4_lay_66 S K KX) : jJ (X, G, 4, jAX X G tvv K KX) S [] 66 [] := by
  unfold wp_X4_lay_66 at h
  exact jx_retW (jr_return C.aim dX4_lay_66 h)
theorem wk_X4_lay_0 {X : jX} {G : jG} {K : jS → Unit → Prop} {KX : jS → Nat → Nat → Prop} (C : jC (X, G, 4, jAX X G tvv K KX) d_X4_lay cX4_lay "Samovar$Sheet" none yX4_lay) (hT : (zc (X, G, 4, jAX X G tvv K KX)).exceptionTable.toList = []) {S : jS} {x0 : Nat} {x1 : Int32} {x2 : Int32} {x3 : Int32}  (h : wp_X4_lay S x0 x1 x2 x3 K KX) : jJ (X, G, 4, jAX X G tvv K KX) S [(0, .ref x0), (1, .int x1), (2, .int x2), (3, .int x3)] 0 [] := by
  unfold wp_X4_lay at h
  refine jr_iload_n C 1 rfl dX4_lay_0 rfl 1 rfl ?_
  by_cases c1 : x1 = 0
  · have h := h.1 c1
    refine jr_lsw (off := 27) C 28 dX4_lay_1 (by decide) (by rw [c1]; decide) (by decide) ?_
    refine jr_aload_n C 29 rfl dX4_lay_28 rfl 0 rfl ?_
    refine jr_getr C 32 rfl fo_6_0 q222 dX4_lay_29 h (fun v2 h => ?_)
    refine jr_castX C 35 rfl (t := 1) (eq_true (by decide)) (by decide) (nm := "[B") rfl q818 dX4_lay_32 (by decide) (Nat.le_of_ble_eq_true rfl) h (fun h => ?_) (fun q3 h => jx_out C hT (by intro x hx; cases hx) h)
    refine jr_iload_n C 36 rfl dX4_lay_35 rfl 2 rfl ?_
    refine jr_iload_n C 37 rfl dX4_lay_36 rfl 3 rfl ?_
    refine jr_i2b C 38 rfl dX4_lay_37 ?_
    refine jr_bastX C 39 rfl dX4_lay_38 (by decide) (Nat.le_of_ble_eq_true rfl) h (fun S5 h => ?_) (fun q4 h => jx_out C hT (by intro x hx; cases hx) h)
    refine jr_goto C 66 dX4_lay_39 (by decide) ?_
    exact jr_sub [] rfl (wk_X4_lay_66 C hT  h)
  have h := h.2 c1
  by_cases c6 : x1 = 1
  · have h := h.1 c6
    refine jr_lsw (off := 41) C 42 dX4_lay_1 (by decide) (by rw [c6]; decide) (by decide) ?_
    refine jr_aload_n C 43 rfl dX4_lay_42 rfl 0 rfl ?_
    refine jr_getr C 46 rfl fo_6_0 q222 dX4_lay_43 h (fun v7 h => ?_)
    refine jr_castX C 49 rfl (t := 2) (eq_true (by decide)) (by decide) (nm := "[S") rfl q819 dX4_lay_46 (by decide) (Nat.le_of_ble_eq_true rfl) h (fun h => ?_) (fun q8 h => jx_out C hT (by intro x hx; cases hx) h)
    refine jr_iload_n C 50 rfl dX4_lay_49 rfl 2 rfl ?_
    refine jr_iload_n C 51 rfl dX4_lay_50 rfl 3 rfl ?_
    refine jr_i2s C 52 rfl dX4_lay_51 ?_
    refine jr_sastX C 53 rfl dX4_lay_52 (by decide) (Nat.le_of_ble_eq_true rfl) h (fun S10 h => ?_) (fun q9 h => jx_out C hT (by intro x hx; cases hx) h)
    refine jr_goto C 66 dX4_lay_53 (by decide) ?_
    exact jr_sub [] rfl (wk_X4_lay_66 C hT  h)
  have h := h.2 c6
  refine jr_lsw (off := 55) C 56 dX4_lay_1 (by decide) (by dsimp only; rw [lv_osw c1 (show (0 : Int32).toInt = 0 by decide), lv_osw c6 (show (1 : Int32).toInt = 1 by decide)]; rfl) (by decide) ?_
  refine jr_aload_n C 57 rfl dX4_lay_56 rfl 0 rfl ?_
  refine jr_getr C 60 rfl fo_6_0 q222 dX4_lay_57 h (fun v11 h => ?_)
  refine jr_castX C 63 rfl (t := 0) (eq_true (by decide)) (by decide) (nm := "[I") rfl q820 dX4_lay_60 (by decide) (Nat.le_of_ble_eq_true rfl) h (fun h => ?_) (fun q12 h => jx_out C hT (by intro x hx; cases hx) h)
  refine jr_iload_n C 64 rfl dX4_lay_63 rfl 2 rfl ?_
  refine jr_iload_n C 65 rfl dX4_lay_64 rfl 3 rfl ?_
  refine jr_iastX C 66 rfl dX4_lay_65 (by decide) (Nat.le_of_ble_eq_true rfl) h (fun S14 h => ?_) (fun q13 h => jx_out C hT (by intro x hx; cases hx) h)
  exact jr_sub [] rfl (wk_X4_lay_66 C hT  h)
theorem m_X4_lay {l : Launch} (hl : l.stackTraces = false) {G : jG} {K : jS → Unit → Prop} {KX : jS → Nat → Nat → Prop} {S : jS} {x0 : Nat} {x1 : Int32} {x2 : Int32} {x3 : Int32} (h : wp_X4_lay S x0 x1 x2 x3 K KX) : jXMet l G d_X4_lay yX4_lay (ws_ yX4_lay cX4_lay 4 none) [.ref x0, .int x1, .int x2, .int x3] S tvv K KX :=
  jXMet.of hl rfl (by decide) (Nat.le_of_ble_eq_true rfl) (fun X C hT => jr_sub [0, 1, 2, 3] rfl (wk_X4_lay_0 C hT h))
theorem wk_X4_type_29 {X : jX} {G : jG} {K : jS → Int32 → Prop} (C : jC (X, G, 1, jA X G tvi K) d_X4_type cX4_type "Samovar$Sheet" (some .int) yX4_type) {S : jS} {t0 : Int32}  (h : wp_X4_type_29 S t0 K) : jJ (X, G, 1, jA X G tvi K) S [] 29 [.int t0] := by
  unfold wp_X4_type_29 at h
  exact jr_ireturn C dX4_type_29 h
theorem wk_X4_type_0 {X : jX} {G : jG} {K : jS → Int32 → Prop} (C : jC (X, G, 1, jA X G tvi K) d_X4_type cX4_type "Samovar$Sheet" (some .int) yX4_type) {S : jS} {x0 : Nat}  (h : wp_X4_type S x0 K) : jJ (X, G, 1, jA X G tvi K) S [(0, .ref x0)] 0 [] := by
  unfold wp_X4_type at h
  refine jr_aload_n C 1 rfl dX4_type_0 rfl 0 rfl ?_
  refine jr_getr C 4 rfl fo_6_0 q222 dX4_type_1 h (fun v1 h => ?_)
  refine jr_instA C 7 rfl (t := 1) (by decide) (nm := "[B") rfl q818 dX4_type_4 h (fun v2 h => ?_)
  refine jr_if_eq C 14 10 rfl dX4_type_7 (by decide) (fun c6 => ?_) (fun c6 => ?_)
  · have h := h.1 c6
    refine jr_aload_n C 15 rfl dX4_type_14 rfl 0 rfl ?_
    refine jr_getr C 18 rfl fo_6_0 q222 dX4_type_15 h (fun v3 h => ?_)
    refine jr_instA C 21 rfl (t := 2) (by decide) (nm := "[S") rfl q819 dX4_type_18 h (fun v4 h => ?_)
    refine jr_if_eq C 28 24 rfl dX4_type_21 (by decide) (fun c5 => ?_) (fun c5 => ?_)
    · have h := h.1 c5
      refine jr_iconst (v := 2) C 29 rfl dX4_type_28 (by decide) ?_
      exact jr_sub [] rfl (wk_X4_type_29 C  h)
    · have h := h.2 c5
      refine jr_iconst (v := 1) C 25 rfl dX4_type_24 (by decide) ?_
      refine jr_goto C 29 dX4_type_25 (by decide) ?_
      exact jr_sub [] rfl (wk_X4_type_29 C  h)
  · have h := h.2 c6
    refine jr_iconst (v := 0) C 11 rfl dX4_type_10 (by decide) ?_
    refine jr_goto C 29 dX4_type_11 (by decide) ?_
    exact jr_sub [] rfl (wk_X4_type_29 C  h)
theorem m_X4_type {l : Launch} (hl : l.stackTraces = false) {G : jG} {K : jS → Int32 → Prop} {S : jS} {x0 : Nat} (h : wp_X4_type S x0 K) : jMet l G d_X4_type yX4_type (ws_ yX4_type cX4_type 1 (some .int)) [.ref x0] S tvi K :=
  jMet.of hl rfl (by decide) (Nat.le_of_ble_eq_true rfl) (fun X C => jr_sub [0] rfl (wk_X4_type_0 C h))
theorem wk_X4_size_0 {X : jX} {G : jG} {K : jS → Int32 → Prop} (C : jC (X, G, 1, jA X G tvi K) d_X4_size cX4_size "Samovar$Sheet" (some .int) yX4_size) {S : jS} {x0 : Nat}  (h : wp_X4_size S x0 K) : jJ (X, G, 1, jA X G tvi K) S [(0, .ref x0)] 0 [] := by
  unfold wp_X4_size at h
  refine jr_aload_n C 1 rfl dX4_size_0 rfl 0 rfl ?_
  obtain ⟨⟨V, hb⟩, h⟩ := h
  refine jr_callVi (r0 := (RX4, TX4, 1)) (As := []) (st := []) C 4 rfl (m_X4_type C.2.2.2.2.2.2.2.2.2.2.2.2.2.2.2 h) rfl hb rfl q814 q815 q816 q101 q817 (by decide) (by decide) ndV_X4_type (Nat.le_of_ble_eq_true rfl) dX4_size_1 (fun S1 r2 h => ?_)
  by_cases c3 : r2 = 0
  · have h := h.1 c3
    refine jr_lsw (off := 28) C 32 dX4_size_4 (by decide) (by rw [c3]; decide) (by decide) ?_
    refine jr_aload_n C 33 rfl dX4_size_32 rfl 0 rfl ?_
    refine jr_getr C 36 rfl fo_6_0 q222 dX4_size_33 h (fun v4 h => ?_)
    obtain ⟨hz, h⟩ := h
    refine jr_castA C 39 rfl (t := 1) (eq_true (by decide)) (by decide) (nm := "[B") rfl q818 dX4_size_36 hz ?_
    refine jr_alen C 40 rfl dX4_size_39 h (fun v5 h => ?_)
    exact jr_ireturn C dX4_size_40 h
  have h := h.2 c3
  by_cases c6 : r2 = 1
  · have h := h.1 c6
    refine jr_lsw (off := 37) C 41 dX4_size_4 (by decide) (by rw [c6]; decide) (by decide) ?_
    refine jr_aload_n C 42 rfl dX4_size_41 rfl 0 rfl ?_
    refine jr_getr C 45 rfl fo_6_0 q222 dX4_size_42 h (fun v7 h => ?_)
    obtain ⟨hz, h⟩ := h
    refine jr_castA C 48 rfl (t := 2) (eq_true (by decide)) (by decide) (nm := "[S") rfl q819 dX4_size_45 hz ?_
    refine jr_alen C 49 rfl dX4_size_48 h (fun v8 h => ?_)
    exact jr_ireturn C dX4_size_49 h
  have h := h.2 c6
  refine jr_lsw (off := 46) C 50 dX4_size_4 (by decide) (by dsimp only; rw [lv_osw c3 (show (0 : Int32).toInt = 0 by decide), lv_osw c6 (show (1 : Int32).toInt = 1 by decide)]; rfl) (by decide) ?_
  refine jr_aload_n C 51 rfl dX4_size_50 rfl 0 rfl ?_
  refine jr_getr C 54 rfl fo_6_0 q222 dX4_size_51 h (fun v9 h => ?_)
  obtain ⟨hz, h⟩ := h
  refine jr_castA C 57 rfl (t := 0) (eq_true (by decide)) (by decide) (nm := "[I") rfl q820 dX4_size_54 hz ?_
  refine jr_alen C 58 rfl dX4_size_57 h (fun v10 h => ?_)
  exact jr_ireturn C dX4_size_58 h
theorem m_X4_size {l : Launch} (hl : l.stackTraces = false) {G : jG} {K : jS → Int32 → Prop} {S : jS} {x0 : Nat} (h : wp_X4_size S x0 K) : jMet l G d_X4_size yX4_size (ws_ yX4_size cX4_size 1 (some .int)) [.ref x0] S tvi K :=
  jMet.of hl rfl (by decide) (Nat.le_of_ble_eq_true rfl) (fun X C => jr_sub [0] rfl (wk_X4_size_0 C h))
