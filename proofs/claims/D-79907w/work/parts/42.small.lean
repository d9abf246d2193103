theorem fo_1_2_0_Text : jFO [1, 2] 0 "Samovar$Text" "bytes" "[B" (.array .byte) true := (jFO.one (T := TX2) (by decide) rfl in_X2 tyX2_ok nmX2 (by decide) rfl (tyX2_ok 0 (by decide)) (fun _ _ _ _ h => h)).two (jFO.one (T := TX3) (by decide) rfl in_X3 tyX3_ok nmX3 (by decide) rfl (tyX3_ok 0 (by decide)) (fun _ _ _ _ h => h))
theorem fo_1_2_0_Text_d : ∀ c ∈ ([1, 2] : List Nat), ∀ r : vw_C, jcl[c]? = some r → (r.2.1 0).1 = "Samovar$Text" := jdecl2 rfl rfl rfl rfl
theorem fo_1_2_1_Text : jFO [1, 2] 1 "Samovar$Text" "typed" "I" (.int) false := (jFO.one (T := TX2) (by decide) rfl in_X2 tyX2_ok nmX2 (by decide) rfl (tyX2_ok 1 (by decide)) (fun _ _ _ _ h => h)).two (jFO.one (T := TX3) (by decide) rfl in_X3 tyX3_ok nmX3 (by decide) rfl (tyX3_ok 1 (by decide)) (fun _ _ _ _ h => h))
theorem fo_1_2_2_Text : jFO [1, 2] 2 "Samovar$Text" "at" "I" (.int) false := (jFO.one (T := TX2) (by decide) rfl in_X2 tyX2_ok nmX2 (by decide) rfl (tyX2_ok 2 (by decide)) (fun _ _ _ _ h => h)).two (jFO.one (T := TX3) (by decide) rfl in_X3 tyX3_ok nmX3 (by decide) rfl (tyX3_ok 2 (by decide)) (fun _ _ _ _ h => h))
theorem fo_1_2_3_Text : jFO [1, 2] 3 "Samovar$Text" "fresh" "Z" (.boolean) false := (jFO.one (T := TX2) (by decide) rfl in_X2 tyX2_ok nmX2 (by decide) rfl (tyX2_ok 3 (by decide)) (fun _ _ _ _ h => h)).two (jFO.one (T := TX3) (by decide) rfl in_X3 tyX3_ok nmX3 (by decide) rfl (tyX3_ok 3 (by decide)) (fun _ _ _ _ h => h))
theorem fo_1_2_4_Text : jFO [1, 2] 4 "Samovar$Text" "fault" "I" (.int) false := (jFO.one (T := TX2) (by decide) rfl in_X2 tyX2_ok nmX2 (by decide) rfl (tyX2_ok 4 (by decide)) (fun _ _ _ _ h => h)).two (jFO.one (T := TX3) (by decide) rfl in_X3 tyX3_ok nmX3 (by decide) rfl (tyX3_ok 4 (by decide)) (fun _ _ _ _ h => h))
theorem fo_1_5 : jFO [1] 5 "Samovar$Woodpile" "all" "Ljava/util/ArrayList;" (.object "java/util/ArrayList") true := jFO.one (T := TX2) (by decide) rfl in_X2 tyX2_ok nmX2 (by decide) rfl (tyX2_ok 5 (by decide)) (fun _ _ _ _ h => h)
theorem fo_1_5_d : ∀ c ∈ ([1] : List Nat), ∀ r : vw_C, jcl[c]? = some r → (r.2.1 5).1 = "Samovar$Woodpile" := jdecl1 rfl rfl
theorem fo_2_5 : jFO [2] 5 "Samovar$Company" "all" "Ljava/util/ArrayList;" (.object "java/util/ArrayList") true := jFO.one (T := TX3) (by decide) rfl in_X3 tyX3_ok nmX3 (by decide) rfl (tyX3_ok 5 (by decide)) (fun _ _ _ _ h => h)
theorem fo_2_5_d : ∀ c ∈ ([2] : List Nat), ∀ r : vw_C, jcl[c]? = some r → (r.2.1 5).1 = "Samovar$Company" := jdecl1 rfl rfl
theorem fo_4_0 : jFO [4] 0 "Samovar$Guest" "minute" "I" (.int) false := jFO.one (T := TX7) (by decide) rfl in_X7 tyX7_ok nmX7 (by decide) rfl (tyX7_ok 0 (by decide)) (fun _ _ _ _ h => h)
theorem fo_4_1 : jFO [4] 1 "Samovar$Guest" "taste" "LSamovar$Taste;" (.object "Samovar$Taste") false := jFO.one (T := TX7) (by decide) rfl in_X7 tyX7_ok nmX7 (by decide) rfl (tyX7_ok 1 (by decide)) (fun _ _ _ _ h => h)
theorem fo_4_2 : jFO [4] 2 "Samovar$Guest" "glasses" "I" (.int) false := jFO.one (T := TX7) (by decide) rfl in_X7 tyX7_ok nmX7 (by decide) rfl (tyX7_ok 2 (by decide)) (fun _ _ _ _ h => h)
theorem fo_4_3 : jFO [4] 3 "Samovar$Guest" "state" "I" (.int) false := jFO.one (T := TX7) (by decide) rfl in_X7 tyX7_ok nmX7 (by decide) rfl (tyX7_ok 3 (by decide)) (fun _ _ _ _ h => h)
theorem fo_4_4 : jFO [4] 4 "Samovar$Guest" "had" "I" (.int) false := jFO.one (T := TX7) (by decide) rfl in_X7 tyX7_ok nmX7 (by decide) rfl (tyX7_ok 4 (by decide)) (fun _ _ _ _ h => h)
theorem fo_4_5 : jFO [4] 5 "Samovar$Guest" "back" "I" (.int) false := jFO.one (T := TX7) (by decide) rfl in_X7 tyX7_ok nmX7 (by decide) rfl (tyX7_ok 5 (by decide)) (fun _ _ _ _ h => h)
theorem fo_4_6 : jFO [4] 6 "Samovar$Guest" "waits" "I" (.int) false := jFO.one (T := TX7) (by decide) rfl in_X7 tyX7_ok nmX7 (by decide) rfl (tyX7_ok 6 (by decide)) (fun _ _ _ _ h => h)
theorem fo_4_7 : jFO [4] 7 "Samovar$Guest" "waited" "I" (.int) false := jFO.one (T := TX7) (by decide) rfl in_X7 tyX7_ok nmX7 (by decide) rfl (tyX7_ok 7 (by decide)) (fun _ _ _ _ h => h)
theorem fo_5_0 : jFO [5] 0 "Samovar$Piece" "minute" "I" (.int) true := jFO.one (T := TX8) (by decide) rfl in_X8 tyX8_ok nmX8 (by decide) rfl (tyX8_ok 0 (by decide)) (fun _ _ _ _ h => h)
theorem fo_5_0_d : ∀ c ∈ ([5] : List Nat), ∀ r : vw_C, jcl[c]? = some r → (r.2.1 0).1 = "Samovar$Piece" := jdecl1 rfl rfl
theorem fo_5_1 : jFO [5] 1 "Samovar$Piece" "fuel" "LSamovar$Fuel;" (.object "Samovar$Fuel") false := jFO.one (T := TX8) (by decide) rfl in_X8 tyX8_ok nmX8 (by decide) rfl (tyX8_ok 1 (by decide)) (fun _ _ _ _ h => h)
theorem fo_5_2 : jFO [5] 2 "Samovar$Piece" "many" "I" (.int) true := jFO.one (T := TX8) (by decide) rfl in_X8 tyX8_ok nmX8 (by decide) rfl (tyX8_ok 2 (by decide)) (fun _ _ _ _ h => h)
theorem fo_5_2_d : ∀ c ∈ ([5] : List Nat), ∀ r : vw_C, jcl[c]? = some r → (r.2.1 2).1 = "Samovar$Piece" := jdecl1 rfl rfl
theorem fo_7_6 : jFO [7] 6 "Samovar$Torn" "place" "I" (.int) true := jFO.one (T := TX6) (by decide) rfl in_X6 tyX6_ok nmX6 (by decide) rfl (tyX6_ok 6 (by decide)) (fun _ _ _ _ h => h)
theorem fo_7_6_d : ∀ c ∈ ([7] : List Nat), ∀ r : vw_C, jcl[c]? = some r → (r.2.1 6).1 = "Samovar$Torn" := jdecl1 rfl rfl
theorem nd_X0_in : yX0_in.cls ≠ "java/lang/invoke/MethodHandle" ∧ yX0_in.cls ≠ "java/lang/invoke/VarHandle" ∧ (parseMethodDescriptor yX0_in.desc).map (fun d => d.parameters.length) = some 3 := by decide +kernel
theorem nd_X9_gives : yX9_gives.cls ≠ "java/lang/invoke/MethodHandle" ∧ yX9_gives.cls ≠ "java/lang/invoke/VarHandle" ∧ (parseMethodDescriptor yX9_gives.desc).map (fun d => d.parameters.length) = some 0 := by decide +kernel
theorem nd_X9_lasts : yX9_lasts.cls ≠ "java/lang/invoke/MethodHandle" ∧ yX9_lasts.cls ≠ "java/lang/invoke/VarHandle" ∧ (parseMethodDescriptor yX9_lasts.desc).map (fun d => d.parameters.length) = some 0 := by decide +kernel
theorem nd_X9_number : yX9_number.cls ≠ "java/lang/invoke/MethodHandle" ∧ yX9_number.cls ≠ "java/lang/invoke/VarHandle" ∧ (parseMethodDescriptor yX9_number.desc).map (fun d => d.parameters.length) = some 0 := by decide +kernel
theorem nd_X10_gives : yX10_gives.cls ≠ "java/lang/invoke/MethodHandle" ∧ yX10_gives.cls ≠ "java/lang/invoke/VarHandle" ∧ (parseMethodDescriptor yX10_gives.desc).map (fun d => d.parameters.length) = some 0 := by decide +kernel
theorem nd_X10_lasts : yX10_lasts.cls ≠ "java/lang/invoke/MethodHandle" ∧ yX10_lasts.cls ≠ "java/lang/invoke/VarHandle" ∧ (parseMethodDescriptor yX10_lasts.desc).map (fun d => d.parameters.length) = some 0 := by decide +kernel
theorem nd_X10_number : yX10_number.cls ≠ "java/lang/invoke/MethodHandle" ∧ yX10_number.cls ≠ "java/lang/invoke/VarHandle" ∧ (parseMethodDescriptor yX10_number.desc).map (fun d => d.parameters.length) = some 0 := by decide +kernel
theorem nd_X3_clear : yX3_clear.cls ≠ "java/lang/invoke/MethodHandle" ∧ yX3_clear.cls ≠ "java/lang/invoke/VarHandle" ∧ (parseMethodDescriptor yX3_clear.desc).map (fun d => d.parameters.length) = some 0 := by decide +kernel
theorem nd_X3_many : yX3_many.cls ≠ "java/lang/invoke/MethodHandle" ∧ yX3_many.cls ≠ "java/lang/invoke/VarHandle" ∧ (parseMethodDescriptor yX3_many.desc).map (fun d => d.parameters.length) = some 0 := by decide +kernel
theorem nd_X3_part : yX3_part.cls ≠ "java/lang/invoke/MethodHandle" ∧ yX3_part.cls ≠ "java/lang/invoke/VarHandle" ∧ (parseMethodDescriptor yX3_part.desc).map (fun d => d.parameters.length) = some 1 := by decide +kernel
theorem nd_X11_drinks : yX11_drinks.cls ≠ "java/lang/invoke/MethodHandle" ∧ yX11_drinks.cls ≠ "java/lang/invoke/VarHandle" ∧ (parseMethodDescriptor yX11_drinks.desc).map (fun d => d.parameters.length) = some 0 := by decide +kernel
theorem nd_X11_number : yX11_number.cls ≠ "java/lang/invoke/MethodHandle" ∧ yX11_number.cls ≠ "java/lang/invoke/VarHandle" ∧ (parseMethodDescriptor yX11_number.desc).map (fun d => d.parameters.length) = some 0 := by decide +kernel
theorem nd_X12_gives : yX12_gives.cls ≠ "java/lang/invoke/MethodHandle" ∧ yX12_gives.cls ≠ "java/lang/invoke/VarHandle" ∧ (parseMethodDescriptor yX12_gives.desc).map (fun d => d.parameters.length) = some 0 := by decide +kernel
theorem nd_X12_lasts : yX12_lasts.cls ≠ "java/lang/invoke/MethodHandle" ∧ yX12_lasts.cls ≠ "java/lang/invoke/VarHandle" ∧ (parseMethodDescriptor yX12_lasts.desc).map (fun d => d.parameters.length) = some 0 := by decide +kernel
theorem nd_X12_number : yX12_number.cls ≠ "java/lang/invoke/MethodHandle" ∧ yX12_number.cls ≠ "java/lang/invoke/VarHandle" ∧ (parseMethodDescriptor yX12_number.desc).map (fun d => d.parameters.length) = some 0 := by decide +kernel
theorem nd_X7_init : yX7_init.cls ≠ "java/lang/invoke/MethodHandle" ∧ yX7_init.cls ≠ "java/lang/invoke/VarHandle" ∧ (parseMethodDescriptor yX7_init.desc).map (fun d => d.parameters.length) = some 3 := by decide +kernel
theorem nd_X8_init : yX8_init.cls ≠ "java/lang/invoke/MethodHandle" ∧ yX8_init.cls ≠ "java/lang/invoke/VarHandle" ∧ (parseMethodDescriptor yX8_init.desc).map (fun d => d.parameters.length) = some 3 := by decide +kernel
theorem nd_X13_drinks : yX13_drinks.cls ≠ "java/lang/invoke/MethodHandle" ∧ yX13_drinks.cls ≠ "java/lang/invoke/VarHandle" ∧ (parseMethodDescriptor yX13_drinks.desc).map (fun d => d.parameters.length) = some 0 := by decide +kernel
theorem nd_X13_needs : yX13_needs.cls ≠ "java/lang/invoke/MethodHandle" ∧ yX13_needs.cls ≠ "java/lang/invoke/VarHandle" ∧ (parseMethodDescriptor yX13_needs.desc).map (fun d => d.parameters.length) = some 0 := by decide +kernel
theorem nd_X13_number : yX13_number.cls ≠ "java/lang/invoke/MethodHandle" ∧ yX13_number.cls ≠ "java/lang/invoke/VarHandle" ∧ (parseMethodDescriptor yX13_number.desc).map (fun d => d.parameters.length) = some 0 := by decide +kernel
theorem nd_X1_init : yX1_init.cls ≠ "java/lang/invoke/MethodHandle" ∧ yX1_init.cls ≠ "java/lang/invoke/VarHandle" ∧ (parseMethodDescriptor yX1_init.desc).map (fun d => d.parameters.length) = some 0 := by decide +kernel
theorem nd_X1_next : yX1_next.cls ≠ "java/lang/invoke/MethodHandle" ∧ yX1_next.cls ≠ "java/lang/invoke/VarHandle" ∧ (parseMethodDescriptor yX1_next.desc).map (fun d => d.parameters.length) = some 0 := by decide +kernel
theorem nd_X1_passes : yX1_passes.cls ≠ "java/lang/invoke/MethodHandle" ∧ yX1_passes.cls ≠ "java/lang/invoke/VarHandle" ∧ (parseMethodDescriptor yX1_passes.desc).map (fun d => d.parameters.length) = some 1 := by decide +kernel
theorem nd_X1_reads : yX1_reads.cls ≠ "java/lang/invoke/MethodHandle" ∧ yX1_reads.cls ≠ "java/lang/invoke/VarHandle" ∧ (parseMethodDescriptor yX1_reads.desc).map (fun d => d.parameters.length) = some 0 := by decide +kernel
theorem nd_X6_init : yX6_init.cls ≠ "java/lang/invoke/MethodHandle" ∧ yX6_init.cls ≠ "java/lang/invoke/VarHandle" ∧ (parseMethodDescriptor yX6_init.desc).map (fun d => d.parameters.length) = some 1 := by decide +kernel
theorem nd_X2_clear : yX2_clear.cls ≠ "java/lang/invoke/MethodHandle" ∧ yX2_clear.cls ≠ "java/lang/invoke/VarHandle" ∧ (parseMethodDescriptor yX2_clear.desc).map (fun d => d.parameters.length) = some 0 := by decide +kernel
theorem nd_X2_many : yX2_many.cls ≠ "java/lang/invoke/MethodHandle" ∧ yX2_many.cls ≠ "java/lang/invoke/VarHandle" ∧ (parseMethodDescriptor yX2_many.desc).map (fun d => d.parameters.length) = some 0 := by decide +kernel
theorem nd_X2_part : yX2_part.cls ≠ "java/lang/invoke/MethodHandle" ∧ yX2_part.cls ≠ "java/lang/invoke/VarHandle" ∧ (parseMethodDescriptor yX2_part.desc).map (fun d => d.parameters.length) = some 1 := by decide +kernel
theorem nd_J4_init : yJ4_init.cls ≠ "java/lang/invoke/MethodHandle" ∧ yJ4_init.cls ≠ "java/lang/invoke/VarHandle" ∧ (parseMethodDescriptor yJ4_init.desc).map (fun d => d.parameters.length) = some 4 := by decide +kernel
theorem nd_J5_indexOf : yJ5_indexOf.cls ≠ "java/lang/invoke/MethodHandle" ∧ yJ5_indexOf.cls ≠ "java/lang/invoke/VarHandle" ∧ (parseMethodDescriptor yJ5_indexOf.desc).map (fun d => d.parameters.length) = some 1 := by decide +kernel
theorem ndV_J5_indexOf : yJ5_indexOf.cls = ((RJ5, TJ5, 2) : vw_C).1 ∧ yJ5_indexOf.cls ≠ "java/lang/invoke/MethodHandle" ∧ yJ5_indexOf.cls ≠ "java/lang/invoke/VarHandle" ∧ (parseMethodDescriptor yJ5_indexOf.desc).map (fun d => d.parameters.length) = some 1 := ⟨rfl, nd_J5_indexOf⟩
theorem nd_J2_init : yJ2_init.cls ≠ "java/lang/invoke/MethodHandle" ∧ yJ2_init.cls ≠ "java/lang/invoke/VarHandle" ∧ (parseMethodDescriptor yJ2_init.desc).map (fun d => d.parameters.length) = some 0 := by decide +kernel
theorem nd_J2_add : yJ2_add.cls ≠ "java/lang/invoke/MethodHandle" ∧ yJ2_add.cls ≠ "java/lang/invoke/VarHandle" ∧ (parseMethodDescriptor yJ2_add.desc).map (fun d => d.parameters.length) = some 1 := by decide +kernel
theorem ndV_J2_add : yJ2_add.cls = ((RJ2, TJ2, 3) : vw_C).1 ∧ yJ2_add.cls ≠ "java/lang/invoke/MethodHandle" ∧ yJ2_add.cls ≠ "java/lang/invoke/VarHandle" ∧ (parseMethodDescriptor yJ2_add.desc).map (fun d => d.parameters.length) = some 1 := ⟨rfl, nd_J2_add⟩
theorem nd_J2_clear : yJ2_clear.cls ≠ "java/lang/invoke/MethodHandle" ∧ yJ2_clear.cls ≠ "java/lang/invoke/VarHandle" ∧ (parseMethodDescriptor yJ2_clear.desc).map (fun d => d.parameters.length) = some 0 := by decide +kernel
theorem ndV_J2_clear : yJ2_clear.cls = ((RJ2, TJ2, 3) : vw_C).1 ∧ yJ2_clear.cls ≠ "java/lang/invoke/MethodHandle" ∧ yJ2_clear.cls ≠ "java/lang/invoke/VarHandle" ∧ (parseMethodDescriptor yJ2_clear.desc).map (fun d => d.parameters.length) = some 0 := ⟨rfl, nd_J2_clear⟩
theorem nd_J2_size : yJ2_size.cls ≠ "java/lang/invoke/MethodHandle" ∧ yJ2_size.cls ≠ "java/lang/invoke/VarHandle" ∧ (parseMethodDescriptor yJ2_size.desc).map (fun d => d.parameters.length) = some 0 := by decide +kernel
theorem ndV_J2_size : yJ2_size.cls = ((RJ2, TJ2, 3) : vw_C).1 ∧ yJ2_size.cls ≠ "java/lang/invoke/MethodHandle" ∧ yJ2_size.cls ≠ "java/lang/invoke/VarHandle" ∧ (parseMethodDescriptor yJ2_size.desc).map (fun d => d.parameters.length) = some 0 := ⟨rfl, nd_J2_size⟩
abbrev d_X0_in : Nat := 1
def wp_X0_in_18 (S : jS) (t0 : Int32) (K : jS → Int32 → Prop) : Prop :=
  (((t0 : Int32) = 0 ∨ (t0 : Int32) = 1) ∧ K S t0)
def wp_X0_in_17 (S : jS) (K : jS → Int32 → Prop) : Prop :=
  wp_X0_in_18 S 0 K
def wp_X0_in (S : jS) (x0 : Int64) (x2 : Int64) (x4 : Int64) (K : jS → Int32 → Prop) : Prop :=
  (((lg_cmp x0 x2) < 0) → wp_X0_in_17 S K) ∧ ((¬ ((lg_cmp x0 x2) < 0)) → ((0 < (lg_cmp x0 x4)) → wp_X0_in_17 S K) ∧ ((¬ (0 < (lg_cmp x0 x4))) → wp_X0_in_18 S 1 K))
abbrev d_X12_gives : Nat := 1
def wp_X12_gives (S : jS) (x0 : Nat) (K : jS → Int32 → Prop) : Prop :=
  K S 3
abbrev d_X9_gives : Nat := 2
def wp_X9_gives (S : jS) (x0 : Nat) (K : jS → Int32 → Prop) : Prop :=
  jany S x0 ∧ wp_X12_gives S x0 (fun S1 r2 => K S1 (r2 + 1))
abbrev d_X10_gives : Nat := 3
def wp_X10_gives (S : jS) (x0 : Nat) (K : jS → Int32 → Prop) : Prop :=
  jany S x0 ∧ wp_X9_gives S x0 (fun S1 r2 => K S1 (r2 - 1))
abbrev d_X12_lasts : Nat := 1
def wp_X12_lasts (S : jS) (x0 : Nat) (K : jS → Int32 → Prop) : Prop :=
  K S 3
abbrev d_X9_lasts : Nat := 2
def wp_X9_lasts (S : jS) (x0 : Nat) (K : jS → Int32 → Prop) : Prop :=
  jany S x0 ∧ wp_X12_lasts S x0 (fun S1 r2 => K S1 (r2 + 2))
abbrev d_X10_lasts : Nat := 3
def wp_X10_lasts (S : jS) (x0 : Nat) (K : jS → Int32 → Prop) : Prop :=
  jany S x0 ∧ wp_X9_lasts S x0 (fun S1 r2 => K S1 (r2 + 4))
abbrev d_X12_number : Nat := 1
def wp_X12_number (S : jS) (x0 : Nat) (K : jS → Int32 → Prop) : Prop :=
  K S 0
abbrev d_X9_number : Nat := 2
def wp_X9_number (S : jS) (x0 : Nat) (K : jS → Int32 → Prop) : Prop :=
  jany S x0 ∧ wp_X12_number S x0 (fun S1 r2 => K S1 (r2 + 1))
abbrev d_X10_number : Nat := 3
def wp_X10_number (S : jS) (x0 : Nat) (K : jS → Int32 → Prop) : Prop :=
  jany S x0 ∧ wp_X9_number S x0 (fun S1 r2 => K S1 (r2 + 1))
abbrev d_X13_drinks : Nat := 1
def wp_X13_drinks (S : jS) (x0 : Nat) (K : jS → Int32 → Prop) : Prop :=
  K S 3
abbrev d_X11_drinks : Nat := 2
def wp_X11_drinks (S : jS) (x0 : Nat) (K : jS → Int32 → Prop) : Prop :=
  jany S x0 ∧ wp_X13_drinks S x0 (fun S1 r2 => K S1 (r2 + 1))
abbrev d_X13_needs : Nat := 1
def wp_X13_needs (S : jS) (x0 : Nat) (K : jS → Int32 → Prop) : Prop :=
  K S 1
abbrev d_X11_needs : Nat := 2
def wp_X11_needs (S : jS) (x0 : Nat) (K : jS → Int32 → Prop) : Prop :=
  jany S x0 ∧ wp_X13_needs S x0 (fun S1 r2 => K S1 (3 * r2))
abbrev d_X13_number : Nat := 1
def wp_X13_number (S : jS) (x0 : Nat) (K : jS → Int32 → Prop) : Prop :=
  K S 0
abbrev d_X11_number : Nat := 2
def wp_X11_number (S : jS) (x0 : Nat) (K : jS → Int32 → Prop) : Prop :=
  jany S x0 ∧ wp_X13_number S x0 (fun S1 r2 => K S1 (r2 + 1))
abbrev d_X1_init : Nat := 1
def wp_X1_init (S : jS) (x0 : Nat) (K : jS → Unit → Prop) : Prop :=
  jnewa 1 S 31 (fun S1 a2 => jpr [1, 2] 0 S1 x0 (some a2) (fun S3 => K S3 ()))
abbrev d_X1_length : Nat := 1
def wp_X1_length (S : jS) (x0 : Nat) (K : jS → Int32 → Prop) : Prop :=
  jgi [1, 2] 1 S x0 (fun v1 => K S v1)
abbrev d_X3_many : Nat := 2
def wp_X3_many (S : jS) (x0 : Nat) (K : jS → Int32 → Prop) : Prop :=
  jgr [2] 5 S x0 (fun v1 => jis 3 S v1 ∧ wp_J2_size S v1 (fun S2 r3 => K S2 r3))
abbrev d_X7_init : Nat := 1
def wp_X7_init (S : jS) (x0 : Nat) (x1 : Int32) (x2 : Nat) (x3 : Int32) (K : jS → Unit → Prop) : Prop :=
  jpi [4] 0 S x0 x1 (fun S1 => jpr [4] 1 S1 x0 (some x2) (fun S2 => jpi [4] 2 S2 x0 x3 (fun S3 => K S3 ())))
abbrev d_X6_init : Nat := 3
def wp_X6_init (S : jS) (x0 : Nat) (x1 : Int32) (K : jS → Unit → Prop) : Prop :=
  wp_J4_init S x0 0 0 (fun S1 _ => jpi [7] 6 S1 x0 x1 (fun S2 => K S2 ()))
abbrev d_X1_passes : Nat := 5
def wp_X1_passes_32 (S : jS) (t0 : Int32) (x0 : Nat) (K : jS → Int32 → Prop) (KX : jS → Nat → Nat → Prop) : Prop :=
  ((t0 = (-1)) → jnew 7 7 tyX6 S (fun S1 a2 => jgi [1, 2] 2 S1 x0 (fun v3 => wp_X6_init S1 a2 v3 (fun S4 _ => jis 7 S4 a2 ∧ KX S4 0 a2)))) ∧ ((¬ (t0 = (-1))) → jgi [1, 2] 2 S x0 (fun v5 => jpi [1, 2] 2 S x0 (v5 + 1) (fun S6 => K S6 t0)))
def wp_X1_passes (S : jS) (x0 : Nat) (x1 : Nat) (K : jS → Int32 → Prop) (KX : jS → Nat → Nat → Prop) : Prop :=
  jgi [1, 2] 2 S x0 (fun v1 => jgi [1, 2] 1 S x0 (fun v2 => ((v1 = v2) → wp_X1_passes_32 S (-1) x0 K KX) ∧ ((¬ (v1 = v2)) → jgr [1, 2] 0 S x0 (fun v3 => jgi [1, 2] 2 S x0 (fun v4 => jal 1 S v3 v4 (fun v5 => jis 14 S x1 ∧ wp_J5_indexOf S x1 (v5 &&& 255) (fun S6 r7 => wp_X1_passes_32 S6 r7 x0 K KX)))))))
def wpD_Company_passes_2 (S : jS) (a : Nat) (x0 : Nat) (K : jS → Int32 → Prop) (KX : jS → Nat → Nat → Prop) : Prop := (jis 2 S a ∧ wp_X1_passes S a x0 K KX)
abbrev d_D_Company_passes_2 : Nat := 5
abbrev d_X3_part : Nat := 6
def wp_X3_part (S : jS) (x0 : Nat) (x1 : Int32) (K : jS → Unit → Prop) (KX : jS → Nat → Nat → Prop) : Prop :=
  jgs 1 S (fun v1 => jgs 24 S (fun v2 => wpD_Company_passes_2 S x0 v2 (fun S3 r4 => jarn 11 S3 v1 r4 (fun v5 => jgr [2] 5 S3 x0 (fun v6 => jnew 4 8 tyX7 S3 (fun S7 a8 => jgs 25 S7 (fun v9 => wpD_Company_passes_2 S7 x0 v9 (fun S10 r11 => wp_X7_init S10 a8 x1 v5 (1 + r11) (fun S12 _ => jis 3 S12 v6 ∧ wp_J2_add S12 v6 a8 (fun S13 r14 => K S13 ()))) (fun S15 e16 q17 => (e16 = 0 ∧ KX S15 0 q17))))))) (fun S18 e19 q20 => (e19 = 0 ∧ KX S18 0 q20))))
abbrev d_X2_many : Nat := 2
def wp_X2_many (S : jS) (x0 : Nat) (K : jS → Int32 → Prop) : Prop :=
  jgr [1] 5 S x0 (fun v1 => jis 3 S v1 ∧ wp_J2_size S v1 (fun S2 r3 => K S2 r3))
abbrev d_X8_init : Nat := 1
def wp_X8_init (S : jS) (x0 : Nat) (x1 : Int32) (x2 : Nat) (x3 : Int32) (K : jS → Unit → Prop) : Prop :=
  jpi [5] 0 S x0 x1 (fun S1 => jpr [5] 1 S1 x0 (some x2) (fun S2 => jpi [5] 2 S2 x0 x3 (fun S3 => K S3 ())))
def wpD_Woodpile_passes_1 (S : jS) (a : Nat) (x0 : Nat) (K : jS → Int32 → Prop) (KX : jS → Nat → Nat → Prop) : Prop := (jis 1 S a ∧ wp_X1_passes S a x0 K KX)
abbrev d_D_Woodpile_passes_1 : Nat := 5
abbrev d_X2_part : Nat := 6
def wp_X2_part (S : jS) (x0 : Nat) (x1 : Int32) (K : jS → Unit → Prop) (KX : jS → Nat → Nat → Prop) : Prop :=
  jgs 0 S (fun v1 => jgs 22 S (fun v2 => wpD_Woodpile_passes_1 S x0 v2 (fun S3 r4 => jarn 10 S3 v1 r4 (fun v5 => jgr [1] 5 S3 x0 (fun v6 => jnew 5 3 tyX8 S3 (fun S7 a8 => jgs 23 S7 (fun v9 => wpD_Woodpile_passes_1 S7 x0 v9 (fun S10 r11 => wp_X8_init S10 a8 x1 v5 (1 + r11) (fun S12 _ => jis 3 S12 v6 ∧ wp_J2_add S12 v6 a8 (fun S13 r14 => K S13 ()))) (fun S15 e16 q17 => (e16 = 0 ∧ KX S15 0 q17))))))) (fun S18 e19 q20 => (e19 = 0 ∧ KX S18 0 q20))))
def wpD_Text_many_1_2 (S : jS) (a : Nat)  (K : jS → Int32 → Prop) : Prop := (jis 1 S a ∧ wp_X2_many S a  K) ∨ (jis 2 S a ∧ wp_X3_many S a  K)
abbrev d_D_Text_many_1_2 : Nat := 2
def wpD_Text_passes_1_2 (S : jS) (a : Nat) (x0 : Nat) (K : jS → Int32 → Prop) (KX : jS → Nat → Nat → Prop) : Prop := (jis 1 S a ∧ wp_X1_passes S a x0 K KX) ∨ (jis 2 S a ∧ wp_X1_passes S a x0 K KX)
abbrev d_D_Text_passes_1_2 : Nat := 5
def wpD_Text_part_1_2 (S : jS) (a : Nat) (x0 : Int32) (K : jS → Unit → Prop) (KX : jS → Nat → Nat → Prop) : Prop := (jis 1 S a ∧ wp_X2_part S a x0 K KX) ∨ (jis 2 S a ∧ wp_X3_part S a x0 K KX)
abbrev d_D_Text_part_1_2 : Nat := 6
abbrev d_X1_next : Nat := 7
def wp_X1_next (S : jS) (x0 : Nat) (K : jS → Unit → Prop) (KX : jS → Nat → Nat → Prop) : Prop :=
  wpD_Text_many_1_2 S x0 (fun S1 r2 => ((r2 = 8) → jnew 7 7 tyX6 S1 (fun S3 a4 => jgi [1, 2] 2 S3 x0 (fun v5 => wp_X6_init S3 a4 v5 (fun S6 _ => jis 7 S6 a4 ∧ KX S6 0 a4)))) ∧ ((¬ (r2 = 8)) → jgs 20 S1 (fun v7 => wpD_Text_passes_1_2 S1 x0 v7 (fun S8 r9 => wpD_Text_part_1_2 S8 x0 r9 (fun S10 _ => K S10 ()) (fun S11 e12 q13 => (e12 = 0 ∧ KX S11 0 q13))) (fun S14 e15 q16 => (e15 = 0 ∧ KX S14 0 q16)))))
abbrev d_X3_clear : Nat := 2
def wp_X3_clear (S : jS) (x0 : Nat) (K : jS → Unit → Prop) : Prop :=
  jgr [2] 5 S x0 (fun v1 => jis 3 S v1 ∧ wp_J2_clear S v1 (fun S2 _ => K S2 ()))
abbrev d_X2_clear : Nat := 2
def wp_X2_clear (S : jS) (x0 : Nat) (K : jS → Unit → Prop) : Prop :=
  jgr [1] 5 S x0 (fun v1 => jis 3 S v1 ∧ wp_J2_clear S v1 (fun S2 _ => K S2 ()))
def wpD_Text_clear_1_2 (S : jS) (a : Nat)  (K : jS → Unit → Prop) : Prop := (jis 1 S a ∧ wp_X2_clear S a  K) ∨ (jis 2 S a ∧ wp_X3_clear S a  K)
abbrev d_D_Text_clear_1_2 : Nat := 2
def wpD_Text_next_1_2 (S : jS) (a : Nat)  (K : jS → Unit → Prop) (KX : jS → Nat → Nat → Prop) : Prop := (jis 1 S a ∧ wp_X1_next S a  K KX) ∨ (jis 2 S a ∧ wp_X1_next S a  K KX)
abbrev d_D_Text_next_1_2 : Nat := 7
abbrev d_X1_reads : Nat := 8
def wp_X1_reads_47 (S : jS) (t0 : Nat) (x0 : Nat) (K : jS → Int32 → Prop) : Prop :=
  wpD_Text_clear_1_2 S x0 (fun S1 _ => jgi [7] 6 S1 t0 (fun v2 => K S1 v2))
def wp_X1_reads_38 (S : jS) (x0 : Nat) (Kc20 : jS → Prop) (K : jS → Int32 → Prop) : Prop :=
  wpD_Text_next_1_2 S x0 (fun S1 _ => Kc20 S1) (fun S2 e3 q4 => (e3 = 0 ∧ wp_X1_reads_47 S2 q4 x0 K))
def wp_X1_reads_20 (S : jS) (x0 : Nat) (Kc20 : jS → Prop) (K : jS → Int32 → Prop) : Prop :=
  jgi [1, 2] 2 S x0 (fun v1 => jgi [1, 2] 1 S x0 (fun v2 => ((v2 ≤ v1) → K S (-1)) ∧ ((¬ (v2 ≤ v1)) → jgs 21 S (fun v3 => wpD_Text_passes_1_2 S x0 v3 (fun S4 r5 => wp_X1_reads_38 S4 x0 Kc20 K) (fun S6 e7 q8 => (e7 = 0 ∧ wp_X1_reads_47 S6 q8 x0 K))))))
def wp_X1_reads_20_L (x0 : Nat) (K : jS → Int32 → Prop) : (jS) → ((jS) → Prop) → Prop := fun z Kc20 => wp_X1_reads_20 z x0 Kc20 K
def wp_X1_reads (S : jS) (x0 : Nat) (K : jS → Int32 → Prop) : Prop :=
  jpi [1, 2] 2 S x0 0 (fun S1 => wpD_Text_clear_1_2 S1 x0 (fun S2 _ => jgi [1, 2] 1 S2 x0 (fun v3 => ((v3 ≤ 0) → ∃ n : Nat, jlp n (wp_X1_reads_20_L x0 K) S2) ∧ ((¬ (v3 ≤ 0)) → wpD_Text_next_1_2 S2 x0 (fun S4 _ => ∃ n : Nat, jlp n (wp_X1_reads_20_L x0 K) S4) (fun S5 e6 q7 => (e6 = 0 ∧ wp_X1_reads_47 S5 q7 x0 K))))))
def wpD_Text_reads_1_2 (S : jS) (a : Nat)  (K : jS → Int32 → Prop) : Prop := (jis 1 S a ∧ wp_X1_reads S a  K) ∨ (jis 2 S a ∧ wp_X1_reads S a  K)
abbrev d_D_Text_reads_1_2 : Nat := 8
abbrev d_X1_read : Nat := 9
def wp_X1_read_15 (S : jS) (x0 : Nat) (K : jS → Int32 → Prop) : Prop :=
  jpz [1, 2] 3 S x0 1 (fun S1 => jgi [1, 2] 4 S1 x0 (fun v2 => K S1 v2))
def wp_X1_read (S : jS) (x0 : Nat) (K : jS → Int32 → Prop) : Prop :=
  jgi [1, 2] 3 S x0 (fun v1 => ((v1 = 0) → wpD_Text_reads_1_2 S x0 (fun S2 r3 => jpi [1, 2] 4 S2 x0 r3 (fun S4 => wp_X1_read_15 S4 x0 K))) ∧ ((¬ (v1 = 0)) → wp_X1_read_15 S x0 K))
abbrev d_X1_type : Nat := 1
def wp_X1_type (S : jS) (x0 : Nat) (x1 : Int32) (K : jS → Int32 → Prop) : Prop :=
  jgi [1, 2] 1 S x0 (fun v1 => jgr [1, 2] 0 S x0 (fun v2 => jlen S v2 (fun v3 => ((v1 = v3) → K S (-4)) ∧ ((¬ (v1 = v3)) → jgr [1, 2] 0 S x0 (fun v4 => jgi [1, 2] 1 S x0 (fun v5 => jas 1 S v4 v5 ((x1 : Int32).toInt8.toInt32) (fun S6 => jgi [1, 2] 1 S6 x0 (fun v7 => jpi [1, 2] 1 S6 x0 (v7 + 1) (fun S8 => jpz [1, 2] 3 S8 x0 0 (fun S9 => jgi [1, 2] 1 S9 x0 (fun v10 => K S9 v10)))))))))))
abbrev d_X1_undo : Nat := 1
def wp_X1_undo (S : jS) (x0 : Nat) (K : jS → Int32 → Prop) : Prop :=
  jgi [1, 2] 1 S x0 (fun v1 => ((v1 = 0) → K S (-3)) ∧ ((¬ (v1 = 0)) → jgi [1, 2] 1 S x0 (fun v2 => jpi [1, 2] 1 S x0 (v2 - 1) (fun S3 => jpz [1, 2] 3 S3 x0 0 (fun S4 => jgi [1, 2] 1 S4 x0 (fun v5 => K S4 v5))))))
abbrev d_X1_wipe : Nat := 1
def wp_X1_wipe (S : jS) (x0 : Nat) (K : jS → Int32 → Prop) : Prop :=
  jgi [1, 2] 1 S x0 (fun v1 => jpi [1, 2] 1 S x0 0 (fun S2 => jpz [1, 2] 3 S2 x0 0 (fun S3 => K S3 v1)))
abbrev d_X2_init : Nat := 4
def wp_X2_init (S : jS) (x0 : Nat) (K : jS → Unit → Prop) : Prop :=
  wp_X1_init S x0 (fun S1 _ => jnew 3 3 tyJ2 S1 (fun S2 a3 => wp_J2_init S2 a3 (fun S4 _ => jpr [1] 5 S4 x0 (some a3) (fun S5 => K S5 ()))))
abbrev d_X3_init : Nat := 4
def wp_X3_init (S : jS) (x0 : Nat) (K : jS → Unit → Prop) : Prop :=
  wp_X1_init S x0 (fun S1 _ => jnew 3 3 tyJ2 S1 (fun S2 a3 => wp_J2_init S2 a3 (fun S4 _ => jpr [2] 5 S4 x0 (some a3) (fun S5 => K S5 ()))))
abbrev d_X4_init : Nat := 1
def wp_X4_init (S : jS) (x0 : Nat) (K : jS → Unit → Prop) : Prop :=
  K S ()
abbrev d_X7_begins : Nat := 1
def wp_X7_begins (S : jS) (x0 : Nat) (K : jS → Unit → Prop) : Prop :=
  jpi [4] 3 S x0 0 (fun S1 => jpi [4] 4 S1 x0 0 (fun S2 => jpi [4] 5 S2 x0 0 (fun S3 => jpi [4] 6 S3 x0 0 (fun S4 => jpi [4] 7 S4 x0 0 (fun S5 => K S5 ())))))
def wpD_Taste_number_12_13 (S : jS) (a : Nat)  (K : jS → Int32 → Prop) : Prop := (jis 12 S a ∧ wp_X13_number S a  K) ∨ (jis 13 S a ∧ wp_X11_number S a  K)
abbrev d_D_Taste_number_12_13 : Nat := 2
abbrev d_X7_by : Nat := 3
def wp_X7_by_30 (S : jS) (t0 : Int32) (K : jS → Int32 → Prop) : Prop :=
  K S t0
def wp_X7_by (S : jS) (x0 : Nat) (x1 : Int32) (K : jS → Int32 → Prop) : Prop :=
  ((x1 = 0) → jgi [4] 0 S x0 (fun v1 => wp_X7_by_30 S v1 K)) ∧ ((¬ (x1 = 0)) → ((x1 = 1) → jgr [4] 1 S x0 (fun v2 => wpD_Taste_number_12_13 S v2 (fun S3 r4 => wp_X7_by_30 S3 r4 K))) ∧ ((¬ (x1 = 1)) → jgi [4] 2 S x0 (fun v5 => wp_X7_by_30 S v5 K)))
abbrev d_X7_comes : Nat := 1
def wp_X7_comes_63 (S : jS) (x3 : Int32) (K : jS → Int32 → Prop) : Prop :=
  (((x3 : Int32) = 0 ∨ (x3 : Int32) = 1) ∧ K S x3)
def wp_X7_comes_48 (S : jS) (t0 : Int32) (x0 : Nat) (K : jS → Int32 → Prop) : Prop :=
  ((t0 = 0) → wp_X7_comes_63 S t0 K) ∧ ((¬ (t0 = 0)) → jpi [4] 3 S x0 1 (fun S1 => jpi [4] 6 S1 x0 0 (fun S2 => wp_X7_comes_63 S2 t0 K)))
def wp_X7_comes_24 (S : jS) (x0 : Nat) (K : jS → Int32 → Prop) : Prop :=
  wp_X7_comes_48 S 0 x0 K
def wp_X7_comes_47 (S : jS) (x0 : Nat) (K : jS → Int32 → Prop) : Prop :=
  wp_X7_comes_48 S 0 x0 K
def wp_X7_comes (S : jS) (x0 : Nat) (x1 : Int32) (x2 : Int32) (K : jS → Int32 → Prop) : Prop :=
  ((x2 = 0) → jgi [4] 3 S x0 (fun v1 => ((v1 = 0) → jgi [4] 0 S x0 (fun v2 => ((v2 = x1) → wp_X7_comes_48 S 1 x0 K) ∧ ((¬ (v2 = x1)) → wp_X7_comes_47 S x0 K))) ∧ ((¬ (v1 = 0)) → wp_X7_comes_47 S x0 K))) ∧ ((¬ (x2 = 0)) → jgi [4] 3 S x0 (fun v5 => ((v5 = 2) → jgi [4] 5 S x0 (fun v6 => ((v6 = x1) → wp_X7_comes_48 S 1 x0 K) ∧ ((¬ (v6 = x1)) → wp_X7_comes_24 S x0 K))) ∧ ((¬ (v5 = 2)) → wp_X7_comes_24 S x0 K)))
def wpD_Taste_drinks_12_13 (S : jS) (a : Nat)  (K : jS → Int32 → Prop) : Prop := (jis 12 S a ∧ wp_X13_drinks S a  K) ∨ (jis 13 S a ∧ wp_X11_drinks S a  K)
abbrev d_D_Taste_drinks_12_13 : Nat := 2
abbrev d_X7_served : Nat := 3
def wp_X7_served_27 (S : jS) (t0 : Nat) (t1 : Int32) (x0 : Nat) (x1 : Int32) (K : jS → Unit → Prop) : Prop :=
  jpi [4] 3 S t0 t1 (fun S1 => jgr [4] 1 S1 x0 (fun v2 => wpD_Taste_drinks_12_13 S1 v2 (fun S3 r4 => jpi [4] 5 S3 x0 (x1 + r4) (fun S5 => K S5 ()))))
def wp_X7_served (S : jS) (x0 : Nat) (x1 : Int32) (K : jS → Unit → Prop) : Prop :=
  jgi [4] 4 S x0 (fun v1 => jpi [4] 4 S x0 (v1 + 1) (fun S2 => jgi [4] 4 S2 x0 (fun v3 => jgi [4] 2 S2 x0 (fun v4 => ((v3 = v4) → wp_X7_served_27 S2 x0 3 x0 x1 K) ∧ ((¬ (v3 = v4)) → wp_X7_served_27 S2 x0 2 x0 x1 K)))))
def wpD_Fuel_number_9_10_11 (S : jS) (a : Nat)  (K : jS → Int32 → Prop) : Prop := (jis 9 S a ∧ wp_X12_number S a  K) ∨ (jis 10 S a ∧ wp_X9_number S a  K) ∨ (jis 11 S a ∧ wp_X10_number S a  K)
abbrev d_D_Fuel_number_9_10_11 : Nat := 3
abbrev d_X8_by : Nat := 4
def wp_X8_by_30 (S : jS) (t0 : Int32) (K : jS → Int32 → Prop) : Prop :=
  K S t0
def wp_X8_by (S : jS) (x0 : Nat) (x1 : Int32) (K : jS → Int32 → Prop) : Prop :=
  ((x1 = 0) → jgi [5] 0 S x0 (fun v1 => wp_X8_by_30 S v1 K)) ∧ ((¬ (x1 = 0)) → ((x1 = 1) → jgr [5] 1 S x0 (fun v2 => wpD_Fuel_number_9_10_11 S v2 (fun S3 r4 => wp_X8_by_30 S3 r4 K))) ∧ ((¬ (x1 = 1)) → jgi [5] 2 S x0 (fun v5 => wp_X8_by_30 S v5 K)))
def wpD_Fuel_lasts_9_10_11 (S : jS) (a : Nat)  (K : jS → Int32 → Prop) : Prop := (jis 9 S a ∧ wp_X12_lasts S a  K) ∨ (jis 10 S a ∧ wp_X9_lasts S a  K) ∨ (jis 11 S a ∧ wp_X10_lasts S a  K)
abbrev d_D_Fuel_lasts_9_10_11 : Nat := 3
def wpD_Fuel_gives_9_10_11 (S : jS) (a : Nat)  (K : jS → Int32 → Prop) : Prop := (jis 9 S a ∧ wp_X12_gives S a  K) ∨ (jis 10 S a ∧ wp_X9_gives S a  K) ∨ (jis 11 S a ∧ wp_X10_gives S a  K)
abbrev d_D_Fuel_gives_9_10_11 : Nat := 3
abbrev d_X8_fire : Nat := 4
def wp_X8_fire_40 (S : jS) (t0 : Int32) (K : jS → Int32 → Prop) : Prop :=
  K S t0
def wp_X8_fire (S : jS) (x0 : Nat) (x1 : Int32) (K : jS → Int32 → Prop) : Prop :=
  jgi [5] 0 S x0 (fun v1 => jgr [5] 1 S x0 (fun v2 => wpD_Fuel_lasts_9_10_11 S v2 (fun S3 r4 => wp_X0_in S3 (((x1 - v1) : Int32).toInt64) 0 (((r4 - 1) : Int32).toInt64) (fun S5 r6 => ((r6 = 0) → wp_X8_fire_40 S5 0 K) ∧ ((¬ (r6 = 0)) → jgi [5] 2 S5 x0 (fun v7 => jgr [5] 1 S5 x0 (fun v8 => wpD_Fuel_gives_9_10_11 S5 v8 (fun S9 r10 => wp_X8_fire_40 S9 (v7 * r10) K))))))))
theorem wk_X0_in_18 {X : jX} {G : jG} {K : jS → Int32 → Prop} (C : jC (X, G, 6, jA X G tvi K) d_X0_in cX0_in "Samovar" (some .boolean) yX0_in) {S : jS} {t0 : Int32}  (h : wp_X0_in_18 S t0 K) : jJ (X, G, 6, jA X G tvi K) S [] 18 [.int t0] := by
  unfold wp_X0_in_18 at h
  exact jr_zreturn C dX0_in_18 h
theorem wk_X0_in_17 {X : jX} {G : jG} {K : jS → Int32 → Prop} (C : jC (X, G, 6, jA X G tvi K) d_X0_in cX0_in "Samovar" (some .boolean) yX0_in) {S : jS}   (h : wp_X0_in_17 S K) : jJ (X, G, 6, jA X G tvi K) S [] 17 [] := by
  unfold wp_X0_in_17 at h
  refine jr_iconst (v := 0) C 18 rfl dX0_in_17 (by decide) ?_
  exact (wk_X0_in_18 C  h)
theorem wk_X0_in_0 {X : jX} {G : jG} {K : jS → Int32 → Prop} (C : jC (X, G, 6, jA X G tvi K) d_X0_in cX0_in "Samovar" (some .boolean) yX0_in) {S : jS} {x0 : Int64} {x2 : Int64} {x4 : Int64}  (h : wp_X0_in S x0 x2 x4 K) : jJ (X, G, 6, jA X G tvi K) S [(0, .long x0), (2, .long x2), (4, .long x4)] 0 [] := by
  unfold wp_X0_in at h
  refine jr_lload_n C 1 rfl dX0_in_0 rfl 0 rfl ?_
  refine jr_lload_n C 2 rfl dX0_in_1 rfl 1 rfl ?_
  refine jr_lcmp C 3 rfl dX0_in_2 ?_
  refine jr_if_lt C 17 6 rfl dX0_in_3 (by decide) (fun c2 => ?_) (fun c2 => ?_)
  · have h := h.1 c2
    exact jr_sub [] rfl (wk_X0_in_17 C  h)
  · have h := h.2 c2
    refine jr_lload_n C 7 rfl dX0_in_6 rfl 0 rfl ?_
    refine jr_lload C 9 rfl dX0_in_7 2 rfl ?_
    refine jr_lcmp C 10 rfl dX0_in_9 ?_
    refine jr_if_gt C 17 13 rfl dX0_in_10 (by decide) (fun c1 => ?_) (fun c1 => ?_)
    · have h := h.1 c1
      exact jr_sub [] rfl (wk_X0_in_17 C  h)
    · have h := h.2 c1
      refine jr_iconst (v := 1) C 14 rfl dX0_in_13 (by decide) ?_
      refine jr_goto C 18 dX0_in_14 (by decide) ?_
      exact jr_sub [] rfl (wk_X0_in_18 C  h)
theorem m_X0_in {l : Launch} (hl : l.stackTraces = false) {G : jG} {K : jS → Int32 → Prop} {S : jS} {x0 : Int64} {x2 : Int64} {x4 : Int64} (h : wp_X0_in S x0 x2 x4 K) : jMet l G d_X0_in yX0_in (ws_ yX0_in cX0_in 6 (some .boolean)) [.long x0, .long x2, .long x4] S tvi K :=
  jMet.of hl rfl (by decide) (Nat.le_of_ble_eq_true rfl) (fun X C => jr_sub [0, 1, 2] rfl (wk_X0_in_0 C h))
theorem wk_X12_gives_0 {X : jX} {G : jG} {K : jS → Int32 → Prop} (C : jC (X, G, 1, jA X G tvi K) d_X12_gives cX12_gives "Samovar$Fuel" (some .int) yX12_gives) {S : jS} {x0 : Nat}  (h : wp_X12_gives S x0 K) : jJ (X, G, 1, jA X G tvi K) S [(0, .ref x0)] 0 [] := by
  unfold wp_X12_gives at h
  refine jr_iconst (v := 3) C 1 rfl dX12_gives_0 (by decide) ?_
  exact jr_ireturn C dX12_gives_1 h
theorem m_X12_gives {l : Launch} (hl : l.stackTraces = false) {G : jG} {K : jS → Int32 → Prop} {S : jS} {x0 : Nat} (h : wp_X12_gives S x0 K) : jMet l G d_X12_gives yX12_gives (ws_ yX12_gives cX12_gives 1 (some .int)) [.ref x0] S tvi K :=
  jMet.of hl rfl (by decide) (Nat.le_of_ble_eq_true rfl) (fun X C => jr_sub [0] rfl (wk_X12_gives_0 C h))
theorem wk_X9_gives_0 {X : jX} {G : jG} {K : jS → Int32 → Prop} (C : jC (X, G, 1, jA X G tvi K) d_X9_gives cX9_gives "Samovar$Birch" (some .int) yX9_gives) {S : jS} {x0 : Nat}  (h : wp_X9_gives S x0 K) : jJ (X, G, 1, jA X G tvi K) S [(0, .ref x0)] 0 [] := by
  unfold wp_X9_gives at h
  refine jr_aload_n C 1 rfl dX9_gives_0 rfl 0 rfl ?_
  obtain ⟨⟨c_, V, hb⟩, h⟩ := h
  refine jr_callSUi (As := []) (st := []) C 4 rfl (m_X12_gives C.2.2.2.2.2.2.2.2.2.2.2.2.2.2.2 h) rfl hb (by decide) q883 q879 q729 q877 q1843 q884 (by decide) (by decide) nd_X12_gives.2.2 (Nat.le_of_ble_eq_true rfl) dX9_gives_1 (fun S1 r2 h => ?_)
  refine jr_iconst (v := 1) C 5 rfl dX9_gives_4 (by decide) ?_
  refine jr_iadd C 6 rfl dX9_gives_5 ?_
  exact jr_ireturn C dX9_gives_6 h
theorem m_X9_gives {l : Launch} (hl : l.stackTraces = false) {G : jG} {K : jS → Int32 → Prop} {S : jS} {x0 : Nat} (h : wp_X9_gives S x0 K) : jMet l G d_X9_gives yX9_gives (ws_ yX9_gives cX9_gives 1 (some .int)) [.ref x0] S tvi K :=
  jMet.of hl rfl (by decide) (Nat.le_of_ble_eq_true rfl) (fun X C => jr_sub [0] rfl (wk_X9_gives_0 C h))
theorem wk_X10_gives_0 {X : jX} {G : jG} {K : jS → Int32 → Prop} (C : jC (X, G, 1, jA X G tvi K) d_X10_gives cX10_gives "Samovar$Charcoal" (some .int) yX10_gives) {S : jS} {x0 : Nat}  (h : wp_X10_gives S x0 K) : jJ (X, G, 1, jA X G tvi K) S [(0, .ref x0)] 0 [] := by
  unfold wp_X10_gives at h
  refine jr_aload_n C 1 rfl dX10_gives_0 rfl 0 rfl ?_
  obtain ⟨⟨c_, V, hb⟩, h⟩ := h
  refine jr_callSUi (As := []) (st := []) C 4 rfl (m_X9_gives C.2.2.2.2.2.2.2.2.2.2.2.2.2.2.2 h) rfl hb (by decide) q888 q1840 q735 q881 q1842 q882 (by decide) (by decide) nd_X9_gives.2.2 (Nat.le_of_ble_eq_true rfl) dX10_gives_1 (fun S1 r2 h => ?_)
  refine jr_iconst (v := 1) C 5 rfl dX10_gives_4 (by decide) ?_
  refine jr_isub C 6 rfl dX10_gives_5 ?_
  exact jr_ireturn C dX10_gives_6 h
theorem m_X10_gives {l : Launch} (hl : l.stackTraces = false) {G : jG} {K : jS → Int32 → Prop} {S : jS} {x0 : Nat} (h : wp_X10_gives S x0 K) : jMet l G d_X10_gives yX10_gives (ws_ yX10_gives cX10_gives 1 (some .int)) [.ref x0] S tvi K :=
  jMet.of hl rfl (by decide) (Nat.le_of_ble_eq_true rfl) (fun X C => jr_sub [0] rfl (wk_X10_gives_0 C h))
theorem wk_X12_lasts_0 {X : jX} {G : jG} {K : jS → Int32 → Prop} (C : jC (X, G, 1, jA X G tvi K) d_X12_lasts cX12_lasts "Samovar$Fuel" (some .int) yX12_lasts) {S : jS} {x0 : Nat}  (h : wp_X12_lasts S x0 K) : jJ (X, G, 1, jA X G tvi K) S [(0, .ref x0)] 0 [] := by
  unfold wp_X12_lasts at h
  refine jr_iconst (v := 3) C 1 rfl dX12_lasts_0 (by decide) ?_
  exact jr_ireturn C dX12_lasts_1 h
theorem m_X12_lasts {l : Launch} (hl : l.stackTraces = false) {G : jG} {K : jS → Int32 → Prop} {S : jS} {x0 : Nat} (h : wp_X12_lasts S x0 K) : jMet l G d_X12_lasts yX12_lasts (ws_ yX12_lasts cX12_lasts 1 (some .int)) [.ref x0] S tvi K :=
  jMet.of hl rfl (by decide) (Nat.le_of_ble_eq_true rfl) (fun X C => jr_sub [0] rfl (wk_X12_lasts_0 C h))
theorem wk_X9_lasts_0 {X : jX} {G : jG} {K : jS → Int32 → Prop} (C : jC (X, G, 1, jA X G tvi K) d_X9_lasts cX9_lasts "Samovar$Birch" (some .int) yX9_lasts) {S : jS} {x0 : Nat}  (h : wp_X9_lasts S x0 K) : jJ (X, G, 1, jA X G tvi K) S [(0, .ref x0)] 0 [] := by
  unfold wp_X9_lasts at h
  refine jr_aload_n C 1 rfl dX9_lasts_0 rfl 0 rfl ?_
  obtain ⟨⟨c_, V, hb⟩, h⟩ := h
  refine jr_callSUi (As := []) (st := []) C 4 rfl (m_X12_lasts C.2.2.2.2.2.2.2.2.2.2.2.2.2.2.2 h) rfl hb (by decide) q869 q865 q729 q863 q1843 q870 (by decide) (by decide) nd_X12_lasts.2.2 (Nat.le_of_ble_eq_true rfl) dX9_lasts_1 (fun S1 r2 h => ?_)
  refine jr_iconst (v := 2) C 5 rfl dX9_lasts_4 (by decide) ?_
  refine jr_iadd C 6 rfl dX9_lasts_5 ?_
  exact jr_ireturn C dX9_lasts_6 h
theorem m_X9_lasts {l : Launch} (hl : l.stackTraces = false) {G : jG} {K : jS → Int32 → Prop} {S : jS} {x0 : Nat} (h : wp_X9_lasts S x0 K) : jMet l G d_X9_lasts yX9_lasts (ws_ yX9_lasts cX9_lasts 1 (some .int)) [.ref x0] S tvi K :=
  jMet.of hl rfl (by decide) (Nat.le_of_ble_eq_true rfl) (fun X C => jr_sub [0] rfl (wk_X9_lasts_0 C h))
theorem wk_X10_lasts_0 {X : jX} {G : jG} {K : jS → Int32 → Prop} (C : jC (X, G, 1, jA X G tvi K) d_X10_lasts cX10_lasts "Samovar$Charcoal" (some .int) yX10_lasts) {S : jS} {x0 : Nat}  (h : wp_X10_lasts S x0 K) : jJ (X, G, 1, jA X G tvi K) S [(0, .ref x0)] 0 [] := by
  unfold wp_X10_lasts at h
  refine jr_aload_n C 1 rfl dX10_lasts_0 rfl 0 rfl ?_
  obtain ⟨⟨c_, V, hb⟩, h⟩ := h
  refine jr_callSUi (As := []) (st := []) C 4 rfl (m_X9_lasts C.2.2.2.2.2.2.2.2.2.2.2.2.2.2.2 h) rfl hb (by decide) q874 q1839 q735 q867 q1842 q868 (by decide) (by decide) nd_X9_lasts.2.2 (Nat.le_of_ble_eq_true rfl) dX10_lasts_1 (fun S1 r2 h => ?_)
  refine jr_iconst (v := 4) C 5 rfl dX10_lasts_4 (by decide) ?_
  refine jr_iadd C 6 rfl dX10_lasts_5 ?_
  exact jr_ireturn C dX10_lasts_6 h
theorem m_X10_lasts {l : Launch} (hl : l.stackTraces = false) {G : jG} {K : jS → Int32 → Prop} {S : jS} {x0 : Nat} (h : wp_X10_lasts S x0 K) : jMet l G d_X10_lasts yX10_lasts (ws_ yX10_lasts cX10_lasts 1 (some .int)) [.ref x0] S tvi K :=
  jMet.of hl rfl (by decide) (Nat.le_of_ble_eq_true rfl) (fun X C => jr_sub [0] rfl (wk_X10_lasts_0 C h))
theorem wk_X12_number_0 {X : jX} {G : jG} {K : jS → Int32 → Prop} (C : jC (X, G, 1, jA X G tvi K) d_X12_number cX12_number "Samovar$Fuel" (some .int) yX12_number) {S : jS} {x0 : Nat}  (h : wp_X12_number S x0 K) : jJ (X, G, 1, jA X G tvi K) S [(0, .ref x0)] 0 [] := by
  unfold wp_X12_number at h
  refine jr_iconst (v := 0) C 1 rfl dX12_number_0 (by decide) ?_
  exact jr_ireturn C dX12_number_1 h
theorem m_X12_number {l : Launch} (hl : l.stackTraces = false) {G : jG} {K : jS → Int32 → Prop} {S : jS} {x0 : Nat} (h : wp_X12_number S x0 K) : jMet l G d_X12_number yX12_number (ws_ yX12_number cX12_number 1 (some .int)) [.ref x0] S tvi K :=
  jMet.of hl rfl (by decide) (Nat.le_of_ble_eq_true rfl) (fun X C => jr_sub [0] rfl (wk_X12_number_0 C h))
theorem wk_X9_number_0 {X : jX} {G : jG} {K : jS → Int32 → Prop} (C : jC (X, G, 1, jA X G tvi K) d_X9_number cX9_number "Samovar$Birch" (some .int) yX9_number) {S : jS} {x0 : Nat}  (h : wp_X9_number S x0 K) : jJ (X, G, 1, jA X G tvi K) S [(0, .ref x0)] 0 [] := by
  unfold wp_X9_number at h
  refine jr_aload_n C 1 rfl dX9_number_0 rfl 0 rfl ?_
  obtain ⟨⟨c_, V, hb⟩, h⟩ := h
  refine jr_callSUi (As := []) (st := []) C 4 rfl (m_X12_number C.2.2.2.2.2.2.2.2.2.2.2.2.2.2.2 h) rfl hb (by decide) q728 q724 q729 q722 q1843 q730 (by decide) (by decide) nd_X12_number.2.2 (Nat.le_of_ble_eq_true rfl) dX9_number_1 (fun S1 r2 h => ?_)
  refine jr_iconst (v := 1) C 5 rfl dX9_number_4 (by decide) ?_
  refine jr_iadd C 6 rfl dX9_number_5 ?_
  exact jr_ireturn C dX9_number_6 h
theorem m_X9_number {l : Launch} (hl : l.stackTraces = false) {G : jG} {K : jS → Int32 → Prop} {S : jS} {x0 : Nat} (h : wp_X9_number S x0 K) : jMet l G d_X9_number yX9_number (ws_ yX9_number cX9_number 1 (some .int)) [.ref x0] S tvi K :=
  jMet.of hl rfl (by decide) (Nat.le_of_ble_eq_true rfl) (fun X C => jr_sub [0] rfl (wk_X9_number_0 C h))
theorem wk_X10_number_0 {X : jX} {G : jG} {K : jS → Int32 → Prop} (C : jC (X, G, 1, jA X G tvi K) d_X10_number cX10_number "Samovar$Charcoal" (some .int) yX10_number) {S : jS} {x0 : Nat}  (h : wp_X10_number S x0 K) : jJ (X, G, 1, jA X G tvi K) S [(0, .ref x0)] 0 [] := by
  unfold wp_X10_number at h
  refine jr_aload_n C 1 rfl dX10_number_0 rfl 0 rfl ?_
  obtain ⟨⟨c_, V, hb⟩, h⟩ := h
  refine jr_callSUi (As := []) (st := []) C 4 rfl (m_X9_number C.2.2.2.2.2.2.2.2.2.2.2.2.2.2.2 h) rfl hb (by decide) q734 q1838 q735 q726 q1842 q727 (by decide) (by decide) nd_X9_number.2.2 (Nat.le_of_ble_eq_true rfl) dX10_number_1 (fun S1 r2 h => ?_)
  refine jr_iconst (v := 1) C 5 rfl dX10_number_4 (by decide) ?_
  refine jr_iadd C 6 rfl dX10_number_5 ?_
  exact jr_ireturn C dX10_number_6 h
theorem m_X10_number {l : Launch} (hl : l.stackTraces = false) {G : jG} {K : jS → Int32 → Prop} {S : jS} {x0 : Nat} (h : wp_X10_number S x0 K) : jMet l G d_X10_number yX10_number (ws_ yX10_number cX10_number 1 (some .int)) [.ref x0] S tvi K :=
  jMet.of hl rfl (by decide) (Nat.le_of_ble_eq_true rfl) (fun X C => jr_sub [0] rfl (wk_X10_number_0 C h))
theorem wk_X13_drinks_0 {X : jX} {G : jG} {K : jS → Int32 → Prop} (C : jC (X, G, 1, jA X G tvi K) d_X13_drinks cX13_drinks "Samovar$Taste" (some .int) yX13_drinks) {S : jS} {x0 : Nat}  (h : wp_X13_drinks S x0 K) : jJ (X, G, 1, jA X G tvi K) S [(0, .ref x0)] 0 [] := by
  unfold wp_X13_drinks at h
  refine jr_iconst (v := 3) C 1 rfl dX13_drinks_0 (by decide) ?_
  exact jr_ireturn C dX13_drinks_1 h
theorem m_X13_drinks {l : Launch} (hl : l.stackTraces = false) {G : jG} {K : jS → Int32 → Prop} {S : jS} {x0 : Nat} (h : wp_X13_drinks S x0 K) : jMet l G d_X13_drinks yX13_drinks (ws_ yX13_drinks cX13_drinks 1 (some .int)) [.ref x0] S tvi K :=
  jMet.of hl rfl (by decide) (Nat.le_of_ble_eq_true rfl) (fun X C => jr_sub [0] rfl (wk_X13_drinks_0 C h))
theorem wk_X11_drinks_0 {X : jX} {G : jG} {K : jS → Int32 → Prop} (C : jC (X, G, 1, jA X G tvi K) d_X11_drinks cX11_drinks "Samovar$Dark" (some .int) yX11_drinks) {S : jS} {x0 : Nat}  (h : wp_X11_drinks S x0 K) : jJ (X, G, 1, jA X G tvi K) S [(0, .ref x0)] 0 [] := by
  unfold wp_X11_drinks at h
  refine jr_aload_n C 1 rfl dX11_drinks_0 rfl 0 rfl ?_
  obtain ⟨⟨c_, V, hb⟩, h⟩ := h
  refine jr_callSUi (As := []) (st := []) C 4 rfl (m_X13_drinks C.2.2.2.2.2.2.2.2.2.2.2.2.2.2.2 h) rfl hb (by decide) q921 q917 q763 q915 q1846 q922 (by decide) (by decide) nd_X13_drinks.2.2 (Nat.le_of_ble_eq_true rfl) dX11_drinks_1 (fun S1 r2 h => ?_)
  refine jr_iconst (v := 1) C 5 rfl dX11_drinks_4 (by decide) ?_
  refine jr_iadd C 6 rfl dX11_drinks_5 ?_
  exact jr_ireturn C dX11_drinks_6 h
theorem m_X11_drinks {l : Launch} (hl : l.stackTraces = false) {G : jG} {K : jS → Int32 → Prop} {S : jS} {x0 : Nat} (h : wp_X11_drinks S x0 K) : jMet l G d_X11_drinks yX11_drinks (ws_ yX11_drinks cX11_drinks 1 (some .int)) [.ref x0] S tvi K :=
  jMet.of hl rfl (by decide) (Nat.le_of_ble_eq_true rfl) (fun X C => jr_sub [0] rfl (wk_X11_drinks_0 C h))
theorem wk_X13_needs_0 {X : jX} {G : jG} {K : jS → Int32 → Prop} (C : jC (X, G, 1, jA X G tvi K) d_X13_needs cX13_needs "Samovar$Taste" (some .int) yX13_needs) {S : jS} {x0 : Nat}  (h : wp_X13_needs S x0 K) : jJ (X, G, 1, jA X G tvi K) S [(0, .ref x0)] 0 [] := by
  unfold wp_X13_needs at h
  refine jr_iconst (v := 1) C 1 rfl dX13_needs_0 (by decide) ?_
  exact jr_ireturn C dX13_needs_1 h
theorem m_X13_needs {l : Launch} (hl : l.stackTraces = false) {G : jG} {K : jS → Int32 → Prop} {S : jS} {x0 : Nat} (h : wp_X13_needs S x0 K) : jMet l G d_X13_needs yX13_needs (ws_ yX13_needs cX13_needs 1 (some .int)) [.ref x0] S tvi K :=
  jMet.of hl rfl (by decide) (Nat.le_of_ble_eq_true rfl) (fun X C => jr_sub [0] rfl (wk_X13_needs_0 C h))
theorem wk_X11_needs_0 {X : jX} {G : jG} {K : jS → Int32 → Prop} (C : jC (X, G, 1, jA X G tvi K) d_X11_needs cX11_needs "Samovar$Dark" (some .int) yX11_needs) {S : jS} {x0 : Nat}  (h : wp_X11_needs S x0 K) : jJ (X, G, 1, jA X G tvi K) S [(0, .ref x0)] 0 [] := by
  unfold wp_X11_needs at h
  refine jr_iconst (v := 3) C 1 rfl dX11_needs_0 (by decide) ?_
  refine jr_aload_n C 2 rfl dX11_needs_1 rfl 0 rfl ?_
  obtain ⟨⟨c_, V, hb⟩, h⟩ := h
  refine jr_callSUi (As := []) (st := [.int 3]) C 5 rfl (m_X13_needs C.2.2.2.2.2.2.2.2.2.2.2.2.2.2.2 h) rfl hb (by decide) q908 q904 q763 q902 q1846 q909 (by decide) (by decide) nd_X13_needs.2.2 (Nat.le_of_ble_eq_true rfl) dX11_needs_2 (fun S1 r2 h => ?_)
  refine jr_imul C 6 rfl dX11_needs_5 ?_
  exact jr_ireturn C dX11_needs_6 h
theorem m_X11_needs {l : Launch} (hl : l.stackTraces = false) {G : jG} {K : jS → Int32 → Prop} {S : jS} {x0 : Nat} (h : wp_X11_needs S x0 K) : jMet l G d_X11_needs yX11_needs (ws_ yX11_needs cX11_needs 1 (some .int)) [.ref x0] S tvi K :=
  jMet.of hl rfl (by decide) (Nat.le_of_ble_eq_true rfl) (fun X C => jr_sub [0] rfl (wk_X11_needs_0 C h))
theorem wk_X13_number_0 {X : jX} {G : jG} {K : jS → Int32 → Prop} (C : jC (X, G, 1, jA X G tvi K) d_X13_number cX13_number "Samovar$Taste" (some .int) yX13_number) {S : jS} {x0 : Nat}  (h : wp_X13_number S x0 K) : jJ (X, G, 1, jA X G tvi K) S [(0, .ref x0)] 0 [] := by
  unfold wp_X13_number at h
  refine jr_iconst (v := 0) C 1 rfl dX13_number_0 (by decide) ?_
  exact jr_ireturn C dX13_number_1 h
theorem m_X13_number {l : Launch} (hl : l.stackTraces = false) {G : jG} {K : jS → Int32 → Prop} {S : jS} {x0 : Nat} (h : wp_X13_number S x0 K) : jMet l G d_X13_number yX13_number (ws_ yX13_number cX13_number 1 (some .int)) [.ref x0] S tvi K :=
  jMet.of hl rfl (by decide) (Nat.le_of_ble_eq_true rfl) (fun X C => jr_sub [0] rfl (wk_X13_number_0 C h))
theorem wk_X11_number_0 {X : jX} {G : jG} {K : jS → Int32 → Prop} (C : jC (X, G, 1, jA X G tvi K) d_X11_number cX11_number "Samovar$Dark" (some .int) yX11_number) {S : jS} {x0 : Nat}  (h : wp_X11_number S x0 K) : jJ (X, G, 1, jA X G tvi K) S [(0, .ref x0)] 0 [] := by
  unfold wp_X11_number at h
  refine jr_aload_n C 1 rfl dX11_number_0 rfl 0 rfl ?_
  obtain ⟨⟨c_, V, hb⟩, h⟩ := h
  refine jr_callSUi (As := []) (st := []) C 4 rfl (m_X13_number C.2.2.2.2.2.2.2.2.2.2.2.2.2.2.2 h) rfl hb (by decide) q762 q758 q763 q756 q1846 q764 (by decide) (by decide) nd_X13_number.2.2 (Nat.le_of_ble_eq_true rfl) dX11_number_1 (fun S1 r2 h => ?_)
  refine jr_iconst (v := 1) C 5 rfl dX11_number_4 (by decide) ?_
  refine jr_iadd C 6 rfl dX11_number_5 ?_
  exact jr_ireturn C dX11_number_6 h
theorem m_X11_number {l : Launch} (hl : l.stackTraces = false) {G : jG} {K : jS → Int32 → Prop} {S : jS} {x0 : Nat} (h : wp_X11_number S x0 K) : jMet l G d_X11_number yX11_number (ws_ yX11_number cX11_number 1 (some .int)) [.ref x0] S tvi K :=
  jMet.of hl rfl (by decide) (Nat.le_of_ble_eq_true rfl) (fun X C => jr_sub [0] rfl (wk_X11_number_0 C h))
theorem wk_X1_init_0 {X : jX} {G : jG} {K : jS → Unit → Prop} (C : jC (X, G, 1, jA X G tvv K) d_X1_init cX1_init "Samovar$Text" none yX1_init) {S : jS} {x0 : Nat}  (h : wp_X1_init S x0 K) : jJ (X, G, 1, jA X G tvv K) S [(0, .ref x0)] 0 [] := by
  unfold wp_X1_init at h
  refine jr_aload_n C 1 rfl dX1_init_0 rfl 0 rfl ?_
  refine jr_objInit C 4 rfl (by decide) q139 q129 q130 (Nat.le_of_ble_eq_true rfl) dX1_init_1 ?_
  refine jr_aload_n C 5 rfl dX1_init_4 rfl 0 rfl ?_
  refine jr_bipush (v := 31) C 7 rfl dX1_init_5 (by decide) ?_
  refine jr_newa C 9 rfl (t := 1) rfl (by decide) rfl rfl (by decide) q166 dX1_init_7 h (fun S1 a2 h => ?_)
  refine jr_putvF C 12 rfl rfl fo_1_2_0_Text fo_1_2_0_Text_d (by decide) q169 dX1_init_9 rfl rfl h (fun S3 h => ?_)
  exact jr_return C dX1_init_12 h
theorem m_X1_init {l : Launch} (hl : l.stackTraces = false) {G : jG} {K : jS → Unit → Prop} {S : jS} {x0 : Nat} (h : wp_X1_init S x0 K) : jMet l G d_X1_init yX1_init (ws_ yX1_init cX1_init 1 none) [.ref x0] S tvv K :=
  jMet.of hl rfl (by decide) (Nat.le_of_ble_eq_true rfl) (fun X C => jr_sub [0] rfl (wk_X1_init_0 C h))
theorem wk_X1_length_0 {X : jX} {G : jG} {K : jS → Int32 → Prop} (C : jC (X, G, 1, jA X G tvi K) d_X1_length cX1_length "Samovar$Text" (some .int) yX1_length) {S : jS} {x0 : Nat}  (h : wp_X1_length S x0 K) : jJ (X, G, 1, jA X G tvi K) S [(0, .ref x0)] 0 [] := by
  unfold wp_X1_length at h
  refine jr_aload_n C 1 rfl dX1_length_0 rfl 0 rfl ?_
  refine jr_geti C 4 rfl fo_1_2_1_Text q170 dX1_length_1 h (fun v1 h => ?_)
  exact jr_ireturn C dX1_length_4 h
theorem m_X1_length {l : Launch} (hl : l.stackTraces = false) {G : jG} {K : jS → Int32 → Prop} {S : jS} {x0 : Nat} (h : wp_X1_length S x0 K) : jMet l G d_X1_length yX1_length (ws_ yX1_length cX1_length 1 (some .int)) [.ref x0] S tvi K :=
  jMet.of hl rfl (by decide) (Nat.le_of_ble_eq_true rfl) (fun X C => jr_sub [0] rfl (wk_X1_length_0 C h))
theorem wk_X3_many_0 {X : jX} {G : jG} {K : jS → Int32 → Prop} (C : jC (X, G, 1, jA X G tvi K) d_X3_many cX3_many "Samovar$Company" (some .int) yX3_many) {S : jS} {x0 : Nat}  (h : wp_X3_many S x0 K) : jJ (X, G, 1, jA X G tvi K) S [(0, .ref x0)] 0 [] := by
  unfold wp_X3_many at h
  refine jr_aload_n C 1 rfl dX3_many_0 rfl 0 rfl ?_
  refine jr_getr C 4 rfl fo_2_5 q195 dX3_many_1 h (fun v1 h => ?_)
  obtain ⟨⟨V, hb⟩, h⟩ := h
  refine jr_callVi (r0 := (RJ2, TJ2, 3)) (As := []) (st := []) C 7 rfl (m_J2_size C.2.2.2.2.2.2.2.2.2.2.2.2.2.2.2 h) rfl hb rfl q377 q378 q379 q99 q380 (by decide) (by decide) ndV_J2_size (Nat.le_of_ble_eq_true rfl) dX3_many_4 (fun S2 r3 h => ?_)
  exact jr_ireturn C dX3_many_7 h
theorem m_X3_many {l : Launch} (hl : l.stackTraces = false) {G : jG} {K : jS → Int32 → Prop} {S : jS} {x0 : Nat} (h : wp_X3_many S x0 K) : jMet l G d_X3_many yX3_many (ws_ yX3_many cX3_many 1 (some .int)) [.ref x0] S tvi K :=
  jMet.of hl rfl (by decide) (Nat.le_of_ble_eq_true rfl) (fun X C => jr_sub [0] rfl (wk_X3_many_0 C h))
theorem wk_X7_init_0 {X : jX} {G : jG} {K : jS → Unit → Prop} (C : jC (X, G, 4, jA X G tvv K) d_X7_init cX7_init "Samovar$Guest" none yX7_init) {S : jS} {x0 : Nat} {x1 : Int32} {x2 : Nat} {x3 : Int32}  (h : wp_X7_init S x0 x1 x2 x3 K) : jJ (X, G, 4, jA X G tvv K) S [(0, .ref x0), (1, .int x1), (2, .ref x2), (3, .int x3)] 0 [] := by
  unfold wp_X7_init at h
  refine jr_aload_n C 1 rfl dX7_init_0 rfl 0 rfl ?_
  refine jr_objInit C 4 rfl (by decide) q562 q129 q130 (Nat.le_of_ble_eq_true rfl) dX7_init_1 ?_
  refine jr_aload_n C 5 rfl dX7_init_4 rfl 0 rfl ?_
  refine jr_iload_n C 6 rfl dX7_init_5 rfl 1 rfl ?_
  refine jr_putv C 9 rfl fo_4_0 (by decide) q563 dX7_init_6 rfl rfl h (fun S1 h => ?_)
  refine jr_aload_n C 10 rfl dX7_init_9 rfl 0 rfl ?_
  refine jr_aload_n C 11 rfl dX7_init_10 rfl 2 rfl ?_
  refine jr_putv C 14 rfl fo_4_1 (by decide) q565 dX7_init_11 rfl rfl h (fun S2 h => ?_)
  refine jr_aload_n C 15 rfl dX7_init_14 rfl 0 rfl ?_
  refine jr_iload_n C 16 rfl dX7_init_15 rfl 3 rfl ?_
  refine jr_putv C 19 rfl fo_4_2 (by decide) q567 dX7_init_16 rfl rfl h (fun S3 h => ?_)
  exact jr_return C dX7_init_19 h
theorem m_X7_init {l : Launch} (hl : l.stackTraces = false) {G : jG} {K : jS → Unit → Prop} {S : jS} {x0 : Nat} {x1 : Int32} {x2 : Nat} {x3 : Int32} (h : wp_X7_init S x0 x1 x2 x3 K) : jMet l G d_X7_init yX7_init (ws_ yX7_init cX7_init 4 none) [.ref x0, .int x1, .ref x2, .int x3] S tvv K :=
  jMet.of hl rfl (by decide) (Nat.le_of_ble_eq_true rfl) (fun X C => jr_sub [0, 1, 2, 3] rfl (wk_X7_init_0 C h))
theorem wk_X6_init_0 {X : jX} {G : jG} {K : jS → Unit → Prop} (C : jC (X, G, 2, jA X G tvv K) d_X6_init cX6_init "Samovar$Torn" none yX6_init) {S : jS} {x0 : Nat} {x1 : Int32}  (h : wp_X6_init S x0 x1 K) : jJ (X, G, 2, jA X G tvv K) S [(0, .ref x0), (1, .int x1)] 0 [] := by
  unfold wp_X6_init at h
  refine jr_aload_n C 1 rfl dX6_init_0 rfl 0 rfl ?_
  refine jr_null C 2 rfl dX6_init_1 ?_
  refine jr_null C 3 rfl dX6_init_2 ?_
  refine jr_iconst (v := 0) C 4 rfl dX6_init_3 (by decide) ?_
  refine jr_iconst (v := 0) C 5 rfl dX6_init_4 (by decide) ?_
  refine jr_callIv (As := [.null, .null, .int 0, .int 0]) (st := []) C 8 rfl (m_J4_init C.2.2.2.2.2.2.2.2.2.2.2.2.2.2.2 h) rfl rfl q427 q428 q104 q429 (by decide) (by decide) nd_J4_init (Nat.le_of_ble_eq_true rfl) dX6_init_5 (fun S1 _ h => ?_)
  refine jr_aload_n C 9 rfl dX6_init_8 rfl 0 rfl ?_
  refine jr_iload_n C 10 rfl dX6_init_9 rfl 1 rfl ?_
  refine jr_putvF C 13 rfl rfl fo_7_6 fo_7_6_d (by decide) q433 dX6_init_10 rfl rfl h (fun S2 h => ?_)
  exact jr_return C dX6_init_13 h
theorem m_X6_init {l : Launch} (hl : l.stackTraces = false) {G : jG} {K : jS → Unit → Prop} {S : jS} {x0 : Nat} {x1 : Int32} (h : wp_X6_init S x0 x1 K) : jMet l G d_X6_init yX6_init (ws_ yX6_init cX6_init 2 none) [.ref x0, .int x1] S tvv K :=
  jMet.of hl rfl (by decide) (Nat.le_of_ble_eq_true rfl) (fun X C => jr_sub [0, 1] rfl (wk_X6_init_0 C h))
theorem wk_X1_passes_32 {X : jX} {G : jG} {K : jS → Int32 → Prop} {KX : jS → Nat → Nat → Prop} (C : jC (X, G, 3, jAX X G tvi K KX) d_X1_passes cX1_passes "Samovar$Text" (some .int) yX1_passes) (hT : (zc (X, G, 3, jAX X G tvi K KX)).exceptionTable.toList = []) {S : jS} {t0 : Int32} {x0 : Nat}  (h : wp_X1_passes_32 S t0 x0 K KX) : jJ (X, G, 3, jAX X G tvi K KX) S [(0, .ref x0)] 32 [.int t0] := by
  unfold wp_X1_passes_32 at h
  refine jr_istore_n (lv' := [(2, .int t0), (0, .ref x0)]) C 33 rfl dX1_passes_32 rfl (Nat.le_of_ble_eq_true rfl) rfl ?_
  refine jr_iload_n C 34 rfl dX1_passes_33 rfl 0 rfl ?_
  refine jr_iconst (v := (-1)) C 35 rfl dX1_passes_34 (by decide) ?_
  refine jr_icmp_ne C 50 38 rfl dX1_passes_35 (by decide) (fun c7 => ?_) (fun c7 => ?_)
  · have h := h.1 c7
    refine jr_new C 41 rfl (c := 7) (by decide) rfl in_X6 tyX6_ok q352 q385 q105 dX1_passes_38 h (fun S1 a2 h => ?_)
    refine jr_dup C 42 rfl dX1_passes_41 rfl ?_
    refine jr_aload_n C 43 rfl dX1_passes_42 rfl 1 rfl ?_
    refine jr_geti C 46 rfl fo_1_2_2_Text q171 dX1_passes_43 h (fun v3 h => ?_)
    refine jr_callIv (As := [.int v3]) (st := [.ref a2]) C 49 rfl (m_X6_init C.2.2.2.2.2.2.2.2.2.2.2.2.2.2.2 h) rfl rfl q424 q425 q105 q426 (by decide) (by decide) nd_X6_init (Nat.le_of_ble_eq_true rfl) dX1_passes_46 (fun S4 _ h => ?_)
    exact jr_athrow C dX1_passes_49 h.1 (jx_out C hT (by intro x hx; cases hx) h.2)
  · have h := h.2 c7
    refine jr_aload_n C 51 rfl dX1_passes_50 rfl 1 rfl ?_
    refine jr_dup C 52 rfl dX1_passes_51 rfl ?_
    refine jr_geti C 55 rfl fo_1_2_2_Text q171 dX1_passes_52 h (fun v5 h => ?_)
    refine jr_iconst (v := 1) C 56 rfl dX1_passes_55 (by decide) ?_
    refine jr_iadd C 57 rfl dX1_passes_56 ?_
    refine jr_putv C 60 rfl fo_1_2_2_Text (by decide) q171 dX1_passes_57 rfl rfl h (fun S6 h => ?_)
    refine jr_iload_n C 61 rfl dX1_passes_60 rfl 0 rfl ?_
    exact jx_retW (jr_ireturn C.aim dX1_passes_61 h)
theorem wk_X1_passes_0 {X : jX} {G : jG} {K : jS → Int32 → Prop} {KX : jS → Nat → Nat → Prop} (C : jC (X, G, 3, jAX X G tvi K KX) d_X1_passes cX1_passes "Samovar$Text" (some .int) yX1_passes) (hT : (zc (X, G, 3, jAX X G tvi K KX)).exceptionTable.toList = []) {S : jS} {x0 : Nat} {x1 : Nat}  (h : wp_X1_passes S x0 x1 K KX) : jJ (X, G, 3, jAX X G tvi K KX) S [(0, .ref x0), (1, .ref x1)] 0 [] := by
  unfold wp_X1_passes at h
  refine jr_aload_n C 1 rfl dX1_passes_0 rfl 0 rfl ?_
  refine jr_geti C 4 rfl fo_1_2_2_Text q171 dX1_passes_1 h (fun v1 h => ?_)
  refine jr_aload_n C 5 rfl dX1_passes_4 rfl 0 rfl ?_
  refine jr_geti C 8 rfl fo_1_2_1_Text q170 dX1_passes_5 h (fun v2 h => ?_)
  refine jr_icmp_ne C 15 11 rfl dX1_passes_8 (by decide) (fun c8 => ?_) (fun c8 => ?_)
  · have h := h.1 c8
    refine jr_iconst (v := (-1)) C 12 rfl dX1_passes_11 (by decide) ?_
    refine jr_goto C 32 dX1_passes_12 (by decide) ?_
    exact jr_sub [0] rfl (wk_X1_passes_32 C hT  h)
  · have h := h.2 c8
    refine jr_aload_n C 16 rfl dX1_passes_15 rfl 1 rfl ?_
    refine jr_aload_n C 17 rfl dX1_passes_16 rfl 0 rfl ?_
    refine jr_getr C 20 rfl fo_1_2_0_Text q169 dX1_passes_17 h (fun v3 h => ?_)
    refine jr_aload_n C 21 rfl dX1_passes_20 rfl 0 rfl ?_
    refine jr_geti C 24 rfl fo_1_2_2_Text q171 dX1_passes_21 h (fun v4 h => ?_)
    refine jr_bald C 25 rfl dX1_passes_24 h (fun v5 h => ?_)
    refine jr_sipush (v := 255) C 28 rfl dX1_passes_25 (by decide) ?_
    refine jr_iand C 29 rfl dX1_passes_28 ?_
    obtain ⟨⟨V, hb⟩, h⟩ := h
    refine jr_callVi (r0 := (RJ5, TJ5, 2)) (As := [.int (v5 &&& 255)]) (st := []) C 32 rfl (m_J5_indexOf C.2.2.2.2.2.2.2.2.2.2.2.2.2.2.2 h) rfl hb rfl q457 q458 q459 q106 q460 (by decide) (by decide) ndV_J5_indexOf (Nat.le_of_ble_eq_true rfl) dX1_passes_29 (fun S6 r7 h => ?_)
    exact jr_sub [0] rfl (wk_X1_passes_32 C hT  h)
theorem m_X1_passes {l : Launch} (hl : l.stackTraces = false) {G : jG} {K : jS → Int32 → Prop} {KX : jS → Nat → Nat → Prop} {S : jS} {x0 : Nat} {x1 : Nat} (h : wp_X1_passes S x0 x1 K KX) : jXMet l G d_X1_passes yX1_passes (ws_ yX1_passes cX1_passes 3 (some .int)) [.ref x0, .ref x1] S tvi K KX :=
  jXMet.of hl rfl (by decide) (Nat.le_of_ble_eq_true rfl) (fun X C hT => jr_sub [0, 1] rfl (wk_X1_passes_0 C hT h))
theorem ndD_Company_passes_2 : ("Samovar$Text" : String) ≠ "java/lang/invoke/MethodHandle" ∧ ("Samovar$Text" : String) ≠ "java/lang/invoke/VarHandle" ∧ (parseMethodDescriptor "(Ljava/lang/String;)I").map (fun d => d.parameters.length) = some 1 := by decide +kernel
theorem dr_Company_passes_2 {Z : jZ} {d : Nat} {cc : ByteArray} {own : String} {ret : Option FieldType} {y : MethodName} {pc : Nat} {S : jS} {lv : List (Nat × Value)} {st As : List Value} (C : jC Z d cc own ret y) (pc' : Nat) (hp : pc + 3 = pc') {a : Nat} {x0 : Nat} {K : jS → Int32 → Prop} {KX : jS → Nat → Nat → Prop} {stk : List Value} (h : wpD_Company_passes_2 S a x0 K KX) (hstk : [.ref x0].reverse ++ .ref a :: st = stk) {index : Nat} (q1 : Cond.methodLink own index (⟨"Samovar$Company", "passes", "(Ljava/lang/String;)I"⟩ : MethodName) ∈ lw_all) (hd : d_D_Company_passes_2 + 1 ≤ d) (hst : (st.map fun v => v.category).sum ≤ 8) (hdg : decode cc pc = .ok (.invokevirtual index, 3)) (kk : ∀ (S1 : jS) (r : Int32), K S1 r → jJ Z S1 lv pc' (.int r :: st)) (kx : ∀ (S1 : jS) (e q : Nat), KX S1 e q → jT Z S1 lv pc st e q) : jJ Z S lv pc stk := by
  unfold wpD_Company_passes_2 at h
  obtain ⟨⟨V, hb⟩, h⟩ := h
  exact jr_callXUi (As := [.ref x0]) (r0 := (RX3, TX3, 6)) (owner := "Samovar$Text") C pc' hp (m_X1_passes C.2.2.2.2.2.2.2.2.2.2.2.2.2.2.2 h) hstk hb rfl (va_Decl.abs (C.2.2.2.2.2.2.2.1.2.2.2.1 _ (jx_g q554 rfl))) q1 q553 (C.2.2.2.2.1 _ q555) q452 q95 q456 (Nat.le_trans (Nat.le_of_ble_eq_true rfl) hd) (by decide) ndD_Company_passes_2 hst hdg kk kx
theorem wk_X3_part_0 {X : jX} {G : jG} {K : jS → Unit → Prop} {KX : jS → Nat → Nat → Prop} (C : jC (X, G, 3, jAX X G tvv K KX) d_X3_part cX3_part "Samovar$Company" none yX3_part) (hT : (zc (X, G, 3, jAX X G tvv K KX)).exceptionTable.toList = []) {S : jS} {x0 : Nat} {x1 : Int32}  (h : wp_X3_part S x0 x1 K KX) : jJ (X, G, 3, jAX X G tvv K KX) S [(0, .ref x0), (1, .int x1)] 0 [] := by
  unfold wp_X3_part at h
  refine jr_getsN C 3 rfl (i := 1) rfl (jx_g q549 rfl) dX3_part_0 h (fun v1 h => ?_)
  refine jr_aload_n C 4 rfl dX3_part_3 rfl 0 rfl ?_
  refine jr_ldcs C 6 rfl (i := 4) rfl dX3_part_4 h (fun v2 h => ?_)
  refine dr_Company_passes_2 (As := [.ref v2]) (st := [.ref v1]) C 9 rfl h rfl q552 (by decide) (Nat.le_of_ble_eq_true rfl) dX3_part_6 (fun S3 r4 h => ?_) (fun S18 e19 q20 h => by
    obtain ⟨hE, h⟩ := h
    subst hE
    exact jx_out C hT (by intro x hx; cases hx) h)
  refine jr_aaldn C 10 rfl (t := 11) rfl rfl dX3_part_9 h (fun v5 h => ?_)
  refine jr_astore_n (lv' := [(2, .ref v5), (0, .ref x0), (1, .int x1)]) C 11 rfl dX3_part_10 rfl (Nat.le_of_ble_eq_true rfl) rfl ?_
  refine jr_aload_n C 12 rfl dX3_part_11 rfl 1 rfl ?_
  refine jr_getr C 15 rfl fo_2_5 q195 dX3_part_12 h (fun v6 h => ?_)
  refine jr_new C 18 rfl (c := 4) (by decide) rfl in_X7 tyX7_ok q556 q557 q112 dX3_part_15 h (fun S7 a8 h => ?_)
  refine jr_dup C 19 rfl dX3_part_18 rfl ?_
  refine jr_iload_n C 20 rfl dX3_part_19 rfl 2 rfl ?_
  refine jr_aload_n C 21 rfl dX3_part_20 rfl 0 rfl ?_
  refine jr_iconst (v := 1) C 22 rfl dX3_part_21 (by decide) ?_
  refine jr_aload_n C 23 rfl dX3_part_22 rfl 1 rfl ?_
  refine jr_ldcs C 25 rfl (i := 5) rfl dX3_part_23 h (fun v9 h => ?_)
  refine dr_Company_passes_2 (As := [.ref v9]) (st := [.int 1, .ref v5, .int x1, .ref a8, .ref a8, .ref v6]) C 28 rfl h rfl q552 (by decide) (Nat.le_of_ble_eq_true rfl) dX3_part_25 (fun S10 r11 h => ?_) (fun S15 e16 q17 h => by
    obtain ⟨hE, h⟩ := h
    subst hE
    exact jx_out C hT (by intro x hx; cases hx) h)
  refine jr_iadd C 29 rfl dX3_part_28 ?_
  refine jr_callIv (As := [.int x1, .ref v5, .int (1 + r11)]) (st := [.ref a8, .ref v6]) C 32 rfl (m_X7_init C.2.2.2.2.2.2.2.2.2.2.2.2.2.2.2 h) rfl rfl q559 q560 q112 q561 (by decide) (by decide) nd_X7_init (Nat.le_of_ble_eq_true rfl) dX3_part_29 (fun S12 _ h => ?_)
  obtain ⟨⟨V, hb⟩, h⟩ := h
  refine jr_callVi (r0 := (RJ2, TJ2, 3)) (As := [.ref a8]) (st := []) C 35 rfl (m_J2_add C.2.2.2.2.2.2.2.2.2.2.2.2.2.2.2 h) rfl hb rfl q595 q596 q597 q99 q598 (by decide) (by decide) ndV_J2_add (Nat.le_of_ble_eq_true rfl) dX3_part_32 (fun S13 r14 h => ?_)
  refine jr_pop C 36 rfl dX3_part_35 rfl ?_
  exact jx_retW (jr_return C.aim dX3_part_36 h)
theorem m_X3_part {l : Launch} (hl : l.stackTraces = false) {G : jG} {K : jS → Unit → Prop} {KX : jS → Nat → Nat → Prop} {S : jS} {x0 : Nat} {x1 : Int32} (h : wp_X3_part S x0 x1 K KX) : jXMet l G d_X3_part yX3_part (ws_ yX3_part cX3_part 3 none) [.ref x0, .int x1] S tvv K KX :=
  jXMet.of hl rfl (by decide) (Nat.le_of_ble_eq_true rfl) (fun X C hT => jr_sub [0, 1] rfl (wk_X3_part_0 C hT h))
theorem wk_X2_many_0 {X : jX} {G : jG} {K : jS → Int32 → Prop} (C : jC (X, G, 1, jA X G tvi K) d_X2_many cX2_many "Samovar$Woodpile" (some .int) yX2_many) {S : jS} {x0 : Nat}  (h : wp_X2_many S x0 K) : jJ (X, G, 1, jA X G tvi K) S [(0, .ref x0)] 0 [] := by
  unfold wp_X2_many at h
  refine jr_aload_n C 1 rfl dX2_many_0 rfl 0 rfl ?_
  refine jr_getr C 4 rfl fo_1_5 q167 dX2_many_1 h (fun v1 h => ?_)
  obtain ⟨⟨V, hb⟩, h⟩ := h
  refine jr_callVi (r0 := (RJ2, TJ2, 3)) (As := []) (st := []) C 7 rfl (m_J2_size C.2.2.2.2.2.2.2.2.2.2.2.2.2.2.2 h) rfl hb rfl q384 q378 q379 q99 q380 (by decide) (by decide) ndV_J2_size (Nat.le_of_ble_eq_true rfl) dX2_many_4 (fun S2 r3 h => ?_)
  exact jr_ireturn C dX2_many_7 h
theorem m_X2_many {l : Launch} (hl : l.stackTraces = false) {G : jG} {K : jS → Int32 → Prop} {S : jS} {x0 : Nat} (h : wp_X2_many S x0 K) : jMet l G d_X2_many yX2_many (ws_ yX2_many cX2_many 1 (some .int)) [.ref x0] S tvi K :=
  jMet.of hl rfl (by decide) (Nat.le_of_ble_eq_true rfl) (fun X C => jr_sub [0] rfl (wk_X2_many_0 C h))
theorem wk_X8_init_0 {X : jX} {G : jG} {K : jS → Unit → Prop} (C : jC (X, G, 4, jA X G tvv K) d_X8_init cX8_init "Samovar$Piece" none yX8_init) {S : jS} {x0 : Nat} {x1 : Int32} {x2 : Nat} {x3 : Int32}  (h : wp_X8_init S x0 x1 x2 x3 K) : jJ (X, G, 4, jA X G tvv K) S [(0, .ref x0), (1, .int x1), (2, .ref x2), (3, .int x3)] 0 [] := by
  unfold wp_X8_init at h
  refine jr_aload_n C 1 rfl dX8_init_0 rfl 0 rfl ?_
  refine jr_objInit C 4 rfl (by decide) q670 q129 q130 (Nat.le_of_ble_eq_true rfl) dX8_init_1 ?_
  refine jr_aload_n C 5 rfl dX8_init_4 rfl 0 rfl ?_
  refine jr_iload_n C 6 rfl dX8_init_5 rfl 1 rfl ?_
  refine jr_putvF C 9 rfl rfl fo_5_0 fo_5_0_d (by decide) q671 dX8_init_6 rfl rfl h (fun S1 h => ?_)
  refine jr_aload_n C 10 rfl dX8_init_9 rfl 0 rfl ?_
  refine jr_aload_n C 11 rfl dX8_init_10 rfl 2 rfl ?_
  refine jr_putv C 14 rfl fo_5_1 (by decide) q672 dX8_init_11 rfl rfl h (fun S2 h => ?_)
  refine jr_aload_n C 15 rfl dX8_init_14 rfl 0 rfl ?_
  refine jr_iload_n C 16 rfl dX8_init_15 rfl 3 rfl ?_
  refine jr_putvF C 19 rfl rfl fo_5_2 fo_5_2_d (by decide) q674 dX8_init_16 rfl rfl h (fun S3 h => ?_)
  exact jr_return C dX8_init_19 h
theorem m_X8_init {l : Launch} (hl : l.stackTraces = false) {G : jG} {K : jS → Unit → Prop} {S : jS} {x0 : Nat} {x1 : Int32} {x2 : Nat} {x3 : Int32} (h : wp_X8_init S x0 x1 x2 x3 K) : jMet l G d_X8_init yX8_init (ws_ yX8_init cX8_init 4 none) [.ref x0, .int x1, .ref x2, .int x3] S tvv K :=
  jMet.of hl rfl (by decide) (Nat.le_of_ble_eq_true rfl) (fun X C => jr_sub [0, 1, 2, 3] rfl (wk_X8_init_0 C h))
theorem ndD_Woodpile_passes_1 : ("Samovar$Text" : String) ≠ "java/lang/invoke/MethodHandle" ∧ ("Samovar$Text" : String) ≠ "java/lang/invoke/VarHandle" ∧ (parseMethodDescriptor "(Ljava/lang/String;)I").map (fun d => d.parameters.length) = some 1 := by decide +kernel
theorem dr_Woodpile_passes_1 {Z : jZ} {d : Nat} {cc : ByteArray} {own : String} {ret : Option FieldType} {y : MethodName} {pc : Nat} {S : jS} {lv : List (Nat × Value)} {st As : List Value} (C : jC Z d cc own ret y) (pc' : Nat) (hp : pc + 3 = pc') {a : Nat} {x0 : Nat} {K : jS → Int32 → Prop} {KX : jS → Nat → Nat → Prop} {stk : List Value} (h : wpD_Woodpile_passes_1 S a x0 K KX) (hstk : [.ref x0].reverse ++ .ref a :: st = stk) {index : Nat} (q1 : Cond.methodLink own index (⟨"Samovar$Woodpile", "passes", "(Ljava/lang/String;)I"⟩ : MethodName) ∈ lw_all) (hd : d_D_Woodpile_passes_1 + 1 ≤ d) (hst : (st.map fun v => v.category).sum ≤ 8) (hdg : decode cc pc = .ok (.invokevirtual index, 3)) (kk : ∀ (S1 : jS) (r : Int32), K S1 r → jJ Z S1 lv pc' (.int r :: st)) (kx : ∀ (S1 : jS) (e q : Nat), KX S1 e q → jT Z S1 lv pc st e q) : jJ Z S lv pc stk := by
  unfold wpD_Woodpile_passes_1 at h
  obtain ⟨⟨V, hb⟩, h⟩ := h
  exact jr_callXUi (As := [.ref x0]) (r0 := (RX2, TX2, 6)) (owner := "Samovar$Text") C pc' hp (m_X1_passes C.2.2.2.2.2.2.2.2.2.2.2.2.2.2.2 h) hstk hb rfl (va_Decl.abs (C.2.2.2.2.2.2.2.1.2.2.2.1 _ (jx_g q554 rfl))) q1 q662 (C.2.2.2.2.1 _ q663) q452 q95 q456 (Nat.le_trans (Nat.le_of_ble_eq_true rfl) hd) (by decide) ndD_Woodpile_passes_1 hst hdg kk kx
theorem wk_X2_part_0 {X : jX} {G : jG} {K : jS → Unit → Prop} {KX : jS → Nat → Nat → Prop} (C : jC (X, G, 3, jAX X G tvv K KX) d_X2_part cX2_part "Samovar$Woodpile" none yX2_part) (hT : (zc (X, G, 3, jAX X G tvv K KX)).exceptionTable.toList = []) {S : jS} {x0 : Nat} {x1 : Int32}  (h : wp_X2_part S x0 x1 K KX) : jJ (X, G, 3, jAX X G tvv K KX) S [(0, .ref x0), (1, .int x1)] 0 [] := by
  unfold wp_X2_part at h
  refine jr_getsN C 3 rfl (i := 0) rfl (jx_g q658 rfl) dX2_part_0 h (fun v1 h => ?_)
  refine jr_aload_n C 4 rfl dX2_part_3 rfl 0 rfl ?_
  refine jr_ldcs C 6 rfl (i := 2) rfl dX2_part_4 h (fun v2 h => ?_)
  refine dr_Woodpile_passes_1 (As := [.ref v2]) (st := [.ref v1]) C 9 rfl h rfl q661 (by decide) (Nat.le_of_ble_eq_true rfl) dX2_part_6 (fun S3 r4 h => ?_) (fun S18 e19 q20 h => by
    obtain ⟨hE, h⟩ := h
    subst hE
    exact jx_out C hT (by intro x hx; cases hx) h)
  refine jr_aaldn C 10 rfl (t := 10) rfl rfl dX2_part_9 h (fun v5 h => ?_)
  refine jr_astore_n (lv' := [(2, .ref v5), (0, .ref x0), (1, .int x1)]) C 11 rfl dX2_part_10 rfl (Nat.le_of_ble_eq_true rfl) rfl ?_
  refine jr_aload_n C 12 rfl dX2_part_11 rfl 1 rfl ?_
  refine jr_getr C 15 rfl fo_1_5 q167 dX2_part_12 h (fun v6 h => ?_)
  refine jr_new C 18 rfl (c := 5) (by decide) rfl in_X8 tyX8_ok q664 q665 q116 dX2_part_15 h (fun S7 a8 h => ?_)
  refine jr_dup C 19 rfl dX2_part_18 rfl ?_
  refine jr_iload_n C 20 rfl dX2_part_19 rfl 2 rfl ?_
  refine jr_aload_n C 21 rfl dX2_part_20 rfl 0 rfl ?_
  refine jr_iconst (v := 1) C 22 rfl dX2_part_21 (by decide) ?_
  refine jr_aload_n C 23 rfl dX2_part_22 rfl 1 rfl ?_
  refine jr_ldcs C 25 rfl (i := 3) rfl dX2_part_23 h (fun v9 h => ?_)
  refine dr_Woodpile_passes_1 (As := [.ref v9]) (st := [.int 1, .ref v5, .int x1, .ref a8, .ref a8, .ref v6]) C 28 rfl h rfl q661 (by decide) (Nat.le_of_ble_eq_true rfl) dX2_part_25 (fun S10 r11 h => ?_) (fun S15 e16 q17 h => by
    obtain ⟨hE, h⟩ := h
    subst hE
    exact jx_out C hT (by intro x hx; cases hx) h)
  refine jr_iadd C 29 rfl dX2_part_28 ?_
  refine jr_callIv (As := [.int x1, .ref v5, .int (1 + r11)]) (st := [.ref a8, .ref v6]) C 32 rfl (m_X8_init C.2.2.2.2.2.2.2.2.2.2.2.2.2.2.2 h) rfl rfl q667 q668 q116 q669 (by decide) (by decide) nd_X8_init (Nat.le_of_ble_eq_true rfl) dX2_part_29 (fun S12 _ h => ?_)
  obtain ⟨⟨V, hb⟩, h⟩ := h
  refine jr_callVi (r0 := (RJ2, TJ2, 3)) (As := [.ref a8]) (st := []) C 35 rfl (m_J2_add C.2.2.2.2.2.2.2.2.2.2.2.2.2.2.2 h) rfl hb rfl q682 q596 q597 q99 q598 (by decide) (by decide) ndV_J2_add (Nat.le_of_ble_eq_true rfl) dX2_part_32 (fun S13 r14 h => ?_)
  refine jr_pop C 36 rfl dX2_part_35 rfl ?_
  exact jx_retW (jr_return C.aim dX2_part_36 h)
theorem m_X2_part {l : Launch} (hl : l.stackTraces = false) {G : jG} {K : jS → Unit → Prop} {KX : jS → Nat → Nat → Prop} {S : jS} {x0 : Nat} {x1 : Int32} (h : wp_X2_part S x0 x1 K KX) : jXMet l G d_X2_part yX2_part (ws_ yX2_part cX2_part 3 none) [.ref x0, .int x1] S tvv K KX :=
  jXMet.of hl rfl (by decide) (Nat.le_of_ble_eq_true rfl) (fun X C hT => jr_sub [0, 1] rfl (wk_X2_part_0 C hT h))
theorem ndD_Text_many_1_2 : ("Samovar$Text" : String) ≠ "java/lang/invoke/MethodHandle" ∧ ("Samovar$Text" : String) ≠ "java/lang/invoke/VarHandle" ∧ (parseMethodDescriptor "()I").map (fun d => d.parameters.length) = some 0 := by decide +kernel
theorem dr_Text_many_1_2 {Z : jZ} {d : Nat} {cc : ByteArray} {own : String} {ret : Option FieldType} {y : MethodName} {pc : Nat} {S : jS} {lv : List (Nat × Value)} {st As : List Value} (C : jC Z d cc own ret y) (pc' : Nat) (hp : pc + 3 = pc') {a : Nat}  {K : jS → Int32 → Prop} {stk : List Value} (h : wpD_Text_many_1_2 S a  K) (hstk : [].reverse ++ .ref a :: st = stk) {index : Nat} (q1 : Cond.methodLink own index (⟨"Samovar$Text", "many", "()I"⟩ : MethodName) ∈ lw_all) (hd : d_D_Text_many_1_2 + 1 ≤ d) (hst : (st.map fun v => v.category).sum ≤ 8) (hdg : decode cc pc = .ok (.invokevirtual index, 3)) (kk : ∀ (S1 : jS) (r : Int32), K S1 r → jJ Z S1 lv pc' (.int r :: st)) : jJ Z S lv pc stk := by
  unfold wpD_Text_many_1_2 at h
  rcases h with ⟨⟨V, hb⟩, h⟩ | ⟨⟨V, hb⟩, h⟩
  · exact jr_callUi (As := []) (r0 := (RX2, TX2, 6)) (owner := "Samovar$Text") C pc' hp (m_X2_many C.2.2.2.2.2.2.2.2.2.2.2.2.2.2.2 h) hstk hb rfl (va_Decl.abs (C.2.2.2.2.2.2.2.1.2.2.2.1 _ (jx_g q372 rfl))) q1 q373 (C.2.2.2.2.1 _ q381) q382 q96 q383 (Nat.le_trans (Nat.le_of_ble_eq_true rfl) hd) (by decide) ndD_Text_many_1_2 hst hdg kk
  · exact jr_callUi (As := []) (r0 := (RX3, TX3, 6)) (owner := "Samovar$Text") C pc' hp (m_X3_many C.2.2.2.2.2.2.2.2.2.2.2.2.2.2.2 h) hstk hb rfl (va_Decl.abs (C.2.2.2.2.2.2.2.1.2.2.2.1 _ (jx_g q372 rfl))) q1 q373 (C.2.2.2.2.1 _ q374) q375 q100 q376 (Nat.le_trans (Nat.le_of_ble_eq_true rfl) hd) (by decide) ndD_Text_many_1_2 hst hdg kk
theorem ndD_Text_passes_1_2 : ("Samovar$Text" : String) ≠ "java/lang/invoke/MethodHandle" ∧ ("Samovar$Text" : String) ≠ "java/lang/invoke/VarHandle" ∧ (parseMethodDescriptor "(Ljava/lang/String;)I").map (fun d => d.parameters.length) = some 1 := by decide +kernel
theorem dr_Text_passes_1_2 {Z : jZ} {d : Nat} {cc : ByteArray} {own : String} {ret : Option FieldType} {y : MethodName} {pc : Nat} {S : jS} {lv : List (Nat × Value)} {st As : List Value} (C : jC Z d cc own ret y) (pc' : Nat) (hp : pc + 3 = pc') {a : Nat} {x0 : Nat} {K : jS → Int32 → Prop} {KX : jS → Nat → Nat → Prop} {stk : List Value} (h : wpD_Text_passes_1_2 S a x0 K KX) (hstk : [.ref x0].reverse ++ .ref a :: st = stk) {index : Nat} (q1 : Cond.methodLink own index (⟨"Samovar$Text", "passes", "(Ljava/lang/String;)I"⟩ : MethodName) ∈ lw_all) (hd : d_D_Text_passes_1_2 + 1 ≤ d) (hst : (st.map fun v => v.category).sum ≤ 8) (hdg : decode cc pc = .ok (.invokevirtual index, 3)) (kk : ∀ (S1 : jS) (r : Int32), K S1 r → jJ Z S1 lv pc' (.int r :: st)) (kx : ∀ (S1 : jS) (e q : Nat), KX S1 e q → jT Z S1 lv pc st e q) : jJ Z S lv pc stk := by
  unfold wpD_Text_passes_1_2 at h
  rcases h with ⟨⟨V, hb⟩, h⟩ | ⟨⟨V, hb⟩, h⟩
  · exact jr_callXUi (As := [.ref x0]) (r0 := (RX2, TX2, 6)) (owner := "Samovar$Text") C pc' hp (m_X1_passes C.2.2.2.2.2.2.2.2.2.2.2.2.2.2.2 h) hstk hb rfl (va_Decl.abs (C.2.2.2.2.2.2.2.1.2.2.2.1 _ (jx_g q554 rfl))) q1 q453 (C.2.2.2.2.1 _ q455) q452 q95 q456 (Nat.le_trans (Nat.le_of_ble_eq_true rfl) hd) (by decide) ndD_Text_passes_1_2 hst hdg kk kx
  · exact jr_callXUi (As := [.ref x0]) (r0 := (RX3, TX3, 6)) (owner := "Samovar$Text") C pc' hp (m_X1_passes C.2.2.2.2.2.2.2.2.2.2.2.2.2.2.2 h) hstk hb rfl (va_Decl.abs (C.2.2.2.2.2.2.2.1.2.2.2.1 _ (jx_g q554 rfl))) q1 q453 (C.2.2.2.2.1 _ q454) q452 q95 q456 (Nat.le_trans (Nat.le_of_ble_eq_true rfl) hd) (by decide) ndD_Text_passes_1_2 hst hdg kk kx
theorem ndD_Text_part_1_2 : ("Samovar$Text" : String) ≠ "java/lang/invoke/MethodHandle" ∧ ("Samovar$Text" : String) ≠ "java/lang/invoke/VarHandle" ∧ (parseMethodDescriptor "(I)V").map (fun d => d.parameters.length) = some 1 := by decide +kernel
theorem dr_Text_part_1_2 {Z : jZ} {d : Nat} {cc : ByteArray} {own : String} {ret : Option FieldType} {y : MethodName} {pc : Nat} {S : jS} {lv : List (Nat × Value)} {st As : List Value} (C : jC Z d cc own ret y) (pc' : Nat) (hp : pc + 3 = pc') {a : Nat} {x0 : Int32} {K : jS → Unit → Prop} {KX : jS → Nat → Nat → Prop} {stk : List Value} (h : wpD_Text_part_1_2 S a x0 K KX) (hstk : [.int x0].reverse ++ .ref a :: st = stk) {index : Nat} (q1 : Cond.methodLink own index (⟨"Samovar$Text", "part", "(I)V"⟩ : MethodName) ∈ lw_all) (hd : d_D_Text_part_1_2 + 1 ≤ d) (hst : (st.map fun v => v.category).sum ≤ 8) (hdg : decode cc pc = .ok (.invokevirtual index, 3)) (kk : ∀ (S1 : jS) (r : Unit), K S1 r → jJ Z S1 lv pc' (st)) (kx : ∀ (S1 : jS) (e q : Nat), KX S1 e q → jT Z S1 lv pc st e q) : jJ Z S lv pc stk := by
  unfold wpD_Text_part_1_2 at h
  rcases h with ⟨⟨V, hb⟩, h⟩ | ⟨⟨V, hb⟩, h⟩
  · exact jr_callXUv (As := [.int x0]) (r0 := (RX2, TX2, 6)) (owner := "Samovar$Text") C pc' hp (m_X2_part C.2.2.2.2.2.2.2.2.2.2.2.2.2.2.2 h) hstk hb rfl (va_Decl.abs (C.2.2.2.2.2.2.2.1.2.2.2.1 _ (jx_g q544 rfl))) q1 q545 (C.2.2.2.2.1 _ q655) q656 q96 q657 (Nat.le_trans (Nat.le_of_ble_eq_true rfl) hd) (by decide) ndD_Text_part_1_2 hst hdg kk kx
  · exact jr_callXUv (As := [.int x0]) (r0 := (RX3, TX3, 6)) (owner := "Samovar$Text") C pc' hp (m_X3_part C.2.2.2.2.2.2.2.2.2.2.2.2.2.2.2 h) hstk hb rfl (va_Decl.abs (C.2.2.2.2.2.2.2.1.2.2.2.1 _ (jx_g q544 rfl))) q1 q545 (C.2.2.2.2.1 _ q546) q547 q100 q548 (Nat.le_trans (Nat.le_of_ble_eq_true rfl) hd) (by decide) ndD_Text_part_1_2 hst hdg kk kx
theorem wk_X1_next_0 {X : jX} {G : jG} {K : jS → Unit → Prop} {KX : jS → Nat → Nat → Prop} (C : jC (X, G, 1, jAX X G tvv K KX) d_X1_next cX1_next "Samovar$Text" none yX1_next) (hT : (zc (X, G, 1, jAX X G tvv K KX)).exceptionTable.toList = []) {S : jS} {x0 : Nat}  (h : wp_X1_next S x0 K KX) : jJ (X, G, 1, jAX X G tvv K KX) S [(0, .ref x0)] 0 [] := by
  unfold wp_X1_next at h
  refine jr_aload_n C 1 rfl dX1_next_0 rfl 0 rfl ?_
  refine dr_Text_many_1_2 (As := []) (st := []) C 4 rfl h rfl q371 (by decide) (Nat.le_of_ble_eq_true rfl) dX1_next_1 (fun S1 r2 h => ?_)
  refine jr_bipush (v := 8) C 6 rfl dX1_next_4 (by decide) ?_
  refine jr_icmp_ne C 21 9 rfl dX1_next_6 (by decide) (fun c17 => ?_) (fun c17 => ?_)
  · have h := h.1 c17
    refine jr_new C 12 rfl (c := 7) (by decide) rfl in_X6 tyX6_ok q352 q385 q105 dX1_next_9 h (fun S3 a4 h => ?_)
    refine jr_dup C 13 rfl dX1_next_12 rfl ?_
    refine jr_aload_n C 14 rfl dX1_next_13 rfl 0 rfl ?_
    refine jr_geti C 17 rfl fo_1_2_2_Text q171 dX1_next_14 h (fun v5 h => ?_)
    refine jr_callIv (As := [.int v5]) (st := [.ref a4]) C 20 rfl (m_X6_init C.2.2.2.2.2.2.2.2.2.2.2.2.2.2.2 h) rfl rfl q424 q425 q105 q426 (by decide) (by decide) nd_X6_init (Nat.le_of_ble_eq_true rfl) dX1_next_17 (fun S6 _ h => ?_)
    exact jr_athrow C dX1_next_20 h.1 (jx_out C hT (by intro x hx; cases hx) h.2)
  · have h := h.2 c17
    refine jr_aload_n C 22 rfl dX1_next_21 rfl 0 rfl ?_
    refine jr_aload_n C 23 rfl dX1_next_22 rfl 0 rfl ?_
    refine jr_ldcs C 25 rfl (i := 0) rfl dX1_next_23 h (fun v7 h => ?_)
    refine dr_Text_passes_1_2 (As := [.ref v7]) (st := [.ref x0]) C 28 rfl h rfl q451 (by decide) (Nat.le_of_ble_eq_true rfl) dX1_next_25 (fun S8 r9 h => ?_) (fun S14 e15 q16 h => by
    obtain ⟨hE, h⟩ := h
    subst hE
    exact jx_out C hT (by intro x hx; cases hx) h)
    refine dr_Text_part_1_2 (As := [.int r9]) (st := []) C 31 rfl h rfl q543 (by decide) (Nat.le_of_ble_eq_true rfl) dX1_next_28 (fun S10 _ h => ?_) (fun S11 e12 q13 h => by
    obtain ⟨hE, h⟩ := h
    subst hE
    exact jx_out C hT (by intro x hx; cases hx) h)
    exact jx_retW (jr_return C.aim dX1_next_31 h)
theorem m_X1_next {l : Launch} (hl : l.stackTraces = false) {G : jG} {K : jS → Unit → Prop} {KX : jS → Nat → Nat → Prop} {S : jS} {x0 : Nat} (h : wp_X1_next S x0 K KX) : jXMet l G d_X1_next yX1_next (ws_ yX1_next cX1_next 1 none) [.ref x0] S tvv K KX :=
  jXMet.of hl rfl (by decide) (Nat.le_of_ble_eq_true rfl) (fun X C hT => jr_sub [0] rfl (wk_X1_next_0 C hT h))
theorem wk_X3_clear_0 {X : jX} {G : jG} {K : jS → Unit → Prop} (C : jC (X, G, 1, jA X G tvv K) d_X3_clear cX3_clear "Samovar$Company" none yX3_clear) {S : jS} {x0 : Nat}  (h : wp_X3_clear S x0 K) : jJ (X, G, 1, jA X G tvv K) S [(0, .ref x0)] 0 [] := by
  unfold wp_X3_clear at h
  refine jr_aload_n C 1 rfl dX3_clear_0 rfl 0 rfl ?_
  refine jr_getr C 4 rfl fo_2_5 q195 dX3_clear_1 h (fun v1 h => ?_)
  obtain ⟨⟨V, hb⟩, h⟩ := h
  refine jr_callVv (r0 := (RJ2, TJ2, 3)) (As := []) (st := []) C 7 rfl (m_J2_clear C.2.2.2.2.2.2.2.2.2.2.2.2.2.2.2 h) rfl hb rfl q359 q360 q361 q99 q362 (by decide) (by decide) ndV_J2_clear (Nat.le_of_ble_eq_true rfl) dX3_clear_4 (fun S2 _ h => ?_)
  exact jr_return C dX3_clear_7 h
theorem m_X3_clear {l : Launch} (hl : l.stackTraces = false) {G : jG} {K : jS → Unit → Prop} {S : jS} {x0 : Nat} (h : wp_X3_clear S x0 K) : jMet l G d_X3_clear yX3_clear (ws_ yX3_clear cX3_clear 1 none) [.ref x0] S tvv K :=
  jMet.of hl rfl (by decide) (Nat.le_of_ble_eq_true rfl) (fun X C => jr_sub [0] rfl (wk_X3_clear_0 C h))
theorem wk_X2_clear_0 {X : jX} {G : jG} {K : jS → Unit → Prop} (C : jC (X, G, 1, jA X G tvv K) d_X2_clear cX2_clear "Samovar$Woodpile" none yX2_clear) {S : jS} {x0 : Nat}  (h : wp_X2_clear S x0 K) : jJ (X, G, 1, jA X G tvv K) S [(0, .ref x0)] 0 [] := by
  unfold wp_X2_clear at h
  refine jr_aload_n C 1 rfl dX2_clear_0 rfl 0 rfl ?_
  refine jr_getr C 4 rfl fo_1_5 q167 dX2_clear_1 h (fun v1 h => ?_)
  obtain ⟨⟨V, hb⟩, h⟩ := h
  refine jr_callVv (r0 := (RJ2, TJ2, 3)) (As := []) (st := []) C 7 rfl (m_J2_clear C.2.2.2.2.2.2.2.2.2.2.2.2.2.2.2 h) rfl hb rfl q366 q360 q361 q99 q362 (by decide) (by decide) ndV_J2_clear (Nat.le_of_ble_eq_true rfl) dX2_clear_4 (fun S2 _ h => ?_)
  exact jr_return C dX2_clear_7 h
theorem m_X2_clear {l : Launch} (hl : l.stackTraces = false) {G : jG} {K : jS → Unit → Prop} {S : jS} {x0 : Nat} (h : wp_X2_clear S x0 K) : jMet l G d_X2_clear yX2_clear (ws_ yX2_clear cX2_clear 1 none) [.ref x0] S tvv K :=
  jMet.of hl rfl (by decide) (Nat.le_of_ble_eq_true rfl) (fun X C => jr_sub [0] rfl (wk_X2_clear_0 C h))
theorem ndD_Text_clear_1_2 : ("Samovar$Text" : String) ≠ "java/lang/invoke/MethodHandle" ∧ ("Samovar$Text" : String) ≠ "java/lang/invoke/VarHandle" ∧ (parseMethodDescriptor "()V").map (fun d => d.parameters.length) = some 0 := by decide +kernel
theorem dr_Text_clear_1_2 {Z : jZ} {d : Nat} {cc : ByteArray} {own : String} {ret : Option FieldType} {y : MethodName} {pc : Nat} {S : jS} {lv : List (Nat × Value)} {st As : List Value} (C : jC Z d cc own ret y) (pc' : Nat) (hp : pc + 3 = pc') {a : Nat}  {K : jS → Unit → Prop} {stk : List Value} (h : wpD_Text_clear_1_2 S a  K) (hstk : [].reverse ++ .ref a :: st = stk) {index : Nat} (q1 : Cond.methodLink own index (⟨"Samovar$Text", "clear", "()V"⟩ : MethodName) ∈ lw_all) (hd : d_D_Text_clear_1_2 + 1 ≤ d) (hst : (st.map fun v => v.category).sum ≤ 8) (hdg : decode cc pc = .ok (.invokevirtual index, 3)) (kk : ∀ (S1 : jS) (r : Unit), K S1 r → jJ Z S1 lv pc' (st)) : jJ Z S lv pc stk := by
  unfold wpD_Text_clear_1_2 at h
  rcases h with ⟨⟨V, hb⟩, h⟩ | ⟨⟨V, hb⟩, h⟩
  · exact jr_callUv (As := []) (r0 := (RX2, TX2, 6)) (owner := "Samovar$Text") C pc' hp (m_X2_clear C.2.2.2.2.2.2.2.2.2.2.2.2.2.2.2 h) hstk hb rfl (va_Decl.abs (C.2.2.2.2.2.2.2.1.2.2.2.1 _ (jx_g q354 rfl))) q1 q355 (C.2.2.2.2.1 _ q363) q364 q96 q365 (Nat.le_trans (Nat.le_of_ble_eq_true rfl) hd) (by decide) ndD_Text_clear_1_2 hst hdg kk
  · exact jr_callUv (As := []) (r0 := (RX3, TX3, 6)) (owner := "Samovar$Text") C pc' hp (m_X3_clear C.2.2.2.2.2.2.2.2.2.2.2.2.2.2.2 h) hstk hb rfl (va_Decl.abs (C.2.2.2.2.2.2.2.1.2.2.2.1 _ (jx_g q354 rfl))) q1 q355 (C.2.2.2.2.1 _ q356) q357 q100 q358 (Nat.le_trans (Nat.le_of_ble_eq_true rfl) hd) (by decide) ndD_Text_clear_1_2 hst hdg kk
theorem ndD_Text_next_1_2 : ("Samovar$Text" : String) ≠ "java/lang/invoke/MethodHandle" ∧ ("Samovar$Text" : String) ≠ "java/lang/invoke/VarHandle" ∧ (parseMethodDescriptor "()V").map (fun d => d.parameters.length) = some 0 := by decide +kernel
theorem dr_Text_next_1_2 {Z : jZ} {d : Nat} {cc : ByteArray} {own : String} {ret : Option FieldType} {y : MethodName} {pc : Nat} {S : jS} {lv : List (Nat × Value)} {st As : List Value} (C : jC Z d cc own ret y) (pc' : Nat) (hp : pc + 3 = pc') {a : Nat}  {K : jS → Unit → Prop} {KX : jS → Nat → Nat → Prop} {stk : List Value} (h : wpD_Text_next_1_2 S a  K KX) (hstk : [].reverse ++ .ref a :: st = stk) {index : Nat} (q1 : Cond.methodLink own index (⟨"Samovar$Text", "next", "()V"⟩ : MethodName) ∈ lw_all) (hd : d_D_Text_next_1_2 + 1 ≤ d) (hst : (st.map fun v => v.category).sum ≤ 8) (hdg : decode cc pc = .ok (.invokevirtual index, 3)) (kk : ∀ (S1 : jS) (r : Unit), K S1 r → jJ Z S1 lv pc' (st)) (kx : ∀ (S1 : jS) (e q : Nat), KX S1 e q → jT Z S1 lv pc st e q) : jJ Z S lv pc stk := by
  unfold wpD_Text_next_1_2 at h
  rcases h with ⟨⟨V, hb⟩, h⟩ | ⟨⟨V, hb⟩, h⟩
  · exact jr_callXUv (As := []) (r0 := (RX2, TX2, 6)) (owner := "Samovar$Text") C pc' hp (m_X1_next C.2.2.2.2.2.2.2.2.2.2.2.2.2.2.2 h) hstk hb rfl (va_Decl.of (C.2.2.2.2.1 _ q369) (C.2.2.2.2.1 _ q370)) q1 q1836 (va_Nw.use rfl (C.2.2.2.2.2.2.2.1.2.2.2.1 _ (jx_s 0 rfl))) q369 q95 q370 (Nat.le_trans (Nat.le_of_ble_eq_true rfl) hd) (by decide) ndD_Text_next_1_2 hst hdg kk kx
  · exact jr_callXUv (As := []) (r0 := (RX3, TX3, 6)) (owner := "Samovar$Text") C pc' hp (m_X1_next C.2.2.2.2.2.2.2.2.2.2.2.2.2.2.2 h) hstk hb rfl (va_Decl.of (C.2.2.2.2.1 _ q369) (C.2.2.2.2.1 _ q370)) q1 q1836 (va_Nw.use rfl (C.2.2.2.2.2.2.2.1.2.2.2.1 _ (jx_s 2 rfl))) q369 q95 q370 (Nat.le_trans (Nat.le_of_ble_eq_true rfl) hd) (by decide) ndD_Text_next_1_2 hst hdg kk kx
theorem wk_X1_reads_47 {X : jX} {G : jG} {K : jS → Int32 → Prop} (C : jC (X, G, 2, jA X G tvi K) d_X1_reads cX1_reads "Samovar$Text" (some .int) yX1_reads) (hT : (zc (X, G, 2, jA X G tvi K)).exceptionTable.toList = tableOf [((9), (46), (47), (32))]) {S : jS} {t0 : Nat} {x0 : Nat}  (h : wp_X1_reads_47 S t0 x0 K) : jJ (X, G, 2, jA X G tvi K) S [(0, .ref x0)] 47 [.ref t0] := by
  unfold wp_X1_reads_47 at h
  refine jr_astore_n (lv' := [(1, .ref t0), (0, .ref x0)]) C 48 rfl dX1_reads_47 rfl (Nat.le_of_ble_eq_true rfl) rfl ?_
  refine jr_aload_n C 49 rfl dX1_reads_48 rfl 1 rfl ?_
  refine dr_Text_clear_1_2 (As := []) (st := []) C 52 rfl h rfl q353 (by decide) (Nat.le_of_ble_eq_true rfl) dX1_reads_49 (fun S1 _ h => ?_)
  refine jr_aload_n C 53 rfl dX1_reads_52 rfl 0 rfl ?_
  refine jr_getiN C 56 rfl fo_7_6 (jx_g q434 rfl) dX1_reads_53 h (fun v2 h => ?_)
  exact jr_ireturn C dX1_reads_56 h
theorem wk_X1_reads_38 {X : jX} {G : jG} {K : jS → Int32 → Prop} (C : jC (X, G, 2, jA X G tvi K) d_X1_reads cX1_reads "Samovar$Text" (some .int) yX1_reads) (hT : (zc (X, G, 2, jA X G tvi K)).exceptionTable.toList = tableOf [((9), (46), (47), (32))]) {S : jS} {x0 : Nat} {Kc20 : jS → Prop} (hc20 : ∀ z : jS, Kc20 z → jJ (X, G, 2, jA X G tvi K) z [(0, .ref x0)] 20 []) (h : wp_X1_reads_38 S x0 Kc20 K) : jJ (X, G, 2, jA X G tvi K) S [(0, .ref x0)] 38 [] := by
  unfold wp_X1_reads_38 at h
  refine jr_aload_n C 39 rfl dX1_reads_38 rfl 0 rfl ?_
  refine dr_Text_next_1_2 (As := []) (st := []) C 42 rfl h rfl q367 (by decide) (Nat.le_of_ble_eq_true rfl) dX1_reads_39 (fun S1 _ h => ?_) (fun S2 e3 q4 h => by
    obtain ⟨hE, h⟩ := h
    subst hE
    exact jx_catch C (e := 0) rfl [] ⟨9, 46, 47, 32⟩ [] hT (fun z hz => by cases hz) (by decide) (by decide) q352 (jx_g q386 rfl) ((wk_X1_reads_47 C hT  h)))
  refine jr_goto C 20 dX1_reads_42 (by decide) ?_
  exact (hc20 _ h)
theorem wk_X1_reads_20 {X : jX} {G : jG} {K : jS → Int32 → Prop} (C : jC (X, G, 2, jA X G tvi K) d_X1_reads cX1_reads "Samovar$Text" (some .int) yX1_reads) (hT : (zc (X, G, 2, jA X G tvi K)).exceptionTable.toList = tableOf [((9), (46), (47), (32))]) {S : jS} {x0 : Nat} {Kc20 : jS → Prop} (hc20 : ∀ z : jS, Kc20 z → jJ (X, G, 2, jA X G tvi K) z [(0, .ref x0)] 20 []) (h : wp_X1_reads_20 S x0 Kc20 K) : jJ (X, G, 2, jA X G tvi K) S [(0, .ref x0)] 20 [] := by
  unfold wp_X1_reads_20 at h
  refine jr_aload_n C 21 rfl dX1_reads_20 rfl 0 rfl ?_
  refine jr_geti C 24 rfl fo_1_2_2_Text q171 dX1_reads_21 h (fun v1 h => ?_)
  refine jr_aload_n C 25 rfl dX1_reads_24 rfl 0 rfl ?_
  refine jr_geti C 28 rfl fo_1_2_1_Text q170 dX1_reads_25 h (fun v2 h => ?_)
  refine jr_icmp_ge C 45 31 rfl dX1_reads_28 (by decide) (fun c9 => ?_) (fun c9 => ?_)
  · have h := h.1 c9
    refine jr_iconst (v := (-1)) C 46 rfl dX1_reads_45 (by decide) ?_
    exact jr_ireturn C dX1_reads_46 h
  · have h := h.2 c9
    refine jr_aload_n C 32 rfl dX1_reads_31 rfl 0 rfl ?_
    refine jr_ldcs C 34 rfl (i := 1) rfl dX1_reads_32 h (fun v3 h => ?_)
    refine dr_Text_passes_1_2 (As := [.ref v3]) (st := []) C 37 rfl h rfl q451 (by decide) (Nat.le_of_ble_eq_true rfl) dX1_reads_34 (fun S4 r5 h => ?_) (fun S6 e7 q8 h => by
    obtain ⟨hE, h⟩ := h
    subst hE
    exact jx_catch C (e := 0) rfl [] ⟨9, 46, 47, 32⟩ [] hT (fun z hz => by cases hz) (by decide) (by decide) q352 (jx_g q386 rfl) ((wk_X1_reads_47 C hT  h)))
    refine jr_pop C 38 rfl dX1_reads_37 rfl ?_
    exact (wk_X1_reads_38 C hT hc20 h)
theorem wk_X1_reads_20_L {X : jX} {G : jG} {K : jS → Int32 → Prop} (C : jC (X, G, 2, jA X G tvi K) d_X1_reads cX1_reads "Samovar$Text" (some .int) yX1_reads) (hT : (zc (X, G, 2, jA X G tvi K)).exceptionTable.toList = tableOf [((9), (46), (47), (32))]) {x0 : Nat}  : ∀ (n : Nat) (z : jS), jlp n (wp_X1_reads_20_L x0 K) z → jJ (X, G, 2, jA X G tvi K) z [(0, .ref x0)] 20 [] := by
  intro n
  induction n with
  | zero => intro z h; exact h.elim
  | succ n ih => intro z h; exact wk_X1_reads_20 C hT ih h
theorem wk_X1_reads_0 {X : jX} {G : jG} {K : jS → Int32 → Prop} (C : jC (X, G, 2, jA X G tvi K) d_X1_reads cX1_reads "Samovar$Text" (some .int) yX1_reads) (hT : (zc (X, G, 2, jA X G tvi K)).exceptionTable.toList = tableOf [((9), (46), (47), (32))]) {S : jS} {x0 : Nat}  (h : wp_X1_reads S x0 K) : jJ (X, G, 2, jA X G tvi K) S [(0, .ref x0)] 0 [] := by
  unfold wp_X1_reads at h
  refine jr_aload_n C 1 rfl dX1_reads_0 rfl 0 rfl ?_
  refine jr_iconst (v := 0) C 2 rfl dX1_reads_1 (by decide) ?_
  refine jr_putv C 5 rfl fo_1_2_2_Text (by decide) q171 dX1_reads_2 rfl rfl h (fun S1 h => ?_)
  refine jr_aload_n C 6 rfl dX1_reads_5 rfl 0 rfl ?_
  refine dr_Text_clear_1_2 (As := []) (st := []) C 9 rfl h rfl q353 (by decide) (Nat.le_of_ble_eq_true rfl) dX1_reads_6 (fun S2 _ h => ?_)
  refine jr_aload_n C 10 rfl dX1_reads_9 rfl 0 rfl ?_
  refine jr_geti C 13 rfl fo_1_2_1_Text q170 dX1_reads_10 h (fun v3 h => ?_)
  refine jr_if_le C 20 16 rfl dX1_reads_13 (by decide) (fun c8 => ?_) (fun c8 => ?_)
  · have h := h.1 c8
    obtain ⟨n, h⟩ := h
    exact (wk_X1_reads_20_L C hT  n _ h)
  · have h := h.2 c8
    refine jr_aload_n C 17 rfl dX1_reads_16 rfl 0 rfl ?_
    refine dr_Text_next_1_2 (As := []) (st := []) C 20 rfl h rfl q367 (by decide) (Nat.le_of_ble_eq_true rfl) dX1_reads_17 (fun S4 _ h => ?_) (fun S5 e6 q7 h => by
    obtain ⟨hE, h⟩ := h
    subst hE
    exact jx_catch C (e := 0) rfl [] ⟨9, 46, 47, 32⟩ [] hT (fun z hz => by cases hz) (by decide) (by decide) q352 (jx_g q386 rfl) ((wk_X1_reads_47 C hT  h)))
    obtain ⟨n, h⟩ := h
    exact (wk_X1_reads_20_L C hT  n _ h)
theorem m_X1_reads {l : Launch} (hl : l.stackTraces = false) {G : jG} {K : jS → Int32 → Prop} {S : jS} {x0 : Nat} (h : wp_X1_reads S x0 K) : jMet l G d_X1_reads yX1_reads (wsW_ yX1_reads cX1_reads 2 (some .int) [((9), (46), (47), (32))]) [.ref x0] S tvi K :=
  jMet.ofHT hl rfl (by decide) (Nat.le_of_ble_eq_true rfl) (fun X C hT => jr_sub [0] rfl (wk_X1_reads_0 C hT h))
theorem ndD_Text_reads_1_2 : ("Samovar$Text" : String) ≠ "java/lang/invoke/MethodHandle" ∧ ("Samovar$Text" : String) ≠ "java/lang/invoke/VarHandle" ∧ (parseMethodDescriptor "()I").map (fun d => d.parameters.length) = some 0 := by decide +kernel
theorem dr_Text_reads_1_2 {Z : jZ} {d : Nat} {cc : ByteArray} {own : String} {ret : Option FieldType} {y : MethodName} {pc : Nat} {S : jS} {lv : List (Nat × Value)} {st As : List Value} (C : jC Z d cc own ret y) (pc' : Nat) (hp : pc + 3 = pc') {a : Nat}  {K : jS → Int32 → Prop} {stk : List Value} (h : wpD_Text_reads_1_2 S a  K) (hstk : [].reverse ++ .ref a :: st = stk) {index : Nat} (q1 : Cond.methodLink own index (⟨"Samovar$Text", "reads", "()I"⟩ : MethodName) ∈ lw_all) (hd : d_D_Text_reads_1_2 + 1 ≤ d) (hst : (st.map fun v => v.category).sum ≤ 8) (hdg : decode cc pc = .ok (.invokevirtual index, 3)) (kk : ∀ (S1 : jS) (r : Int32), K S1 r → jJ Z S1 lv pc' (.int r :: st)) : jJ Z S lv pc stk := by
  unfold wpD_Text_reads_1_2 at h
  rcases h with ⟨⟨V, hb⟩, h⟩ | ⟨⟨V, hb⟩, h⟩
  · exact jr_callUWi (As := []) (r0 := (RX2, TX2, 6)) C pc' hp (m_X1_reads C.2.2.2.2.2.2.2.2.2.2.2.2.2.2.2 h) hstk hb rfl q1 q350 (va_Nw.use rfl (C.2.2.2.2.2.2.2.1.2.2.2.1 _ (jx_s 1 rfl))) q95 q351 (Nat.le_trans (Nat.le_of_ble_eq_true rfl) hd) (by decide) nd_X1_reads hst hdg kk
  · exact jr_callUWi (As := []) (r0 := (RX3, TX3, 6)) C pc' hp (m_X1_reads C.2.2.2.2.2.2.2.2.2.2.2.2.2.2.2 h) hstk hb rfl q1 q350 (va_Nw.use rfl (C.2.2.2.2.2.2.2.1.2.2.2.1 _ (jx_s 3 rfl))) q95 q351 (Nat.le_trans (Nat.le_of_ble_eq_true rfl) hd) (by decide) nd_X1_reads hst hdg kk
theorem wk_X1_read_15 {X : jX} {G : jG} {K : jS → Int32 → Prop} (C : jC (X, G, 1, jA X G tvi K) d_X1_read cX1_read "Samovar$Text" (some .int) yX1_read) {S : jS} {x0 : Nat}  (h : wp_X1_read_15 S x0 K) : jJ (X, G, 1, jA X G tvi K) S [(0, .ref x0)] 15 [] := by
  unfold wp_X1_read_15 at h
  refine jr_aload_n C 16 rfl dX1_read_15 rfl 0 rfl ?_
  refine jr_iconst (v := 1) C 17 rfl dX1_read_16 (by decide) ?_
  obtain ⟨hz, h⟩ := h
  refine jr_putv C 20 rfl fo_1_2_3_Text (by decide) q172 dX1_read_17 (j_nz hz) (j_fz hz) h (fun S1 h => ?_)
  refine jr_aload_n C 21 rfl dX1_read_20 rfl 0 rfl ?_
  refine jr_geti C 24 rfl fo_1_2_4_Text q173 dX1_read_21 h (fun v2 h => ?_)
  exact jr_ireturn C dX1_read_24 h
theorem wk_X1_read_0 {X : jX} {G : jG} {K : jS → Int32 → Prop} (C : jC (X, G, 1, jA X G tvi K) d_X1_read cX1_read "Samovar$Text" (some .int) yX1_read) {S : jS} {x0 : Nat}  (h : wp_X1_read S x0 K) : jJ (X, G, 1, jA X G tvi K) S [(0, .ref x0)] 0 [] := by
  unfold wp_X1_read at h
  refine jr_aload_n C 1 rfl dX1_read_0 rfl 0 rfl ?_
  refine jr_geti C 4 rfl fo_1_2_3_Text q172 dX1_read_1 h (fun v1 h => ?_)
  refine jr_if_ne C 15 7 rfl dX1_read_4 (by decide) (fun c5 => ?_) (fun c5 => ?_)
  · have h := h.1 c5
    refine jr_aload_n C 8 rfl dX1_read_7 rfl 0 rfl ?_
    refine jr_aload_n C 9 rfl dX1_read_8 rfl 0 rfl ?_
    refine dr_Text_reads_1_2 (As := []) (st := [.ref x0]) C 12 rfl h rfl q348 (by decide) (Nat.le_of_ble_eq_true rfl) dX1_read_9 (fun S2 r3 h => ?_)
    refine jr_putv C 15 rfl fo_1_2_4_Text (by decide) q173 dX1_read_12 rfl rfl h (fun S4 h => ?_)
    exact (wk_X1_read_15 C  h)
  · have h := h.2 c5
    exact (wk_X1_read_15 C  h)
theorem m_X1_read {l : Launch} (hl : l.stackTraces = false) {G : jG} {K : jS → Int32 → Prop} {S : jS} {x0 : Nat} (h : wp_X1_read S x0 K) : jMet l G d_X1_read yX1_read (ws_ yX1_read cX1_read 1 (some .int)) [.ref x0] S tvi K :=
  jMet.of hl rfl (by decide) (Nat.le_of_ble_eq_true rfl) (fun X C => jr_sub [0] rfl (wk_X1_read_0 C h))
theorem wk_X1_type_0 {X : jX} {G : jG} {K : jS → Int32 → Prop} (C : jC (X, G, 2, jA X G tvi K) d_X1_type cX1_type "Samovar$Text" (some .int) yX1_type) {S : jS} {x0 : Nat} {x1 : Int32}  (h : wp_X1_type S x0 x1 K) : jJ (X, G, 2, jA X G tvi K) S [(0, .ref x0), (1, .int x1)] 0 [] := by
  unfold wp_X1_type at h
  refine jr_aload_n C 1 rfl dX1_type_0 rfl 0 rfl ?_
  refine jr_geti C 4 rfl fo_1_2_1_Text q170 dX1_type_1 h (fun v1 h => ?_)
  refine jr_aload_n C 5 rfl dX1_type_4 rfl 0 rfl ?_
  refine jr_getr C 8 rfl fo_1_2_0_Text q169 dX1_type_5 h (fun v2 h => ?_)
  refine jr_alen C 9 rfl dX1_type_8 h (fun v3 h => ?_)
  refine jr_icmp_ne C 15 12 rfl dX1_type_9 (by decide) (fun c11 => ?_) (fun c11 => ?_)
  · have h := h.1 c11
    refine jr_bipush (v := (-4)) C 14 rfl dX1_type_12 (by decide) ?_
    exact jr_ireturn C dX1_type_14 h
  · have h := h.2 c11
    refine jr_aload_n C 16 rfl dX1_type_15 rfl 0 rfl ?_
    refine jr_getr C 19 rfl fo_1_2_0_Text q169 dX1_type_16 h (fun v4 h => ?_)
    refine jr_aload_n C 20 rfl dX1_type_19 rfl 0 rfl ?_
    refine jr_geti C 23 rfl fo_1_2_1_Text q170 dX1_type_20 h (fun v5 h => ?_)
    refine jr_iload_n C 24 rfl dX1_type_23 rfl 1 rfl ?_
    refine jr_i2b C 25 rfl dX1_type_24 ?_
    refine jr_bast C 26 rfl dX1_type_25 h (fun S6 h => ?_)
    refine jr_aload_n C 27 rfl dX1_type_26 rfl 0 rfl ?_
    refine jr_dup C 28 rfl dX1_type_27 rfl ?_
    refine jr_geti C 31 rfl fo_1_2_1_Text q170 dX1_type_28 h (fun v7 h => ?_)
    refine jr_iconst (v := 1) C 32 rfl dX1_type_31 (by decide) ?_
    refine jr_iadd C 33 rfl dX1_type_32 ?_
    refine jr_putv C 36 rfl fo_1_2_1_Text (by decide) q170 dX1_type_33 rfl rfl h (fun S8 h => ?_)
    refine jr_aload_n C 37 rfl dX1_type_36 rfl 0 rfl ?_
    refine jr_iconst (v := 0) C 38 rfl dX1_type_37 (by decide) ?_
    obtain ⟨hz, h⟩ := h
    refine jr_putv C 41 rfl fo_1_2_3_Text (by decide) q172 dX1_type_38 (j_nz hz) (j_fz hz) h (fun S9 h => ?_)
    refine jr_aload_n C 42 rfl dX1_type_41 rfl 0 rfl ?_
    refine jr_geti C 45 rfl fo_1_2_1_Text q170 dX1_type_42 h (fun v10 h => ?_)
    exact jr_ireturn C dX1_type_45 h
theorem m_X1_type {l : Launch} (hl : l.stackTraces = false) {G : jG} {K : jS → Int32 → Prop} {S : jS} {x0 : Nat} {x1 : Int32} (h : wp_X1_type S x0 x1 K) : jMet l G d_X1_type yX1_type (ws_ yX1_type cX1_type 2 (some .int)) [.ref x0, .int x1] S tvi K :=
  jMet.of hl rfl (by decide) (Nat.le_of_ble_eq_true rfl) (fun X C => jr_sub [0, 1] rfl (wk_X1_type_0 C h))
theorem wk_X1_undo_0 {X : jX} {G : jG} {K : jS → Int32 → Prop} (C : jC (X, G, 1, jA X G tvi K) d_X1_undo cX1_undo "Samovar$Text" (some .int) yX1_undo) {S : jS} {x0 : Nat}  (h : wp_X1_undo S x0 K) : jJ (X, G, 1, jA X G tvi K) S [(0, .ref x0)] 0 [] := by
  unfold wp_X1_undo at h
  refine jr_aload_n C 1 rfl dX1_undo_0 rfl 0 rfl ?_
  refine jr_geti C 4 rfl fo_1_2_1_Text q170 dX1_undo_1 h (fun v1 h => ?_)
  refine jr_if_ne C 10 7 rfl dX1_undo_4 (by decide) (fun c6 => ?_) (fun c6 => ?_)
  · have h := h.1 c6
    refine jr_bipush (v := (-3)) C 9 rfl dX1_undo_7 (by decide) ?_
    exact jr_ireturn C dX1_undo_9 h
  · have h := h.2 c6
    refine jr_aload_n C 11 rfl dX1_undo_10 rfl 0 rfl ?_
    refine jr_dup C 12 rfl dX1_undo_11 rfl ?_
    refine jr_geti C 15 rfl fo_1_2_1_Text q170 dX1_undo_12 h (fun v2 h => ?_)
    refine jr_iconst (v := 1) C 16 rfl dX1_undo_15 (by decide) ?_
    refine jr_isub C 17 rfl dX1_undo_16 ?_
    refine jr_putv C 20 rfl fo_1_2_1_Text (by decide) q170 dX1_undo_17 rfl rfl h (fun S3 h => ?_)
    refine jr_aload_n C 21 rfl dX1_undo_20 rfl 0 rfl ?_
    refine jr_iconst (v := 0) C 22 rfl dX1_undo_21 (by decide) ?_
    obtain ⟨hz, h⟩ := h
    refine jr_putv C 25 rfl fo_1_2_3_Text (by decide) q172 dX1_undo_22 (j_nz hz) (j_fz hz) h (fun S4 h => ?_)
    refine jr_aload_n C 26 rfl dX1_undo_25 rfl 0 rfl ?_
    refine jr_geti C 29 rfl fo_1_2_1_Text q170 dX1_undo_26 h (fun v5 h => ?_)
    exact jr_ireturn C dX1_undo_29 h
theorem m_X1_undo {l : Launch} (hl : l.stackTraces = false) {G : jG} {K : jS → Int32 → Prop} {S : jS} {x0 : Nat} (h : wp_X1_undo S x0 K) : jMet l G d_X1_undo yX1_undo (ws_ yX1_undo cX1_undo 1 (some .int)) [.ref x0] S tvi K :=
  jMet.of hl rfl (by decide) (Nat.le_of_ble_eq_true rfl) (fun X C => jr_sub [0] rfl (wk_X1_undo_0 C h))
theorem wk_X1_wipe_0 {X : jX} {G : jG} {K : jS → Int32 → Prop} (C : jC (X, G, 2, jA X G tvi K) d_X1_wipe cX1_wipe "Samovar$Text" (some .int) yX1_wipe) {S : jS} {x0 : Nat}  (h : wp_X1_wipe S x0 K) : jJ (X, G, 2, jA X G tvi K) S [(0, .ref x0)] 0 [] := by
  unfold wp_X1_wipe at h
  refine jr_aload_n C 1 rfl dX1_wipe_0 rfl 0 rfl ?_
  refine jr_geti C 4 rfl fo_1_2_1_Text q170 dX1_wipe_1 h (fun v1 h => ?_)
  refine jr_istore_n (lv' := [(1, .int v1), (0, .ref x0)]) C 5 rfl dX1_wipe_4 rfl (Nat.le_of_ble_eq_true rfl) rfl ?_
  refine jr_aload_n C 6 rfl dX1_wipe_5 rfl 1 rfl ?_
  refine jr_iconst (v := 0) C 7 rfl dX1_wipe_6 (by decide) ?_
  refine jr_putv C 10 rfl fo_1_2_1_Text (by decide) q170 dX1_wipe_7 rfl rfl h (fun S2 h => ?_)
  refine jr_aload_n C 11 rfl dX1_wipe_10 rfl 1 rfl ?_
  refine jr_iconst (v := 0) C 12 rfl dX1_wipe_11 (by decide) ?_
  obtain ⟨hz, h⟩ := h
  refine jr_putv C 15 rfl fo_1_2_3_Text (by decide) q172 dX1_wipe_12 (j_nz hz) (j_fz hz) h (fun S3 h => ?_)
  refine jr_iload_n C 16 rfl dX1_wipe_15 rfl 0 rfl ?_
  exact jr_ireturn C dX1_wipe_16 h
theorem m_X1_wipe {l : Launch} (hl : l.stackTraces = false) {G : jG} {K : jS → Int32 → Prop} {S : jS} {x0 : Nat} (h : wp_X1_wipe S x0 K) : jMet l G d_X1_wipe yX1_wipe (ws_ yX1_wipe cX1_wipe 2 (some .int)) [.ref x0] S tvi K :=
  jMet.of hl rfl (by decide) (Nat.le_of_ble_eq_true rfl) (fun X C => jr_sub [0] rfl (wk_X1_wipe_0 C h))
theorem wk_X2_init_0 {X : jX} {G : jG} {K : jS → Unit → Prop} (C : jC (X, G, 1, jA X G tvv K) d_X2_init cX2_init "Samovar$Woodpile" none yX2_init) {S : jS} {x0 : Nat}  (h : wp_X2_init S x0 K) : jJ (X, G, 1, jA X G tvv K) S [(0, .ref x0)] 0 [] := by
  unfold wp_X2_init at h
  refine jr_aload_n C 1 rfl dX2_init_0 rfl 0 rfl ?_
  refine jr_callINv (As := []) (st := []) C 4 rfl (m_X1_init C.2.2.2.2.2.2.2.2.2.2.2.2.2.2.2 h) rfl rfl (jx_g q136 rfl) q137 q95 q138 (by decide) (by decide) nd_X1_init (Nat.le_of_ble_eq_true rfl) dX2_init_1 (fun S1 _ h => ?_)
  refine jr_aload_n C 5 rfl dX2_init_4 rfl 0 rfl ?_
  refine jr_new C 8 rfl (c := 3) (by decide) rfl in_J2 tyJ2_ok q140 q141 q99 dX2_init_5 h (fun S2 a3 h => ?_)
  refine jr_dup C 9 rfl dX2_init_8 rfl ?_
  refine jr_callIv (As := []) (st := [.ref a3, .ref x0]) C 12 rfl (m_J2_init C.2.2.2.2.2.2.2.2.2.2.2.2.2.2.2 h) rfl rfl q142 q143 q99 q144 (by decide) (by decide) nd_J2_init (Nat.le_of_ble_eq_true rfl) dX2_init_9 (fun S4 _ h => ?_)
  refine jr_putvF C 15 rfl rfl fo_1_5 fo_1_5_d (by decide) q167 dX2_init_12 rfl rfl h (fun S5 h => ?_)
  exact jr_return C dX2_init_15 h
theorem m_X2_init {l : Launch} (hl : l.stackTraces = false) {G : jG} {K : jS → Unit → Prop} {S : jS} {x0 : Nat} (h : wp_X2_init S x0 K) : jMet l G d_X2_init yX2_init (ws_ yX2_init cX2_init 1 none) [.ref x0] S tvv K :=
  jMet.of hl rfl (by decide) (Nat.le_of_ble_eq_true rfl) (fun X C => jr_sub [0] rfl (wk_X2_init_0 C h))
theorem wk_X3_init_0 {X : jX} {G : jG} {K : jS → Unit → Prop} (C : jC (X, G, 1, jA X G tvv K) d_X3_init cX3_init "Samovar$Company" none yX3_init) {S : jS} {x0 : Nat}  (h : wp_X3_init S x0 K) : jJ (X, G, 1, jA X G tvv K) S [(0, .ref x0)] 0 [] := by
  unfold wp_X3_init at h
  refine jr_aload_n C 1 rfl dX3_init_0 rfl 0 rfl ?_
  refine jr_callINv (As := []) (st := []) C 4 rfl (m_X1_init C.2.2.2.2.2.2.2.2.2.2.2.2.2.2.2 h) rfl rfl (jx_g q192 rfl) q137 q95 q138 (by decide) (by decide) nd_X1_init (Nat.le_of_ble_eq_true rfl) dX3_init_1 (fun S1 _ h => ?_)
  refine jr_aload_n C 5 rfl dX3_init_4 rfl 0 rfl ?_
  refine jr_new C 8 rfl (c := 3) (by decide) rfl in_J2 tyJ2_ok q193 q141 q99 dX3_init_5 h (fun S2 a3 h => ?_)
  refine jr_dup C 9 rfl dX3_init_8 rfl ?_
  refine jr_callIv (As := []) (st := [.ref a3, .ref x0]) C 12 rfl (m_J2_init C.2.2.2.2.2.2.2.2.2.2.2.2.2.2.2 h) rfl rfl q194 q143 q99 q144 (by decide) (by decide) nd_J2_init (Nat.le_of_ble_eq_true rfl) dX3_init_9 (fun S4 _ h => ?_)
  refine jr_putvF C 15 rfl rfl fo_2_5 fo_2_5_d (by decide) q195 dX3_init_12 rfl rfl h (fun S5 h => ?_)
  exact jr_return C dX3_init_15 h
theorem m_X3_init {l : Launch} (hl : l.stackTraces = false) {G : jG} {K : jS → Unit → Prop} {S : jS} {x0 : Nat} (h : wp_X3_init S x0 K) : jMet l G d_X3_init yX3_init (ws_ yX3_init cX3_init 1 none) [.ref x0] S tvv K :=
  jMet.of hl rfl (by decide) (Nat.le_of_ble_eq_true rfl) (fun X C => jr_sub [0] rfl (wk_X3_init_0 C h))
theorem wk_X4_init_0 {X : jX} {G : jG} {K : jS → Unit → Prop} (C : jC (X, G, 1, jA X G tvv K) d_X4_init cX4_init "Samovar$Sheet" none yX4_init) {S : jS} {x0 : Nat}  (h : wp_X4_init S x0 K) : jJ (X, G, 1, jA X G tvv K) S [(0, .ref x0)] 0 [] := by
  unfold wp_X4_init at h
  refine jr_aload_n C 1 rfl dX4_init_0 rfl 0 rfl ?_
  refine jr_objInit C 4 rfl (by decide) q221 q129 q130 (Nat.le_of_ble_eq_true rfl) dX4_init_1 ?_
  exact jr_return C dX4_init_4 h
theorem m_X4_init {l : Launch} (hl : l.stackTraces = false) {G : jG} {K : jS → Unit → Prop} {S : jS} {x0 : Nat} (h : wp_X4_init S x0 K) : jMet l G d_X4_init yX4_init (ws_ yX4_init cX4_init 1 none) [.ref x0] S tvv K :=
  jMet.of hl rfl (by decide) (Nat.le_of_ble_eq_true rfl) (fun X C => jr_sub [0] rfl (wk_X4_init_0 C h))
theorem wk_X7_begins_0 {X : jX} {G : jG} {K : jS → Unit → Prop} (C : jC (X, G, 1, jA X G tvv K) d_X7_begins cX7_begins "Samovar$Guest" none yX7_begins) {S : jS} {x0 : Nat}  (h : wp_X7_begins S x0 K) : jJ (X, G, 1, jA X G tvv K) S [(0, .ref x0)] 0 [] := by
  unfold wp_X7_begins at h
  refine jr_aload_n C 1 rfl dX7_begins_0 rfl 0 rfl ?_
  refine jr_iconst (v := 0) C 2 rfl dX7_begins_1 (by decide) ?_
  refine jr_putv C 5 rfl fo_4_3 (by decide) q569 dX7_begins_2 rfl rfl h (fun S1 h => ?_)
  refine jr_aload_n C 6 rfl dX7_begins_5 rfl 0 rfl ?_
  refine jr_iconst (v := 0) C 7 rfl dX7_begins_6 (by decide) ?_
  refine jr_putv C 10 rfl fo_4_4 (by decide) q571 dX7_begins_7 rfl rfl h (fun S2 h => ?_)
  refine jr_aload_n C 11 rfl dX7_begins_10 rfl 0 rfl ?_
  refine jr_iconst (v := 0) C 12 rfl dX7_begins_11 (by decide) ?_
  refine jr_putv C 15 rfl fo_4_5 (by decide) q573 dX7_begins_12 rfl rfl h (fun S3 h => ?_)
  refine jr_aload_n C 16 rfl dX7_begins_15 rfl 0 rfl ?_
  refine jr_iconst (v := 0) C 17 rfl dX7_begins_16 (by decide) ?_
  refine jr_putv C 20 rfl fo_4_6 (by decide) q574 dX7_begins_17 rfl rfl h (fun S4 h => ?_)
  refine jr_aload_n C 21 rfl dX7_begins_20 rfl 0 rfl ?_
  refine jr_iconst (v := 0) C 22 rfl dX7_begins_21 (by decide) ?_
  refine jr_putv C 25 rfl fo_4_7 (by decide) q576 dX7_begins_22 rfl rfl h (fun S5 h => ?_)
  exact jr_return C dX7_begins_25 h
theorem m_X7_begins {l : Launch} (hl : l.stackTraces = false) {G : jG} {K : jS → Unit → Prop} {S : jS} {x0 : Nat} (h : wp_X7_begins S x0 K) : jMet l G d_X7_begins yX7_begins (ws_ yX7_begins cX7_begins 1 none) [.ref x0] S tvv K :=
  jMet.of hl rfl (by decide) (Nat.le_of_ble_eq_true rfl) (fun X C => jr_sub [0] rfl (wk_X7_begins_0 C h))
theorem ndD_Taste_number_12_13 : ("Samovar$Taste" : String) ≠ "java/lang/invoke/MethodHandle" ∧ ("Samovar$Taste" : String) ≠ "java/lang/invoke/VarHandle" ∧ (parseMethodDescriptor "()I").map (fun d => d.parameters.length) = some 0 := by decide +kernel
theorem dr_Taste_number_12_13 {Z : jZ} {d : Nat} {cc : ByteArray} {own : String} {ret : Option FieldType} {y : MethodName} {pc : Nat} {S : jS} {lv : List (Nat × Value)} {st As : List Value} (C : jC Z d cc own ret y) (pc' : Nat) (hp : pc + 3 = pc') {a : Nat}  {K : jS → Int32 → Prop} {stk : List Value} (h : wpD_Taste_number_12_13 S a  K) (hstk : [].reverse ++ .ref a :: st = stk) {index : Nat} (q1 : Cond.methodLink own index (⟨"Samovar$Taste", "number", "()I"⟩ : MethodName) ∈ lw_all) (hd : d_D_Taste_number_12_13 + 1 ≤ d) (hst : (st.map fun v => v.category).sum ≤ 8) (hdg : decode cc pc = .ok (.invokevirtual index, 3)) (kk : ∀ (S1 : jS) (r : Int32), K S1 r → jJ Z S1 lv pc' (.int r :: st)) : jJ Z S lv pc stk := by
  unfold wpD_Taste_number_12_13 at h
  rcases h with ⟨⟨V, hb⟩, h⟩ | ⟨⟨V, hb⟩, h⟩
  · exact jr_callUi (As := []) (r0 := (RX13, TX_0, 0)) (owner := "Samovar$Taste") C pc' hp (m_X13_number C.2.2.2.2.2.2.2.2.2.2.2.2.2.2.2 h) hstk hb rfl (va_Decl.of (C.2.2.2.2.1 _ q756) (C.2.2.2.2.1 _ q764)) q1 q758 (C.2.2.2.2.1 _ q757) q756 q1846 q764 (Nat.le_trans (Nat.le_of_ble_eq_true rfl) hd) (by decide) ndD_Taste_number_12_13 hst hdg kk
  · exact jr_callUi (As := []) (r0 := (RX11, TX_0, 0)) (owner := "Samovar$Taste") C pc' hp (m_X11_number C.2.2.2.2.2.2.2.2.2.2.2.2.2.2.2 h) hstk hb rfl (va_Decl.of (C.2.2.2.2.1 _ q756) (C.2.2.2.2.1 _ q764)) q1 q758 (C.2.2.2.2.1 _ q759) q760 q1845 q761 (Nat.le_trans (Nat.le_of_ble_eq_true rfl) hd) (by decide) ndD_Taste_number_12_13 hst hdg kk
theorem wk_X7_by_30 {X : jX} {G : jG} {K : jS → Int32 → Prop} (C : jC (X, G, 2, jA X G tvi K) d_X7_by cX7_by "Samovar$Guest" (some .int) yX7_by) {S : jS} {t0 : Int32}  (h : wp_X7_by_30 S t0 K) : jJ (X, G, 2, jA X G tvi K) S [] 30 [.int t0] := by
  unfold wp_X7_by_30 at h
  exact jr_ireturn C dX7_by_30 h
theorem wk_X7_by_0 {X : jX} {G : jG} {K : jS → Int32 → Prop} (C : jC (X, G, 2, jA X G tvi K) d_X7_by cX7_by "Samovar$Guest" (some .int) yX7_by) {S : jS} {x0 : Nat} {x1 : Int32}  (h : wp_X7_by S x0 x1 K) : jJ (X, G, 2, jA X G tvi K) S [(0, .ref x0), (1, .int x1)] 0 [] := by
  unfold wp_X7_by at h
  refine jr_iload_n C 1 rfl dX7_by_0 rfl 1 rfl ?_
  refine jr_if_ne C 11 4 rfl dX7_by_1 (by decide) (fun c7 => ?_) (fun c7 => ?_)
  · have h := h.1 c7
    refine jr_aload_n C 5 rfl dX7_by_4 rfl 0 rfl ?_
    refine jr_geti C 8 rfl fo_4_0 q563 dX7_by_5 h (fun v1 h => ?_)
    refine jr_goto C 30 dX7_by_8 (by decide) ?_
    exact jr_sub [] rfl (wk_X7_by_30 C  h)
  · have h := h.2 c7
    refine jr_iload_n C 12 rfl dX7_by_11 rfl 1 rfl ?_
    refine jr_iconst (v := 1) C 13 rfl dX7_by_12 (by decide) ?_
    refine jr_icmp_ne C 26 16 rfl dX7_by_13 (by decide) (fun c6 => ?_) (fun c6 => ?_)
    · have h := h.1 c6
      refine jr_aload_n C 17 rfl dX7_by_16 rfl 0 rfl ?_
      refine jr_getr C 20 rfl fo_4_1 q565 dX7_by_17 h (fun v2 h => ?_)
      refine dr_Taste_number_12_13 (As := []) (st := []) C 23 rfl h rfl q755 (by decide) (Nat.le_of_ble_eq_true rfl) dX7_by_20 (fun S3 r4 h => ?_)
      refine jr_goto C 30 dX7_by_23 (by decide) ?_
      exact jr_sub [] rfl (wk_X7_by_30 C  h)
    · have h := h.2 c6
      refine jr_aload_n C 27 rfl dX7_by_26 rfl 0 rfl ?_
      refine jr_geti C 30 rfl fo_4_2 q567 dX7_by_27 h (fun v5 h => ?_)
      exact jr_sub [] rfl (wk_X7_by_30 C  h)
theorem m_X7_by {l : Launch} (hl : l.stackTraces = false) {G : jG} {K : jS → Int32 → Prop} {S : jS} {x0 : Nat} {x1 : Int32} (h : wp_X7_by S x0 x1 K) : jMet l G d_X7_by yX7_by (ws_ yX7_by cX7_by 2 (some .int)) [.ref x0, .int x1] S tvi K :=
  jMet.of hl rfl (by decide) (Nat.le_of_ble_eq_true rfl) (fun X C => jr_sub [0, 1] rfl (wk_X7_by_0 C h))
theorem wk_X7_comes_63 {X : jX} {G : jG} {K : jS → Int32 → Prop} (C : jC (X, G, 4, jA X G tvi K) d_X7_comes cX7_comes "Samovar$Guest" (some .boolean) yX7_comes) {S : jS} {x3 : Int32}  (h : wp_X7_comes_63 S x3 K) : jJ (X, G, 4, jA X G tvi K) S [(3, .int x3)] 63 [] := by
  unfold wp_X7_comes_63 at h
  refine jr_iload_n C 64 rfl dX7_comes_63 rfl 0 rfl ?_
  exact jr_zreturn C dX7_comes_64 h
theorem wk_X7_comes_48 {X : jX} {G : jG} {K : jS → Int32 → Prop} (C : jC (X, G, 4, jA X G tvi K) d_X7_comes cX7_comes "Samovar$Guest" (some .boolean) yX7_comes) {S : jS} {t0 : Int32} {x0 : Nat}  (h : wp_X7_comes_48 S t0 x0 K) : jJ (X, G, 4, jA X G tvi K) S [(0, .ref x0)] 48 [.int t0] := by
  unfold wp_X7_comes_48 at h
  refine jr_istore_n (lv' := [(3, .int t0), (0, .ref x0)]) C 49 rfl dX7_comes_48 rfl (Nat.le_of_ble_eq_true rfl) rfl ?_
  refine jr_iload_n C 50 rfl dX7_comes_49 rfl 0 rfl ?_
  refine jr_if_eq C 63 53 rfl dX7_comes_50 (by decide) (fun c3 => ?_) (fun c3 => ?_)
  · have h := h.1 c3
    exact jr_sub [0] rfl (wk_X7_comes_63 C  h)
  · have h := h.2 c3
    refine jr_aload_n C 54 rfl dX7_comes_53 rfl 1 rfl ?_
    refine jr_iconst (v := 1) C 55 rfl dX7_comes_54 (by decide) ?_
    refine jr_putv C 58 rfl fo_4_3 (by decide) q569 dX7_comes_55 rfl rfl h (fun S1 h => ?_)
    refine jr_aload_n C 59 rfl dX7_comes_58 rfl 1 rfl ?_
    refine jr_iconst (v := 0) C 60 rfl dX7_comes_59 (by decide) ?_
    refine jr_putv C 63 rfl fo_4_6 (by decide) q574 dX7_comes_60 rfl rfl h (fun S2 h => ?_)
    exact jr_sub [0] rfl (wk_X7_comes_63 C  h)
theorem wk_X7_comes_24 {X : jX} {G : jG} {K : jS → Int32 → Prop} (C : jC (X, G, 4, jA X G tvi K) d_X7_comes cX7_comes "Samovar$Guest" (some .boolean) yX7_comes) {S : jS} {x0 : Nat}  (h : wp_X7_comes_24 S x0 K) : jJ (X, G, 4, jA X G tvi K) S [(0, .ref x0)] 24 [] := by
  unfold wp_X7_comes_24 at h
  refine jr_iconst (v := 0) C 25 rfl dX7_comes_24 (by decide) ?_
  refine jr_goto C 48 dX7_comes_25 (by decide) ?_
  exact (wk_X7_comes_48 C  h)
theorem wk_X7_comes_47 {X : jX} {G : jG} {K : jS → Int32 → Prop} (C : jC (X, G, 4, jA X G tvi K) d_X7_comes cX7_comes "Samovar$Guest" (some .boolean) yX7_comes) {S : jS} {x0 : Nat}  (h : wp_X7_comes_47 S x0 K) : jJ (X, G, 4, jA X G tvi K) S [(0, .ref x0)] 47 [] := by
  unfold wp_X7_comes_47 at h
  refine jr_iconst (v := 0) C 48 rfl dX7_comes_47 (by decide) ?_
  exact (wk_X7_comes_48 C  h)
theorem wk_X7_comes_0 {X : jX} {G : jG} {K : jS → Int32 → Prop} (C : jC (X, G, 4, jA X G tvi K) d_X7_comes cX7_comes "Samovar$Guest" (some .boolean) yX7_comes) {S : jS} {x0 : Nat} {x1 : Int32} {x2 : Int32}  (h : wp_X7_comes S x0 x1 x2 K) : jJ (X, G, 4, jA X G tvi K) S [(0, .ref x0), (1, .int x1), (2, .int x2)] 0 [] := by
  unfold wp_X7_comes at h
  refine jr_iload_n C 1 rfl dX7_comes_0 rfl 2 rfl ?_
  refine jr_if_eq C 28 4 rfl dX7_comes_1 (by decide) (fun c9 => ?_) (fun c9 => ?_)
  · have h := h.1 c9
    refine jr_aload_n C 29 rfl dX7_comes_28 rfl 0 rfl ?_
    refine jr_geti C 32 rfl fo_4_3 q569 dX7_comes_29 h (fun v1 h => ?_)
    refine jr_if_ne C 47 35 rfl dX7_comes_32 (by decide) (fun c4 => ?_) (fun c4 => ?_)
    · have h := h.1 c4
      refine jr_aload_n C 36 rfl dX7_comes_35 rfl 0 rfl ?_
      refine jr_geti C 39 rfl fo_4_0 q563 dX7_comes_36 h (fun v2 h => ?_)
      refine jr_iload_n C 40 rfl dX7_comes_39 rfl 1 rfl ?_
      refine jr_icmp_ne C 47 43 rfl dX7_comes_40 (by decide) (fun c3 => ?_) (fun c3 => ?_)
      · have h := h.1 c3
        refine jr_iconst (v := 1) C 44 rfl dX7_comes_43 (by decide) ?_
        refine jr_goto C 48 dX7_comes_44 (by decide) ?_
        exact jr_sub [0] rfl (wk_X7_comes_48 C  h)
      · have h := h.2 c3
        exact jr_sub [0] rfl (wk_X7_comes_47 C  h)
    · have h := h.2 c4
      exact jr_sub [0] rfl (wk_X7_comes_47 C  h)
  · have h := h.2 c9
    refine jr_aload_n C 5 rfl dX7_comes_4 rfl 0 rfl ?_
    refine jr_geti C 8 rfl fo_4_3 q569 dX7_comes_5 h (fun v5 h => ?_)
    refine jr_iconst (v := 2) C 9 rfl dX7_comes_8 (by decide) ?_
    refine jr_icmp_ne C 24 12 rfl dX7_comes_9 (by decide) (fun c8 => ?_) (fun c8 => ?_)
    · have h := h.1 c8
      refine jr_aload_n C 13 rfl dX7_comes_12 rfl 0 rfl ?_
      refine jr_geti C 16 rfl fo_4_5 q573 dX7_comes_13 h (fun v6 h => ?_)
      refine jr_iload_n C 17 rfl dX7_comes_16 rfl 1 rfl ?_
      refine jr_icmp_ne C 24 20 rfl dX7_comes_17 (by decide) (fun c7 => ?_) (fun c7 => ?_)
      · have h := h.1 c7
        refine jr_iconst (v := 1) C 21 rfl dX7_comes_20 (by decide) ?_
        refine jr_goto C 48 dX7_comes_21 (by decide) ?_
        exact jr_sub [0] rfl (wk_X7_comes_48 C  h)
      · have h := h.2 c7
        exact jr_sub [0] rfl (wk_X7_comes_24 C  h)
    · have h := h.2 c8
      exact jr_sub [0] rfl (wk_X7_comes_24 C  h)
theorem m_X7_comes {l : Launch} (hl : l.stackTraces = false) {G : jG} {K : jS → Int32 → Prop} {S : jS} {x0 : Nat} {x1 : Int32} {x2 : Int32} (h : wp_X7_comes S x0 x1 x2 K) : jMet l G d_X7_comes yX7_comes (ws_ yX7_comes cX7_comes 4 (some .boolean)) [.ref x0, .int x1, .int x2] S tvi K :=
  jMet.of hl rfl (by decide) (Nat.le_of_ble_eq_true rfl) (fun X C => jr_sub [0, 1, 2] rfl (wk_X7_comes_0 C h))
theorem ndD_Taste_drinks_12_13 : ("Samovar$Taste" : String) ≠ "java/lang/invoke/MethodHandle" ∧ ("Samovar$Taste" : String) ≠ "java/lang/invoke/VarHandle" ∧ (parseMethodDescriptor "()I").map (fun d => d.parameters.length) = some 0 := by decide +kernel
theorem dr_Taste_drinks_12_13 {Z : jZ} {d : Nat} {cc : ByteArray} {own : String} {ret : Option FieldType} {y : MethodName} {pc : Nat} {S : jS} {lv : List (Nat × Value)} {st As : List Value} (C : jC Z d cc own ret y) (pc' : Nat) (hp : pc + 3 = pc') {a : Nat}  {K : jS → Int32 → Prop} {stk : List Value} (h : wpD_Taste_drinks_12_13 S a  K) (hstk : [].reverse ++ .ref a :: st = stk) {index : Nat} (q1 : Cond.methodLink own index (⟨"Samovar$Taste", "drinks", "()I"⟩ : MethodName) ∈ lw_all) (hd : d_D_Taste_drinks_12_13 + 1 ≤ d) (hst : (st.map fun v => v.category).sum ≤ 8) (hdg : decode cc pc = .ok (.invokevirtual index, 3)) (kk : ∀ (S1 : jS) (r : Int32), K S1 r → jJ Z S1 lv pc' (.int r :: st)) : jJ Z S lv pc stk := by
  unfold wpD_Taste_drinks_12_13 at h
  rcases h with ⟨⟨V, hb⟩, h⟩ | ⟨⟨V, hb⟩, h⟩
  · exact jr_callUi (As := []) (r0 := (RX13, TX_0, 0)) (owner := "Samovar$Taste") C pc' hp (m_X13_drinks C.2.2.2.2.2.2.2.2.2.2.2.2.2.2.2 h) hstk hb rfl (va_Decl.of (C.2.2.2.2.1 _ q915) (C.2.2.2.2.1 _ q922)) q1 q917 (C.2.2.2.2.1 _ q916) q915 q1846 q922 (Nat.le_trans (Nat.le_of_ble_eq_true rfl) hd) (by decide) ndD_Taste_drinks_12_13 hst hdg kk
  · exact jr_callUi (As := []) (r0 := (RX11, TX_0, 0)) (owner := "Samovar$Taste") C pc' hp (m_X11_drinks C.2.2.2.2.2.2.2.2.2.2.2.2.2.2.2 h) hstk hb rfl (va_Decl.of (C.2.2.2.2.1 _ q915) (C.2.2.2.2.1 _ q922)) q1 q917 (C.2.2.2.2.1 _ q918) q919 q1845 q920 (Nat.le_trans (Nat.le_of_ble_eq_true rfl) hd) (by decide) ndD_Taste_drinks_12_13 hst hdg kk
theorem wk_X7_served_27 {X : jX} {G : jG} {K : jS → Unit → Prop} (C : jC (X, G, 2, jA X G tvv K) d_X7_served cX7_served "Samovar$Guest" none yX7_served) {S : jS} {t0 : Nat} {t1 : Int32} {x0 : Nat} {x1 : Int32}  (h : wp_X7_served_27 S t0 t1 x0 x1 K) : jJ (X, G, 2, jA X G tvv K) S [(0, .ref x0), (1, .int x1)] 27 [.int t1, .ref t0] := by
  unfold wp_X7_served_27 at h
  refine jr_putv C 30 rfl fo_4_3 (by decide) q569 dX7_served_27 rfl rfl h (fun S1 h => ?_)
  refine jr_aload_n C 31 rfl dX7_served_30 rfl 0 rfl ?_
  refine jr_iload_n C 32 rfl dX7_served_31 rfl 1 rfl ?_
  refine jr_aload_n C 33 rfl dX7_served_32 rfl 0 rfl ?_
  refine jr_getr C 36 rfl fo_4_1 q565 dX7_served_33 h (fun v2 h => ?_)
  refine dr_Taste_drinks_12_13 (As := []) (st := [.int x1, .ref x0]) C 39 rfl h rfl q914 (by decide) (Nat.le_of_ble_eq_true rfl) dX7_served_36 (fun S3 r4 h => ?_)
  refine jr_iadd C 40 rfl dX7_served_39 ?_
  refine jr_putv C 43 rfl fo_4_5 (by decide) q573 dX7_served_40 rfl rfl h (fun S5 h => ?_)
  exact jr_return C dX7_served_43 h
theorem wk_X7_served_0 {X : jX} {G : jG} {K : jS → Unit → Prop} (C : jC (X, G, 2, jA X G tvv K) d_X7_served cX7_served "Samovar$Guest" none yX7_served) {S : jS} {x0 : Nat} {x1 : Int32}  (h : wp_X7_served S x0 x1 K) : jJ (X, G, 2, jA X G tvv K) S [(0, .ref x0), (1, .int x1)] 0 [] := by
  unfold wp_X7_served at h
  refine jr_aload_n C 1 rfl dX7_served_0 rfl 0 rfl ?_
  refine jr_dup C 2 rfl dX7_served_1 rfl ?_
  refine jr_geti C 5 rfl fo_4_4 q571 dX7_served_2 h (fun v1 h => ?_)
  refine jr_iconst (v := 1) C 6 rfl dX7_served_5 (by decide) ?_
  refine jr_iadd C 7 rfl dX7_served_6 ?_
  refine jr_putv C 10 rfl fo_4_4 (by decide) q571 dX7_served_7 rfl rfl h (fun S2 h => ?_)
  refine jr_aload_n C 11 rfl dX7_served_10 rfl 0 rfl ?_
  refine jr_aload_n C 12 rfl dX7_served_11 rfl 0 rfl ?_
  refine jr_geti C 15 rfl fo_4_4 q571 dX7_served_12 h (fun v3 h => ?_)
  refine jr_aload_n C 16 rfl dX7_served_15 rfl 0 rfl ?_
  refine jr_geti C 19 rfl fo_4_2 q567 dX7_served_16 h (fun v4 h => ?_)
  refine jr_icmp_ne C 26 22 rfl dX7_served_19 (by decide) (fun c5 => ?_) (fun c5 => ?_)
  · have h := h.1 c5
    refine jr_iconst (v := 3) C 23 rfl dX7_served_22 (by decide) ?_
    refine jr_goto C 27 dX7_served_23 (by decide) ?_
    exact (wk_X7_served_27 C  h)
  · have h := h.2 c5
    refine jr_iconst (v := 2) C 27 rfl dX7_served_26 (by decide) ?_
    exact (wk_X7_served_27 C  h)
theorem m_X7_served {l : Launch} (hl : l.stackTraces = false) {G : jG} {K : jS → Unit → Prop} {S : jS} {x0 : Nat} {x1 : Int32} (h : wp_X7_served S x0 x1 K) : jMet l G d_X7_served yX7_served (ws_ yX7_served cX7_served 2 none) [.ref x0, .int x1] S tvv K :=
  jMet.of hl rfl (by decide) (Nat.le_of_ble_eq_true rfl) (fun X C => jr_sub [0, 1] rfl (wk_X7_served_0 C h))
theorem ndD_Fuel_number_9_10_11 : ("Samovar$Fuel" : String) ≠ "java/lang/invoke/MethodHandle" ∧ ("Samovar$Fuel" : String) ≠ "java/lang/invoke/VarHandle" ∧ (parseMethodDescriptor "()I").map (fun d => d.parameters.length) = some 0 := by decide +kernel
theorem dr_Fuel_number_9_10_11 {Z : jZ} {d : Nat} {cc : ByteArray} {own : String} {ret : Option FieldType} {y : MethodName} {pc : Nat} {S : jS} {lv : List (Nat × Value)} {st As : List Value} (C : jC Z d cc own ret y) (pc' : Nat) (hp : pc + 3 = pc') {a : Nat}  {K : jS → Int32 → Prop} {stk : List Value} (h : wpD_Fuel_number_9_10_11 S a  K) (hstk : [].reverse ++ .ref a :: st = stk) {index : Nat} (q1 : Cond.methodLink own index (⟨"Samovar$Fuel", "number", "()I"⟩ : MethodName) ∈ lw_all) (hd : d_D_Fuel_number_9_10_11 + 1 ≤ d) (hst : (st.map fun v => v.category).sum ≤ 8) (hdg : decode cc pc = .ok (.invokevirtual index, 3)) (kk : ∀ (S1 : jS) (r : Int32), K S1 r → jJ Z S1 lv pc' (.int r :: st)) : jJ Z S lv pc stk := by
  unfold wpD_Fuel_number_9_10_11 at h
  rcases h with ⟨⟨V, hb⟩, h⟩ | ⟨⟨V, hb⟩, h⟩ | ⟨⟨V, hb⟩, h⟩
  · exact jr_callUi (As := []) (r0 := (RX12, TX_0, 0)) (owner := "Samovar$Fuel") C pc' hp (m_X12_number C.2.2.2.2.2.2.2.2.2.2.2.2.2.2.2 h) hstk hb rfl (va_Decl.of (C.2.2.2.2.1 _ q722) (C.2.2.2.2.1 _ q730)) q1 q724 (C.2.2.2.2.1 _ q723) q722 q1843 q730 (Nat.le_trans (Nat.le_of_ble_eq_true rfl) hd) (by decide) ndD_Fuel_number_9_10_11 hst hdg kk
  · exact jr_callUi (As := []) (r0 := (RX9, TX_0, 0)) (owner := "Samovar$Fuel") C pc' hp (m_X9_number C.2.2.2.2.2.2.2.2.2.2.2.2.2.2.2 h) hstk hb rfl (va_Decl.of (C.2.2.2.2.1 _ q722) (C.2.2.2.2.1 _ q730)) q1 q724 (C.2.2.2.2.1 _ q725) q726 q1842 q727 (Nat.le_trans (Nat.le_of_ble_eq_true rfl) hd) (by decide) ndD_Fuel_number_9_10_11 hst hdg kk
  · exact jr_callUi (As := []) (r0 := (RX10, TX_0, 0)) (owner := "Samovar$Fuel") C pc' hp (m_X10_number C.2.2.2.2.2.2.2.2.2.2.2.2.2.2.2 h) hstk hb rfl (va_Decl.of (C.2.2.2.2.1 _ q722) (C.2.2.2.2.1 _ q730)) q1 q724 (C.2.2.2.2.1 _ q731) q732 q1844 q733 (Nat.le_trans (Nat.le_of_ble_eq_true rfl) hd) (by decide) ndD_Fuel_number_9_10_11 hst hdg kk
theorem wk_X8_by_30 {X : jX} {G : jG} {K : jS → Int32 → Prop} (C : jC (X, G, 2, jA X G tvi K) d_X8_by cX8_by "Samovar$Piece" (some .int) yX8_by) {S : jS} {t0 : Int32}  (h : wp_X8_by_30 S t0 K) : jJ (X, G, 2, jA X G tvi K) S [] 30 [.int t0] := by
  unfold wp_X8_by_30 at h
  exact jr_ireturn C dX8_by_30 h
theorem wk_X8_by_0 {X : jX} {G : jG} {K : jS → Int32 → Prop} (C : jC (X, G, 2, jA X G tvi K) d_X8_by cX8_by "Samovar$Piece" (some .int) yX8_by) {S : jS} {x0 : Nat} {x1 : Int32}  (h : wp_X8_by S x0 x1 K) : jJ (X, G, 2, jA X G tvi K) S [(0, .ref x0), (1, .int x1)] 0 [] := by
  unfold wp_X8_by at h
  refine jr_iload_n C 1 rfl dX8_by_0 rfl 1 rfl ?_
  refine jr_if_ne C 11 4 rfl dX8_by_1 (by decide) (fun c7 => ?_) (fun c7 => ?_)
  · have h := h.1 c7
    refine jr_aload_n C 5 rfl dX8_by_4 rfl 0 rfl ?_
    refine jr_geti C 8 rfl fo_5_0 q671 dX8_by_5 h (fun v1 h => ?_)
    refine jr_goto C 30 dX8_by_8 (by decide) ?_
    exact jr_sub [] rfl (wk_X8_by_30 C  h)
  · have h := h.2 c7
    refine jr_iload_n C 12 rfl dX8_by_11 rfl 1 rfl ?_
    refine jr_iconst (v := 1) C 13 rfl dX8_by_12 (by decide) ?_
    refine jr_icmp_ne C 26 16 rfl dX8_by_13 (by decide) (fun c6 => ?_) (fun c6 => ?_)
    · have h := h.1 c6
      refine jr_aload_n C 17 rfl dX8_by_16 rfl 0 rfl ?_
      refine jr_getr C 20 rfl fo_5_1 q672 dX8_by_17 h (fun v2 h => ?_)
      refine dr_Fuel_number_9_10_11 (As := []) (st := []) C 23 rfl h rfl q721 (by decide) (Nat.le_of_ble_eq_true rfl) dX8_by_20 (fun S3 r4 h => ?_)
      refine jr_goto C 30 dX8_by_23 (by decide) ?_
      exact jr_sub [] rfl (wk_X8_by_30 C  h)
    · have h := h.2 c6
      refine jr_aload_n C 27 rfl dX8_by_26 rfl 0 rfl ?_
      refine jr_geti C 30 rfl fo_5_2 q674 dX8_by_27 h (fun v5 h => ?_)
      exact jr_sub [] rfl (wk_X8_by_30 C  h)
theorem m_X8_by {l : Launch} (hl : l.stackTraces = false) {G : jG} {K : jS → Int32 → Prop} {S : jS} {x0 : Nat} {x1 : Int32} (h : wp_X8_by S x0 x1 K) : jMet l G d_X8_by yX8_by (ws_ yX8_by cX8_by 2 (some .int)) [.ref x0, .int x1] S tvi K :=
  jMet.of hl rfl (by decide) (Nat.le_of_ble_eq_true rfl) (fun X C => jr_sub [0, 1] rfl (wk_X8_by_0 C h))
theorem ndD_Fuel_lasts_9_10_11 : ("Samovar$Fuel" : String) ≠ "java/lang/invoke/MethodHandle" ∧ ("Samovar$Fuel" : String) ≠ "java/lang/invoke/VarHandle" ∧ (parseMethodDescriptor "()I").map (fun d => d.parameters.length) = some 0 := by decide +kernel
theorem dr_Fuel_lasts_9_10_11 {Z : jZ} {d : Nat} {cc : ByteArray} {own : String} {ret : Option FieldType} {y : MethodName} {pc : Nat} {S : jS} {lv : List (Nat × Value)} {st As : List Value} (C : jC Z d cc own ret y) (pc' : Nat) (hp : pc + 3 = pc') {a : Nat}  {K : jS → Int32 → Prop} {stk : List Value} (h : wpD_Fuel_lasts_9_10_11 S a  K) (hstk : [].reverse ++ .ref a :: st = stk) {index : Nat} (q1 : Cond.methodLink own index (⟨"Samovar$Fuel", "lasts", "()I"⟩ : MethodName) ∈ lw_all) (hd : d_D_Fuel_lasts_9_10_11 + 1 ≤ d) (hst : (st.map fun v => v.category).sum ≤ 8) (hdg : decode cc pc = .ok (.invokevirtual index, 3)) (kk : ∀ (S1 : jS) (r : Int32), K S1 r → jJ Z S1 lv pc' (.int r :: st)) : jJ Z S lv pc stk := by
  unfold wpD_Fuel_lasts_9_10_11 at h
  rcases h with ⟨⟨V, hb⟩, h⟩ | ⟨⟨V, hb⟩, h⟩ | ⟨⟨V, hb⟩, h⟩
  · exact jr_callUi (As := []) (r0 := (RX12, TX_0, 0)) (owner := "Samovar$Fuel") C pc' hp (m_X12_lasts C.2.2.2.2.2.2.2.2.2.2.2.2.2.2.2 h) hstk hb rfl (va_Decl.of (C.2.2.2.2.1 _ q863) (C.2.2.2.2.1 _ q870)) q1 q865 (C.2.2.2.2.1 _ q864) q863 q1843 q870 (Nat.le_trans (Nat.le_of_ble_eq_true rfl) hd) (by decide) ndD_Fuel_lasts_9_10_11 hst hdg kk
  · exact jr_callUi (As := []) (r0 := (RX9, TX_0, 0)) (owner := "Samovar$Fuel") C pc' hp (m_X9_lasts C.2.2.2.2.2.2.2.2.2.2.2.2.2.2.2 h) hstk hb rfl (va_Decl.of (C.2.2.2.2.1 _ q863) (C.2.2.2.2.1 _ q870)) q1 q865 (C.2.2.2.2.1 _ q866) q867 q1842 q868 (Nat.le_trans (Nat.le_of_ble_eq_true rfl) hd) (by decide) ndD_Fuel_lasts_9_10_11 hst hdg kk
  · exact jr_callUi (As := []) (r0 := (RX10, TX_0, 0)) (owner := "Samovar$Fuel") C pc' hp (m_X10_lasts C.2.2.2.2.2.2.2.2.2.2.2.2.2.2.2 h) hstk hb rfl (va_Decl.of (C.2.2.2.2.1 _ q863) (C.2.2.2.2.1 _ q870)) q1 q865 (C.2.2.2.2.1 _ q871) q872 q1844 q873 (Nat.le_trans (Nat.le_of_ble_eq_true rfl) hd) (by decide) ndD_Fuel_lasts_9_10_11 hst hdg kk
theorem ndD_Fuel_gives_9_10_11 : ("Samovar$Fuel" : String) ≠ "java/lang/invoke/MethodHandle" ∧ ("Samovar$Fuel" : String) ≠ "java/lang/invoke/VarHandle" ∧ (parseMethodDescriptor "()I").map (fun d => d.parameters.length) = some 0 := by decide +kernel
theorem dr_Fuel_gives_9_10_11 {Z : jZ} {d : Nat} {cc : ByteArray} {own : String} {ret : Option FieldType} {y : MethodName} {pc : Nat} {S : jS} {lv : List (Nat × Value)} {st As : List Value} (C : jC Z d cc own ret y) (pc' : Nat) (hp : pc + 3 = pc') {a : Nat}  {K : jS → Int32 → Prop} {stk : List Value} (h : wpD_Fuel_gives_9_10_11 S a  K) (hstk : [].reverse ++ .ref a :: st = stk) {index : Nat} (q1 : Cond.methodLink own index (⟨"Samovar$Fuel", "gives", "()I"⟩ : MethodName) ∈ lw_all) (hd : d_D_Fuel_gives_9_10_11 + 1 ≤ d) (hst : (st.map fun v => v.category).sum ≤ 8) (hdg : decode cc pc = .ok (.invokevirtual index, 3)) (kk : ∀ (S1 : jS) (r : Int32), K S1 r → jJ Z S1 lv pc' (.int r :: st)) : jJ Z S lv pc stk := by
  unfold wpD_Fuel_gives_9_10_11 at h
  rcases h with ⟨⟨V, hb⟩, h⟩ | ⟨⟨V, hb⟩, h⟩ | ⟨⟨V, hb⟩, h⟩
  · exact jr_callUi (As := []) (r0 := (RX12, TX_0, 0)) (owner := "Samovar$Fuel") C pc' hp (m_X12_gives C.2.2.2.2.2.2.2.2.2.2.2.2.2.2.2 h) hstk hb rfl (va_Decl.of (C.2.2.2.2.1 _ q877) (C.2.2.2.2.1 _ q884)) q1 q879 (C.2.2.2.2.1 _ q878) q877 q1843 q884 (Nat.le_trans (Nat.le_of_ble_eq_true rfl) hd) (by decide) ndD_Fuel_gives_9_10_11 hst hdg kk
  · exact jr_callUi (As := []) (r0 := (RX9, TX_0, 0)) (owner := "Samovar$Fuel") C pc' hp (m_X9_gives C.2.2.2.2.2.2.2.2.2.2.2.2.2.2.2 h) hstk hb rfl (va_Decl.of (C.2.2.2.2.1 _ q877) (C.2.2.2.2.1 _ q884)) q1 q879 (C.2.2.2.2.1 _ q880) q881 q1842 q882 (Nat.le_trans (Nat.le_of_ble_eq_true rfl) hd) (by decide) ndD_Fuel_gives_9_10_11 hst hdg kk
  · exact jr_callUi (As := []) (r0 := (RX10, TX_0, 0)) (owner := "Samovar$Fuel") C pc' hp (m_X10_gives C.2.2.2.2.2.2.2.2.2.2.2.2.2.2.2 h) hstk hb rfl (va_Decl.of (C.2.2.2.2.1 _ q877) (C.2.2.2.2.1 _ q884)) q1 q879 (C.2.2.2.2.1 _ q885) q886 q1844 q887 (Nat.le_trans (Nat.le_of_ble_eq_true rfl) hd) (by decide) ndD_Fuel_gives_9_10_11 hst hdg kk
theorem wk_X8_fire_40 {X : jX} {G : jG} {K : jS → Int32 → Prop} (C : jC (X, G, 2, jA X G tvi K) d_X8_fire cX8_fire "Samovar$Piece" (some .int) yX8_fire) {S : jS} {t0 : Int32}  (h : wp_X8_fire_40 S t0 K) : jJ (X, G, 2, jA X G tvi K) S [] 40 [.int t0] := by
  unfold wp_X8_fire_40 at h
  exact jr_ireturn C dX8_fire_40 h
theorem wk_X8_fire_0 {X : jX} {G : jG} {K : jS → Int32 → Prop} (C : jC (X, G, 2, jA X G tvi K) d_X8_fire cX8_fire "Samovar$Piece" (some .int) yX8_fire) {S : jS} {x0 : Nat} {x1 : Int32}  (h : wp_X8_fire S x0 x1 K) : jJ (X, G, 2, jA X G tvi K) S [(0, .ref x0), (1, .int x1)] 0 [] := by
  unfold wp_X8_fire at h
  refine jr_iload_n C 1 rfl dX8_fire_0 rfl 1 rfl ?_
  refine jr_aload_n C 2 rfl dX8_fire_1 rfl 0 rfl ?_
  refine jr_geti C 5 rfl fo_5_0 q671 dX8_fire_2 h (fun v1 h => ?_)
  refine jr_isub C 6 rfl dX8_fire_5 ?_
  refine jr_i2l C 7 rfl dX8_fire_6 ?_
  refine jr_lconst (v := 0) C 8 rfl dX8_fire_7 (by decide) ?_
  refine jr_aload_n C 9 rfl dX8_fire_8 rfl 0 rfl ?_
  refine jr_getr C 12 rfl fo_5_1 q672 dX8_fire_9 h (fun v2 h => ?_)
  refine dr_Fuel_lasts_9_10_11 (As := []) (st := [.long 0, .long (((x1 - v1) : Int32).toInt64)]) C 15 rfl h rfl q862 (by decide) (Nat.le_of_ble_eq_true rfl) dX8_fire_12 (fun S3 r4 h => ?_)
  refine jr_iconst (v := 1) C 16 rfl dX8_fire_15 (by decide) ?_
  refine jr_isub C 17 rfl dX8_fire_16 ?_
  refine jr_i2l C 18 rfl dX8_fire_17 ?_
  refine jr_callSNi (As := [.long (((x1 - v1) : Int32).toInt64), .long 0, .long (((r4 - 1) : Int32).toInt64)]) (st := []) C 21 rfl (m_X0_in C.2.2.2.2.2.2.2.2.2.2.2.2.2.2.2 h) rfl (jx_g q875 rfl) q309 q94 q310 (by decide) (by decide) nd_X0_in (Nat.le_of_ble_eq_true rfl) dX8_fire_18 (fun S5 r6 h => ?_)
  refine jr_if_eq C 39 24 rfl dX8_fire_21 (by decide) (fun c11 => ?_) (fun c11 => ?_)
  · have h := h.1 c11
    refine jr_iconst (v := 0) C 40 rfl dX8_fire_39 (by decide) ?_
    exact jr_sub [] rfl (wk_X8_fire_40 C  h)
  · have h := h.2 c11
    refine jr_aload_n C 25 rfl dX8_fire_24 rfl 0 rfl ?_
    refine jr_geti C 28 rfl fo_5_2 q674 dX8_fire_25 h (fun v7 h => ?_)
    refine jr_aload_n C 29 rfl dX8_fire_28 rfl 0 rfl ?_
    refine jr_getr C 32 rfl fo_5_1 q672 dX8_fire_29 h (fun v8 h => ?_)
    refine dr_Fuel_gives_9_10_11 (As := []) (st := [.int v7]) C 35 rfl h rfl q876 (by decide) (Nat.le_of_ble_eq_true rfl) dX8_fire_32 (fun S9 r10 h => ?_)
    refine jr_imul C 36 rfl dX8_fire_35 ?_
    refine jr_goto C 40 dX8_fire_36 (by decide) ?_
    exact jr_sub [] rfl (wk_X8_fire_40 C  h)
theorem m_X8_fire {l : Launch} (hl : l.stackTraces = false) {G : jG} {K : jS → Int32 → Prop} {S : jS} {x0 : Nat} {x1 : Int32} (h : wp_X8_fire S x0 x1 K) : jMet l G d_X8_fire yX8_fire (ws_ yX8_fire cX8_fire 2 (some .int)) [.ref x0, .int x1] S tvi K :=
  jMet.of hl rfl (by decide) (Nat.le_of_ble_eq_true rfl) (fun X C => jr_sub [0, 1] rfl (wk_X8_fire_0 C h))
