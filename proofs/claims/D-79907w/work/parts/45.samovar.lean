theorem can_Samovar_Guest : jCan "Samovar$Guest" [4] := by
  intro c hc r hr
  rw [List.mem_singleton.mp hc] at hr; cases hr; exact Or.inl rfl
theorem can_Samovar_Piece : jCan "Samovar$Piece" [5] := by
  intro c hc r hr
  rw [List.mem_singleton.mp hc] at hr; cases hr; exact Or.inl rfl
theorem can_8 : jCan "Samovar$Guest" [4] := by
  intro c hc r hr
  rw [List.mem_singleton.mp hc] at hr; cases hr; exact Or.inl rfl
theorem can_9 : jCan "Samovar$Sheet" [6] := by
  intro c hc r hr
  rw [List.mem_singleton.mp hc] at hr; cases hr; exact Or.inl rfl
theorem canI_8 : ((8 : Nat) = 4) → Cond.castable "[I" "Samovar$Guest" ∈ jxw := fun h => absurd h (by decide)
theorem canI_9 : ((9 : Nat) = 4) → Cond.castable "[I" "Samovar$Sheet" ∈ jxw := fun h => absurd h (by decide)
theorem canI_5 : ((5 : Nat) = 4) → Cond.castable "[I" "Samovar$Text" ∈ jxw := fun h => absurd h (by decide)
theorem can_5 : jCan "Samovar$Text" [1, 2] := by
  intro c hc r hr
  rcases List.mem_cons.mp hc with e | hc
  · subst e; cases hr; exact Or.inr (jx_g q1868 rfl)
  · rw [List.mem_singleton.mp hc] at hr; cases hr; exact Or.inr (jx_g q1869 rfl)
theorem fo_0_0 : jFO [0] 0 "Samovar" "latest" "I" (.int) false := jFO.one (T := TX0) (by decide) rfl in_X0 tyX0_ok nmX0 (by decide) rfl (tyX0_ok 0 (by decide)) (fun _ _ _ _ h => h)
theorem fo_0_1 : jFO [0] 1 "Samovar" "woodpile" "LSamovar$Woodpile;" (.object "Samovar$Woodpile") true := jFO.one (T := TX0) (by decide) rfl in_X0 tyX0_ok nmX0 (by decide) rfl (tyX0_ok 1 (by decide)) (fun _ _ _ _ h => h)
theorem fo_0_1_d : ∀ c ∈ ([0] : List Nat), ∀ r : vw_C, jcl[c]? = some r → (r.2.1 1).1 = "Samovar" := jdecl1 rfl rfl
theorem fo_0_10 : jFO [0] 10 "Samovar" "steamed" "I" (.int) false := jFO.one (T := TX0) (by decide) rfl in_X0 tyX0_ok nmX0 (by decide) rfl (tyX0_ok 10 (by decide)) (fun _ _ _ _ h => h)
theorem fo_0_11 : jFO [0] 11 "Samovar" "served" "I" (.int) false := jFO.one (T := TX0) (by decide) rfl in_X0 tyX0_ok nmX0 (by decide) rfl (tyX0_ok 11 (by decide)) (fun _ _ _ _ h => h)
theorem fo_0_12 : jFO [0] 12 "Samovar" "boot" "Z" (.boolean) false := jFO.one (T := TX0) (by decide) rfl in_X0 tyX0_ok nmX0 (by decide) rfl (tyX0_ok 12 (by decide)) (fun _ _ _ _ h => h)
theorem fo_0_13 : jFO [0] 13 "Samovar" "queue" "Ljava/util/ArrayList;" (.object "java/util/ArrayList") true := jFO.one (T := TX0) (by decide) rfl in_X0 tyX0_ok nmX0 (by decide) rfl (tyX0_ok 13 (by decide)) (fun _ _ _ _ h => h)
theorem fo_0_13_d : ∀ c ∈ ([0] : List Nat), ∀ r : vw_C, jcl[c]? = some r → (r.2.1 13).1 = "Samovar" := jdecl1 rfl rfl
theorem fo_0_14 : jFO [0] 14 "Samovar" "byMinute" "[[I" (.array (.array .int)) true := jFO.one (T := TX0) (by decide) rfl in_X0 tyX0_ok nmX0 (by decide) rfl (tyX0_ok 14 (by decide)) (fun _ _ _ _ h => h)
theorem fo_0_14_d : ∀ c ∈ ([0] : List Nat), ∀ r : vw_C, jcl[c]? = some r → (r.2.1 14).1 = "Samovar" := jdecl1 rfl rfl
theorem fo_0_15 : jFO [0] 15 "Samovar" "lineBy" "[I" (.array .int) true := jFO.one (T := TX0) (by decide) rfl in_X0 tyX0_ok nmX0 (by decide) rfl (tyX0_ok 15 (by decide)) (fun _ _ _ _ h => h)
theorem fo_0_15_d : ∀ c ∈ ([0] : List Nat), ∀ r : vw_C, jcl[c]? = some r → (r.2.1 15).1 = "Samovar" := jdecl1 rfl rfl
theorem fo_0_16 : jFO [0] 16 "Samovar" "byGuest" "[[[I" (.array (.array (.array .int))) true := jFO.one (T := TX0) (by decide) rfl in_X0 tyX0_ok nmX0 (by decide) rfl (tyX0_ok 16 (by decide)) (fun _ _ _ _ h => h)
theorem fo_0_16_d : ∀ c ∈ ([0] : List Nat), ∀ r : vw_C, jcl[c]? = some r → (r.2.1 16).1 = "Samovar" := jdecl1 rfl rfl
theorem fo_0_17 : jFO [0] 17 "Samovar" "gone" "I" (.int) false := jFO.one (T := TX0) (by decide) rfl in_X0 tyX0_ok nmX0 (by decide) rfl (tyX0_ok 17 (by decide)) (fun _ _ _ _ h => h)
theorem fo_0_18 : jFO [0] 18 "Samovar" "seen" "Ljava/util/ArrayList;" (.object "java/util/ArrayList") true := jFO.one (T := TX0) (by decide) rfl in_X0 tyX0_ok nmX0 (by decide) rfl (tyX0_ok 18 (by decide)) (fun _ _ _ _ h => h)
theorem fo_0_18_d : ∀ c ∈ ([0] : List Nat), ∀ r : vw_C, jcl[c]? = some r → (r.2.1 18).1 = "Samovar" := jdecl1 rfl rfl
theorem fo_0_19 : jFO [0] 19 "Samovar" "boils" "[I" (.array .int) true := jFO.one (T := TX0) (by decide) rfl in_X0 tyX0_ok nmX0 (by decide) rfl (tyX0_ok 19 (by decide)) (fun _ _ _ _ h => h)
theorem fo_0_19_d : ∀ c ∈ ([0] : List Nat), ∀ r : vw_C, jcl[c]? = some r → (r.2.1 19).1 = "Samovar" := jdecl1 rfl rfl
theorem fo_0_2 : jFO [0] 2 "Samovar" "company" "LSamovar$Company;" (.object "Samovar$Company") true := jFO.one (T := TX0) (by decide) rfl in_X0 tyX0_ok nmX0 (by decide) rfl (tyX0_ok 2 (by decide)) (fun _ _ _ _ h => h)
theorem fo_0_2_d : ∀ c ∈ ([0] : List Nat), ∀ r : vw_C, jcl[c]? = some r → (r.2.1 2).1 = "Samovar" := jdecl1 rfl rfl
theorem fo_0_20 : jFO [0] 20 "Samovar" "drawn" "I" (.int) false := jFO.one (T := TX0) (by decide) rfl in_X0 tyX0_ok nmX0 (by decide) rfl (tyX0_ok 20 (by decide)) (fun _ _ _ _ h => h)
theorem fo_0_21 : jFO [0] 21 "Samovar" "others" "Ljava/util/ArrayList;" (.object "java/util/ArrayList") true := jFO.one (T := TX0) (by decide) rfl in_X0 tyX0_ok nmX0 (by decide) rfl (tyX0_ok 21 (by decide)) (fun _ _ _ _ h => h)
theorem fo_0_21_d : ∀ c ∈ ([0] : List Nat), ∀ r : vw_C, jcl[c]? = some r → (r.2.1 21).1 = "Samovar" := jdecl1 rfl rfl
theorem fo_0_22 : jFO [0] 22 "Samovar" "strangers" "[LSamovar$Guest;" (.array (.object "Samovar$Guest")) true := jFO.one (T := TX0) (by decide) rfl in_X0 tyX0_ok nmX0 (by decide) rfl (tyX0_ok 22 (by decide)) (fun _ _ _ _ h => h)
theorem fo_0_22_d : ∀ c ∈ ([0] : List Nat), ∀ r : vw_C, jcl[c]? = some r → (r.2.1 22).1 = "Samovar" := jdecl1 rfl rfl
theorem fo_0_23 : jFO [0] 23 "Samovar" "sheets" "[LSamovar$Sheet;" (.array (.object "Samovar$Sheet")) true := jFO.one (T := TX0) (by decide) rfl in_X0 tyX0_ok nmX0 (by decide) rfl (tyX0_ok 23 (by decide)) (fun _ _ _ _ h => h)
theorem fo_0_23_d : ∀ c ∈ ([0] : List Nat), ∀ r : vw_C, jcl[c]? = some r → (r.2.1 23).1 = "Samovar" := jdecl1 rfl rfl
theorem fo_0_3 : jFO [0] 3 "Samovar" "texts" "[LSamovar$Text;" (.array (.object "Samovar$Text")) true := jFO.one (T := TX0) (by decide) rfl in_X0 tyX0_ok nmX0 (by decide) rfl (tyX0_ok 3 (by decide)) (fun _ _ _ _ h => h)
theorem fo_0_3_d : ∀ c ∈ ([0] : List Nat), ∀ r : vw_C, jcl[c]? = some r → (r.2.1 3).1 = "Samovar" := jdecl1 rfl rfl
theorem fo_0_4 : jFO [0] 4 "Samovar" "guests" "Ljava/util/ArrayList;" (.object "java/util/ArrayList") false := jFO.one (T := TX0) (by decide) rfl in_X0 tyX0_ok nmX0 (by decide) rfl (tyX0_ok 4 (by decide)) (fun _ _ _ _ h => h)
theorem fo_0_5 : jFO [0] 5 "Samovar" "settings" "[I" (.array .int) true := jFO.one (T := TX0) (by decide) rfl in_X0 tyX0_ok nmX0 (by decide) rfl (tyX0_ok 5 (by decide)) (fun _ _ _ _ h => h)
theorem fo_0_5_d : ∀ c ∈ ([0] : List Nat), ∀ r : vw_C, jcl[c]? = some r → (r.2.1 5).1 = "Samovar" := jdecl1 rfl rfl
theorem fo_0_6 : jFO [0] 6 "Samovar" "events" "Ljava/util/ArrayList;" (.object "java/util/ArrayList") true := jFO.one (T := TX0) (by decide) rfl in_X0 tyX0_ok nmX0 (by decide) rfl (tyX0_ok 6 (by decide)) (fun _ _ _ _ h => h)
theorem fo_0_6_d : ∀ c ∈ ([0] : List Nat), ∀ r : vw_C, jcl[c]? = some r → (r.2.1 6).1 = "Samovar" := jdecl1 rfl rfl
theorem fo_0_7 : jFO [0] 7 "Samovar" "heat" "I" (.int) false := jFO.one (T := TX0) (by decide) rfl in_X0 tyX0_ok nmX0 (by decide) rfl (tyX0_ok 7 (by decide)) (fun _ _ _ _ h => h)
theorem fo_0_8 : jFO [0] 8 "Samovar" "water" "I" (.int) false := jFO.one (T := TX0) (by decide) rfl in_X0 tyX0_ok nmX0 (by decide) rfl (tyX0_ok 8 (by decide)) (fun _ _ _ _ h => h)
theorem fo_0_9 : jFO [0] 9 "Samovar" "brew" "I" (.int) false := jFO.one (T := TX0) (by decide) rfl in_X0 tyX0_ok nmX0 (by decide) rfl (tyX0_ok 9 (by decide)) (fun _ _ _ _ h => h)
theorem nd_X0_alike : yX0_alike.cls ≠ "java/lang/invoke/MethodHandle" ∧ yX0_alike.cls ≠ "java/lang/invoke/VarHandle" ∧ (parseMethodDescriptor yX0_alike.desc).map (fun d => d.parameters.length) = some 2 := by decide +kernel
theorem ndV_X0_alike : yX0_alike.cls = ((RX0, TX0, 24) : vw_C).1 ∧ yX0_alike.cls ≠ "java/lang/invoke/MethodHandle" ∧ yX0_alike.cls ≠ "java/lang/invoke/VarHandle" ∧ (parseMethodDescriptor yX0_alike.desc).map (fun d => d.parameters.length) = some 2 := ⟨rfl, nd_X0_alike⟩
theorem nd_X0_askNow : yX0_askNow.cls ≠ "java/lang/invoke/MethodHandle" ∧ yX0_askNow.cls ≠ "java/lang/invoke/VarHandle" ∧ (parseMethodDescriptor yX0_askNow.desc).map (fun d => d.parameters.length) = some 0 := by decide +kernel
theorem ndV_X0_askNow : yX0_askNow.cls = ((RX0, TX0, 24) : vw_C).1 ∧ yX0_askNow.cls ≠ "java/lang/invoke/MethodHandle" ∧ yX0_askNow.cls ≠ "java/lang/invoke/VarHandle" ∧ (parseMethodDescriptor yX0_askNow.desc).map (fun d => d.parameters.length) = some 0 := ⟨rfl, nd_X0_askNow⟩
theorem nd_X0_betterOf : yX0_betterOf.cls ≠ "java/lang/invoke/MethodHandle" ∧ yX0_betterOf.cls ≠ "java/lang/invoke/VarHandle" ∧ (parseMethodDescriptor yX0_betterOf.desc).map (fun d => d.parameters.length) = some 2 := by decide +kernel
theorem ndV_X0_betterOf : yX0_betterOf.cls = ((RX0, TX0, 24) : vw_C).1 ∧ yX0_betterOf.cls ≠ "java/lang/invoke/MethodHandle" ∧ yX0_betterOf.cls ≠ "java/lang/invoke/VarHandle" ∧ (parseMethodDescriptor yX0_betterOf.desc).map (fun d => d.parameters.length) = some 2 := ⟨rfl, nd_X0_betterOf⟩
theorem nd_X0_boiled : yX0_boiled.cls ≠ "java/lang/invoke/MethodHandle" ∧ yX0_boiled.cls ≠ "java/lang/invoke/VarHandle" ∧ (parseMethodDescriptor yX0_boiled.desc).map (fun d => d.parameters.length) = some 0 := by decide +kernel
theorem ndV_X0_boiled : yX0_boiled.cls = ((RX0, TX0, 24) : vw_C).1 ∧ yX0_boiled.cls ≠ "java/lang/invoke/MethodHandle" ∧ yX0_boiled.cls ≠ "java/lang/invoke/VarHandle" ∧ (parseMethodDescriptor yX0_boiled.desc).map (fun d => d.parameters.length) = some 0 := ⟨rfl, nd_X0_boiled⟩
theorem nd_X0_chanceOf : yX0_chanceOf.cls ≠ "java/lang/invoke/MethodHandle" ∧ yX0_chanceOf.cls ≠ "java/lang/invoke/VarHandle" ∧ (parseMethodDescriptor yX0_chanceOf.desc).map (fun d => d.parameters.length) = some 3 := by decide +kernel
theorem ndV_X0_chanceOf : yX0_chanceOf.cls = ((RX0, TX0, 24) : vw_C).1 ∧ yX0_chanceOf.cls ≠ "java/lang/invoke/MethodHandle" ∧ yX0_chanceOf.cls ≠ "java/lang/invoke/VarHandle" ∧ (parseMethodDescriptor yX0_chanceOf.desc).map (fun d => d.parameters.length) = some 3 := ⟨rfl, nd_X0_chanceOf⟩
theorem nd_X0_comeOf : yX0_comeOf.cls ≠ "java/lang/invoke/MethodHandle" ∧ yX0_comeOf.cls ≠ "java/lang/invoke/VarHandle" ∧ (parseMethodDescriptor yX0_comeOf.desc).map (fun d => d.parameters.length) = some 2 := by decide +kernel
theorem ndV_X0_comeOf : yX0_comeOf.cls = ((RX0, TX0, 24) : vw_C).1 ∧ yX0_comeOf.cls ≠ "java/lang/invoke/MethodHandle" ∧ yX0_comeOf.cls ≠ "java/lang/invoke/VarHandle" ∧ (parseMethodDescriptor yX0_comeOf.desc).map (fun d => d.parameters.length) = some 2 := ⟨rfl, nd_X0_comeOf⟩
theorem nd_X0_count : yX0_count.cls ≠ "java/lang/invoke/MethodHandle" ∧ yX0_count.cls ≠ "java/lang/invoke/VarHandle" ∧ (parseMethodDescriptor yX0_count.desc).map (fun d => d.parameters.length) = some 1 := by decide +kernel
theorem ndV_X0_count : yX0_count.cls = ((RX0, TX0, 24) : vw_C).1 ∧ yX0_count.cls ≠ "java/lang/invoke/MethodHandle" ∧ yX0_count.cls ≠ "java/lang/invoke/VarHandle" ∧ (parseMethodDescriptor yX0_count.desc).map (fun d => d.parameters.length) = some 1 := ⟨rfl, nd_X0_count⟩
theorem nd_X0_eveningsOf : yX0_eveningsOf.cls ≠ "java/lang/invoke/MethodHandle" ∧ yX0_eveningsOf.cls ≠ "java/lang/invoke/VarHandle" ∧ (parseMethodDescriptor yX0_eveningsOf.desc).map (fun d => d.parameters.length) = some 3 := by decide +kernel
theorem ndV_X0_eveningsOf : yX0_eveningsOf.cls = ((RX0, TX0, 24) : vw_C).1 ∧ yX0_eveningsOf.cls ≠ "java/lang/invoke/MethodHandle" ∧ yX0_eveningsOf.cls ≠ "java/lang/invoke/VarHandle" ∧ (parseMethodDescriptor yX0_eveningsOf.desc).map (fun d => d.parameters.length) = some 3 := ⟨rfl, nd_X0_eveningsOf⟩
theorem nd_X0_event : yX0_event.cls ≠ "java/lang/invoke/MethodHandle" ∧ yX0_event.cls ≠ "java/lang/invoke/VarHandle" ∧ (parseMethodDescriptor yX0_event.desc).map (fun d => d.parameters.length) = some 3 := by decide +kernel
theorem ndV_X0_event : yX0_event.cls = ((RX0, TX0, 24) : vw_C).1 ∧ yX0_event.cls ≠ "java/lang/invoke/MethodHandle" ∧ yX0_event.cls ≠ "java/lang/invoke/VarHandle" ∧ (parseMethodDescriptor yX0_event.desc).map (fun d => d.parameters.length) = some 3 := ⟨rfl, nd_X0_event⟩
theorem nd_X0_fillBy : yX0_fillBy.cls ≠ "java/lang/invoke/MethodHandle" ∧ yX0_fillBy.cls ≠ "java/lang/invoke/VarHandle" ∧ (parseMethodDescriptor yX0_fillBy.desc).map (fun d => d.parameters.length) = some 1 := by decide +kernel
theorem ndV_X0_fillBy : yX0_fillBy.cls = ((RX0, TX0, 24) : vw_C).1 ∧ yX0_fillBy.cls ≠ "java/lang/invoke/MethodHandle" ∧ yX0_fillBy.cls ≠ "java/lang/invoke/VarHandle" ∧ (parseMethodDescriptor yX0_fillBy.desc).map (fun d => d.parameters.length) = some 1 := ⟨rfl, nd_X0_fillBy⟩
theorem nd_X0_find : yX0_find.cls ≠ "java/lang/invoke/MethodHandle" ∧ yX0_find.cls ≠ "java/lang/invoke/VarHandle" ∧ (parseMethodDescriptor yX0_find.desc).map (fun d => d.parameters.length) = some 0 := by decide +kernel
theorem ndV_X0_find : yX0_find.cls = ((RX0, TX0, 24) : vw_C).1 ∧ yX0_find.cls ≠ "java/lang/invoke/MethodHandle" ∧ yX0_find.cls ≠ "java/lang/invoke/VarHandle" ∧ (parseMethodDescriptor yX0_find.desc).map (fun d => d.parameters.length) = some 0 := ⟨rfl, nd_X0_find⟩
theorem nd_X0_fire : yX0_fire.cls ≠ "java/lang/invoke/MethodHandle" ∧ yX0_fire.cls ≠ "java/lang/invoke/VarHandle" ∧ (parseMethodDescriptor yX0_fire.desc).map (fun d => d.parameters.length) = some 1 := by decide +kernel
theorem ndV_X0_fire : yX0_fire.cls = ((RX0, TX0, 24) : vw_C).1 ∧ yX0_fire.cls ≠ "java/lang/invoke/MethodHandle" ∧ yX0_fire.cls ≠ "java/lang/invoke/VarHandle" ∧ (parseMethodDescriptor yX0_fire.desc).map (fun d => d.parameters.length) = some 1 := ⟨rfl, nd_X0_fire⟩
theorem nd_X0_firstNow : yX0_firstNow.cls ≠ "java/lang/invoke/MethodHandle" ∧ yX0_firstNow.cls ≠ "java/lang/invoke/VarHandle" ∧ (parseMethodDescriptor yX0_firstNow.desc).map (fun d => d.parameters.length) = some 0 := by decide +kernel
theorem ndV_X0_firstNow : yX0_firstNow.cls = ((RX0, TX0, 24) : vw_C).1 ∧ yX0_firstNow.cls ≠ "java/lang/invoke/MethodHandle" ∧ yX0_firstNow.cls ≠ "java/lang/invoke/VarHandle" ∧ (parseMethodDescriptor yX0_firstNow.desc).map (fun d => d.parameters.length) = some 0 := ⟨rfl, nd_X0_firstNow⟩
theorem nd_X0_happens : yX0_happens.cls ≠ "java/lang/invoke/MethodHandle" ∧ yX0_happens.cls ≠ "java/lang/invoke/VarHandle" ∧ (parseMethodDescriptor yX0_happens.desc).map (fun d => d.parameters.length) = some 1 := by decide +kernel
theorem ndV_X0_happens : yX0_happens.cls = ((RX0, TX0, 24) : vw_C).1 ∧ yX0_happens.cls ≠ "java/lang/invoke/MethodHandle" ∧ yX0_happens.cls ≠ "java/lang/invoke/VarHandle" ∧ (parseMethodDescriptor yX0_happens.desc).map (fun d => d.parameters.length) = some 1 := ⟨rfl, nd_X0_happens⟩
theorem nd_X0_hottestBy : yX0_hottestBy.cls ≠ "java/lang/invoke/MethodHandle" ∧ yX0_hottestBy.cls ≠ "java/lang/invoke/VarHandle" ∧ (parseMethodDescriptor yX0_hottestBy.desc).map (fun d => d.parameters.length) = some 1 := by decide +kernel
theorem ndV_X0_hottestBy : yX0_hottestBy.cls = ((RX0, TX0, 24) : vw_C).1 ∧ yX0_hottestBy.cls ≠ "java/lang/invoke/MethodHandle" ∧ yX0_hottestBy.cls ≠ "java/lang/invoke/VarHandle" ∧ (parseMethodDescriptor yX0_hottestBy.desc).map (fun d => d.parameters.length) = some 1 := ⟨rfl, nd_X0_hottestBy⟩
theorem nd_X0_isGuest : yX0_isGuest.cls ≠ "java/lang/invoke/MethodHandle" ∧ yX0_isGuest.cls ≠ "java/lang/invoke/VarHandle" ∧ (parseMethodDescriptor yX0_isGuest.desc).map (fun d => d.parameters.length) = some 1 := by decide +kernel
theorem ndV_X0_isGuest : yX0_isGuest.cls = ((RX0, TX0, 24) : vw_C).1 ∧ yX0_isGuest.cls ≠ "java/lang/invoke/MethodHandle" ∧ yX0_isGuest.cls ≠ "java/lang/invoke/VarHandle" ∧ (parseMethodDescriptor yX0_isGuest.desc).map (fun d => d.parameters.length) = some 1 := ⟨rfl, nd_X0_isGuest⟩
theorem nd_X0_isIn : yX0_isIn.cls ≠ "java/lang/invoke/MethodHandle" ∧ yX0_isIn.cls ≠ "java/lang/invoke/VarHandle" ∧ (parseMethodDescriptor yX0_isIn.desc).map (fun d => d.parameters.length) = some 2 := by decide +kernel
theorem nd_X0_isMinute : yX0_isMinute.cls ≠ "java/lang/invoke/MethodHandle" ∧ yX0_isMinute.cls ≠ "java/lang/invoke/VarHandle" ∧ (parseMethodDescriptor yX0_isMinute.desc).map (fun d => d.parameters.length) = some 1 := by decide +kernel
theorem nd_X0_isPiece : yX0_isPiece.cls ≠ "java/lang/invoke/MethodHandle" ∧ yX0_isPiece.cls ≠ "java/lang/invoke/VarHandle" ∧ (parseMethodDescriptor yX0_isPiece.desc).map (fun d => d.parameters.length) = some 1 := by decide +kernel
theorem ndV_X0_isPiece : yX0_isPiece.cls = ((RX0, TX0, 24) : vw_C).1 ∧ yX0_isPiece.cls ≠ "java/lang/invoke/MethodHandle" ∧ yX0_isPiece.cls ≠ "java/lang/invoke/VarHandle" ∧ (parseMethodDescriptor yX0_isPiece.desc).map (fun d => d.parameters.length) = some 1 := ⟨rfl, nd_X0_isPiece⟩
theorem nd_X0_isSeen : yX0_isSeen.cls ≠ "java/lang/invoke/MethodHandle" ∧ yX0_isSeen.cls ≠ "java/lang/invoke/VarHandle" ∧ (parseMethodDescriptor yX0_isSeen.desc).map (fun d => d.parameters.length) = some 0 := by decide +kernel
theorem ndV_X0_isSeen : yX0_isSeen.cls = ((RX0, TX0, 24) : vw_C).1 ∧ yX0_isSeen.cls ≠ "java/lang/invoke/MethodHandle" ∧ yX0_isSeen.cls ≠ "java/lang/invoke/VarHandle" ∧ (parseMethodDescriptor yX0_isSeen.desc).map (fun d => d.parameters.length) = some 0 := ⟨rfl, nd_X0_isSeen⟩
theorem nd_X0_isSheet : yX0_isSheet.cls ≠ "java/lang/invoke/MethodHandle" ∧ yX0_isSheet.cls ≠ "java/lang/invoke/VarHandle" ∧ (parseMethodDescriptor yX0_isSheet.desc).map (fun d => d.parameters.length) = some 1 := by decide +kernel
theorem nd_X0_isSpared : yX0_isSpared.cls ≠ "java/lang/invoke/MethodHandle" ∧ yX0_isSpared.cls ≠ "java/lang/invoke/VarHandle" ∧ (parseMethodDescriptor yX0_isSpared.desc).map (fun d => d.parameters.length) = some 1 := by decide +kernel
theorem ndV_X0_isSpared : yX0_isSpared.cls = ((RX0, TX0, 24) : vw_C).1 ∧ yX0_isSpared.cls ≠ "java/lang/invoke/MethodHandle" ∧ yX0_isSpared.cls ≠ "java/lang/invoke/VarHandle" ∧ (parseMethodDescriptor yX0_isSpared.desc).map (fun d => d.parameters.length) = some 1 := ⟨rfl, nd_X0_isSpared⟩
theorem nd_X0_isTwo : yX0_isTwo.cls ≠ "java/lang/invoke/MethodHandle" ∧ yX0_isTwo.cls ≠ "java/lang/invoke/VarHandle" ∧ (parseMethodDescriptor yX0_isTwo.desc).map (fun d => d.parameters.length) = some 1 := by decide +kernel
theorem nd_X0_kindOf : yX0_kindOf.cls ≠ "java/lang/invoke/MethodHandle" ∧ yX0_kindOf.cls ≠ "java/lang/invoke/VarHandle" ∧ (parseMethodDescriptor yX0_kindOf.desc).map (fun d => d.parameters.length) = some 1 := by decide +kernel
theorem ndV_X0_kindOf : yX0_kindOf.cls = ((RX0, TX0, 24) : vw_C).1 ∧ yX0_kindOf.cls ≠ "java/lang/invoke/MethodHandle" ∧ yX0_kindOf.cls ≠ "java/lang/invoke/VarHandle" ∧ (parseMethodDescriptor yX0_kindOf.desc).map (fun d => d.parameters.length) = some 1 := ⟨rfl, nd_X0_kindOf⟩
theorem nd_X0_lot : yX0_lot.cls ≠ "java/lang/invoke/MethodHandle" ∧ yX0_lot.cls ≠ "java/lang/invoke/VarHandle" ∧ (parseMethodDescriptor yX0_lot.desc).map (fun d => d.parameters.length) = some 1 := by decide +kernel
theorem ndV_X0_lot : yX0_lot.cls = ((RX0, TX0, 24) : vw_C).1 ∧ yX0_lot.cls ≠ "java/lang/invoke/MethodHandle" ∧ yX0_lot.cls ≠ "java/lang/invoke/VarHandle" ∧ (parseMethodDescriptor yX0_lot.desc).map (fun d => d.parameters.length) = some 1 := ⟨rfl, nd_X0_lot⟩
theorem nd_X0_lowest : yX0_lowest.cls ≠ "java/lang/invoke/MethodHandle" ∧ yX0_lowest.cls ≠ "java/lang/invoke/VarHandle" ∧ (parseMethodDescriptor yX0_lowest.desc).map (fun d => d.parameters.length) = some 1 := by decide +kernel
theorem ndV_X0_lowest : yX0_lowest.cls = ((RX0, TX0, 24) : vw_C).1 ∧ yX0_lowest.cls ≠ "java/lang/invoke/MethodHandle" ∧ yX0_lowest.cls ≠ "java/lang/invoke/VarHandle" ∧ (parseMethodDescriptor yX0_lowest.desc).map (fun d => d.parameters.length) = some 1 := ⟨rfl, nd_X0_lowest⟩
theorem nd_X0_manyNow : yX0_manyNow.cls ≠ "java/lang/invoke/MethodHandle" ∧ yX0_manyNow.cls ≠ "java/lang/invoke/VarHandle" ∧ (parseMethodDescriptor yX0_manyNow.desc).map (fun d => d.parameters.length) = some 1 := by decide +kernel
theorem ndV_X0_manyNow : yX0_manyNow.cls = ((RX0, TX0, 24) : vw_C).1 ∧ yX0_manyNow.cls ≠ "java/lang/invoke/MethodHandle" ∧ yX0_manyNow.cls ≠ "java/lang/invoke/VarHandle" ∧ (parseMethodDescriptor yX0_manyNow.desc).map (fun d => d.parameters.length) = some 1 := ⟨rfl, nd_X0_manyNow⟩
theorem nd_X0_met : yX0_met.cls ≠ "java/lang/invoke/MethodHandle" ∧ yX0_met.cls ≠ "java/lang/invoke/VarHandle" ∧ (parseMethodDescriptor yX0_met.desc).map (fun d => d.parameters.length) = some 1 := by decide +kernel
theorem ndV_X0_met : yX0_met.cls = ((RX0, TX0, 24) : vw_C).1 ∧ yX0_met.cls ≠ "java/lang/invoke/MethodHandle" ∧ yX0_met.cls ≠ "java/lang/invoke/VarHandle" ∧ (parseMethodDescriptor yX0_met.desc).map (fun d => d.parameters.length) = some 1 := ⟨rfl, nd_X0_met⟩
theorem nd_X0_neverNow : yX0_neverNow.cls ≠ "java/lang/invoke/MethodHandle" ∧ yX0_neverNow.cls ≠ "java/lang/invoke/VarHandle" ∧ (parseMethodDescriptor yX0_neverNow.desc).map (fun d => d.parameters.length) = some 0 := by decide +kernel
theorem ndV_X0_neverNow : yX0_neverNow.cls = ((RX0, TX0, 24) : vw_C).1 ∧ yX0_neverNow.cls ≠ "java/lang/invoke/MethodHandle" ∧ yX0_neverNow.cls ≠ "java/lang/invoke/VarHandle" ∧ (parseMethodDescriptor yX0_neverNow.desc).map (fun d => d.parameters.length) = some 0 := ⟨rfl, nd_X0_neverNow⟩
theorem nd_X0_no : yX0_no.cls ≠ "java/lang/invoke/MethodHandle" ∧ yX0_no.cls ≠ "java/lang/invoke/VarHandle" ∧ (parseMethodDescriptor yX0_no.desc).map (fun d => d.parameters.length) = some 1 := by decide +kernel
theorem nd_X0_part : yX0_part.cls ≠ "java/lang/invoke/MethodHandle" ∧ yX0_part.cls ≠ "java/lang/invoke/VarHandle" ∧ (parseMethodDescriptor yX0_part.desc).map (fun d => d.parameters.length) = some 3 := by decide +kernel
theorem nd_X0_passes : yX0_passes.cls ≠ "java/lang/invoke/MethodHandle" ∧ yX0_passes.cls ≠ "java/lang/invoke/VarHandle" ∧ (parseMethodDescriptor yX0_passes.desc).map (fun d => d.parameters.length) = some 1 := by decide +kernel
theorem ndV_X0_passes : yX0_passes.cls = ((RX0, TX0, 24) : vw_C).1 ∧ yX0_passes.cls ≠ "java/lang/invoke/MethodHandle" ∧ yX0_passes.cls ≠ "java/lang/invoke/VarHandle" ∧ (parseMethodDescriptor yX0_passes.desc).map (fun d => d.parameters.length) = some 1 := ⟨rfl, nd_X0_passes⟩
theorem nd_X0_people : yX0_people.cls ≠ "java/lang/invoke/MethodHandle" ∧ yX0_people.cls ≠ "java/lang/invoke/VarHandle" ∧ (parseMethodDescriptor yX0_people.desc).map (fun d => d.parameters.length) = some 0 := by decide +kernel
theorem ndV_X0_people : yX0_people.cls = ((RX0, TX0, 24) : vw_C).1 ∧ yX0_people.cls ≠ "java/lang/invoke/MethodHandle" ∧ yX0_people.cls ≠ "java/lang/invoke/VarHandle" ∧ (parseMethodDescriptor yX0_people.desc).map (fun d => d.parameters.length) = some 0 := ⟨rfl, nd_X0_people⟩
theorem nd_X0_pieces : yX0_pieces.cls ≠ "java/lang/invoke/MethodHandle" ∧ yX0_pieces.cls ≠ "java/lang/invoke/VarHandle" ∧ (parseMethodDescriptor yX0_pieces.desc).map (fun d => d.parameters.length) = some 0 := by decide +kernel
theorem ndV_X0_pieces : yX0_pieces.cls = ((RX0, TX0, 24) : vw_C).1 ∧ yX0_pieces.cls ≠ "java/lang/invoke/MethodHandle" ∧ yX0_pieces.cls ≠ "java/lang/invoke/VarHandle" ∧ (parseMethodDescriptor yX0_pieces.desc).map (fun d => d.parameters.length) = some 0 := ⟨rfl, nd_X0_pieces⟩
theorem nd_X0_queues : yX0_queues.cls ≠ "java/lang/invoke/MethodHandle" ∧ yX0_queues.cls ≠ "java/lang/invoke/VarHandle" ∧ (parseMethodDescriptor yX0_queues.desc).map (fun d => d.parameters.length) = some 2 := by decide +kernel
theorem ndV_X0_queues : yX0_queues.cls = ((RX0, TX0, 24) : vw_C).1 ∧ yX0_queues.cls ≠ "java/lang/invoke/MethodHandle" ∧ yX0_queues.cls ≠ "java/lang/invoke/VarHandle" ∧ (parseMethodDescriptor yX0_queues.desc).map (fun d => d.parameters.length) = some 2 := ⟨rfl, nd_X0_queues⟩
theorem nd_X0_rowOf : yX0_rowOf.cls ≠ "java/lang/invoke/MethodHandle" ∧ yX0_rowOf.cls ≠ "java/lang/invoke/VarHandle" ∧ (parseMethodDescriptor yX0_rowOf.desc).map (fun d => d.parameters.length) = some 2 := by decide +kernel
theorem nd_X0_serves : yX0_serves.cls ≠ "java/lang/invoke/MethodHandle" ∧ yX0_serves.cls ≠ "java/lang/invoke/VarHandle" ∧ (parseMethodDescriptor yX0_serves.desc).map (fun d => d.parameters.length) = some 1 := by decide +kernel
theorem ndV_X0_serves : yX0_serves.cls = ((RX0, TX0, 24) : vw_C).1 ∧ yX0_serves.cls ≠ "java/lang/invoke/MethodHandle" ∧ yX0_serves.cls ≠ "java/lang/invoke/VarHandle" ∧ (parseMethodDescriptor yX0_serves.desc).map (fun d => d.parameters.length) = some 1 := ⟨rfl, nd_X0_serves⟩
theorem nd_X0_spareBy : yX0_spareBy.cls ≠ "java/lang/invoke/MethodHandle" ∧ yX0_spareBy.cls ≠ "java/lang/invoke/VarHandle" ∧ (parseMethodDescriptor yX0_spareBy.desc).map (fun d => d.parameters.length) = some 1 := by decide +kernel
theorem ndV_X0_spareBy : yX0_spareBy.cls = ((RX0, TX0, 24) : vw_C).1 ∧ yX0_spareBy.cls ≠ "java/lang/invoke/MethodHandle" ∧ yX0_spareBy.cls ≠ "java/lang/invoke/VarHandle" ∧ (parseMethodDescriptor yX0_spareBy.desc).map (fun d => d.parameters.length) = some 1 := ⟨rfl, nd_X0_spareBy⟩
theorem nd_X0_stranger : yX0_stranger.cls ≠ "java/lang/invoke/MethodHandle" ∧ yX0_stranger.cls ≠ "java/lang/invoke/VarHandle" ∧ (parseMethodDescriptor yX0_stranger.desc).map (fun d => d.parameters.length) = some 1 := by decide +kernel
theorem ndV_X0_stranger : yX0_stranger.cls = ((RX0, TX0, 24) : vw_C).1 ∧ yX0_stranger.cls ≠ "java/lang/invoke/MethodHandle" ∧ yX0_stranger.cls ≠ "java/lang/invoke/VarHandle" ∧ (parseMethodDescriptor yX0_stranger.desc).map (fun d => d.parameters.length) = some 1 := ⟨rfl, nd_X0_stranger⟩
theorem nd_X0_sumBy : yX0_sumBy.cls ≠ "java/lang/invoke/MethodHandle" ∧ yX0_sumBy.cls ≠ "java/lang/invoke/VarHandle" ∧ (parseMethodDescriptor yX0_sumBy.desc).map (fun d => d.parameters.length) = some 1 := by decide +kernel
theorem ndV_X0_sumBy : yX0_sumBy.cls = ((RX0, TX0, 24) : vw_C).1 ∧ yX0_sumBy.cls ≠ "java/lang/invoke/MethodHandle" ∧ yX0_sumBy.cls ≠ "java/lang/invoke/VarHandle" ∧ (parseMethodDescriptor yX0_sumBy.desc).map (fun d => d.parameters.length) = some 1 := ⟨rfl, nd_X0_sumBy⟩
theorem nd_X0_tellsGuest : yX0_tellsGuest.cls ≠ "java/lang/invoke/MethodHandle" ∧ yX0_tellsGuest.cls ≠ "java/lang/invoke/VarHandle" ∧ (parseMethodDescriptor yX0_tellsGuest.desc).map (fun d => d.parameters.length) = some 2 := by decide +kernel
theorem ndV_X0_tellsGuest : yX0_tellsGuest.cls = ((RX0, TX0, 24) : vw_C).1 ∧ yX0_tellsGuest.cls ≠ "java/lang/invoke/MethodHandle" ∧ yX0_tellsGuest.cls ≠ "java/lang/invoke/VarHandle" ∧ (parseMethodDescriptor yX0_tellsGuest.desc).map (fun d => d.parameters.length) = some 2 := ⟨rfl, nd_X0_tellsGuest⟩
theorem nd_X0_tellsPiece : yX0_tellsPiece.cls ≠ "java/lang/invoke/MethodHandle" ∧ yX0_tellsPiece.cls ≠ "java/lang/invoke/VarHandle" ∧ (parseMethodDescriptor yX0_tellsPiece.desc).map (fun d => d.parameters.length) = some 2 := by decide +kernel
theorem ndV_X0_tellsPiece : yX0_tellsPiece.cls = ((RX0, TX0, 24) : vw_C).1 ∧ yX0_tellsPiece.cls ≠ "java/lang/invoke/MethodHandle" ∧ yX0_tellsPiece.cls ≠ "java/lang/invoke/VarHandle" ∧ (parseMethodDescriptor yX0_tellsPiece.desc).map (fun d => d.parameters.length) = some 2 := ⟨rfl, nd_X0_tellsPiece⟩
theorem nd_X0_thirstNow : yX0_thirstNow.cls ≠ "java/lang/invoke/MethodHandle" ∧ yX0_thirstNow.cls ≠ "java/lang/invoke/VarHandle" ∧ (parseMethodDescriptor yX0_thirstNow.desc).map (fun d => d.parameters.length) = some 0 := by decide +kernel
theorem ndV_X0_thirstNow : yX0_thirstNow.cls = ((RX0, TX0, 24) : vw_C).1 ∧ yX0_thirstNow.cls ≠ "java/lang/invoke/MethodHandle" ∧ yX0_thirstNow.cls ≠ "java/lang/invoke/VarHandle" ∧ (parseMethodDescriptor yX0_thirstNow.desc).map (fun d => d.parameters.length) = some 0 := ⟨rfl, nd_X0_thirstNow⟩
theorem nd_X0_tire : yX0_tire.cls ≠ "java/lang/invoke/MethodHandle" ∧ yX0_tire.cls ≠ "java/lang/invoke/VarHandle" ∧ (parseMethodDescriptor yX0_tire.desc).map (fun d => d.parameters.length) = some 0 := by decide +kernel
theorem ndV_X0_tire : yX0_tire.cls = ((RX0, TX0, 24) : vw_C).1 ∧ yX0_tire.cls ≠ "java/lang/invoke/MethodHandle" ∧ yX0_tire.cls ≠ "java/lang/invoke/VarHandle" ∧ (parseMethodDescriptor yX0_tire.desc).map (fun d => d.parameters.length) = some 0 := ⟨rfl, nd_X0_tire⟩
theorem nd_X0_watersNow : yX0_watersNow.cls ≠ "java/lang/invoke/MethodHandle" ∧ yX0_watersNow.cls ≠ "java/lang/invoke/VarHandle" ∧ (parseMethodDescriptor yX0_watersNow.desc).map (fun d => d.parameters.length) = some 0 := by decide +kernel
theorem ndV_X0_watersNow : yX0_watersNow.cls = ((RX0, TX0, 24) : vw_C).1 ∧ yX0_watersNow.cls ≠ "java/lang/invoke/MethodHandle" ∧ yX0_watersNow.cls ≠ "java/lang/invoke/VarHandle" ∧ (parseMethodDescriptor yX0_watersNow.desc).map (fun d => d.parameters.length) = some 0 := ⟨rfl, nd_X0_watersNow⟩
theorem nd_X3_init : yX3_init.cls ≠ "java/lang/invoke/MethodHandle" ∧ yX3_init.cls ≠ "java/lang/invoke/VarHandle" ∧ (parseMethodDescriptor yX3_init.desc).map (fun d => d.parameters.length) = some 0 := by decide +kernel
theorem nd_X11_needs : yX11_needs.cls ≠ "java/lang/invoke/MethodHandle" ∧ yX11_needs.cls ≠ "java/lang/invoke/VarHandle" ∧ (parseMethodDescriptor yX11_needs.desc).map (fun d => d.parameters.length) = some 0 := by decide +kernel
theorem nd_X7_begins : yX7_begins.cls ≠ "java/lang/invoke/MethodHandle" ∧ yX7_begins.cls ≠ "java/lang/invoke/VarHandle" ∧ (parseMethodDescriptor yX7_begins.desc).map (fun d => d.parameters.length) = some 0 := by decide +kernel
theorem ndV_X7_begins : yX7_begins.cls = ((RX7, TX7, 8) : vw_C).1 ∧ yX7_begins.cls ≠ "java/lang/invoke/MethodHandle" ∧ yX7_begins.cls ≠ "java/lang/invoke/VarHandle" ∧ (parseMethodDescriptor yX7_begins.desc).map (fun d => d.parameters.length) = some 0 := ⟨rfl, nd_X7_begins⟩
theorem nd_X7_by : yX7_by.cls ≠ "java/lang/invoke/MethodHandle" ∧ yX7_by.cls ≠ "java/lang/invoke/VarHandle" ∧ (parseMethodDescriptor yX7_by.desc).map (fun d => d.parameters.length) = some 1 := by decide +kernel
theorem ndV_X7_by : yX7_by.cls = ((RX7, TX7, 8) : vw_C).1 ∧ yX7_by.cls ≠ "java/lang/invoke/MethodHandle" ∧ yX7_by.cls ≠ "java/lang/invoke/VarHandle" ∧ (parseMethodDescriptor yX7_by.desc).map (fun d => d.parameters.length) = some 1 := ⟨rfl, nd_X7_by⟩
theorem nd_X7_comes : yX7_comes.cls ≠ "java/lang/invoke/MethodHandle" ∧ yX7_comes.cls ≠ "java/lang/invoke/VarHandle" ∧ (parseMethodDescriptor yX7_comes.desc).map (fun d => d.parameters.length) = some 2 := by decide +kernel
theorem ndV_X7_comes : yX7_comes.cls = ((RX7, TX7, 8) : vw_C).1 ∧ yX7_comes.cls ≠ "java/lang/invoke/MethodHandle" ∧ yX7_comes.cls ≠ "java/lang/invoke/VarHandle" ∧ (parseMethodDescriptor yX7_comes.desc).map (fun d => d.parameters.length) = some 2 := ⟨rfl, nd_X7_comes⟩
theorem nd_X7_served : yX7_served.cls ≠ "java/lang/invoke/MethodHandle" ∧ yX7_served.cls ≠ "java/lang/invoke/VarHandle" ∧ (parseMethodDescriptor yX7_served.desc).map (fun d => d.parameters.length) = some 1 := by decide +kernel
theorem ndV_X7_served : yX7_served.cls = ((RX7, TX7, 8) : vw_C).1 ∧ yX7_served.cls ≠ "java/lang/invoke/MethodHandle" ∧ yX7_served.cls ≠ "java/lang/invoke/VarHandle" ∧ (parseMethodDescriptor yX7_served.desc).map (fun d => d.parameters.length) = some 1 := ⟨rfl, nd_X7_served⟩
theorem nd_X8_by : yX8_by.cls ≠ "java/lang/invoke/MethodHandle" ∧ yX8_by.cls ≠ "java/lang/invoke/VarHandle" ∧ (parseMethodDescriptor yX8_by.desc).map (fun d => d.parameters.length) = some 1 := by decide +kernel
theorem ndV_X8_by : yX8_by.cls = ((RX8, TX8, 3) : vw_C).1 ∧ yX8_by.cls ≠ "java/lang/invoke/MethodHandle" ∧ yX8_by.cls ≠ "java/lang/invoke/VarHandle" ∧ (parseMethodDescriptor yX8_by.desc).map (fun d => d.parameters.length) = some 1 := ⟨rfl, nd_X8_by⟩
theorem nd_X8_fire : yX8_fire.cls ≠ "java/lang/invoke/MethodHandle" ∧ yX8_fire.cls ≠ "java/lang/invoke/VarHandle" ∧ (parseMethodDescriptor yX8_fire.desc).map (fun d => d.parameters.length) = some 1 := by decide +kernel
theorem ndV_X8_fire : yX8_fire.cls = ((RX8, TX8, 3) : vw_C).1 ∧ yX8_fire.cls ≠ "java/lang/invoke/MethodHandle" ∧ yX8_fire.cls ≠ "java/lang/invoke/VarHandle" ∧ (parseMethodDescriptor yX8_fire.desc).map (fun d => d.parameters.length) = some 1 := ⟨rfl, nd_X8_fire⟩
theorem nd_X4_init : yX4_init.cls ≠ "java/lang/invoke/MethodHandle" ∧ yX4_init.cls ≠ "java/lang/invoke/VarHandle" ∧ (parseMethodDescriptor yX4_init.desc).map (fun d => d.parameters.length) = some 0 := by decide +kernel
theorem nd_X4_item : yX4_item.cls ≠ "java/lang/invoke/MethodHandle" ∧ yX4_item.cls ≠ "java/lang/invoke/VarHandle" ∧ (parseMethodDescriptor yX4_item.desc).map (fun d => d.parameters.length) = some 2 := by decide +kernel
theorem ndV_X4_item : yX4_item.cls = ((RX4, TX4, 1) : vw_C).1 ∧ yX4_item.cls ≠ "java/lang/invoke/MethodHandle" ∧ yX4_item.cls ≠ "java/lang/invoke/VarHandle" ∧ (parseMethodDescriptor yX4_item.desc).map (fun d => d.parameters.length) = some 2 := ⟨rfl, nd_X4_item⟩
theorem nd_X4_lay : yX4_lay.cls ≠ "java/lang/invoke/MethodHandle" ∧ yX4_lay.cls ≠ "java/lang/invoke/VarHandle" ∧ (parseMethodDescriptor yX4_lay.desc).map (fun d => d.parameters.length) = some 3 := by decide +kernel
theorem ndV_X4_lay : yX4_lay.cls = ((RX4, TX4, 1) : vw_C).1 ∧ yX4_lay.cls ≠ "java/lang/invoke/MethodHandle" ∧ yX4_lay.cls ≠ "java/lang/invoke/VarHandle" ∧ (parseMethodDescriptor yX4_lay.desc).map (fun d => d.parameters.length) = some 3 := ⟨rfl, nd_X4_lay⟩
theorem nd_X4_size : yX4_size.cls ≠ "java/lang/invoke/MethodHandle" ∧ yX4_size.cls ≠ "java/lang/invoke/VarHandle" ∧ (parseMethodDescriptor yX4_size.desc).map (fun d => d.parameters.length) = some 0 := by decide +kernel
theorem ndV_X4_size : yX4_size.cls = ((RX4, TX4, 1) : vw_C).1 ∧ yX4_size.cls ≠ "java/lang/invoke/MethodHandle" ∧ yX4_size.cls ≠ "java/lang/invoke/VarHandle" ∧ (parseMethodDescriptor yX4_size.desc).map (fun d => d.parameters.length) = some 0 := ⟨rfl, nd_X4_size⟩
theorem nd_X1_length : yX1_length.cls ≠ "java/lang/invoke/MethodHandle" ∧ yX1_length.cls ≠ "java/lang/invoke/VarHandle" ∧ (parseMethodDescriptor yX1_length.desc).map (fun d => d.parameters.length) = some 0 := by decide +kernel
theorem nd_X1_read : yX1_read.cls ≠ "java/lang/invoke/MethodHandle" ∧ yX1_read.cls ≠ "java/lang/invoke/VarHandle" ∧ (parseMethodDescriptor yX1_read.desc).map (fun d => d.parameters.length) = some 0 := by decide +kernel
theorem nd_X1_type : yX1_type.cls ≠ "java/lang/invoke/MethodHandle" ∧ yX1_type.cls ≠ "java/lang/invoke/VarHandle" ∧ (parseMethodDescriptor yX1_type.desc).map (fun d => d.parameters.length) = some 1 := by decide +kernel
theorem nd_X1_undo : yX1_undo.cls ≠ "java/lang/invoke/MethodHandle" ∧ yX1_undo.cls ≠ "java/lang/invoke/VarHandle" ∧ (parseMethodDescriptor yX1_undo.desc).map (fun d => d.parameters.length) = some 0 := by decide +kernel
theorem nd_X1_wipe : yX1_wipe.cls ≠ "java/lang/invoke/MethodHandle" ∧ yX1_wipe.cls ≠ "java/lang/invoke/VarHandle" ∧ (parseMethodDescriptor yX1_wipe.desc).map (fun d => d.parameters.length) = some 0 := by decide +kernel
theorem nd_X2_init : yX2_init.cls ≠ "java/lang/invoke/MethodHandle" ∧ yX2_init.cls ≠ "java/lang/invoke/VarHandle" ∧ (parseMethodDescriptor yX2_init.desc).map (fun d => d.parameters.length) = some 0 := by decide +kernel
theorem nd_J2_get : yJ2_get.cls ≠ "java/lang/invoke/MethodHandle" ∧ yJ2_get.cls ≠ "java/lang/invoke/VarHandle" ∧ (parseMethodDescriptor yJ2_get.desc).map (fun d => d.parameters.length) = some 1 := by decide +kernel
theorem ndV_J2_get : yJ2_get.cls = ((RJ2, TJ2, 3) : vw_C).1 ∧ yJ2_get.cls ≠ "java/lang/invoke/MethodHandle" ∧ yJ2_get.cls ≠ "java/lang/invoke/VarHandle" ∧ (parseMethodDescriptor yJ2_get.desc).map (fun d => d.parameters.length) = some 1 := ⟨rfl, nd_J2_get⟩
theorem nd_J2_indexOf : yJ2_indexOf.cls ≠ "java/lang/invoke/MethodHandle" ∧ yJ2_indexOf.cls ≠ "java/lang/invoke/VarHandle" ∧ (parseMethodDescriptor yJ2_indexOf.desc).map (fun d => d.parameters.length) = some 1 := by decide +kernel
theorem ndV_J2_indexOf : yJ2_indexOf.cls = ((RJ2, TJ2, 3) : vw_C).1 ∧ yJ2_indexOf.cls ≠ "java/lang/invoke/MethodHandle" ∧ yJ2_indexOf.cls ≠ "java/lang/invoke/VarHandle" ∧ (parseMethodDescriptor yJ2_indexOf.desc).map (fun d => d.parameters.length) = some 1 := ⟨rfl, nd_J2_indexOf⟩
theorem nd_J2_isEmpty : yJ2_isEmpty.cls ≠ "java/lang/invoke/MethodHandle" ∧ yJ2_isEmpty.cls ≠ "java/lang/invoke/VarHandle" ∧ (parseMethodDescriptor yJ2_isEmpty.desc).map (fun d => d.parameters.length) = some 0 := by decide +kernel
theorem ndV_J2_isEmpty : yJ2_isEmpty.cls = ((RJ2, TJ2, 3) : vw_C).1 ∧ yJ2_isEmpty.cls ≠ "java/lang/invoke/MethodHandle" ∧ yJ2_isEmpty.cls ≠ "java/lang/invoke/VarHandle" ∧ (parseMethodDescriptor yJ2_isEmpty.desc).map (fun d => d.parameters.length) = some 0 := ⟨rfl, nd_J2_isEmpty⟩
theorem nd_J2_remove : yJ2_remove.cls ≠ "java/lang/invoke/MethodHandle" ∧ yJ2_remove.cls ≠ "java/lang/invoke/VarHandle" ∧ (parseMethodDescriptor yJ2_remove.desc).map (fun d => d.parameters.length) = some 1 := by decide +kernel
theorem ndV_J2_remove : yJ2_remove.cls = ((RJ2, TJ2, 3) : vw_C).1 ∧ yJ2_remove.cls ≠ "java/lang/invoke/MethodHandle" ∧ yJ2_remove.cls ≠ "java/lang/invoke/VarHandle" ∧ (parseMethodDescriptor yJ2_remove.desc).map (fun d => d.parameters.length) = some 1 := ⟨rfl, nd_J2_remove⟩
abbrev d_X0_isIn : Nat := 1
def wp_X0_isIn_14 (S : jS) (t0 : Int32) (K : jS → Int32 → Prop) : Prop :=
  (((t0 : Int32) = 0 ∨ (t0 : Int32) = 1) ∧ K S t0)
def wp_X0_isIn (S : jS) (x0 : Int32) (x1 : Int32) (K : jS → Int32 → Prop) : Prop :=
  ((((x0 >>> (x1 &&& 31)) &&& 1) = 1) → wp_X0_isIn_14 S 1 K) ∧ ((¬ (((x0 >>> (x1 &&& 31)) &&& 1) = 1)) → wp_X0_isIn_14 S 0 K)
abbrev d_X0_alike : Nat := 2
def wp_X0_alike_62 (S : jS) (t0 : Int32) (t1 : Int32) (x0 : Nat) (x1 : Int32) (x2 : Int32) (x3 : Int32) (x5 : Int32) (Kc8 : jS × Int32 × Int32 × Int32 → Prop) (K : jS → Int32 → Prop) : Prop :=
  Kc8 (S, x3, (t0 + t1), (x5 + 1))
def wp_X0_alike_44 (S : jS) (t0 : Int32) (t1 : Int32) (x0 : Nat) (x1 : Int32) (x2 : Int32) (x4 : Int32) (x5 : Int32) (Kc8 : jS × Int32 × Int32 × Int32 → Prop) (K : jS → Int32 → Prop) : Prop :=
  wp_X0_isIn S x1 x5 (fun S1 r2 => ((r2 = 0) → wp_X0_alike_62 S1 x4 0 x0 x1 x2 (t0 + t1) x5 Kc8 K) ∧ ((¬ (r2 = 0)) → wp_X0_alike_62 S1 x4 1 x0 x1 x2 (t0 + t1) x5 Kc8 K))
def wp_X0_alike_43 (S : jS) (t0 : Int32) (x0 : Nat) (x1 : Int32) (x2 : Int32) (x4 : Int32) (x5 : Int32) (Kc8 : jS × Int32 × Int32 × Int32 → Prop) (K : jS → Int32 → Prop) : Prop :=
  wp_X0_alike_44 S t0 0 x0 x1 x2 x4 x5 Kc8 K
def wp_X0_alike_8 (S : jS) (x0 : Nat) (x1 : Int32) (x2 : Int32) (x3 : Int32) (x4 : Int32) (x5 : Int32) (Kc8 : jS × Int32 × Int32 × Int32 → Prop) (K : jS → Int32 → Prop) : Prop :=
  ((30 < x5) → wp_J7_max S x3 (x4 - x3) (fun S1 r2 => K S1 r2)) ∧ ((¬ (30 < x5)) → wp_X0_isIn S x1 x5 (fun S3 r4 => ((r4 = 0) → wp_X0_alike_43 S3 x3 x0 x1 x2 x4 x5 Kc8 K) ∧ ((¬ (r4 = 0)) → jgr [0] 19 S3 x0 (fun v5 => jal 0 S3 v5 x5 (fun v6 => wp_X0_isIn S3 v6 x2 (fun S7 r8 => ((r8 = 0) → wp_X0_alike_43 S7 x3 x0 x1 x2 x4 x5 Kc8 K) ∧ ((¬ (r8 = 0)) → wp_X0_alike_44 S7 x3 1 x0 x1 x2 x4 x5 Kc8 K)))))))
def wp_X0_alike_8_L (x0 : Nat) (x1 : Int32) (x2 : Int32) (K : jS → Int32 → Prop) : (jS × Int32 × Int32 × Int32) → ((jS × Int32 × Int32 × Int32) → Prop) → Prop := fun z Kc8 => wp_X0_alike_8 z.1 x0 x1 x2 z.2.1 z.2.2.1 z.2.2.2 Kc8 K
def wp_X0_alike (S : jS) (x0 : Nat) (x1 : Int32) (x2 : Int32) (K : jS → Int32 → Prop) : Prop :=
  ∃ n : Nat, jlp n (wp_X0_alike_8_L x0 x1 x2 K) (S, 0, 0, 0)
def wpD_Woodpile_read_1 (S : jS) (a : Nat)  (K : jS → Int32 → Prop) : Prop := (jis 1 S a ∧ wp_X1_read S a  K)
abbrev d_D_Woodpile_read_1 : Nat := 9
abbrev d_X0_pieces : Nat := 10
def wp_X0_pieces (S : jS) (x0 : Nat) (K : jS → Int32 → Prop) : Prop :=
  jgr [0] 1 S x0 (fun v1 => wpD_Woodpile_read_1 S v1 (fun S2 r3 => jgr [0] 1 S2 x0 (fun v4 => jgr [1] 5 S2 v4 (fun v5 => jis 3 S2 v5 ∧ wp_J2_size S2 v5 (fun S6 r7 => K S6 r7)))))
abbrev d_X0_fire : Nat := 11
def wp_X0_fire_27 (S : jS) (t0 : Int32) (t1 : Nat) (x0 : Nat) (x1 : Int32) (x3 : Int32) (Kc4 : jS × Int32 × Int32 → Prop) (K : jS → Int32 → Prop) : Prop :=
  jis 5 S t1 ∧ wp_X8_fire S t1 x1 (fun S1 r2 => Kc4 (S1, (t0 + r2), (x3 + 1)))
def wp_X0_fire_53 (S : jS) (t0 : Int32) (K : jS → Int32 → Prop) : Prop :=
  K S t0
def wp_X0_fire_4 (S : jS) (x0 : Nat) (x1 : Int32) (x2 : Int32) (x3 : Int32) (Kc4 : jS × Int32 × Int32 → Prop) (K : jS → Int32 → Prop) : Prop :=
  jis 0 S x0 ∧ wp_X0_pieces S x0 (fun S1 r2 => ((r2 ≤ x3) → jgi [0] 12 S1 x0 (fun v3 => ((v3 = 0) → wp_X0_fire_53 S1 x2 K) ∧ ((¬ (v3 = 0)) → wp_X0_fire_53 S1 (2 * x2) K))) ∧ ((¬ (r2 ≤ x3)) → jgr [0] 1 S1 x0 (fun v5 => jgr [1] 5 S1 v5 (fun v6 => jis 3 S1 v6 ∧ wp_J2_get S1 v6 x3 (fun S7 r8 => jco [5] S7 r8 ∧ (wp_X0_fire_27 S7 x2 r8 x0 x1 x3 Kc4 K))))))
def wp_X0_fire_4_L (x0 : Nat) (x1 : Int32) (K : jS → Int32 → Prop) : (jS × Int32 × Int32) → ((jS × Int32 × Int32) → Prop) → Prop := fun z Kc4 => wp_X0_fire_4 z.1 x0 x1 z.2.1 z.2.2 Kc4 K
def wp_X0_fire (S : jS) (x0 : Nat) (x1 : Int32) (K : jS → Int32 → Prop) : Prop :=
  ∃ n : Nat, jlp n (wp_X0_fire_4_L x0 x1 K) (S, 0, 0)
abbrev d_X0_happens : Nat := 4
def wp_X0_happens_135 (S : jS) (x0 : Nat) (x1 : Int32) (x2 : Int32) (Kc7 : jS × Int32 → Prop) (K : jS → Unit → Prop) : Prop :=
  Kc7 (S, (x2 + 1))
def wp_X0_happens_91 (S : jS) (t0 : Nat) (t1 : Int32) (t2 : Int32) (t3 : Int32) (x0 : Nat) (x1 : Int32) (x2 : Int32) (Kc7 : jS × Int32 → Prop) (K : jS → Unit → Prop) : Prop :=
  wp_J7_max S (t1 - (t2 * t3)) 0 (fun S1 r2 => jpi [0] 7 S1 t0 r2 (fun S3 => wp_X0_happens_135 S3 x0 x1 x2 Kc7 K))
def wp_X0_happens_7 (S : jS) (x0 : Nat) (x1 : Int32) (x2 : Int32) (Kc7 : jS × Int32 → Prop) (K : jS → Unit → Prop) : Prop :=
  jgr [0] 6 S x0 (fun v1 => jis 3 S v1 ∧ wp_J2_size S v1 (fun S2 r3 => ((r3 ≤ x2) → K S2 ()) ∧ ((¬ (r3 ≤ x2)) → jgr [0] 6 S2 x0 (fun v4 => jis 3 S2 v4 ∧ wp_J2_get S2 v4 x2 (fun S5 r6 => jca 0 S5 r6 ∧ (jal 0 S5 r6 1 (fun v7 => ((v7 = x1) → jgi [0] 17 S5 x0 (fun v8 => wp_X0_isIn S5 v8 x2 (fun S9 r10 => ((r10 = 0) → jal 0 S9 r6 0 (fun v11 => ((v11 = 0) → jal 0 S9 r6 2 (fun v12 => jgi [0] 8 S9 x0 (fun v13 => wp_J7_min S9 v12 (30 - v13) (fun S14 r15 => jgi [0] 8 S14 x0 (fun v16 => jpi [0] 8 S14 x0 (v16 + r15) (fun S17 => jgi [0] 7 S17 x0 (fun v18 => wp_X0_happens_91 S17 x0 v18 4 r15 x0 x1 x2 Kc7 K))))))) ∧ ((¬ (v11 = 0)) → jal 0 S9 r6 0 (fun v19 => ((v19 = 1) → jgi [0] 9 S9 x0 (fun v20 => jal 0 S9 r6 2 (fun v21 => wp_J7_min S9 (v20 + v21) 40 (fun S22 r23 => jpi [0] 9 S22 x0 r23 (fun S24 => wp_X0_happens_135 S24 x0 x1 x2 Kc7 K))))) ∧ ((¬ (v19 = 1)) → jpz [0] 12 S9 x0 1 (fun S25 => wp_X0_happens_135 S25 x0 x1 x2 Kc7 K)))))) ∧ ((¬ (r10 = 0)) → wp_X0_happens_135 S9 x0 x1 x2 Kc7 K)))) ∧ ((¬ (v7 = x1)) → wp_X0_happens_135 S5 x0 x1 x2 Kc7 K))))))))
def wp_X0_happens_7_L (x0 : Nat) (x1 : Int32) (K : jS → Unit → Prop) : (jS × Int32) → ((jS × Int32) → Prop) → Prop := fun z Kc7 => wp_X0_happens_7 z.1 x0 x1 z.2 Kc7 K
def wp_X0_happens (S : jS) (x0 : Nat) (x1 : Int32) (K : jS → Unit → Prop) : Prop :=
  jpz [0] 12 S x0 0 (fun S1 => ∃ n : Nat, jlp n (wp_X0_happens_7_L x0 x1 K) (S1, 0))
abbrev d_X0_queues : Nat := 6
def wp_X0_queues_51 (S : jS) (x0 : Nat) (x1 : Int32) (x2 : Int32) (x3 : Int32) (Kc2 : jS × Int32 → Prop) (K : jS → Unit → Prop) : Prop :=
  Kc2 (S, (x3 + 1))
def wp_X0_queues_2 (S : jS) (x0 : Nat) (x1 : Int32) (x2 : Int32) (x3 : Int32) (Kc2 : jS × Int32 → Prop) (K : jS → Unit → Prop) : Prop :=
  jgr [0] 4 S x0 (fun v1 => jis 3 S v1 ∧ wp_J2_size S v1 (fun S2 r3 => ((r3 ≤ x3) → K S2 ()) ∧ ((¬ (r3 ≤ x3)) → jgr [0] 4 S2 x0 (fun v4 => jis 3 S2 v4 ∧ wp_J2_get S2 v4 x3 (fun S5 r6 => jco [4] S5 r6 ∧ (jis 4 S5 r6 ∧ wp_X7_comes S5 r6 x1 x2 (fun S7 r8 => ((r8 = 0) → wp_X0_queues_51 S7 x0 x1 x2 x3 Kc2 K) ∧ ((¬ (r8 = 0)) → jgr [0] 13 S7 x0 (fun v9 => jgr [0] 4 S7 x0 (fun v10 => jis 3 S7 v10 ∧ wp_J2_get S7 v10 x3 (fun S11 r12 => jco [4] S11 r12 ∧ (jis 3 S11 v9 ∧ wp_J2_add S11 v9 r12 (fun S13 r14 => wp_X0_queues_51 S13 x0 x1 x2 x3 Kc2 K)))))))))))))
def wp_X0_queues_2_L (x0 : Nat) (x1 : Int32) (x2 : Int32) (K : jS → Unit → Prop) : (jS × Int32) → ((jS × Int32) → Prop) → Prop := fun z Kc2 => wp_X0_queues_2 z.1 x0 x1 x2 z.2 Kc2 K
def wp_X0_queues (S : jS) (x0 : Nat) (x1 : Int32) (x2 : Int32) (K : jS → Unit → Prop) : Prop :=
  ∃ n : Nat, jlp n (wp_X0_queues_2_L x0 x1 x2 K) (S, 0)
def wpD_Taste_needs_12_13 (S : jS) (a : Nat)  (K : jS → Int32 → Prop) : Prop := (jis 12 S a ∧ wp_X13_needs S a  K) ∨ (jis 13 S a ∧ wp_X11_needs S a  K)
abbrev d_D_Taste_needs_12_13 : Nat := 2
abbrev d_X0_serves : Nat := 4
def wp_X0_serves_58 (S : jS) (x0 : Nat) (x1 : Int32) (x2 : Int32) (x3 : Nat) (K : jS → Int32 → Prop) : Prop :=
  jgi [0] 8 S x0 (fun v1 => jpi [0] 8 S x0 (v1 - 1) (fun S2 => jgi [0] 11 S2 x0 (fun v3 => jpi [0] 11 S2 x0 (v3 + 1) (fun S4 => jgr [0] 13 S4 x0 (fun v5 => jis 3 S4 v5 ∧ wp_J2_remove S4 v5 x2 (fun S6 r7 => jis 4 S6 x3 ∧ wp_X7_served S6 x3 x1 (fun S8 _ => jgr [0] 4 S8 x0 (fun v9 => jis 3 S8 v9 ∧ wp_J2_indexOf S8 v9 x3 (fun S10 r11 => K S10 r11)))))))))
def wp_X0_serves_13 (S : jS) (x0 : Nat) (x1 : Int32) (x2 : Int32) (Kc2 : jS × Int32 → Prop) (K : jS → Int32 → Prop) : Prop :=
  jgr [0] 13 S x0 (fun v1 => jis 3 S v1 ∧ wp_J2_get S v1 x2 (fun S2 r3 => jco [4] S2 r3 ∧ (jgr [4] 1 S2 r3 (fun v4 => wpD_Taste_needs_12_13 S2 v4 (fun S5 r6 => jgi [0] 9 S5 x0 (fun v7 => ((r6 ≤ v7) → jgi [0] 9 S5 x0 (fun v8 => jgr [4] 1 S5 r3 (fun v9 => wpD_Taste_needs_12_13 S5 v9 (fun S10 r11 => jpi [0] 9 S10 x0 (v8 - r11) (fun S12 => wp_X0_serves_58 S12 x0 x1 x2 r3 K))))) ∧ ((¬ (r6 ≤ v7)) → Kc2 (S5, (x2 + 1)))))))))
def wp_X0_serves_107 (S : jS) (K : jS → Int32 → Prop) : Prop :=
  K S (-1)
def wp_X0_serves_2 (S : jS) (x0 : Nat) (x1 : Int32) (x2 : Int32) (Kc2 : jS × Int32 → Prop) (K : jS → Int32 → Prop) : Prop :=
  jgr [0] 13 S x0 (fun v1 => jis 3 S v1 ∧ wp_J2_size S v1 (fun S2 r3 => ((r3 ≤ x2) → wp_X0_serves_107 S2 K) ∧ ((¬ (r3 ≤ x2)) → wp_X0_serves_13 S2 x0 x1 x2 Kc2 K)))
def wp_X0_serves_2_L (x0 : Nat) (x1 : Int32) (K : jS → Int32 → Prop) : (jS × Int32) → ((jS × Int32) → Prop) → Prop := fun z Kc2 => wp_X0_serves_2 z.1 x0 x1 z.2 Kc2 K
def wp_X0_serves (S : jS) (x0 : Nat) (x1 : Int32) (K : jS → Int32 → Prop) : Prop :=
  ∃ n : Nat, jlp n (wp_X0_serves_2_L x0 x1 K) (S, 0)
abbrev d_X0_tire : Nat := 4
def wp_X0_tire_62 (S : jS) (x0 : Nat) (x1 : Int32) (Kc10 : jS × Int32 → Prop) (K : jS → Unit → Prop) : Prop :=
  Kc10 (S, (x1 + (-1)))
def wp_X0_tire_10 (S : jS) (x0 : Nat) (x1 : Int32) (Kc10 : jS × Int32 → Prop) (K : jS → Unit → Prop) : Prop :=
  ((x1 < 0) → K S ()) ∧ ((¬ (x1 < 0)) → jgr [0] 13 S x0 (fun v1 => jis 3 S v1 ∧ wp_J2_get S v1 x1 (fun S2 r3 => jco [4] S2 r3 ∧ (jgi [4] 6 S2 r3 (fun v4 => jpi [4] 6 S2 r3 (v4 + 1) (fun S5 => jgi [4] 6 S5 r3 (fun v6 => ((6 ≤ v6) → jpi [4] 3 S5 r3 4 (fun S7 => jgr [0] 13 S7 x0 (fun v8 => jis 3 S7 v8 ∧ wp_J2_remove S7 v8 x1 (fun S9 r10 => wp_X0_tire_62 S9 x0 x1 Kc10 K)))) ∧ ((¬ (6 ≤ v6)) → wp_X0_tire_62 S5 x0 x1 Kc10 K))))))))
def wp_X0_tire_10_L (x0 : Nat) (K : jS → Unit → Prop) : (jS × Int32) → ((jS × Int32) → Prop) → Prop := fun z Kc10 => wp_X0_tire_10 z.1 x0 z.2 Kc10 K
def wp_X0_tire (S : jS) (x0 : Nat) (K : jS → Unit → Prop) : Prop :=
  jgr [0] 13 S x0 (fun v1 => jis 3 S v1 ∧ wp_J2_size S v1 (fun S2 r3 => ∃ n : Nat, jlp n (wp_X0_tire_10_L x0 K) (S2, (r3 - 1))))
abbrev d_X0_passes : Nat := 12
def wp_X0_passes_267 (S : jS) (t0 : Nat) (t1 : Int32) (t2 : Int32) (x0 : Nat) (x1 : Int32) (x4 : Int32) (Kc189 : jS × Int32 → Prop) (K : jS → Unit → Prop) : Prop :=
  jpi [4] 7 S t0 (t1 + t2) (fun S1 => Kc189 (S1, (x4 + 1)))
def wp_X0_passes_189 (S : jS) (x0 : Nat) (x1 : Int32) (x4 : Int32) (Kc189 : jS × Int32 → Prop) (K : jS → Unit → Prop) : Prop :=
  jgr [0] 4 S x0 (fun v1 => jis 3 S v1 ∧ wp_J2_size S v1 (fun S2 r3 => ((r3 ≤ x4) → K S2 ()) ∧ ((¬ (r3 ≤ x4)) → jgr [0] 4 S2 x0 (fun v4 => jis 3 S2 v4 ∧ wp_J2_get S2 v4 x4 (fun S5 r6 => jco [4] S5 r6 ∧ (jgr [0] 16 S5 x0 (fun v7 => jarn 7 S5 v7 x1 (fun v8 => jarn 6 S5 v8 x4 (fun v9 => jgi [4] 3 S5 r6 (fun v10 => jas 0 S5 v9 0 v10 (fun S11 => jgr [0] 16 S11 x0 (fun v12 => jarn 7 S11 v12 x1 (fun v13 => jarn 6 S11 v13 x4 (fun v14 => jgi [4] 4 S11 r6 (fun v15 => jas 0 S11 v14 1 v15 (fun S16 => jgi [4] 7 S16 r6 (fun v17 => jgi [4] 3 S16 r6 (fun v18 => ((v18 = 1) → wp_X0_passes_267 S16 r6 v17 1 x0 x1 x4 Kc189 K) ∧ ((¬ (v18 = 1)) → wp_X0_passes_267 S16 r6 v17 0 x0 x1 x4 Kc189 K)))))))))))))))))))
def wp_X0_passes_189_L (x0 : Nat) (x1 : Int32) (K : jS → Unit → Prop) : (jS × Int32) → ((jS × Int32) → Prop) → Prop := fun z Kc189 => wp_X0_passes_189 z.1 x0 x1 z.2 Kc189 K
def wp_X0_passes_147 (S : jS) (t0 : Nat) (t1 : Int32) (t2 : Int32) (x0 : Nat) (x1 : Int32) (x2 : Nat) (K : jS → Unit → Prop) : Prop :=
  jas 0 S t0 t1 t2 (fun S1 => jis 0 S1 x0 ∧ wp_X0_tire S1 x0 (fun S2 _ => jgi [0] 7 S2 x0 (fun v3 => jas 0 S2 x2 0 v3 (fun S4 => jgi [0] 8 S4 x0 (fun v5 => jas 0 S4 x2 1 v5 (fun S6 => jgi [0] 9 S6 x0 (fun v7 => jas 0 S6 x2 2 v7 (fun S8 => jgr [0] 15 S8 x0 (fun v9 => jgr [0] 13 S8 x0 (fun v10 => jis 3 S8 v10 ∧ wp_J2_size S8 v10 (fun S11 r12 => jas 0 S11 v9 x1 r12 (fun S13 => ∃ n : Nat, jlp n (wp_X0_passes_189_L x0 x1 K) (S13, 0)))))))))))))
def wp_X0_passes_131 (S : jS) (t0 : Nat) (t1 : Int32) (t2 : Int32) (x0 : Nat) (x1 : Int32) (x2 : Nat) (x3 : Int32) (K : jS → Unit → Prop) : Prop :=
  jas 0 S t0 t1 t2 (fun S1 => ((x3 = 0) → wp_X0_passes_147 S1 x2 5 (-1) x0 x1 x2 K) ∧ ((¬ (x3 = 0)) → jis 0 S1 x0 ∧ wp_X0_serves S1 x0 x1 (fun S2 r3 => wp_X0_passes_147 S2 x2 5 r3 x0 x1 x2 K)))
def wp_X0_passes_107 (S : jS) (t0 : Int32) (x0 : Nat) (x1 : Int32) (x2 : Nat) (K : jS → Unit → Prop) : Prop :=
  jis 0 S x0 ∧ wp_X0_queues S x0 x1 0 (fun S1 _ => jis 0 S1 x0 ∧ wp_X0_queues S1 x0 x1 1 (fun S2 _ => ((t0 = 0) → wp_X0_passes_131 S2 x2 4 0 x0 x1 x2 t0 K) ∧ ((¬ (t0 = 0)) → wp_X0_passes_131 S2 x2 4 1 x0 x1 x2 t0 K)))
def wp_X0_passes_106 (S : jS) (x0 : Nat) (x1 : Int32) (x2 : Nat) (K : jS → Unit → Prop) : Prop :=
  wp_X0_passes_107 S 0 x0 x1 x2 K
def wp_X0_passes_86 (S : jS) (x0 : Nat) (x1 : Int32) (x2 : Nat) (K : jS → Unit → Prop) : Prop :=
  jgi [0] 7 S x0 (fun v1 => ((v1 < 80) → wp_X0_passes_106 S x0 x1 x2 K) ∧ ((¬ (v1 < 80)) → jgi [0] 8 S x0 (fun v2 => ((v2 ≤ 0) → wp_X0_passes_106 S x0 x1 x2 K) ∧ ((¬ (v2 ≤ 0)) → wp_X0_passes_107 S 1 x0 x1 x2 K))))
def wp_X0_passes_73 (S : jS) (t0 : Nat) (t1 : Int32) (x0 : Nat) (x1 : Int32) (x2 : Nat) (K : jS → Unit → Prop) : Prop :=
  jpi [0] 8 S t0 t1 (fun S1 => jgi [0] 10 S1 x0 (fun v2 => jpi [0] 10 S1 x0 (v2 + 1) (fun S3 => wp_X0_passes_86 S3 x0 x1 x2 K)))
def wp_X0_passes (S : jS) (x0 : Nat) (x1 : Int32) (K : jS → Unit → Prop) : Prop :=
  jis 0 S x0 ∧ wp_X0_happens S x0 x1 (fun S1 _ => jgr [0] 14 S1 x0 (fun v2 => jarn 6 S1 v2 x1 (fun v3 => jis 0 S1 x0 ∧ wp_X0_fire S1 x0 x1 (fun S4 r5 => jas 0 S4 v3 3 r5 (fun S6 => jgi [0] 7 S6 x0 (fun v7 => jal 0 S6 v3 3 (fun v8 => jgi [0] 8 S6 x0 (fun v9 => (¬ (5 : Int32) = 0) ∧ (wp_J7_max S6 (((v7 + v8) - 2) - (v9 / 5)) 0 (fun S10 r11 => wp_J7_min S10 r11 100 (fun S12 r13 => jpi [0] 7 S12 x0 r13 (fun S14 => jgi [0] 7 S14 x0 (fun v15 => ((v15 = 100) → jgi [0] 8 S14 x0 (fun v16 => ((v16 ≤ 0) → wp_X0_passes_86 S14 x0 x1 v3 K) ∧ ((¬ (v16 ≤ 0)) → jgi [0] 8 S14 x0 (fun v17 => wp_X0_passes_73 S14 x0 (v17 - 1) x0 x1 v3 K)))) ∧ ((¬ (v15 = 100)) → wp_X0_passes_86 S14 x0 x1 v3 K))))))))))))))
def wpD_Company_read_2 (S : jS) (a : Nat)  (K : jS → Int32 → Prop) : Prop := (jis 2 S a ∧ wp_X1_read S a  K)
abbrev d_D_Company_read_2 : Nat := 9
abbrev d_X0_find : Nat := 13
def wp_X0_find_22 (S : jS) (t0 : Nat) (x0 : Nat) (x1 : Int32) (Kc10 : jS × Int32 → Prop) (K : jS → Unit → Prop) : Prop :=
  jgr [0] 4 S t0 (fun v1 => jis 3 S v1 ∧ wp_J2_get S v1 x1 (fun S2 r3 => jco [4] S2 r3 ∧ (jis 4 S2 r3 ∧ wp_X7_begins S2 r3 (fun S4 _ => Kc10 (S4, (x1 + 1))))))
def wp_X0_find_93 (S : jS) (t0 : Nat) (t1 : Int32) (x0 : Nat) (x1 : Int32) (Kc85 : jS × Int32 → Prop) (K : jS → Unit → Prop) : Prop :=
  jis 0 S t0 ∧ wp_X0_passes S t0 t1 (fun S1 _ => Kc85 (S1, (x1 + 1)))
def wp_X0_find_85 (S : jS) (x0 : Nat) (x1 : Int32) (Kc85 : jS × Int32 → Prop) (K : jS → Unit → Prop) : Prop :=
  ((24 ≤ x1) → K S ()) ∧ ((¬ (24 ≤ x1)) → wp_X0_find_93 S x0 x1 x0 x1 Kc85 K)
def wp_X0_find_85_L (x0 : Nat) (K : jS → Unit → Prop) : (jS × Int32) → ((jS × Int32) → Prop) → Prop := fun z Kc85 => wp_X0_find_85 z.1 x0 z.2 Kc85 K
def wp_X0_find_42 (S : jS) (t0 : Nat) (x0 : Nat) (K : jS → Unit → Prop) : Prop :=
  jgr [0] 13 S t0 (fun v1 => jis 3 S v1 ∧ wp_J2_clear S v1 (fun S2 _ => jpi [0] 7 S2 x0 0 (fun S3 => jgr [0] 5 S3 x0 (fun v4 => jal 0 S3 v4 0 (fun v5 => jpi [0] 8 S3 x0 v5 (fun S6 => jgr [0] 5 S6 x0 (fun v7 => jal 0 S6 v7 1 (fun v8 => jpi [0] 9 S6 x0 v8 (fun S9 => jpi [0] 10 S9 x0 0 (fun S10 => jpi [0] 11 S10 x0 0 (fun S11 => ∃ n : Nat, jlp n (wp_X0_find_85_L x0 K) (S11, 0))))))))))))
def wp_X0_find_10 (S : jS) (x0 : Nat) (x1 : Int32) (Kc10 : jS × Int32 → Prop) (K : jS → Unit → Prop) : Prop :=
  jgr [0] 4 S x0 (fun v1 => jis 3 S v1 ∧ wp_J2_size S v1 (fun S2 r3 => ((r3 ≤ x1) → wp_X0_find_42 S2 x0 x0 K) ∧ ((¬ (r3 ≤ x1)) → wp_X0_find_22 S2 x0 x0 x1 Kc10 K)))
def wp_X0_find_10_L (x0 : Nat) (K : jS → Unit → Prop) : (jS × Int32) → ((jS × Int32) → Prop) → Prop := fun z Kc10 => wp_X0_find_10 z.1 x0 z.2 Kc10 K
def wp_X0_find (S : jS) (x0 : Nat) (K : jS → Unit → Prop) : Prop :=
  jgr [0] 2 S x0 (fun v1 => wpD_Company_read_2 S v1 (fun S2 r3 => ∃ n : Nat, jlp n (wp_X0_find_10_L x0 K) (S2, 0)))
abbrev d_X0_isSeen : Nat := 14
def wp_X0_isSeen_64 (S : jS) (t0 : Int32) (x0 : Nat) (x2 : Int32) (Kc8 : jS × Int32 × Int32 → Prop) (K : jS → Int32 → Prop) : Prop :=
  Kc8 (S, t0, (x2 + 1))
def wp_X0_isSeen_71 (S : jS) (x1 : Int32) (K : jS → Int32 → Prop) : Prop :=
  (((x1 : Int32) = 0 ∨ (x1 : Int32) = 1) ∧ K S x1)
def wp_X0_isSeen_8 (S : jS) (x0 : Nat) (x1 : Int32) (x2 : Int32) (Kc8 : jS × Int32 × Int32 → Prop) (K : jS → Int32 → Prop) : Prop :=
  jgr [0] 18 S x0 (fun v1 => jis 3 S v1 ∧ wp_J2_size S v1 (fun S2 r3 => ((r3 ≤ x2) → wp_X0_isSeen_71 S2 x1 K) ∧ ((¬ (r3 ≤ x2)) → ((x1 = 0) → wp_X0_isSeen_71 S2 x1 K) ∧ ((¬ (x1 = 0)) → jgr [0] 14 S2 x0 (fun v4 => jgr [0] 18 S2 x0 (fun v5 => jis 3 S2 v5 ∧ wp_J2_get S2 v5 x2 (fun S6 r7 => jca 0 S6 r7 ∧ (jal 0 S6 r7 0 (fun v8 => jarn 6 S6 v4 v8 (fun v9 => jal 0 S6 v9 4 (fun v10 => jgr [0] 18 S6 x0 (fun v11 => jis 3 S6 v11 ∧ wp_J2_get S6 v11 x2 (fun S12 r13 => jca 0 S12 r13 ∧ (jal 0 S12 r13 1 (fun v14 => ((v10 = v14) → wp_X0_isSeen_64 S12 1 x0 x2 Kc8 K) ∧ ((¬ (v10 = v14)) → wp_X0_isSeen_64 S12 0 x0 x2 Kc8 K))))))))))))))))
def wp_X0_isSeen_8_L (x0 : Nat) (K : jS → Int32 → Prop) : (jS × Int32 × Int32) → ((jS × Int32 × Int32) → Prop) → Prop := fun z Kc8 => wp_X0_isSeen_8 z.1 x0 z.2.1 z.2.2 Kc8 K
def wp_X0_isSeen (S : jS) (x0 : Nat) (K : jS → Int32 → Prop) : Prop :=
  jis 0 S x0 ∧ wp_X0_find S x0 (fun S1 _ => ∃ n : Nat, jlp n (wp_X0_isSeen_8_L x0 K) (S1, 1, 0))
abbrev d_X0_watersNow : Nat := 15
def wp_X0_watersNow_62 (S : jS) (t0 : Nat) (x0 : Nat) (x1 : Int32) (x2 : Int32) (x3 : Int32) (x4 : Int32) (Kc11 : jS × Int32 × Int32 → Prop) (Kc51 : jS × Int32 → Prop) (K : jS → Int32 → Prop) : Prop :=
  jal 0 S t0 x3 (fun v1 => jgr [0] 14 S x0 (fun v2 => jarn 6 S v2 x4 (fun v3 => jal 0 S v3 4 (fun v4 => jas 0 S t0 x3 (v1 ||| (v4 <<< (x4 &&& 31))) (fun S5 => Kc51 (S5, (x4 + 1)))))))
def wp_X0_watersNow_51 (S : jS) (x0 : Nat) (x1 : Int32) (x2 : Int32) (x3 : Int32) (x4 : Int32) (Kc11 : jS × Int32 × Int32 → Prop) (Kc51 : jS × Int32 → Prop) (K : jS → Int32 → Prop) : Prop :=
  ((24 ≤ x4) → Kc11 (S, x2, (x3 + 1))) ∧ ((¬ (24 ≤ x4)) → jgr [0] 19 S x0 (fun v1 => wp_X0_watersNow_62 S v1 x0 x1 x2 x3 x4 Kc11 Kc51 K))
def wp_X0_watersNow_51_L (x0 : Nat) (x1 : Int32) (x2 : Int32) (x3 : Int32) (Kc11 : jS × Int32 × Int32 → Prop) (K : jS → Int32 → Prop) : (jS × Int32) → ((jS × Int32) → Prop) → Prop := fun z Kc51 => wp_X0_watersNow_51 z.1 x0 x1 x2 x3 z.2 Kc11 Kc51 K
def wp_X0_watersNow_39 (S : jS) (t0 : Int32) (t1 : Int32) (x0 : Nat) (x1 : Int32) (x3 : Int32) (Kc11 : jS × Int32 × Int32 → Prop) (K : jS → Int32 → Prop) : Prop :=
  jgr [0] 19 S x0 (fun v1 => jas 0 S v1 x3 0 (fun S2 => ∃ n : Nat, jlp n (wp_X0_watersNow_51_L x0 x1 (t0 ||| t1) x3 Kc11 K) (S2, 0)))
def wp_X0_watersNow_11 (S : jS) (x0 : Nat) (x1 : Int32) (x2 : Int32) (x3 : Int32) (Kc11 : jS × Int32 × Int32 → Prop) (K : jS → Int32 → Prop) : Prop :=
  ((30 < x3) → jgr [0] 5 S x0 (fun v1 => jas 0 S v1 0 x1 (fun S2 => K S2 x2))) ∧ ((¬ (30 < x3)) → jgr [0] 5 S x0 (fun v3 => jas 0 S v3 0 x3 (fun S4 => jis 0 S4 x0 ∧ wp_X0_isSeen S4 x0 (fun S5 r6 => ((r6 = 0) → wp_X0_watersNow_39 S5 x2 0 x0 x1 x3 Kc11 K) ∧ ((¬ (r6 = 0)) → wp_X0_watersNow_39 S5 x2 (1 <<< (x3 &&& 31)) x0 x1 x3 Kc11 K)))))
def wp_X0_watersNow_11_L (x0 : Nat) (x1 : Int32) (K : jS → Int32 → Prop) : (jS × Int32 × Int32) → ((jS × Int32 × Int32) → Prop) → Prop := fun z Kc11 => wp_X0_watersNow_11 z.1 x0 x1 z.2.1 z.2.2 Kc11 K
def wp_X0_watersNow (S : jS) (x0 : Nat) (K : jS → Int32 → Prop) : Prop :=
  jgr [0] 5 S x0 (fun v1 => jal 0 S v1 0 (fun v2 => ∃ n : Nat, jlp n (wp_X0_watersNow_11_L x0 v2 K) (S, 0, 0)))
abbrev d_X0_askNow : Nat := 16
def wp_X0_askNow_35 (S : jS) (t0 : Int32) (x0 : Nat) (x1 : Int32) (x3 : Int32) (Kc9 : jS × Int32 × Int32 → Prop) (K : jS → Int32 → Prop) : Prop :=
  Kc9 (S, t0, (x3 + 1))
def wp_X0_askNow_9 (S : jS) (x0 : Nat) (x1 : Int32) (x2 : Int32) (x3 : Int32) (Kc9 : jS × Int32 × Int32 → Prop) (K : jS → Int32 → Prop) : Prop :=
  ((24 ≤ x3) → K S x2) ∧ ((¬ (24 ≤ x3)) → jis 0 S x0 ∧ wp_X0_alike S x0 x1 x3 (fun S1 r2 => jis 0 S1 x0 ∧ wp_X0_alike S1 x0 x1 x2 (fun S3 r4 => ((r4 ≤ r2) → wp_X0_askNow_35 S3 x2 x0 x1 x3 Kc9 K) ∧ ((¬ (r4 ≤ r2)) → wp_X0_askNow_35 S3 x3 x0 x1 x3 Kc9 K))))
def wp_X0_askNow_9_L (x0 : Nat) (x1 : Int32) (K : jS → Int32 → Prop) : (jS × Int32 × Int32) → ((jS × Int32 × Int32) → Prop) → Prop := fun z Kc9 => wp_X0_askNow_9 z.1 x0 x1 z.2.1 z.2.2 Kc9 K
def wp_X0_askNow (S : jS) (x0 : Nat) (K : jS → Int32 → Prop) : Prop :=
  jis 0 S x0 ∧ wp_X0_watersNow S x0 (fun S1 r2 => ∃ n : Nat, jlp n (wp_X0_askNow_9_L x0 r2 K) (S1, 0, 1))
abbrev d_X0_ask : Nat := 17
def wp_X0_ask (S : jS) (x0 : Nat) (K : jS → Int32 → Prop) : Prop :=
  jis 0 S x0 ∧ wp_X0_askNow S x0 (fun S1 r2 => K S1 r2)
abbrev d_X0_isMinute : Nat := 2
def wp_X0_isMinute (S : jS) (x0 : Int32) (K : jS → Int32 → Prop) : Prop :=
  wp_X0_in S ((x0 : Int32).toInt64) 0 23 (fun S1 r2 => (((r2 : Int32) = 0 ∨ (r2 : Int32) = 1) ∧ K S1 r2))
abbrev d_X0_at : Nat := 14
def wp_X0_at_36 (S : jS) (t0 : Int32) (K : jS → Int32 → Prop) : Prop :=
  K S t0
def wp_X0_at_34 (S : jS) (K : jS → Int32 → Prop) : Prop :=
  wp_X0_at_36 S (-2) K
def wp_X0_at (S : jS) (x0 : Nat) (x1 : Int32) (x2 : Int32) (K : jS → Int32 → Prop) : Prop :=
  jis 0 S x0 ∧ wp_X0_find S x0 (fun S1 _ => wp_X0_isMinute S1 x1 (fun S2 r3 => ((r3 = 0) → wp_X0_at_34 S2 K) ∧ ((¬ (r3 = 0)) → wp_X0_in S2 ((x2 : Int32).toInt64) 0 5 (fun S4 r5 => ((r5 = 0) → wp_X0_at_34 S4 K) ∧ ((¬ (r5 = 0)) → jgr [0] 14 S4 x0 (fun v6 => jarn 6 S4 v6 x1 (fun v7 => jal 0 S4 v7 x2 (fun v8 => wp_X0_at_36 S4 v8 K))))))))
abbrev d_X0_back : Nat := 4
def wp_X0_back (S : jS) (x0 : Nat) (K : jS → Int32 → Prop) : Prop :=
  jgr [0] 6 S x0 (fun v1 => jis 3 S v1 ∧ wp_J2_isEmpty S v1 (fun S2 r3 => ((r3 = 0) → jgr [0] 6 S2 x0 (fun v4 => jgr [0] 6 S2 x0 (fun v5 => jis 3 S2 v5 ∧ wp_J2_size S2 v5 (fun S6 r7 => jis 3 S6 v4 ∧ wp_J2_remove S6 v4 (r7 - 1) (fun S8 r9 => jgr [0] 6 S8 x0 (fun v10 => jis 3 S8 v10 ∧ wp_J2_size S8 v10 (fun S11 r12 => K S11 r12))))))) ∧ ((¬ (r3 = 0)) → K S2 (-3))))
abbrev d_X0_betterOf : Nat := 14
def wp_X0_betterOf_56 (S : jS) (x0 : Nat) (x1 : Nat) (x2 : Int32) (x3 : Nat) (x4 : Int32) (x5 : Int32) (x6 : Int32) (Kc14 : jS × Int32 × Int32 × Int32 → Prop) (K : jS → Int32 → Prop) : Prop :=
  Kc14 (S, x4, x5, (x6 + 1))
def wp_X0_betterOf_91 (S : jS) (t0 : Int32) (K : jS → Int32 → Prop) : Prop :=
  K S t0
def wp_X0_betterOf_14 (S : jS) (x0 : Nat) (x1 : Nat) (x2 : Int32) (x3 : Nat) (x4 : Int32) (x5 : Int32) (x6 : Int32) (Kc14 : jS × Int32 × Int32 × Int32 → Prop) (K : jS → Int32 → Prop) : Prop :=
  ((3 ≤ x6) → jpr [5] 1 S x1 (some x3) (fun S1 => ((x2 = 0) → wp_X0_betterOf_91 S1 x4 K) ∧ ((¬ (x2 = 0)) → wp_X0_betterOf_91 S1 x5 K))) ∧ ((¬ (3 ≤ x6)) → jgs 0 S (fun v3 => jarn 10 S v3 x6 (fun v4 => jpr [5] 1 S x1 (some v4) (fun S5 => jis 0 S5 x0 ∧ wp_X0_find S5 x0 (fun S6 _ => jgi [0] 11 S6 x0 (fun v7 => ((x5 < v7) → jgi [0] 11 S6 x0 (fun v8 => wp_X0_betterOf_56 S6 x0 x1 x2 x3 x6 v8 x6 Kc14 K)) ∧ ((¬ (x5 < v7)) → wp_X0_betterOf_56 S6 x0 x1 x2 x3 x4 x5 x6 Kc14 K)))))))
def wp_X0_betterOf_14_L (x0 : Nat) (x1 : Nat) (x2 : Int32) (x3 : Nat) (K : jS → Int32 → Prop) : (jS × Int32 × Int32 × Int32) → ((jS × Int32 × Int32 × Int32) → Prop) → Prop := fun z Kc14 => wp_X0_betterOf_14 z.1 x0 x1 x2 x3 z.2.1 z.2.2.1 z.2.2.2 Kc14 K
def wp_X0_betterOf (S : jS) (x0 : Nat) (x1 : Nat) (x2 : Int32) (K : jS → Int32 → Prop) : Prop :=
  jgr [5] 1 S x1 (fun v1 => ∃ n : Nat, jlp n (wp_X0_betterOf_14_L x0 x1 x2 v1 K) (S, (-1), (-1), 0))
abbrev d_X0_isPiece : Nat := 11
def wp_X0_isPiece (S : jS) (x0 : Nat) (x1 : Int32) (K : jS → Int32 → Prop) : Prop :=
  jis 0 S x0 ∧ wp_X0_pieces S x0 (fun S1 r2 => wp_X0_in S1 ((x1 : Int32).toInt64) 0 (((r2 - 1) : Int32).toInt64) (fun S3 r4 => (((r4 : Int32) = 0 ∨ (r4 : Int32) = 1) ∧ K S3 r4)))
abbrev d_X0_isTwo : Nat := 2
def wp_X0_isTwo (S : jS) (x0 : Int32) (K : jS → Int32 → Prop) : Prop :=
  wp_X0_in S ((x0 : Int32).toInt64) 0 1 (fun S1 r2 => (((r2 : Int32) = 0 ∨ (r2 : Int32) = 1) ∧ K S1 r2))
abbrev d_X0_better : Nat := 15
def wp_X0_better_39 (S : jS) (t0 : Int32) (K : jS → Int32 → Prop) : Prop :=
  K S t0
def wp_X0_better_37 (S : jS) (K : jS → Int32 → Prop) : Prop :=
  wp_X0_better_39 S (-2) K
def wp_X0_better (S : jS) (x0 : Nat) (x1 : Int32) (x2 : Int32) (K : jS → Int32 → Prop) : Prop :=
  jis 0 S x0 ∧ wp_X0_isPiece S x0 x1 (fun S1 r2 => ((r2 = 0) → wp_X0_better_37 S1 K) ∧ ((¬ (r2 = 0)) → wp_X0_isTwo S1 x2 (fun S3 r4 => ((r4 = 0) → wp_X0_better_37 S3 K) ∧ ((¬ (r4 = 0)) → jgr [0] 1 S3 x0 (fun v5 => jgr [1] 5 S3 v5 (fun v6 => jis 3 S3 v6 ∧ wp_J2_get S3 v6 x1 (fun S7 r8 => jco [5] S7 r8 ∧ (jis 0 S7 x0 ∧ wp_X0_betterOf S7 x0 r8 x2 (fun S9 r10 => wp_X0_better_39 S9 r10 K)))))))))
abbrev d_X0_boiled : Nat := 1
def wp_X0_boiled_10 (S : jS) (x0 : Nat) (x1 : Int32) (x2 : Int32) (Kc4 : jS × Int32 × Int32 → Prop) (K : jS → Int32 → Prop) : Prop :=
  jgr [0] 14 S x0 (fun v1 => jarn 6 S v1 x2 (fun v2 => jal 0 S v2 4 (fun v3 => Kc4 (S, (x1 + v3), (x2 + 1)))))
def wp_X0_boiled_27 (S : jS) (x1 : Int32) (K : jS → Int32 → Prop) : Prop :=
  K S x1
def wp_X0_boiled_4 (S : jS) (x0 : Nat) (x1 : Int32) (x2 : Int32) (Kc4 : jS × Int32 × Int32 → Prop) (K : jS → Int32 → Prop) : Prop :=
  ((24 ≤ x2) → wp_X0_boiled_27 S x1 K) ∧ ((¬ (24 ≤ x2)) → wp_X0_boiled_10 S x0 x1 x2 Kc4 K)
def wp_X0_boiled_4_L (x0 : Nat) (K : jS → Int32 → Prop) : (jS × Int32 × Int32) → ((jS × Int32 × Int32) → Prop) → Prop := fun z Kc4 => wp_X0_boiled_4 z.1 x0 z.2.1 z.2.2 Kc4 K
def wp_X0_boiled (S : jS) (x0 : Nat) (K : jS → Int32 → Prop) : Prop :=
  ∃ n : Nat, jlp n (wp_X0_boiled_4_L x0 K) (S, 0, 0)
abbrev d_X0_part : Nat := 101
def wp_X0_part_10 (S : jS) (t0 : Int64) (x0 : Int64) (x2 : Int64) (K : jS → Int64 → Prop) : Prop :=
  wp_X0_divisor 100 S x0 x2 (fun S1 r2 => (¬ (r2 : Int64) = 0) ∧ (K S1 (t0 / r2)))
def wp_X0_part (S : jS) (x0 : Int64) (x2 : Int64) (x4 : Int32) (K : jS → Int64 → Prop) : Prop :=
  ((x4 = 0) → wp_X0_part_10 S x0 x0 x2 K) ∧ ((¬ (x4 = 0)) → wp_X0_part_10 S x2 x0 x2 K)
abbrev d_X0_chanceOf : Nat := 102
def wp_X0_chanceOf_90 (S : jS) (t0 : Int64) (t1 : Int64) (x0 : Nat) (x1 : Int32) (x2 : Int32) (x3 : Int32) (x4 : Int32) (x5 : Int64) (x9 : Int32) (Kc17 : jS × Int64 → Prop) (Kc59 : jS × Int64 × Int32 → Prop) (K : jS → Int64 → Prop) : Prop :=
  Kc59 (S, (t0 * t1), (x9 + 1))
def wp_X0_chanceOf_106 (S : jS) (x0 : Nat) (x1 : Int32) (x2 : Int32) (x3 : Int32) (x4 : Int32) (x5 : Int64) (Kc17 : jS × Int64 → Prop) (K : jS → Int64 → Prop) : Prop :=
  jgi [0] 17 S x0 (fun v1 => jpi [0] 17 S x0 (v1 + 1) (fun S2 => Kc17 (S2, x5)))
def wp_X0_chanceOf_59 (S : jS) (x0 : Nat) (x1 : Int32) (x2 : Int32) (x3 : Int32) (x4 : Int32) (x5 : Int64) (x7 : Int64) (x9 : Int32) (Kc17 : jS × Int64 → Prop) (Kc59 : jS × Int64 × Int32 → Prop) (K : jS → Int64 → Prop) : Prop :=
  ((x4 ≤ x9) → wp_X0_chanceOf_106 S x0 x1 x2 x3 x4 (x5 + x7) Kc17 K) ∧ ((¬ (x4 ≤ x9)) → jgi [0] 17 S x0 (fun v1 => wp_X0_isIn S v1 x9 (fun S2 r3 => ((r3 = 0) → wp_X0_chanceOf_90 S2 x7 ((x1 : Int32).toInt64) x0 x1 x2 x3 x4 x5 x9 Kc17 Kc59 K) ∧ ((¬ (r3 = 0)) → wp_X0_chanceOf_90 S2 x7 (((16 - x1) : Int32).toInt64) x0 x1 x2 x3 x4 x5 x9 Kc17 Kc59 K))))
def wp_X0_chanceOf_59_L (x0 : Nat) (x1 : Int32) (x2 : Int32) (x3 : Int32) (x4 : Int32) (x5 : Int64) (Kc17 : jS × Int64 → Prop) (K : jS → Int64 → Prop) : (jS × Int64 × Int32) → ((jS × Int64 × Int32) → Prop) → Prop := fun z Kc59 => wp_X0_chanceOf_59 z.1 x0 x1 x2 x3 x4 x5 z.2.1 z.2.2 Kc17 Kc59 K
def wp_X0_chanceOf_17 (S : jS) (x0 : Nat) (x1 : Int32) (x2 : Int32) (x3 : Int32) (x4 : Int32) (x5 : Int64) (Kc17 : jS × Int64 → Prop) (K : jS → Int64 → Prop) : Prop :=
  jgi [0] 17 S x0 (fun v1 => (((1 <<< (x4 &&& 31)) ≤ v1) → jpi [0] 17 S x0 0 (fun S2 => wp_X0_part S2 x5 (1 <<< (((4 * x4) : Int32).toInt64 &&& 63)) x3 (fun S3 r4 => K S3 r4))) ∧ ((¬ ((1 <<< (x4 &&& 31)) ≤ v1)) → jis 0 S x0 ∧ wp_X0_find S x0 (fun S5 _ => jgr [0] 4 S5 x0 (fun v6 => jis 3 S5 v6 ∧ wp_J2_get S5 v6 x2 (fun S7 r8 => jco [4] S7 r8 ∧ (jgi [4] 3 S7 r8 (fun v9 => ((v9 = 3) → ∃ n : Nat, jlp n (wp_X0_chanceOf_59_L x0 x1 x2 x3 x4 x5 Kc17 K) (S7, 1, 0)) ∧ ((¬ (v9 = 3)) → wp_X0_chanceOf_106 S7 x0 x1 x2 x3 x4 x5 Kc17 K))))))))
def wp_X0_chanceOf_17_L (x0 : Nat) (x1 : Int32) (x2 : Int32) (x3 : Int32) (x4 : Int32) (K : jS → Int64 → Prop) : (jS × Int64) → ((jS × Int64) → Prop) → Prop := fun z Kc17 => wp_X0_chanceOf_17 z.1 x0 x1 x2 x3 x4 z.2 Kc17 K
def wp_X0_chanceOf (S : jS) (x0 : Nat) (x1 : Int32) (x2 : Int32) (x3 : Int32) (K : jS → Int64 → Prop) : Prop :=
  jgr [0] 6 S x0 (fun v1 => jis 3 S v1 ∧ wp_J2_size S v1 (fun S2 r3 => jpi [0] 17 S2 x0 0 (fun S4 => ∃ n : Nat, jlp n (wp_X0_chanceOf_17_L x0 x1 x2 x3 r3 K) (S4, 0))))
abbrev d_X0_people : Nat := 10
def wp_X0_people (S : jS) (x0 : Nat) (K : jS → Int32 → Prop) : Prop :=
  jgr [0] 2 S x0 (fun v1 => wpD_Company_read_2 S v1 (fun S2 r3 => jgr [0] 4 S2 x0 (fun v4 => jis 3 S2 v4 ∧ wp_J2_size S2 v4 (fun S5 r6 => K S5 r6))))
abbrev d_X0_isGuest : Nat := 11
def wp_X0_isGuest (S : jS) (x0 : Nat) (x1 : Int32) (K : jS → Int32 → Prop) : Prop :=
  jis 0 S x0 ∧ wp_X0_people S x0 (fun S1 r2 => wp_X0_in S1 ((x1 : Int32).toInt64) 0 (((r2 - 1) : Int32).toInt64) (fun S3 r4 => (((r4 : Int32) = 0 ∨ (r4 : Int32) = 1) ∧ K S3 r4)))
abbrev d_X0_no : Nat := 1
def wp_X0_no (S : jS) (x0 : Int32) (K : jS → Int64 → Prop) : Prop :=
  K S ((-9223372036854775808) - ((x0 : Int32).toInt64))
abbrev d_X0_chance : Nat := 103
def wp_X0_chance_42 (S : jS) (t0 : Int64) (K : jS → Int64 → Prop) : Prop :=
  K S t0
def wp_X0_chance_37 (S : jS) (K : jS → Int64 → Prop) : Prop :=
  wp_X0_no S (-2) (fun S1 r2 => wp_X0_chance_42 S1 r2 K)
def wp_X0_chance (S : jS) (x0 : Nat) (x1 : Int32) (x2 : Int32) (x3 : Int32) (K : jS → Int64 → Prop) : Prop :=
  wp_X0_in S ((x1 : Int32).toInt64) 0 16 (fun S1 r2 => ((r2 = 0) → wp_X0_chance_37 S1 K) ∧ ((¬ (r2 = 0)) → jis 0 S1 x0 ∧ wp_X0_isGuest S1 x0 x2 (fun S3 r4 => ((r4 = 0) → wp_X0_chance_37 S3 K) ∧ ((¬ (r4 = 0)) → wp_X0_isTwo S3 x3 (fun S5 r6 => ((r6 = 0) → wp_X0_chance_37 S5 K) ∧ ((¬ (r6 = 0)) → jis 0 S5 x0 ∧ wp_X0_chanceOf S5 x0 x1 x2 x3 (fun S7 r8 => wp_X0_chance_42 S7 r8 K)))))))
abbrev d_X0_comeOf : Nat := 14
def wp_X0_comeOf_53 (S : jS) (x0 : Nat) (x1 : Nat) (x2 : Int32) (x3 : Int32) (x4 : Int32) (x5 : Int32) (Kc16 : jS × Int32 × Int32 → Prop) (K : jS → Int32 → Prop) : Prop :=
  jgi [4] 0 S x1 (fun v1 => jpi [4] 0 S x1 (v1 + 1) (fun S2 => Kc16 (S2, x4, x5)))
def wp_X0_comeOf_95 (S : jS) (t0 : Int32) (K : jS → Int32 → Prop) : Prop :=
  K S t0
def wp_X0_comeOf_16 (S : jS) (x0 : Nat) (x1 : Nat) (x2 : Int32) (x3 : Int32) (x4 : Int32) (x5 : Int32) (Kc16 : jS × Int32 × Int32 → Prop) (K : jS → Int32 → Prop) : Prop :=
  jgi [4] 0 S x1 (fun v1 => ((24 ≤ v1) → jpi [4] 0 S x1 x3 (fun S2 => ((x2 = 0) → wp_X0_comeOf_95 S2 x4 K) ∧ ((¬ (x2 = 0)) → wp_X0_comeOf_95 S2 x5 K))) ∧ ((¬ (24 ≤ v1)) → jis 0 S x0 ∧ wp_X0_find S x0 (fun S4 _ => jgi [0] 11 S4 x0 (fun v5 => ((x5 < v5) → jgi [4] 0 S4 x1 (fun v6 => jgi [0] 11 S4 x0 (fun v7 => wp_X0_comeOf_53 S4 x0 x1 x2 x3 v6 v7 Kc16 K))) ∧ ((¬ (x5 < v5)) → wp_X0_comeOf_53 S4 x0 x1 x2 x3 x4 x5 Kc16 K)))))
def wp_X0_comeOf_16_L (x0 : Nat) (x1 : Nat) (x2 : Int32) (x3 : Int32) (K : jS → Int32 → Prop) : (jS × Int32 × Int32) → ((jS × Int32 × Int32) → Prop) → Prop := fun z Kc16 => wp_X0_comeOf_16 z.1 x0 x1 x2 x3 z.2.1 z.2.2 Kc16 K
def wp_X0_comeOf (S : jS) (x0 : Nat) (x1 : Nat) (x2 : Int32) (K : jS → Int32 → Prop) : Prop :=
  jgi [4] 0 S x1 (fun v1 => jpi [4] 0 S x1 0 (fun S2 => ∃ n : Nat, jlp n (wp_X0_comeOf_16_L x0 x1 x2 v1 K) (S2, (-1), (-1))))
abbrev d_X0_come : Nat := 15
def wp_X0_come_36 (S : jS) (t0 : Int32) (K : jS → Int32 → Prop) : Prop :=
  K S t0
def wp_X0_come_34 (S : jS) (K : jS → Int32 → Prop) : Prop :=
  wp_X0_come_36 S (-2) K
def wp_X0_come (S : jS) (x0 : Nat) (x1 : Int32) (x2 : Int32) (K : jS → Int32 → Prop) : Prop :=
  jis 0 S x0 ∧ wp_X0_isGuest S x0 x1 (fun S1 r2 => ((r2 = 0) → wp_X0_come_34 S1 K) ∧ ((¬ (r2 = 0)) → wp_X0_isTwo S1 x2 (fun S3 r4 => ((r4 = 0) → wp_X0_come_34 S3 K) ∧ ((¬ (r4 = 0)) → jgr [0] 4 S3 x0 (fun v5 => jis 3 S3 v5 ∧ wp_J2_get S3 v5 x1 (fun S6 r7 => jco [4] S6 r7 ∧ (jis 0 S6 x0 ∧ wp_X0_comeOf S6 x0 r7 x2 (fun S8 r9 => wp_X0_come_36 S8 r9 K))))))))
abbrev d_X0_isSheet : Nat := 2
def wp_X0_isSheet (S : jS) (x0 : Int32) (K : jS → Int32 → Prop) : Prop :=
  wp_X0_in S ((x0 : Int32).toInt64) 0 3 (fun S1 r2 => (((r2 : Int32) = 0 ∨ (r2 : Int32) = 1) ∧ K S1 r2))
abbrev d_X0_met : Nat := 1
def wp_X0_met (S : jS) (x0 : Nat) (x1 : Int32) (K : jS → Int32 → Prop) : Prop :=
  jpi [0] 0 S x0 x1 (fun S1 => K S1 ((-10) - x1))
abbrev d_X0_copy : Nat := 171
def wp_X0_copy_14 (S : jS) (K : jS → Int32 → Prop) : Prop :=
  K S (-2)
def wp_X0_copy_41 (S : jS) (x0 : Nat) (K : jS → Int32 → Prop) : Prop :=
  jis 0 S x0 ∧ wp_X0_met S x0 1 (fun S1 r2 => K S1 r2)
def wp_X0_copy_102 (S : jS) (t0 : Nat) (x0 : Nat) (K : jS → Int32 → Prop) : Prop :=
  jis 0 S x0 ∧ wp_X0_met S x0 2 (fun S1 r2 => K S1 r2)
def wp_X0_copy (S : jS) (x0 : Nat) (x1 : Int32) (x2 : Int32) (x3 : Int32) (x4 : Int32) (x5 : Int32) (K : jS → Int32 → Prop) : Prop :=
  wp_X0_isSheet S x1 (fun S1 r2 => ((r2 = 0) → wp_X0_copy_14 S1 K) ∧ ((¬ (r2 = 0)) → wp_X0_isSheet S1 x3 (fun S3 r4 => ((r4 = 0) → wp_X0_copy_14 S3 K) ∧ ((¬ (r4 = 0)) → jgr [0] 23 S3 x0 (fun v5 => jarn 9 S3 v5 x1 (fun v6 => jgo [6] 0 S3 v6 (fun v7 => (v7 = none → wp_X0_copy_41 S3 x0 K) ∧ (∀ a8 : Nat, v7 = some a8 → jgr [0] 23 S3 x0 (fun v9 => jarn 9 S3 v9 x3 (fun v10 => jgo [6] 0 S3 v10 (fun v11 => (v11 = none → wp_X0_copy_41 S3 x0 K) ∧ (∀ a12 : Nat, v11 = some a12 → jgr [0] 23 S3 x0 (fun v13 => jarn 9 S3 v13 x1 (fun v14 => jis 6 S3 v14 ∧ wp_X4_type S3 v14 (fun S15 r16 => jgr [0] 23 S15 x0 (fun v17 => jarn 9 S15 v17 x3 (fun v18 => jis 6 S15 v18 ∧ wp_X4_type S15 v18 (fun S19 r20 => ((r16 = r20) → jgr [0] 23 S19 x0 (fun v21 => jarn 9 S19 v21 x1 (fun v22 => jgr [6] 0 S19 v22 (fun v23 => jgr [0] 23 S19 x0 (fun v24 => jarn 9 S19 v24 x3 (fun v25 => jgr [6] 0 S19 v25 (fun v26 => jcpx S19 v23 x2 v26 x4 x5 (fun S28 => K S28 1) (∀ q27 : Nat, wp_X0_copy_102 (jth S19) q27 x0 K)))))))) ∧ ((¬ (r16 = r20)) → jis 0 S19 x0 ∧ wp_X0_met S19 x0 4 (fun S29 r30 => K S29 r30))))))))))))))))))))
def wpD_Woodpile_length_1 (S : jS) (a : Nat)  (K : jS → Int32 → Prop) : Prop := (jis 1 S a ∧ wp_X1_length S a  K)
abbrev d_D_Woodpile_length_1 : Nat := 1
def wpD_Company_length_2 (S : jS) (a : Nat)  (K : jS → Int32 → Prop) : Prop := (jis 2 S a ∧ wp_X1_length S a  K)
abbrev d_D_Company_length_2 : Nat := 1
abbrev d_X0_count : Nat := 14
def wp_X0_count_95 (S : jS) (x0 : Nat) (x1 : Int32) (K : jS → Int32 → Prop) : Prop :=
  jgr [0] 5 S x0 (fun v1 => jal 0 S v1 (x1 - 5) (fun v2 => K S v2))
def wp_X0_count (S : jS) (x0 : Nat) (x1 : Int32) (K : jS → Int32 → Prop) : Prop :=
  jis 0 S x0 ∧ wp_X0_find S x0 (fun S1 _ => ((x1 = 0) → jis 0 S1 x0 ∧ wp_X0_pieces S1 x0 (fun S3 r4 => K S3 r4)) ∧ ((¬ (x1 = 0)) → ((x1 = 1) → jis 0 S1 x0 ∧ wp_X0_people S1 x0 (fun S6 r7 => K S6 r7)) ∧ ((¬ (x1 = 1)) → ((x1 = 2) → jgr [0] 1 S1 x0 (fun v9 => wpD_Woodpile_length_1 S1 v9 (fun S10 r11 => jgr [0] 2 S10 x0 (fun v12 => wpD_Company_length_2 S10 v12 (fun S13 r14 => K S13 (r11 + r14)))))) ∧ ((¬ (x1 = 2)) → ((x1 = 3) → jgr [0] 6 S1 x0 (fun v16 => jis 3 S1 v16 ∧ wp_J2_size S1 v16 (fun S17 r18 => K S17 r18))) ∧ ((¬ (x1 = 3)) → ((x1 = 4) → jgi [0] 11 S1 x0 (fun v20 => K S1 v20)) ∧ ((¬ (x1 = 4)) → ((x1 = 5) → wp_X0_count_95 S1 x0 x1 K) ∧ ((¬ (x1 = 5)) → ((x1 = 6) → wp_X0_count_95 S1 x0 x1 K) ∧ ((¬ (x1 = 6)) → ((x1 = 7) → jgr [0] 18 S1 x0 (fun v24 => jis 3 S1 v24 ∧ wp_J2_size S1 v24 (fun S25 r26 => K S25 r26))) ∧ ((¬ (x1 = 7)) → ((x1 = 8) → jgi [0] 0 S1 x0 (fun v28 => K S1 v28)) ∧ ((¬ (x1 = 8)) → K S1 (-2)))))))))))
abbrev d_X0_manyNow : Nat := 4
def wp_X0_manyNow_39 (S : jS) (t0 : Int32) (t1 : Int32) (x0 : Nat) (x1 : Int32) (x3 : Int32) (Kc4 : jS × Int32 × Int32 → Prop) (K : jS → Int32 → Prop) : Prop :=
  Kc4 (S, (t0 + t1), (x3 + 1))
def wp_X0_manyNow_4 (S : jS) (x0 : Nat) (x1 : Int32) (x2 : Int32) (x3 : Int32) (Kc4 : jS × Int32 × Int32 → Prop) (K : jS → Int32 → Prop) : Prop :=
  jgr [0] 4 S x0 (fun v1 => jis 3 S v1 ∧ wp_J2_size S v1 (fun S2 r3 => ((r3 ≤ x3) → K S2 x2) ∧ ((¬ (r3 ≤ x3)) → jgr [0] 4 S2 x0 (fun v4 => jis 3 S2 v4 ∧ wp_J2_get S2 v4 x3 (fun S5 r6 => jco [4] S5 r6 ∧ (jgi [4] 3 S5 r6 (fun v7 => ((v7 = x1) → wp_X0_manyNow_39 S5 x2 1 x0 x1 x3 Kc4 K) ∧ ((¬ (v7 = x1)) → wp_X0_manyNow_39 S5 x2 0 x0 x1 x3 Kc4 K))))))))
def wp_X0_manyNow_4_L (x0 : Nat) (x1 : Int32) (K : jS → Int32 → Prop) : (jS × Int32 × Int32) → ((jS × Int32 × Int32) → Prop) → Prop := fun z Kc4 => wp_X0_manyNow_4 z.1 x0 x1 z.2.1 z.2.2 Kc4 K
def wp_X0_manyNow (S : jS) (x0 : Nat) (x1 : Int32) (K : jS → Int32 → Prop) : Prop :=
  ∃ n : Nat, jlp n (wp_X0_manyNow_4_L x0 x1 K) (S, 0, 0)
abbrev d_X0_lot : Nat := 1
def wp_X0_lot (S : jS) (x0 : Nat) (x1 : Int32) (K : jS → Int32 → Prop) : Prop :=
  jgi [0] 20 S x0 (fun v1 => jpi [0] 20 S x0 ((1103515245 * v1) + 12345) (fun S2 => jgi [0] 20 S2 x0 (fun v3 => (¬ (x1 : Int32) = 0) ∧ (K S2 (((v3.toUInt32 >>> ((16 : Int32).toUInt32 &&& Int32.toUInt32 31)).toInt32) - ((v3.toUInt32 >>> ((16 : Int32).toUInt32 &&& Int32.toUInt32 31)).toInt32) / x1 * x1)))))
abbrev d_X0_stranger : Nat := 2
def wp_X0_stranger_29 (S : jS) (x0 : Nat) (x1 : Int32) (K : jS → Nat → Prop) : Prop :=
  jgr [0] 22 S x0 (fun v1 => jarn 8 S v1 x1 (fun v2 => jis 0 S x0 ∧ wp_X0_lot S x0 24 (fun S3 r4 => jpi [4] 0 S3 v2 r4 (fun S5 => jgs 1 S5 (fun v6 => jis 0 S5 x0 ∧ wp_X0_lot S5 x0 2 (fun S7 r8 => jarn 11 S7 v6 r8 (fun v9 => jpr [4] 1 S7 v2 (some v9) (fun S10 => jis 0 S10 x0 ∧ wp_X0_lot S10 x0 4 (fun S11 r12 => jpi [4] 2 S11 v2 (1 + r12) (fun S13 => K S13 v2))))))))))
def wp_X0_stranger (S : jS) (x0 : Nat) (x1 : Int32) (K : jS → Nat → Prop) : Prop :=
  jgr [0] 22 S x0 (fun v1 => jar 8 S v1 x1 (fun v2 => (v2 = none → jgr [0] 22 S x0 (fun v3 => jnew 4 8 tyX7 S (fun S4 a5 => jgs 1 S4 (fun v6 => jarn 11 S4 v6 0 (fun v7 => wp_X7_init S4 a5 0 v7 1 (fun S8 _ => jars 8 [4] S8 v3 x1 a5 (fun S9 => wp_X0_stranger_29 S9 x0 x1 K))))))) ∧ (∀ a10 : Nat, v2 = some a10 → wp_X0_stranger_29 S x0 x1 K)))
abbrev d_X0_eveningsOf : Nat := 14
def wp_X0_eveningsOf_34 (S : jS) (t0 : Int32) (x0 : Nat) (x2 : Int32) (x3 : Int32) (x4 : Int32) (Kc15 : jS × Int32 → Prop) (K : jS → Int32 → Prop) : Prop :=
  Kc15 (S, (x4 + 1))
def wp_X0_eveningsOf_69 (S : jS) (t0 : Int32) (x0 : Nat) (K : jS → Int32 → Prop) : Prop :=
  jgr [0] 2 S x0 (fun v1 => jgr [2] 5 S v1 (fun v2 => jpr [0] 4 S x0 (some v2) (fun S3 => K S3 t0)))
def wp_X0_eveningsOf_53 (S : jS) (x0 : Nat) (x3 : Int32) (K : jS → Int32 → Prop) : Prop :=
  ((x3 = 0) → jgi [0] 11 S x0 (fun v1 => wp_X0_eveningsOf_69 S v1 x0 K)) ∧ ((¬ (x3 = 0)) → jis 0 S x0 ∧ wp_X0_manyNow S x0 4 (fun S2 r3 => wp_X0_eveningsOf_69 S2 r3 x0 K))
def wp_X0_eveningsOf_15 (S : jS) (x0 : Nat) (x2 : Int32) (x3 : Int32) (x4 : Int32) (Kc15 : jS × Int32 → Prop) (K : jS → Int32 → Prop) : Prop :=
  ((x2 ≤ x4) → jgr [0] 21 S x0 (fun v1 => jpr [0] 4 S x0 (some v1) (fun S2 => jis 0 S2 x0 ∧ wp_X0_find S2 x0 (fun S3 _ => wp_X0_eveningsOf_53 S3 x0 x3 K)))) ∧ ((¬ (x2 ≤ x4)) → jgr [0] 21 S x0 (fun v4 => jis 0 S x0 ∧ wp_X0_stranger S x0 x4 (fun S5 r6 => jis 3 S5 v4 ∧ wp_J2_add S5 v4 r6 (fun S7 r8 => wp_X0_eveningsOf_34 S7 r8 x0 x2 x3 x4 Kc15 K))))
def wp_X0_eveningsOf_15_L (x0 : Nat) (x2 : Int32) (x3 : Int32) (K : jS → Int32 → Prop) : (jS × Int32) → ((jS × Int32) → Prop) → Prop := fun z Kc15 => wp_X0_eveningsOf_15 z.1 x0 x2 x3 z.2 Kc15 K
def wp_X0_eveningsOf (S : jS) (x0 : Nat) (x1 : Int32) (x2 : Int32) (x3 : Int32) (K : jS → Int32 → Prop) : Prop :=
  jgr [0] 21 S x0 (fun v1 => jis 3 S v1 ∧ wp_J2_clear S v1 (fun S2 _ => jpi [0] 20 S2 x0 x1 (fun S3 => ∃ n : Nat, jlp n (wp_X0_eveningsOf_15_L x0 x2 x3 K) (S3, 0))))
abbrev d_X0_fillBy : Nat := 14
def wp_X0_fillBy_55 (S : jS) (x0 : Nat) (x1 : Int32) (x2 : Int32) (x3 : Int32) (x4 : Int32) (x5 : Int32) (Kc15 : jS × Int32 × Int32 × Int32 → Prop) (K : jS → Int32 → Prop) : Prop :=
  Kc15 (S, x3, x4, (x5 + 1))
def wp_X0_fillBy_93 (S : jS) (t0 : Int32) (K : jS → Int32 → Prop) : Prop :=
  K S t0
def wp_X0_fillBy_15 (S : jS) (x0 : Nat) (x1 : Int32) (x2 : Int32) (x3 : Int32) (x4 : Int32) (x5 : Int32) (Kc15 : jS × Int32 × Int32 × Int32 → Prop) (K : jS → Int32 → Prop) : Prop :=
  ((30 < x5) → jgr [0] 5 S x0 (fun v1 => jas 0 S v1 0 x2 (fun S2 => ((x1 = 0) → wp_X0_fillBy_93 S2 x3 K) ∧ ((¬ (x1 = 0)) → wp_X0_fillBy_93 S2 x4 K)))) ∧ ((¬ (30 < x5)) → jgr [0] 5 S x0 (fun v4 => jas 0 S v4 0 x5 (fun S5 => jis 0 S5 x0 ∧ wp_X0_find S5 x0 (fun S6 _ => jgi [0] 11 S6 x0 (fun v7 => ((x4 < v7) → jgi [0] 11 S6 x0 (fun v8 => wp_X0_fillBy_55 S6 x0 x1 x2 x5 v8 x5 Kc15 K)) ∧ ((¬ (x4 < v7)) → wp_X0_fillBy_55 S6 x0 x1 x2 x3 x4 x5 Kc15 K))))))
def wp_X0_fillBy_15_L (x0 : Nat) (x1 : Int32) (x2 : Int32) (K : jS → Int32 → Prop) : (jS × Int32 × Int32 × Int32) → ((jS × Int32 × Int32 × Int32) → Prop) → Prop := fun z Kc15 => wp_X0_fillBy_15 z.1 x0 x1 x2 z.2.1 z.2.2.1 z.2.2.2 Kc15 K
def wp_X0_fillBy (S : jS) (x0 : Nat) (x1 : Int32) (K : jS → Int32 → Prop) : Prop :=
  jgr [0] 5 S x0 (fun v1 => jal 0 S v1 0 (fun v2 => ∃ n : Nat, jlp n (wp_X0_fillBy_15_L x0 x1 v2 K) (S, (-1), (-1), 0)))
abbrev d_X0_firstNow : Nat := 1
def wp_X0_firstNow_26 (S : jS) (t0 : Int32) (x0 : Nat) (x2 : Int32) (Kc5 : jS × Int32 × Int32 → Prop) (K : jS → Int32 → Prop) : Prop :=
  Kc5 (S, t0, (x2 + (-1)))
def wp_X0_firstNow_5 (S : jS) (x0 : Nat) (x1 : Int32) (x2 : Int32) (Kc5 : jS × Int32 × Int32 → Prop) (K : jS → Int32 → Prop) : Prop :=
  ((x2 < 0) → K S x1) ∧ ((¬ (x2 < 0)) → jgr [0] 14 S x0 (fun v1 => jarn 6 S v1 x2 (fun v2 => jal 0 S v2 4 (fun v3 => ((v3 = 1) → wp_X0_firstNow_26 S x2 x0 x2 Kc5 K) ∧ ((¬ (v3 = 1)) → wp_X0_firstNow_26 S x1 x0 x2 Kc5 K)))))
def wp_X0_firstNow_5_L (x0 : Nat) (K : jS → Int32 → Prop) : (jS × Int32 × Int32) → ((jS × Int32 × Int32) → Prop) → Prop := fun z Kc5 => wp_X0_firstNow_5 z.1 x0 z.2.1 z.2.2 Kc5 K
def wp_X0_firstNow (S : jS) (x0 : Nat) (K : jS → Int32 → Prop) : Prop :=
  ∃ n : Nat, jlp n (wp_X0_firstNow_5_L x0 K) (S, (-1), 23)
abbrev d_X0_hottestBy : Nat := 1
def wp_X0_hottestBy_34 (S : jS) (t0 : Int32) (x0 : Nat) (x1 : Int32) (x3 : Int32) (Kc4 : jS × Int32 × Int32 → Prop) (K : jS → Int32 → Prop) : Prop :=
  Kc4 (S, t0, (x3 + 1))
def wp_X0_hottestBy_57 (S : jS) (t0 : Int32) (K : jS → Int32 → Prop) : Prop :=
  K S t0
def wp_X0_hottestBy_4 (S : jS) (x0 : Nat) (x1 : Int32) (x2 : Int32) (x3 : Int32) (Kc4 : jS × Int32 × Int32 → Prop) (K : jS → Int32 → Prop) : Prop :=
  ((24 ≤ x3) → ((x1 = 0) → wp_X0_hottestBy_57 S x2 K) ∧ ((¬ (x1 = 0)) → jgr [0] 14 S x0 (fun v1 => jarn 6 S v1 x2 (fun v2 => jal 0 S v2 0 (fun v3 => wp_X0_hottestBy_57 S v3 K))))) ∧ ((¬ (24 ≤ x3)) → jgr [0] 14 S x0 (fun v5 => jarn 6 S v5 x3 (fun v6 => jal 0 S v6 0 (fun v7 => jgr [0] 14 S x0 (fun v8 => jarn 6 S v8 x2 (fun v9 => jal 0 S v9 0 (fun v10 => ((v7 ≤ v10) → wp_X0_hottestBy_34 S x2 x0 x1 x3 Kc4 K) ∧ ((¬ (v7 ≤ v10)) → wp_X0_hottestBy_34 S x3 x0 x1 x3 Kc4 K))))))))
def wp_X0_hottestBy_4_L (x0 : Nat) (x1 : Int32) (K : jS → Int32 → Prop) : (jS × Int32 × Int32) → ((jS × Int32 × Int32) → Prop) → Prop := fun z Kc4 => wp_X0_hottestBy_4 z.1 x0 x1 z.2.1 z.2.2 Kc4 K
def wp_X0_hottestBy (S : jS) (x0 : Nat) (x1 : Int32) (K : jS → Int32 → Prop) : Prop :=
  ∃ n : Nat, jlp n (wp_X0_hottestBy_4_L x0 x1 K) (S, 0, 1)
abbrev d_X0_neverNow : Nat := 15
def wp_X0_neverNow_37 (S : jS) (t0 : Int32) (t1 : Int32) (x0 : Nat) (x2 : Int32) (Kc4 : jS × Int32 × Int32 → Prop) (K : jS → Int32 → Prop) : Prop :=
  Kc4 (S, (t0 ||| t1), (x2 + 1))
def wp_X0_neverNow_4 (S : jS) (x0 : Nat) (x1 : Int32) (x2 : Int32) (Kc4 : jS × Int32 × Int32 → Prop) (K : jS → Int32 → Prop) : Prop :=
  jgr [0] 6 S x0 (fun v1 => jis 3 S v1 ∧ wp_J2_size S v1 (fun S2 r3 => ((r3 ≤ x2) → jpi [0] 17 S2 x0 0 (fun S4 => K S4 x1)) ∧ ((¬ (r3 ≤ x2)) → jpi [0] 17 S2 x0 (1 <<< (x2 &&& 31)) (fun S5 => jis 0 S5 x0 ∧ wp_X0_isSeen S5 x0 (fun S6 r7 => ((r7 = 0) → wp_X0_neverNow_37 S6 x1 0 x0 x2 Kc4 K) ∧ ((¬ (r7 = 0)) → wp_X0_neverNow_37 S6 x1 (1 <<< (x2 &&& 31)) x0 x2 Kc4 K))))))
def wp_X0_neverNow_4_L (x0 : Nat) (K : jS → Int32 → Prop) : (jS × Int32 × Int32) → ((jS × Int32 × Int32) → Prop) → Prop := fun z Kc4 => wp_X0_neverNow_4 z.1 x0 z.2.1 z.2.2 Kc4 K
def wp_X0_neverNow (S : jS) (x0 : Nat) (K : jS → Int32 → Prop) : Prop :=
  ∃ n : Nat, jlp n (wp_X0_neverNow_4_L x0 K) (S, 0, 0)
abbrev d_X0_isSpared : Nat := 14
def wp_X0_isSpared_22 (S : jS) (t0 : Int32) (x0 : Nat) (K : jS → Int32 → Prop) : Prop :=
  jpi [0] 17 S x0 0 (fun S1 => (((t0 : Int32) = 0 ∨ (t0 : Int32) = 1) ∧ K S1 t0))
def wp_X0_isSpared (S : jS) (x0 : Nat) (x1 : Int32) (K : jS → Int32 → Prop) : Prop :=
  jpi [0] 17 S x0 x1 (fun S1 => jis 0 S1 x0 ∧ wp_X0_find S1 x0 (fun S2 _ => jis 0 S2 x0 ∧ wp_X0_manyNow S2 x0 4 (fun S3 r4 => ((r4 = 0) → wp_X0_isSpared_22 S3 1 x0 K) ∧ ((¬ (r4 = 0)) → wp_X0_isSpared_22 S3 0 x0 K))))
abbrev d_X0_spareBy : Nat := 15
def wp_X0_spareBy_18 (S : jS) (t0 : Int32) (K : jS → Int32 → Prop) : Prop :=
  K S t0
def wp_X0_spareBy_62 (S : jS) (t0 : Int32) (K : jS → Int32 → Prop) : Prop :=
  K S t0
def wp_X0_spareBy_49 (S : jS) (K : jS → Int32 → Prop) : Prop :=
  wp_X0_spareBy_62 S 1 K
def wp_X0_spareBy_53 (S : jS) (x1 : Int32) (x3 : Int32) (K : jS → Int32 → Prop) : Prop :=
  ((x1 = 0) → wp_X0_spareBy_62 S x3 K) ∧ ((¬ (x1 = 0)) → wp_X0_spareBy_62 S (-1) K)
def wp_X0_spareBy_121 (S : jS) (t0 : Int32) (K : jS → Int32 → Prop) : Prop :=
  K S t0
def wp_X0_spareBy_104 (S : jS) (t0 : Int32) (t1 : Int32) (x1 : Int32) (x3 : Int32) (x4 : Int32) (K : jS → Int32 → Prop) : Prop :=
  ((t0 = t1) → wp_X0_spareBy_121 S 2 K) ∧ ((¬ (t0 = t1)) → ((x1 = 0) → wp_X0_spareBy_121 S x3 K) ∧ ((¬ (x1 = 0)) → wp_X0_spareBy_121 S x4 K))
def wp_X0_spareBy_81 (S : jS) (x0 : Nat) (x1 : Int32) (x2 : Int32) (x3 : Int32) (x4 : Int32) (Kc71 : jS × Int32 → Prop) (Kc81 : jS × Int32 → Prop) (K : jS → Int32 → Prop) : Prop :=
  ((x2 ≤ x4) → Kc71 (S, (x3 + 1))) ∧ ((¬ (x2 ≤ x4)) → jis 0 S x0 ∧ wp_X0_isSpared S x0 ((1 <<< (x3 &&& 31)) ||| (1 <<< (x4 &&& 31))) (fun S1 r2 => ((r2 = 0) → Kc81 (S1, (x4 + 1))) ∧ ((¬ (r2 = 0)) → wp_X0_spareBy_104 S1 x1 (-1) x1 x3 x4 K)))
def wp_X0_spareBy_81_L (x0 : Nat) (x1 : Int32) (x2 : Int32) (x3 : Int32) (Kc71 : jS × Int32 → Prop) (K : jS → Int32 → Prop) : (jS × Int32) → ((jS × Int32) → Prop) → Prop := fun z Kc81 => wp_X0_spareBy_81 z.1 x0 x1 x2 x3 z.2 Kc71 Kc81 K
def wp_X0_spareBy_71 (S : jS) (x0 : Nat) (x1 : Int32) (x2 : Int32) (x3 : Int32) (Kc71 : jS × Int32 → Prop) (K : jS → Int32 → Prop) : Prop :=
  ((x2 ≤ x3) → K S (-1)) ∧ ((¬ (x2 ≤ x3)) → ∃ n : Nat, jlp n (wp_X0_spareBy_81_L x0 x1 x2 x3 Kc71 K) (S, (x3 + 1)))
def wp_X0_spareBy_71_L (x0 : Nat) (x1 : Int32) (x2 : Int32) (K : jS → Int32 → Prop) : (jS × Int32) → ((jS × Int32) → Prop) → Prop := fun z Kc71 => wp_X0_spareBy_71 z.1 x0 x1 x2 z.2 Kc71 K
def wp_X0_spareBy_30 (S : jS) (t0 : Int32) (x0 : Nat) (x1 : Int32) (x2 : Int32) (x3 : Int32) (Kc29 : jS × Int32 → Prop) (K : jS → Int32 → Prop) : Prop :=
  ((x2 ≤ t0) → ∃ n : Nat, jlp n (wp_X0_spareBy_71_L x0 x1 x2 K) (S, 0)) ∧ ((¬ (x2 ≤ t0)) → jis 0 S x0 ∧ wp_X0_isSpared S x0 (1 <<< (x3 &&& 31)) (fun S1 r2 => ((r2 = 0) → Kc29 (S1, (x3 + 1))) ∧ ((¬ (r2 = 0)) → ((x1 = (-1)) → wp_X0_spareBy_49 S1 K) ∧ ((¬ (x1 = (-1))) → wp_X0_spareBy_53 S1 x1 x3 K))))
def wp_X0_spareBy_29 (S : jS) (x0 : Nat) (x1 : Int32) (x2 : Int32) (x3 : Int32) (Kc29 : jS × Int32 → Prop) (K : jS → Int32 → Prop) : Prop :=
  wp_X0_spareBy_30 S x3 x0 x1 x2 x3 Kc29 K
def wp_X0_spareBy_29_L (x0 : Nat) (x1 : Int32) (x2 : Int32) (K : jS → Int32 → Prop) : (jS × Int32) → ((jS × Int32) → Prop) → Prop := fun z Kc29 => wp_X0_spareBy_29 z.1 x0 x1 x2 z.2 Kc29 K
def wp_X0_spareBy (S : jS) (x0 : Nat) (x1 : Int32) (K : jS → Int32 → Prop) : Prop :=
  jis 0 S x0 ∧ wp_X0_isSpared S x0 0 (fun S1 r2 => ((r2 = 0) → jgr [0] 6 S1 x0 (fun v3 => jis 3 S1 v3 ∧ wp_J2_size S1 v3 (fun S4 r5 => ∃ n : Nat, jlp n (wp_X0_spareBy_29_L x0 x1 r5 K) (S4, 0)))) ∧ ((¬ (r2 = 0)) → ((x1 = (-1)) → wp_X0_spareBy_18 S1 0 K) ∧ ((¬ (x1 = (-1))) → wp_X0_spareBy_18 S1 (-1) K)))
abbrev d_X0_sumBy : Nat := 5
def wp_X0_sumBy (S : jS) (x0 : Nat) (x1 : Int32) (K : jS → Int32 → Prop) : Prop :=
  ((x1 = 0) → jgi [0] 11 S x0 (fun v2 => K S v2)) ∧ ((¬ (x1 = 0)) → ((x1 = 1) → jis 0 S x0 ∧ wp_X0_manyNow S x0 3 (fun S4 r5 => K S4 r5)) ∧ ((¬ (x1 = 1)) → ((x1 = 2) → jis 0 S x0 ∧ wp_X0_manyNow S x0 4 (fun S7 r8 => K S7 r8)) ∧ ((¬ (x1 = 2)) → ((x1 = 3) → jgi [0] 10 S x0 (fun v10 => K S v10)) ∧ ((¬ (x1 = 3)) → jis 0 S x0 ∧ wp_X0_boiled S x0 (fun S11 r12 => K S11 r12)))))
abbrev d_X0_tellsGuest : Nat := 103
def wp_X0_tellsGuest_29 (S : jS) (x0 : Nat) (x3 : Int32) (x4 : Nat) (x5 : Int64) (x7 : Int32) (Kc23 : jS × Int64 × Int32 → Prop) (K : jS → Int64 → Prop) : Prop :=
  jis 4 S x4 ∧ wp_X7_by S x4 x7 (fun S1 r2 => Kc23 (S1, ((31 * x5) + ((r2 : Int32).toInt64)), (x7 + 1)))
def wp_X0_tellsGuest_68 (S : jS) (t0 : Int64) (t1 : Nat) (x0 : Nat) (x3 : Int32) (x4 : Nat) (x7 : Int32) (Kc55 : jS × Int64 × Int32 → Prop) (K : jS → Int64 → Prop) : Prop :=
  jgr [0] 16 S t1 (fun v1 => jarn 7 S v1 4 (fun v2 => jarn 6 S v2 x3 (fun v3 => jal 0 S v3 x7 (fun v4 => Kc55 (S, (t0 + ((v4 : Int32).toInt64)), (x7 + 1))))))
def wp_X0_tellsGuest_104 (S : jS) (t0 : Int64) (t1 : Nat) (x0 : Nat) (x3 : Int32) (x4 : Nat) (x7 : Int32) (Kc91 : jS × Int64 × Int32 → Prop) (K : jS → Int64 → Prop) : Prop :=
  jgr [0] 16 S t1 (fun v1 => jarn 7 S v1 11 (fun v2 => jarn 6 S v2 x3 (fun v3 => jal 0 S v3 x7 (fun v4 => Kc91 (S, (t0 + ((v4 : Int32).toInt64)), (x7 + 1))))))
def wp_X0_tellsGuest_141 (S : jS) (t0 : Int64) (t1 : Nat) (x0 : Nat) (x3 : Int32) (x4 : Nat) (x7 : Int32) (Kc128 : jS × Int64 × Int32 → Prop) (K : jS → Int64 → Prop) : Prop :=
  jgr [0] 16 S t1 (fun v1 => jarn 7 S v1 23 (fun v2 => jarn 6 S v2 x3 (fun v3 => jal 0 S v3 x7 (fun v4 => Kc128 (S, (t0 + ((v4 : Int32).toInt64)), (x7 + 1))))))
def wp_X0_tellsGuest_213 (S : jS) (x0 : Nat) (x3 : Int32) (x5 : Int64) (x7 : Int32) (Kc213 : jS × Int64 × Int32 → Prop) (K : jS → Int64 → Prop) : Prop :=
  ((2 ≤ x7) → K S x5) ∧ ((¬ (2 ≤ x7)) → jis 0 S x0 ∧ wp_X0_chanceOf S x0 5 x3 x7 (fun S1 r2 => Kc213 (S1, ((31 * x5) + r2), (x7 + 1))))
def wp_X0_tellsGuest_213_L (x0 : Nat) (x3 : Int32) (K : jS → Int64 → Prop) : (jS × Int64 × Int32) → ((jS × Int64 × Int32) → Prop) → Prop := fun z Kc213 => wp_X0_tellsGuest_213 z.1 x0 x3 z.2.1 z.2.2 Kc213 K
def wp_X0_tellsGuest_180 (S : jS) (x0 : Nat) (x3 : Int32) (x4 : Nat) (x5 : Int64) (x7 : Int32) (Kc180 : jS × Int64 × Int32 → Prop) (K : jS → Int64 → Prop) : Prop :=
  ((2 ≤ x7) → ∃ n : Nat, jlp n (wp_X0_tellsGuest_213_L x0 x3 K) (S, x5, 0)) ∧ ((¬ (2 ≤ x7)) → jis 0 S x0 ∧ wp_X0_comeOf S x0 x4 x7 (fun S1 r2 => Kc180 (S1, ((31 * x5) + ((r2 : Int32).toInt64)), (x7 + 1))))
def wp_X0_tellsGuest_180_L (x0 : Nat) (x3 : Int32) (x4 : Nat) (K : jS → Int64 → Prop) : (jS × Int64 × Int32) → ((jS × Int64 × Int32) → Prop) → Prop := fun z Kc180 => wp_X0_tellsGuest_180 z.1 x0 x3 x4 z.2.1 z.2.2 Kc180 K
def wp_X0_tellsGuest_170 (S : jS) (t0 : Int64) (t1 : Nat) (x0 : Nat) (x3 : Int32) (x4 : Nat) (K : jS → Int64 → Prop) : Prop :=
  jgi [4] 7 S t1 (fun v1 => ∃ n : Nat, jlp n (wp_X0_tellsGuest_180_L x0 x3 x4 K) (S, (t0 + ((v1 : Int32).toInt64)), 0))
def wp_X0_tellsGuest_128 (S : jS) (x0 : Nat) (x3 : Int32) (x4 : Nat) (x5 : Int64) (x7 : Int32) (Kc128 : jS × Int64 × Int32 → Prop) (K : jS → Int64 → Prop) : Prop :=
  ((2 ≤ x7) → wp_X0_tellsGuest_170 S (31 * x5) x4 x0 x3 x4 K) ∧ ((¬ (2 ≤ x7)) → wp_X0_tellsGuest_141 S (31 * x5) x0 x0 x3 x4 x7 Kc128 K)
def wp_X0_tellsGuest_128_L (x0 : Nat) (x3 : Int32) (x4 : Nat) (K : jS → Int64 → Prop) : (jS × Int64 × Int32) → ((jS × Int64 × Int32) → Prop) → Prop := fun z Kc128 => wp_X0_tellsGuest_128 z.1 x0 x3 x4 z.2.1 z.2.2 Kc128 K
def wp_X0_tellsGuest_91 (S : jS) (x0 : Nat) (x3 : Int32) (x4 : Nat) (x5 : Int64) (x7 : Int32) (Kc91 : jS × Int64 × Int32 → Prop) (K : jS → Int64 → Prop) : Prop :=
  ((2 ≤ x7) → ∃ n : Nat, jlp n (wp_X0_tellsGuest_128_L x0 x3 x4 K) (S, x5, 0)) ∧ ((¬ (2 ≤ x7)) → wp_X0_tellsGuest_104 S (31 * x5) x0 x0 x3 x4 x7 Kc91 K)
def wp_X0_tellsGuest_91_L (x0 : Nat) (x3 : Int32) (x4 : Nat) (K : jS → Int64 → Prop) : (jS × Int64 × Int32) → ((jS × Int64 × Int32) → Prop) → Prop := fun z Kc91 => wp_X0_tellsGuest_91 z.1 x0 x3 x4 z.2.1 z.2.2 Kc91 K
def wp_X0_tellsGuest_55 (S : jS) (x0 : Nat) (x3 : Int32) (x4 : Nat) (x5 : Int64) (x7 : Int32) (Kc55 : jS × Int64 × Int32 → Prop) (K : jS → Int64 → Prop) : Prop :=
  ((2 ≤ x7) → ∃ n : Nat, jlp n (wp_X0_tellsGuest_91_L x0 x3 x4 K) (S, x5, 0)) ∧ ((¬ (2 ≤ x7)) → wp_X0_tellsGuest_68 S (31 * x5) x0 x0 x3 x4 x7 Kc55 K)
def wp_X0_tellsGuest_55_L (x0 : Nat) (x3 : Int32) (x4 : Nat) (K : jS → Int64 → Prop) : (jS × Int64 × Int32) → ((jS × Int64 × Int32) → Prop) → Prop := fun z Kc55 => wp_X0_tellsGuest_55 z.1 x0 x3 x4 z.2.1 z.2.2 Kc55 K
def wp_X0_tellsGuest_52 (S : jS) (x0 : Nat) (x3 : Int32) (x4 : Nat) (x5 : Int64) (K : jS → Int64 → Prop) : Prop :=
  ∃ n : Nat, jlp n (wp_X0_tellsGuest_55_L x0 x3 x4 K) (S, x5, 0)
def wp_X0_tellsGuest_23 (S : jS) (x0 : Nat) (x3 : Int32) (x4 : Nat) (x5 : Int64) (x7 : Int32) (Kc23 : jS × Int64 × Int32 → Prop) (K : jS → Int64 → Prop) : Prop :=
  ((3 ≤ x7) → wp_X0_tellsGuest_52 S x0 x3 x4 x5 K) ∧ ((¬ (3 ≤ x7)) → wp_X0_tellsGuest_29 S x0 x3 x4 x5 x7 Kc23 K)
def wp_X0_tellsGuest_23_L (x0 : Nat) (x3 : Int32) (x4 : Nat) (K : jS → Int64 → Prop) : (jS × Int64 × Int32) → ((jS × Int64 × Int32) → Prop) → Prop := fun z Kc23 => wp_X0_tellsGuest_23 z.1 x0 x3 x4 z.2.1 z.2.2 Kc23 K
def wp_X0_tellsGuest (S : jS) (x0 : Nat) (x1 : Int64) (x3 : Int32) (K : jS → Int64 → Prop) : Prop :=
  jgr [0] 4 S x0 (fun v1 => jis 3 S v1 ∧ wp_J2_get S v1 x3 (fun S2 r3 => jco [4] S2 r3 ∧ (jis 0 S2 x0 ∧ wp_X0_find S2 x0 (fun S4 _ => ∃ n : Nat, jlp n (wp_X0_tellsGuest_23_L x0 x3 r3 K) (S4, x1, 0)))))
abbrev d_X0_kindOf : Nat := 15
def wp_X0_kindOf_42 (S : jS) (t0 : Int32) (t1 : Int32) (x0 : Nat) (x1 : Nat) (x2 : Nat) (x4 : Int32) (Kc10 : jS × Int32 × Int32 → Prop) (K : jS → Int32 → Prop) : Prop :=
  Kc10 (S, (t0 ||| t1), (x4 + 1))
def wp_X0_kindOf_10 (S : jS) (x0 : Nat) (x1 : Nat) (x2 : Nat) (x3 : Int32) (x4 : Int32) (Kc10 : jS × Int32 × Int32 → Prop) (K : jS → Int32 → Prop) : Prop :=
  ((3 ≤ x4) → jpr [5] 1 S x1 (some x2) (fun S1 => K S1 x3)) ∧ ((¬ (3 ≤ x4)) → jgs 0 S (fun v2 => jarn 10 S v2 x4 (fun v3 => jpr [5] 1 S x1 (some v3) (fun S4 => jis 0 S4 x0 ∧ wp_X0_isSeen S4 x0 (fun S5 r6 => ((r6 = 0) → wp_X0_kindOf_42 S5 x3 0 x0 x1 x2 x4 Kc10 K) ∧ ((¬ (r6 = 0)) → wp_X0_kindOf_42 S5 x3 (1 <<< (x4 &&& 31)) x0 x1 x2 x4 Kc10 K))))))
def wp_X0_kindOf_10_L (x0 : Nat) (x1 : Nat) (x2 : Nat) (K : jS → Int32 → Prop) : (jS × Int32 × Int32) → ((jS × Int32 × Int32) → Prop) → Prop := fun z Kc10 => wp_X0_kindOf_10 z.1 x0 x1 x2 z.2.1 z.2.2 Kc10 K
def wp_X0_kindOf (S : jS) (x0 : Nat) (x1 : Nat) (K : jS → Int32 → Prop) : Prop :=
  jgr [5] 1 S x1 (fun v1 => ∃ n : Nat, jlp n (wp_X0_kindOf_10_L x0 x1 v1 K) (S, 0, 0))
abbrev d_X0_tellsPiece : Nat := 16
def wp_X0_tellsPiece_12 (S : jS) (x0 : Nat) (x3 : Nat) (x4 : Int64) (x6 : Int32) (Kc6 : jS × Int64 × Int32 → Prop) (K : jS → Int64 → Prop) : Prop :=
  jis 5 S x3 ∧ wp_X8_by S x3 x6 (fun S1 r2 => Kc6 (S1, ((31 * x4) + ((r2 : Int32).toInt64)), (x6 + 1)))
def wp_X0_tellsPiece_37 (S : jS) (x0 : Nat) (x3 : Nat) (x4 : Int64) (x6 : Int32) (Kc37 : jS × Int64 × Int32 → Prop) (K : jS → Int64 → Prop) : Prop :=
  ((2 ≤ x6) → jis 0 S x0 ∧ wp_X0_kindOf S x0 x3 (fun S1 r2 => K S1 ((31 * x4) + ((r2 : Int32).toInt64)))) ∧ ((¬ (2 ≤ x6)) → jis 0 S x0 ∧ wp_X0_betterOf S x0 x3 x6 (fun S3 r4 => Kc37 (S3, ((31 * x4) + ((r4 : Int32).toInt64)), (x6 + 1))))
def wp_X0_tellsPiece_37_L (x0 : Nat) (x3 : Nat) (K : jS → Int64 → Prop) : (jS × Int64 × Int32) → ((jS × Int64 × Int32) → Prop) → Prop := fun z Kc37 => wp_X0_tellsPiece_37 z.1 x0 x3 z.2.1 z.2.2 Kc37 K
def wp_X0_tellsPiece_34 (S : jS) (x0 : Nat) (x3 : Nat) (x4 : Int64) (K : jS → Int64 → Prop) : Prop :=
  ∃ n : Nat, jlp n (wp_X0_tellsPiece_37_L x0 x3 K) (S, x4, 0)
def wp_X0_tellsPiece_6 (S : jS) (x0 : Nat) (x3 : Nat) (x4 : Int64) (x6 : Int32) (Kc6 : jS × Int64 × Int32 → Prop) (K : jS → Int64 → Prop) : Prop :=
  ((3 ≤ x6) → wp_X0_tellsPiece_34 S x0 x3 x4 K) ∧ ((¬ (3 ≤ x6)) → wp_X0_tellsPiece_12 S x0 x3 x4 x6 Kc6 K)
def wp_X0_tellsPiece_6_L (x0 : Nat) (x3 : Nat) (K : jS → Int64 → Prop) : (jS × Int64 × Int32) → ((jS × Int64 × Int32) → Prop) → Prop := fun z Kc6 => wp_X0_tellsPiece_6 z.1 x0 x3 z.2.1 z.2.2 Kc6 K
def wp_X0_tellsPiece (S : jS) (x0 : Nat) (x1 : Int64) (x3 : Nat) (K : jS → Int64 → Prop) : Prop :=
  ∃ n : Nat, jlp n (wp_X0_tellsPiece_6_L x0 x3 K) (S, x1, 0)
abbrev d_X0_thirstNow : Nat := 4
def wp_X0_thirstNow_54 (S : jS) (t0 : Int32) (t1 : Int32) (x0 : Nat) (x2 : Int32) (Kc4 : jS × Int32 × Int32 → Prop) (K : jS → Int32 → Prop) : Prop :=
  Kc4 (S, (t0 ||| t1), (x2 + 1))
def wp_X0_thirstNow_4 (S : jS) (x0 : Nat) (x1 : Int32) (x2 : Int32) (Kc4 : jS × Int32 × Int32 → Prop) (K : jS → Int32 → Prop) : Prop :=
  jgr [0] 4 S x0 (fun v1 => jis 3 S v1 ∧ wp_J2_size S v1 (fun S2 r3 => ((r3 ≤ x2) → K S2 x1) ∧ ((¬ (r3 ≤ x2)) → jgr [0] 4 S2 x0 (fun v4 => jis 3 S2 v4 ∧ wp_J2_get S2 v4 x2 (fun S5 r6 => jco [4] S5 r6 ∧ (jgi [4] 4 S5 r6 (fun v7 => jgr [0] 4 S5 x0 (fun v8 => jis 3 S5 v8 ∧ wp_J2_get S5 v8 x2 (fun S9 r10 => jco [4] S9 r10 ∧ (jgi [4] 2 S9 r10 (fun v11 => ((v11 ≤ v7) → wp_X0_thirstNow_54 S9 x1 0 x0 x2 Kc4 K) ∧ ((¬ (v11 ≤ v7)) → wp_X0_thirstNow_54 S9 x1 (1 <<< (x2 &&& 31)) x0 x2 Kc4 K))))))))))))
def wp_X0_thirstNow_4_L (x0 : Nat) (K : jS → Int32 → Prop) : (jS × Int32 × Int32) → ((jS × Int32 × Int32) → Prop) → Prop := fun z Kc4 => wp_X0_thirstNow_4 z.1 x0 z.2.1 z.2.2 Kc4 K
def wp_X0_thirstNow (S : jS) (x0 : Nat) (K : jS → Int32 → Prop) : Prop :=
  ∃ n : Nat, jlp n (wp_X0_thirstNow_4_L x0 K) (S, 0, 0)
def wpD_Text_read_1_2 (S : jS) (a : Nat)  (K : jS → Int32 → Prop) : Prop := (jis 1 S a ∧ wp_X1_read S a  K) ∨ (jis 2 S a ∧ wp_X1_read S a  K)
abbrev d_D_Text_read_1_2 : Nat := 9
abbrev d_X0_digest : Nat := 104
def wp_X0_digest_12 (S : jS) (x0 : Nat) (x1 : Int64) (x3 : Int32) (Kc6 : jS × Int64 × Int32 → Prop) (K : jS → Int64 → Prop) : Prop :=
  jis 0 S x0 ∧ wp_X0_count S x0 x3 (fun S1 r2 => Kc6 (S1, ((31 * x1) + ((r2 : Int32).toInt64)), (x3 + 1)))
def wp_X0_digest_54 (S : jS) (t0 : Int64) (x0 : Nat) (x3 : Int32) (Kc33 : jS × Int64 × Int32 → Prop) (K : jS → Int64 → Prop) : Prop :=
  Kc33 (S, t0, (x3 + 1))
def wp_X0_digest_96 (S : jS) (t0 : Int64) (t1 : Nat) (t2 : Int32) (x0 : Nat) (x3 : Int32) (x4 : Int32) (Kc67 : jS × Int64 × Int32 → Prop) (Kc76 : jS × Int64 × Int32 → Prop) (K : jS → Int64 → Prop) : Prop :=
  jal 0 S t1 t2 (fun v1 => Kc76 (S, (t0 + ((v1 : Int32).toInt64)), (x4 + 1)))
def wp_X0_digest_118 (S : jS) (t0 : Int64) (t1 : Int64) (x0 : Nat) (x3 : Int32) (Kc67 : jS × Int64 × Int32 → Prop) (K : jS → Int64 → Prop) : Prop :=
  Kc67 (S, (t0 + t1), (x3 + 1))
def wp_X0_digest_76 (S : jS) (x0 : Nat) (x1 : Int64) (x3 : Int32) (x4 : Int32) (Kc67 : jS × Int64 × Int32 → Prop) (Kc76 : jS × Int64 × Int32 → Prop) (K : jS → Int64 → Prop) : Prop :=
  ((6 ≤ x4) → jgr [0] 15 S x0 (fun v1 => jal 0 S v1 x3 (fun v2 => wp_X0_digest_118 S (31 * x1) ((v2 : Int32).toInt64) x0 x3 Kc67 K))) ∧ ((¬ (6 ≤ x4)) → jgr [0] 14 S x0 (fun v3 => jarn 6 S v3 x3 (fun v4 => wp_X0_digest_96 S (31 * x1) v4 x4 x0 x3 x4 Kc67 Kc76 K)))
def wp_X0_digest_76_L (x0 : Nat) (x3 : Int32) (Kc67 : jS × Int64 × Int32 → Prop) (K : jS → Int64 → Prop) : (jS × Int64 × Int32) → ((jS × Int64 × Int32) → Prop) → Prop := fun z Kc76 => wp_X0_digest_76 z.1 x0 z.2.1 x3 z.2.2 Kc67 Kc76 K
def wp_X0_digest_155 (S : jS) (t0 : Int64) (x0 : Nat) (x3 : Int32) (Kc128 : jS × Int64 × Int32 → Prop) (K : jS → Int64 → Prop) : Prop :=
  Kc128 (S, t0, (x3 + 1))
def wp_X0_digest_196 (S : jS) (x0 : Nat) (x1 : Int64) (x3 : Int32) (Kc191 : jS × Int64 × Int32 → Prop) (K : jS → Int64 → Prop) : Prop :=
  jis 0 S x0 ∧ wp_X0_sumBy S x0 x3 (fun S1 r2 => Kc191 (S1, ((31 * x1) + ((r2 : Int32).toInt64)), (x3 + 1)))
def wp_X0_digest_234 (S : jS) (x0 : Nat) (x1 : Int64) (x3 : Int32) (Kc229 : jS × Int64 × Int32 → Prop) (K : jS → Int64 → Prop) : Prop :=
  jis 0 S x0 ∧ wp_X0_hottestBy S x0 x3 (fun S1 r2 => Kc229 (S1, ((31 * x1) + ((r2 : Int32).toInt64)), (x3 + 1)))
def wp_X0_digest_272 (S : jS) (x0 : Nat) (x1 : Int64) (x3 : Int32) (Kc267 : jS × Int64 × Int32 → Prop) (K : jS → Int64 → Prop) : Prop :=
  jis 0 S x0 ∧ wp_X0_fillBy S x0 x3 (fun S1 r2 => Kc267 (S1, ((31 * x1) + ((r2 : Int32).toInt64)), (x3 + 1)))
def wp_X0_digest_298 (S : jS) (x0 : Nat) (x1 : Int64) (x3 : Int32) (Kc293 : jS × Int64 × Int32 → Prop) (K : jS → Int64 → Prop) : Prop :=
  jis 0 S x0 ∧ wp_X0_spareBy S x0 x3 (fun S1 r2 => Kc293 (S1, ((31 * x1) + ((r2 : Int32).toInt64)), (x3 + 1)))
def wp_X0_digest_376 (S : jS) (t0 : Int64) (x0 : Nat) (x3 : Int32) (Kc355 : jS × Int64 × Int32 → Prop) (K : jS → Int64 → Prop) : Prop :=
  Kc355 (S, t0, (x3 + 1))
def wp_X0_digest_355 (S : jS) (x0 : Nat) (x1 : Int64) (x3 : Int32) (Kc355 : jS × Int64 × Int32 → Prop) (K : jS → Int64 → Prop) : Prop :=
  ((2 ≤ x3) → K S x1) ∧ ((¬ (2 ≤ x3)) → jis 0 S x0 ∧ wp_X0_eveningsOf S x0 7 6 x3 (fun S1 r2 => wp_X0_digest_376 S1 ((31 * x1) + ((r2 : Int32).toInt64)) x0 x3 Kc355 K))
def wp_X0_digest_355_L (x0 : Nat) (K : jS → Int64 → Prop) : (jS × Int64 × Int32) → ((jS × Int64 × Int32) → Prop) → Prop := fun z Kc355 => wp_X0_digest_355 z.1 x0 z.2.1 z.2.2 Kc355 K
def wp_X0_digest_317 (S : jS) (x0 : Nat) (x1 : Int64) (K : jS → Int64 → Prop) : Prop :=
  jis 0 S x0 ∧ wp_X0_neverNow S x0 (fun S1 r2 => jis 0 S1 x0 ∧ wp_X0_watersNow S1 x0 (fun S3 r4 => jis 0 S3 x0 ∧ wp_X0_askNow S3 x0 (fun S5 r6 => ∃ n : Nat, jlp n (wp_X0_digest_355_L x0 K) (S5, ((31 * ((31 * ((31 * x1) + ((r2 : Int32).toInt64))) + ((r4 : Int32).toInt64))) + ((r6 : Int32).toInt64)), 0))))
def wp_X0_digest_293 (S : jS) (x0 : Nat) (x1 : Int64) (x3 : Int32) (Kc293 : jS × Int64 × Int32 → Prop) (K : jS → Int64 → Prop) : Prop :=
  ((1 ≤ x3) → wp_X0_digest_317 S x0 x1 K) ∧ ((¬ (1 ≤ x3)) → wp_X0_digest_298 S x0 x1 x3 Kc293 K)
def wp_X0_digest_293_L (x0 : Nat) (K : jS → Int64 → Prop) : (jS × Int64 × Int32) → ((jS × Int64 × Int32) → Prop) → Prop := fun z Kc293 => wp_X0_digest_293 z.1 x0 z.2.1 z.2.2 Kc293 K
def wp_X0_digest_291 (S : jS) (x0 : Nat) (x1 : Int64) (K : jS → Int64 → Prop) : Prop :=
  ∃ n : Nat, jlp n (wp_X0_digest_293_L x0 K) (S, x1, (-1))
def wp_X0_digest_267 (S : jS) (x0 : Nat) (x1 : Int64) (x3 : Int32) (Kc267 : jS × Int64 × Int32 → Prop) (K : jS → Int64 → Prop) : Prop :=
  ((2 ≤ x3) → wp_X0_digest_291 S x0 x1 K) ∧ ((¬ (2 ≤ x3)) → wp_X0_digest_272 S x0 x1 x3 Kc267 K)
def wp_X0_digest_267_L (x0 : Nat) (K : jS → Int64 → Prop) : (jS × Int64 × Int32) → ((jS × Int64 × Int32) → Prop) → Prop := fun z Kc267 => wp_X0_digest_267 z.1 x0 z.2.1 z.2.2 Kc267 K
def wp_X0_digest_253 (S : jS) (x0 : Nat) (x1 : Int64) (K : jS → Int64 → Prop) : Prop :=
  jis 0 S x0 ∧ wp_X0_thirstNow S x0 (fun S1 r2 => ∃ n : Nat, jlp n (wp_X0_digest_267_L x0 K) (S1, ((31 * x1) + ((r2 : Int32).toInt64)), 0))
def wp_X0_digest_229 (S : jS) (x0 : Nat) (x1 : Int64) (x3 : Int32) (Kc229 : jS × Int64 × Int32 → Prop) (K : jS → Int64 → Prop) : Prop :=
  ((2 ≤ x3) → wp_X0_digest_253 S x0 x1 K) ∧ ((¬ (2 ≤ x3)) → wp_X0_digest_234 S x0 x1 x3 Kc229 K)
def wp_X0_digest_229_L (x0 : Nat) (K : jS → Int64 → Prop) : (jS × Int64 × Int32) → ((jS × Int64 × Int32) → Prop) → Prop := fun z Kc229 => wp_X0_digest_229 z.1 x0 z.2.1 z.2.2 Kc229 K
def wp_X0_digest_215 (S : jS) (x0 : Nat) (x1 : Int64) (K : jS → Int64 → Prop) : Prop :=
  jis 0 S x0 ∧ wp_X0_firstNow S x0 (fun S1 r2 => ∃ n : Nat, jlp n (wp_X0_digest_229_L x0 K) (S1, ((31 * x1) + ((r2 : Int32).toInt64)), 0))
def wp_X0_digest_191 (S : jS) (x0 : Nat) (x1 : Int64) (x3 : Int32) (Kc191 : jS × Int64 × Int32 → Prop) (K : jS → Int64 → Prop) : Prop :=
  ((5 ≤ x3) → wp_X0_digest_215 S x0 x1 K) ∧ ((¬ (5 ≤ x3)) → wp_X0_digest_196 S x0 x1 x3 Kc191 K)
def wp_X0_digest_191_L (x0 : Nat) (K : jS → Int64 → Prop) : (jS × Int64 × Int32) → ((jS × Int64 × Int32) → Prop) → Prop := fun z Kc191 => wp_X0_digest_191 z.1 x0 z.2.1 z.2.2 Kc191 K
def wp_X0_digest_165 (S : jS) (t0 : Int32) (x0 : Nat) (x1 : Int64) (x3 : Int32) (Kc164 : jS × Int64 × Int32 → Prop) (K : jS → Int64 → Prop) : Prop :=
  jis 0 S x0 ∧ wp_X0_people S x0 (fun S1 r2 => ((r2 ≤ t0) → jis 0 S1 x0 ∧ wp_X0_find S1 x0 (fun S3 _ => ∃ n : Nat, jlp n (wp_X0_digest_191_L x0 K) (S3, x1, 0))) ∧ ((¬ (r2 ≤ t0)) → jis 0 S1 x0 ∧ wp_X0_tellsGuest S1 x0 x1 x3 (fun S4 r5 => Kc164 (S4, r5, (x3 + 1)))))
def wp_X0_digest_164 (S : jS) (x0 : Nat) (x1 : Int64) (x3 : Int32) (Kc164 : jS × Int64 × Int32 → Prop) (K : jS → Int64 → Prop) : Prop :=
  wp_X0_digest_165 S x3 x0 x1 x3 Kc164 K
def wp_X0_digest_164_L (x0 : Nat) (K : jS → Int64 → Prop) : (jS × Int64 × Int32) → ((jS × Int64 × Int32) → Prop) → Prop := fun z Kc164 => wp_X0_digest_164 z.1 x0 z.2.1 z.2.2 Kc164 K
def wp_X0_digest_128 (S : jS) (x0 : Nat) (x1 : Int64) (x3 : Int32) (Kc128 : jS × Int64 × Int32 → Prop) (K : jS → Int64 → Prop) : Prop :=
  jis 0 S x0 ∧ wp_X0_pieces S x0 (fun S1 r2 => ((r2 ≤ x3) → ∃ n : Nat, jlp n (wp_X0_digest_164_L x0 K) (S1, x1, 0)) ∧ ((¬ (r2 ≤ x3)) → jgr [0] 1 S1 x0 (fun v3 => jgr [1] 5 S1 v3 (fun v4 => jis 3 S1 v4 ∧ wp_J2_get S1 v4 x3 (fun S5 r6 => jco [5] S5 r6 ∧ (jis 0 S5 x0 ∧ wp_X0_tellsPiece S5 x0 x1 r6 (fun S7 r8 => wp_X0_digest_155 S7 r8 x0 x3 Kc128 K)))))))
def wp_X0_digest_128_L (x0 : Nat) (K : jS → Int64 → Prop) : (jS × Int64 × Int32) → ((jS × Int64 × Int32) → Prop) → Prop := fun z Kc128 => wp_X0_digest_128 z.1 x0 z.2.1 z.2.2 Kc128 K
def wp_X0_digest_67 (S : jS) (x0 : Nat) (x1 : Int64) (x3 : Int32) (Kc67 : jS × Int64 × Int32 → Prop) (K : jS → Int64 → Prop) : Prop :=
  ((24 ≤ x3) → ∃ n : Nat, jlp n (wp_X0_digest_128_L x0 K) (S, x1, 0)) ∧ ((¬ (24 ≤ x3)) → ∃ n : Nat, jlp n (wp_X0_digest_76_L x0 x3 Kc67 K) (S, x1, 0))
def wp_X0_digest_67_L (x0 : Nat) (K : jS → Int64 → Prop) : (jS × Int64 × Int32) → ((jS × Int64 × Int32) → Prop) → Prop := fun z Kc67 => wp_X0_digest_67 z.1 x0 z.2.1 z.2.2 Kc67 K
def wp_X0_digest_33 (S : jS) (x0 : Nat) (x1 : Int64) (x3 : Int32) (Kc33 : jS × Int64 × Int32 → Prop) (K : jS → Int64 → Prop) : Prop :=
  ((2 ≤ x3) → jis 0 S x0 ∧ wp_X0_find S x0 (fun S1 _ => ∃ n : Nat, jlp n (wp_X0_digest_67_L x0 K) (S1, x1, 0))) ∧ ((¬ (2 ≤ x3)) → jgr [0] 3 S x0 (fun v2 => jarn 5 S v2 x3 (fun v3 => wpD_Text_read_1_2 S v3 (fun S4 r5 => wp_X0_digest_54 S4 ((31 * x1) + ((r5 : Int32).toInt64)) x0 x3 Kc33 K))))
def wp_X0_digest_33_L (x0 : Nat) (K : jS → Int64 → Prop) : (jS × Int64 × Int32) → ((jS × Int64 × Int32) → Prop) → Prop := fun z Kc33 => wp_X0_digest_33 z.1 x0 z.2.1 z.2.2 Kc33 K
def wp_X0_digest_31 (S : jS) (x0 : Nat) (x1 : Int64) (K : jS → Int64 → Prop) : Prop :=
  ∃ n : Nat, jlp n (wp_X0_digest_33_L x0 K) (S, x1, 0)
def wp_X0_digest_6 (S : jS) (x0 : Nat) (x1 : Int64) (x3 : Int32) (Kc6 : jS × Int64 × Int32 → Prop) (K : jS → Int64 → Prop) : Prop :=
  ((8 ≤ x3) → wp_X0_digest_31 S x0 x1 K) ∧ ((¬ (8 ≤ x3)) → wp_X0_digest_12 S x0 x1 x3 Kc6 K)
def wp_X0_digest_6_L (x0 : Nat) (K : jS → Int64 → Prop) : (jS × Int64 × Int32) → ((jS × Int64 × Int32) → Prop) → Prop := fun z Kc6 => wp_X0_digest_6 z.1 x0 z.2.1 z.2.2 Kc6 K
def wp_X0_digest (S : jS) (x0 : Nat) (K : jS → Int64 → Prop) : Prop :=
  ∃ n : Nat, jlp n (wp_X0_digest_6_L x0 K) (S, 17, 0)
abbrev d_X0_evenings : Nat := 15
def wp_X0_evenings_31 (S : jS) (t0 : Int32) (K : jS → Int32 → Prop) : Prop :=
  K S t0
def wp_X0_evenings_29 (S : jS) (K : jS → Int32 → Prop) : Prop :=
  wp_X0_evenings_31 S (-2) K
def wp_X0_evenings (S : jS) (x0 : Nat) (x1 : Int32) (x2 : Int32) (x3 : Int32) (K : jS → Int32 → Prop) : Prop :=
  wp_X0_in S ((x2 : Int32).toInt64) 0 8 (fun S1 r2 => ((r2 = 0) → wp_X0_evenings_29 S1 K) ∧ ((¬ (r2 = 0)) → wp_X0_isTwo S1 x3 (fun S3 r4 => ((r4 = 0) → wp_X0_evenings_29 S3 K) ∧ ((¬ (r4 = 0)) → jis 0 S3 x0 ∧ wp_X0_eveningsOf S3 x0 x1 x2 x3 (fun S5 r6 => wp_X0_evenings_31 S5 r6 K)))))
abbrev d_X0_event : Nat := 6
def wp_X0_event_31 (S : jS) (K : jS → Int32 → Prop) : Prop :=
  K S (-2)
def wp_X0_event (S : jS) (x0 : Nat) (x1 : Int32) (x2 : Int32) (x3 : Int32) (K : jS → Int32 → Prop) : Prop :=
  wp_X0_in S ((x1 : Int32).toInt64) 0 2 (fun S1 r2 => ((r2 = 0) → wp_X0_event_31 S1 K) ∧ ((¬ (r2 = 0)) → wp_X0_isMinute S1 x2 (fun S3 r4 => ((r4 = 0) → wp_X0_event_31 S3 K) ∧ ((¬ (r4 = 0)) → wp_X0_in S3 ((x3 : Int32).toInt64) 0 9 (fun S5 r6 => ((r6 = 0) → wp_X0_event_31 S5 K) ∧ ((¬ (r6 = 0)) → jgr [0] 6 S5 x0 (fun v7 => jis 3 S5 v7 ∧ wp_J2_size S5 v7 (fun S8 r9 => ((r9 = 8) → K S8 (-4)) ∧ ((¬ (r9 = 8)) → jgr [0] 6 S8 x0 (fun v10 => jnewa 0 S8 3 (fun S11 a12 => jas 0 S11 a12 0 x1 (fun S13 => jas 0 S13 a12 1 x2 (fun S14 => jas 0 S14 a12 2 x3 (fun S15 => jis 3 S15 v10 ∧ wp_J2_add S15 v10 a12 (fun S16 r17 => jgr [0] 6 S16 x0 (fun v18 => jis 3 S16 v18 ∧ wp_J2_size S16 v18 (fun S19 r20 => K S19 r20)))))))))))))))))
abbrev d_X0_fault : Nat := 10
def wp_X0_fault_21 (S : jS) (t0 : Int32) (K : jS → Int32 → Prop) : Prop :=
  K S t0
def wp_X0_fault (S : jS) (x0 : Nat) (x1 : Int32) (K : jS → Int32 → Prop) : Prop :=
  wp_X0_isTwo S x1 (fun S1 r2 => ((r2 = 0) → wp_X0_fault_21 S1 (-2) K) ∧ ((¬ (r2 = 0)) → jgr [0] 3 S1 x0 (fun v3 => jarn 5 S1 v3 x1 (fun v4 => wpD_Text_read_1_2 S1 v4 (fun S5 r6 => wp_X0_fault_21 S5 r6 K)))))
abbrev d_X0_fill : Nat := 15
def wp_X0_fill_17 (S : jS) (t0 : Int32) (K : jS → Int32 → Prop) : Prop :=
  K S t0
def wp_X0_fill (S : jS) (x0 : Nat) (x1 : Int32) (K : jS → Int32 → Prop) : Prop :=
  wp_X0_isTwo S x1 (fun S1 r2 => ((r2 = 0) → wp_X0_fill_17 S1 (-2) K) ∧ ((¬ (r2 = 0)) → jis 0 S1 x0 ∧ wp_X0_fillBy S1 x0 x1 (fun S3 r4 => wp_X0_fill_17 S3 r4 K)))
abbrev d_X0_first : Nat := 14
def wp_X0_first (S : jS) (x0 : Nat) (K : jS → Int32 → Prop) : Prop :=
  jis 0 S x0 ∧ wp_X0_find S x0 (fun S1 _ => jis 0 S1 x0 ∧ wp_X0_firstNow S1 x0 (fun S2 r3 => K S2 r3))
abbrev d_X0_forget : Nat := 2
def wp_X0_forget (S : jS) (x0 : Nat) (K : jS → Int32 → Prop) : Prop :=
  jgr [0] 18 S x0 (fun v1 => jis 3 S v1 ∧ wp_J2_size S v1 (fun S2 r3 => jgr [0] 18 S2 x0 (fun v4 => jis 3 S2 v4 ∧ wp_J2_clear S2 v4 (fun S5 _ => K S5 r3))))
abbrev d_X0_lowest : Nat := 1
def wp_X0_lowest (S : jS) (x0 : Nat) (x1 : Int32) (K : jS → Int32 → Prop) : Prop :=
  jpi [0] 0 S x0 x1 (fun S1 => K S1 (-2147483648))
abbrev d_X0_get : Nat := 172
def wp_X0_get_19 (S : jS) (K : jS → Int32 → Prop) : Prop :=
  K S (-2147483648)
def wp_X0_get_52 (S : jS) (t0 : Nat) (x0 : Nat) (K : jS → Int32 → Prop) : Prop :=
  jis 0 S x0 ∧ wp_X0_lowest S x0 3 (fun S1 r2 => K S1 r2)
def wp_X0_get_60 (S : jS) (t0 : Nat) (x0 : Nat) (K : jS → Int32 → Prop) : Prop :=
  jis 0 S x0 ∧ wp_X0_lowest S x0 2 (fun S1 r2 => K S1 r2)
def wp_X0_get (S : jS) (x0 : Nat) (x1 : Int32) (x2 : Int32) (x3 : Int32) (K : jS → Int32 → Prop) : Prop :=
  wp_X0_isSheet S x1 (fun S1 r2 => ((r2 = 0) → wp_X0_get_19 S1 K) ∧ ((¬ (r2 = 0)) → wp_X0_in S1 ((x2 : Int32).toInt64) 0 2 (fun S3 r4 => ((r4 = 0) → wp_X0_get_19 S3 K) ∧ ((¬ (r4 = 0)) → jgr [0] 23 S3 x0 (fun v5 => jarn 9 S3 v5 x1 (fun v6 => jgo [6] 0 S3 v6 (fun v7 => (v7 = none → jis 0 S3 x0 ∧ wp_X0_lowest S3 x0 1 (fun S8 r9 => K S8 r9)) ∧ (∀ a10 : Nat, v7 = some a10 → jgr [0] 23 S3 x0 (fun v11 => jarn 9 S3 v11 x1 (fun v12 => jis 6 S3 v12 ∧ wp_X4_item S3 v12 x2 x3 (fun S13 r14 => K S13 r14) (fun S15 e16 q17 => (e16 = 1 ∧ wp_X0_get_52 S15 q17 x0 K) ∨ (e16 = 2 ∧ wp_X0_get_60 S15 q17 x0 K))))))))))))
abbrev d_X0_guest : Nat := 12
def wp_X0_guest_40 (S : jS) (t0 : Int32) (K : jS → Int32 → Prop) : Prop :=
  K S t0
def wp_X0_guest_38 (S : jS) (K : jS → Int32 → Prop) : Prop :=
  wp_X0_guest_40 S (-2) K
def wp_X0_guest (S : jS) (x0 : Nat) (x1 : Int32) (x2 : Int32) (K : jS → Int32 → Prop) : Prop :=
  jis 0 S x0 ∧ wp_X0_isGuest S x0 x1 (fun S1 r2 => ((r2 = 0) → wp_X0_guest_38 S1 K) ∧ ((¬ (r2 = 0)) → wp_X0_in S1 ((x2 : Int32).toInt64) 0 2 (fun S3 r4 => ((r4 = 0) → wp_X0_guest_38 S3 K) ∧ ((¬ (r4 = 0)) → jgr [0] 4 S3 x0 (fun v5 => jis 3 S3 v5 ∧ wp_J2_get S3 v5 x1 (fun S6 r7 => jco [4] S6 r7 ∧ (jis 4 S6 r7 ∧ wp_X7_by S6 r7 x2 (fun S8 r9 => wp_X0_guest_40 S8 r9 K))))))))
abbrev d_X0_hottest : Nat := 14
def wp_X0_hottest_21 (S : jS) (t0 : Int32) (K : jS → Int32 → Prop) : Prop :=
  K S t0
def wp_X0_hottest (S : jS) (x0 : Nat) (x1 : Int32) (K : jS → Int32 → Prop) : Prop :=
  jis 0 S x0 ∧ wp_X0_find S x0 (fun S1 _ => wp_X0_isTwo S1 x1 (fun S2 r3 => ((r3 = 0) → wp_X0_hottest_21 S2 (-2) K) ∧ ((¬ (r3 = 0)) → jis 0 S2 x0 ∧ wp_X0_hottestBy S2 x0 x1 (fun S4 r5 => wp_X0_hottest_21 S4 r5 K))))
abbrev d_X0_init : Nat := 5
def wp_X0_init_176 (S : jS) (t0 : Nat) (t1 : Nat) (t2 : Nat) (K : jS → Unit → Prop) : Prop :=
  jnew 6 1 tyX4 S (fun S1 a2 => wp_X4_init S1 a2 (fun S3 _ => jars 9 [6] S3 t2 0 a2 (fun S4 => jnew 6 1 tyX4 S4 (fun S5 a6 => wp_X4_init S5 a6 (fun S7 _ => jars 9 [6] S7 t1 1 a6 (fun S8 => jnew 6 1 tyX4 S8 (fun S9 a10 => wp_X4_init S9 a10 (fun S11 _ => jars 9 [6] S11 t1 2 a10 (fun S12 => jnew 6 1 tyX4 S12 (fun S13 a14 => wp_X4_init S13 a14 (fun S15 _ => jars 9 [6] S15 t1 3 a14 (fun S16 => jpr [0] 23 S16 t0 (some t1) (fun S17 => K S17 ())))))))))))))
def wp_X0_init_80 (S : jS) (t0 : Nat) (t1 : Nat) (x0 : Nat) (K : jS → Unit → Prop) : Prop :=
  wp_J2_init S t1 (fun S1 _ => jpr [0] 6 S1 t0 (some t1) (fun S2 => jnew 3 3 tyJ2 S2 (fun S3 a4 => wp_J2_init S3 a4 (fun S5 _ => jpr [0] 13 S5 x0 (some a4) (fun S6 => jmna2 S6 24 6 (fun S7 a8 => jpr [0] 14 S7 x0 (some a8) (fun S9 => jnewa 0 S9 24 (fun S10 a11 => jpr [0] 15 S10 x0 (some a11) (fun S12 => jmna3 S12 24 8 2 (fun S13 a14 => jpr [0] 16 S13 x0 (some a14) (fun S15 => jnew 3 3 tyJ2 S15 (fun S16 a17 => wp_J2_init S16 a17 (fun S18 _ => jpr [0] 18 S18 x0 (some a17) (fun S19 => jnewa 0 S19 31 (fun S20 a21 => jpr [0] 19 S20 x0 (some a21) (fun S22 => jnew 3 3 tyJ2 S22 (fun S23 a24 => wp_J2_init S23 a24 (fun S25 _ => jpr [0] 21 S25 x0 (some a24) (fun S26 => jnewr 8 S26 8 (fun S27 a28 => jpr [0] 22 S27 x0 (some a28) (fun S29 => jnewr 9 S29 4 (fun S30 a31 => wp_X0_init_176 S30 x0 a31 a31 K))))))))))))))))))))))
def wp_X0_init (S : jS) (x0 : Nat) (K : jS → Unit → Prop) : Prop :=
  jnew 1 6 tyX2 S (fun S1 a2 => wp_X2_init S1 a2 (fun S3 _ => jpr [0] 1 S3 x0 (some a2) (fun S4 => jnew 2 6 tyX3 S4 (fun S5 a6 => wp_X3_init S5 a6 (fun S7 _ => jpr [0] 2 S7 x0 (some a6) (fun S8 => jnewr 5 S8 2 (fun S9 a10 => jgr [0] 1 S9 x0 (fun v11 => jars 5 [1, 2] S9 a10 0 v11 (fun S12 => jgr [0] 2 S12 x0 (fun v13 => jars 5 [1, 2] S12 a10 1 v13 (fun S14 => jpr [0] 3 S14 x0 (some a10) (fun S15 => jgr [0] 2 S15 x0 (fun v16 => jgr [2] 5 S15 v16 (fun v17 => jpr [0] 4 S15 x0 (some v17) (fun S18 => jnewa 0 S18 2 (fun S19 a20 => jas 0 S19 a20 0 16 (fun S21 => jas 0 S21 a20 1 16 (fun S22 => jpr [0] 5 S22 x0 (some a20) (fun S23 => jnew 3 3 tyJ2 S23 (fun S24 a25 => wp_X0_init_80 S24 x0 a25 x0 K))))))))))))))))))))
abbrev d_X0_is : Nat := 14
def wp_X0_is_41 (S : jS) (t0 : Int32) (K : jS → Int32 → Prop) : Prop :=
  K S t0
def wp_X0_is_39 (S : jS) (K : jS → Int32 → Prop) : Prop :=
  wp_X0_is_41 S (-2) K
def wp_X0_is (S : jS) (x0 : Nat) (x1 : Int32) (x2 : Int32) (x3 : Int32) (K : jS → Int32 → Prop) : Prop :=
  jis 0 S x0 ∧ wp_X0_find S x0 (fun S1 _ => wp_X0_isMinute S1 x1 (fun S2 r3 => ((r3 = 0) → wp_X0_is_39 S2 K) ∧ ((¬ (r3 = 0)) → jis 0 S2 x0 ∧ wp_X0_isGuest S2 x0 x2 (fun S4 r5 => ((r5 = 0) → wp_X0_is_39 S4 K) ∧ ((¬ (r5 = 0)) → wp_X0_isTwo S4 x3 (fun S6 r7 => ((r7 = 0) → wp_X0_is_39 S6 K) ∧ ((¬ (r7 = 0)) → jgr [0] 16 S6 x0 (fun v8 => jarn 7 S6 v8 x1 (fun v9 => jarn 6 S6 v9 x2 (fun v10 => jal 0 S6 v10 x3 (fun v11 => wp_X0_is_41 S6 v11 K)))))))))))
abbrev d_X0_kind : Nat := 16
def wp_X0_kind_31 (S : jS) (t0 : Int32) (K : jS → Int32 → Prop) : Prop :=
  K S t0
def wp_X0_kind (S : jS) (x0 : Nat) (x1 : Int32) (K : jS → Int32 → Prop) : Prop :=
  jis 0 S x0 ∧ wp_X0_isPiece S x0 x1 (fun S1 r2 => ((r2 = 0) → wp_X0_kind_31 S1 (-2) K) ∧ ((¬ (r2 = 0)) → jgr [0] 1 S1 x0 (fun v3 => jgr [1] 5 S1 v3 (fun v4 => jis 3 S1 v4 ∧ wp_J2_get S1 v4 x1 (fun S5 r6 => jco [5] S5 r6 ∧ (jis 0 S5 x0 ∧ wp_X0_kindOf S5 x0 r6 (fun S7 r8 => wp_X0_kind_31 S7 r8 K)))))))
abbrev d_X0_line : Nat := 14
def wp_X0_line_22 (S : jS) (t0 : Int32) (K : jS → Int32 → Prop) : Prop :=
  K S t0
def wp_X0_line (S : jS) (x0 : Nat) (x1 : Int32) (K : jS → Int32 → Prop) : Prop :=
  jis 0 S x0 ∧ wp_X0_find S x0 (fun S1 _ => wp_X0_isMinute S1 x1 (fun S2 r3 => ((r3 = 0) → wp_X0_line_22 S2 (-2) K) ∧ ((¬ (r3 = 0)) → jgr [0] 15 S2 x0 (fun v4 => jal 0 S2 v4 x1 (fun v5 => wp_X0_line_22 S2 v5 K)))))
abbrev d_X0_lose : Nat := 3
def wp_X0_lose (S : jS) (x0 : Nat) (x1 : Int32) (K : jS → Int32 → Prop) : Prop :=
  wp_X0_isSheet S x1 (fun S1 r2 => ((r2 = 0) → K S1 (-2)) ∧ ((¬ (r2 = 0)) → jgr [0] 23 S1 x0 (fun v3 => jarn 9 S1 v3 x1 (fun v4 => jgo [6] 0 S1 v4 (fun v5 => (v5 = none → jis 0 S1 x0 ∧ wp_X0_met S1 x0 1 (fun S6 r7 => K S6 r7)) ∧ (∀ a8 : Nat, v5 = some a8 → jgr [0] 23 S1 x0 (fun v9 => jarn 9 S1 v9 x1 (fun v10 => jis 6 S1 v10 ∧ wp_X4_size S1 v10 (fun S11 r12 => jgr [0] 23 S11 x0 (fun v13 => jarn 9 S11 v13 x1 (fun v14 => jpr [6] 0 S11 v14 none (fun S15 => K S15 r12))))))))))))
abbrev d_X0_never : Nat := 16
def wp_X0_never (S : jS) (x0 : Nat) (K : jS → Int32 → Prop) : Prop :=
  jis 0 S x0 ∧ wp_X0_neverNow S x0 (fun S1 r2 => K S1 r2)
abbrev d_X0_piece : Nat := 12
def wp_X0_piece_43 (S : jS) (t0 : Int32) (K : jS → Int32 → Prop) : Prop :=
  K S t0
def wp_X0_piece_41 (S : jS) (K : jS → Int32 → Prop) : Prop :=
  wp_X0_piece_43 S (-2) K
def wp_X0_piece (S : jS) (x0 : Nat) (x1 : Int32) (x2 : Int32) (K : jS → Int32 → Prop) : Prop :=
  jis 0 S x0 ∧ wp_X0_isPiece S x0 x1 (fun S1 r2 => ((r2 = 0) → wp_X0_piece_41 S1 K) ∧ ((¬ (r2 = 0)) → wp_X0_in S1 ((x2 : Int32).toInt64) 0 2 (fun S3 r4 => ((r4 = 0) → wp_X0_piece_41 S3 K) ∧ ((¬ (r4 = 0)) → jgr [0] 1 S3 x0 (fun v5 => jgr [1] 5 S3 v5 (fun v6 => jis 3 S3 v6 ∧ wp_J2_get S3 v6 x1 (fun S7 r8 => jco [5] S7 r8 ∧ (jis 5 S7 r8 ∧ wp_X8_by S7 r8 x2 (fun S9 r10 => wp_X0_piece_43 S9 r10 K)))))))))
abbrev d_X0_put : Nat := 172
def wp_X0_put_19 (S : jS) (K : jS → Int32 → Prop) : Prop :=
  K S (-2)
def wp_X0_put_55 (S : jS) (t0 : Nat) (x0 : Nat) (K : jS → Int32 → Prop) : Prop :=
  jis 0 S x0 ∧ wp_X0_met S x0 3 (fun S1 r2 => K S1 r2)
def wp_X0_put_63 (S : jS) (t0 : Nat) (x0 : Nat) (K : jS → Int32 → Prop) : Prop :=
  jis 0 S x0 ∧ wp_X0_met S x0 2 (fun S1 r2 => K S1 r2)
def wp_X0_put (S : jS) (x0 : Nat) (x1 : Int32) (x2 : Int32) (x3 : Int32) (x4 : Int32) (K : jS → Int32 → Prop) : Prop :=
  wp_X0_isSheet S x1 (fun S1 r2 => ((r2 = 0) → wp_X0_put_19 S1 K) ∧ ((¬ (r2 = 0)) → wp_X0_in S1 ((x2 : Int32).toInt64) 0 2 (fun S3 r4 => ((r4 = 0) → wp_X0_put_19 S3 K) ∧ ((¬ (r4 = 0)) → jgr [0] 23 S3 x0 (fun v5 => jarn 9 S3 v5 x1 (fun v6 => jgo [6] 0 S3 v6 (fun v7 => (v7 = none → jis 0 S3 x0 ∧ wp_X0_met S3 x0 1 (fun S8 r9 => K S8 r9)) ∧ (∀ a10 : Nat, v7 = some a10 → jgr [0] 23 S3 x0 (fun v11 => jarn 9 S3 v11 x1 (fun v12 => jis 6 S3 v12 ∧ wp_X4_lay S3 v12 x2 x3 x4 (fun S13 _ => K S13 1) (fun S14 e15 q16 => (e15 = 1 ∧ wp_X0_put_55 S14 q16 x0 K) ∨ (e15 = 2 ∧ wp_X0_put_63 S14 q16 x0 K))))))))))))
abbrev d_X0_read : Nat := 172
def wp_X0_read_94 (S : jS) (x3 : Int32) (K : jS → Int32 → Prop) : Prop :=
  K S x3
def wp_X0_read_41 (S : jS) (t0 : Int32) (t1 : Int32) (x0 : Nat) (x2 : Nat) (x3 : Int32) (Kc32 : jS × Int32 → Prop) (K : jS → Int32 → Prop) : Prop :=
  ((t1 < t0) → wp_X0_read_94 S x3 K) ∧ ((¬ (t1 < t0)) → jis 6 S x2 ∧ wp_X4_type S x2 (fun S1 r2 => jis 6 S1 x2 ∧ wp_X4_item S1 x2 r2 (3 * x3) (fun S3 r4 => jis 6 S3 x2 ∧ wp_X4_type S3 x2 (fun S5 r6 => jis 6 S5 x2 ∧ wp_X4_item S5 x2 r6 ((3 * x3) + 1) (fun S7 r8 => jis 6 S7 x2 ∧ wp_X4_type S7 x2 (fun S9 r10 => jis 6 S9 x2 ∧ wp_X4_item S9 x2 r10 ((3 * x3) + 2) (fun S11 r12 => jis 0 S11 x0 ∧ wp_X0_event S11 x0 r4 r8 r12 (fun S13 r14 => ((r14 < 0) → wp_X0_read_94 S13 x3 K) ∧ ((¬ (r14 < 0)) → Kc32 (S13, (x3 + 1))))) (fun _ _ _ => False))) (fun _ _ _ => False))) (fun _ _ _ => False)))
def wp_X0_read_32 (S : jS) (x0 : Nat) (x2 : Nat) (x3 : Int32) (Kc32 : jS × Int32 → Prop) (K : jS → Int32 → Prop) : Prop :=
  jis 6 S x2 ∧ wp_X4_size S x2 (fun S1 r2 => wp_X0_read_41 S1 ((3 * x3) + 3) r2 x0 x2 x3 Kc32 K)
def wp_X0_read_32_L (x0 : Nat) (x2 : Nat) (K : jS → Int32 → Prop) : (jS × Int32) → ((jS × Int32) → Prop) → Prop := fun z Kc32 => wp_X0_read_32 z.1 x0 x2 z.2 Kc32 K
def wp_X0_read (S : jS) (x0 : Nat) (x1 : Int32) (K : jS → Int32 → Prop) : Prop :=
  wp_X0_isSheet S x1 (fun S1 r2 => ((r2 = 0) → K S1 (-2)) ∧ ((¬ (r2 = 0)) → jgr [0] 23 S1 x0 (fun v3 => jarn 9 S1 v3 x1 (fun v4 => jgo [6] 0 S1 v4 (fun v5 => (v5 = none → jis 0 S1 x0 ∧ wp_X0_met S1 x0 1 (fun S6 r7 => K S6 r7)) ∧ (∀ a8 : Nat, v5 = some a8 → ∃ n : Nat, jlp n (wp_X0_read_32_L x0 v4 K) (S1, 0)))))))
abbrev d_X0_seen : Nat := 6
def wp_X0_seen_14 (S : jS) (K : jS → Int32 → Prop) : Prop :=
  K S (-2)
def wp_X0_seen (S : jS) (x0 : Nat) (x1 : Int32) (x2 : Int32) (K : jS → Int32 → Prop) : Prop :=
  wp_X0_isMinute S x1 (fun S1 r2 => ((r2 = 0) → wp_X0_seen_14 S1 K) ∧ ((¬ (r2 = 0)) → wp_X0_isTwo S1 x2 (fun S3 r4 => ((r4 = 0) → wp_X0_seen_14 S3 K) ∧ ((¬ (r4 = 0)) → jgr [0] 18 S3 x0 (fun v5 => jis 3 S3 v5 ∧ wp_J2_size S3 v5 (fun S6 r7 => ((r7 = 8) → K S6 (-4)) ∧ ((¬ (r7 = 8)) → jgr [0] 18 S6 x0 (fun v8 => jnewa 0 S6 2 (fun S9 a10 => jas 0 S9 a10 0 x1 (fun S11 => jas 0 S11 a10 1 x2 (fun S12 => jis 3 S12 v8 ∧ wp_J2_add S12 v8 a10 (fun S13 r14 => jgr [0] 18 S13 x0 (fun v15 => jis 3 S13 v15 ∧ wp_J2_size S13 v15 (fun S16 r17 => K S16 r17))))))))))))))
abbrev d_X0_set : Nat := 3
def wp_X0_set_29 (S : jS) (K : jS → Int32 → Prop) : Prop :=
  K S (-2)
def wp_X0_set_23 (S : jS) (t0 : Int64) (t1 : Int64) (t2 : Int64) (x0 : Nat) (x1 : Int32) (x2 : Int32) (K : jS → Int32 → Prop) : Prop :=
  wp_X0_in S t0 t1 t2 (fun S1 r2 => ((r2 = 0) → wp_X0_set_29 S1 K) ∧ ((¬ (r2 = 0)) → jgr [0] 5 S1 x0 (fun v3 => jal 0 S1 v3 x1 (fun v4 => jgr [0] 5 S1 x0 (fun v5 => jas 0 S1 v5 x1 x2 (fun S6 => K S6 v4))))))
def wp_X0_set (S : jS) (x0 : Nat) (x1 : Int32) (x2 : Int32) (K : jS → Int32 → Prop) : Prop :=
  wp_X0_isTwo S x1 (fun S1 r2 => ((r2 = 0) → wp_X0_set_29 S1 K) ∧ ((¬ (r2 = 0)) → ((x1 = 0) → wp_X0_set_23 S1 ((x2 : Int32).toInt64) 0 30 x0 x1 x2 K) ∧ ((¬ (x1 = 0)) → wp_X0_set_23 S1 ((x2 : Int32).toInt64) 0 40 x0 x1 x2 K)))
abbrev d_X0_sheet : Nat := 172
def wp_X0_sheet_25 (S : jS) (K : jS → Int32 → Prop) : Prop :=
  K S (-2)
def wp_X0_sheet_44 (S : jS) (t0 : Nat) (x0 : Nat) (K : jS → Int32 → Prop) : Prop :=
  jis 0 S x0 ∧ wp_X0_met S x0 5 (fun S1 r2 => K S1 r2)
def wp_X0_sheet (S : jS) (x0 : Nat) (x1 : Int32) (x2 : Int32) (x3 : Int32) (K : jS → Int32 → Prop) : Prop :=
  wp_X0_isSheet S x1 (fun S1 r2 => ((r2 = 0) → wp_X0_sheet_25 S1 K) ∧ ((¬ (r2 = 0)) → wp_X0_in S1 ((x2 : Int32).toInt64) 0 2 (fun S3 r4 => ((r4 = 0) → wp_X0_sheet_25 S3 K) ∧ ((¬ (r4 = 0)) → ((x3 ≤ 60) → jgr [0] 23 S3 x0 (fun v5 => jarn 9 S3 v5 x1 (fun v6 => wp_X0_rowOf S3 x2 x3 (fun S7 r8 => jpr [6] 0 S7 v6 (some r8) (fun S9 => K S9 x3)) (fun S10 e11 q12 => (e11 = 3 ∧ wp_X0_sheet_44 S10 q12 x0 K))))) ∧ ((¬ (x3 ≤ 60)) → wp_X0_sheet_25 S3 K)))))
abbrev d_X0_spare : Nat := 16
def wp_X0_spare_22 (S : jS) (t0 : Int32) (K : jS → Int32 → Prop) : Prop :=
  K S t0
def wp_X0_spare (S : jS) (x0 : Nat) (x1 : Int32) (K : jS → Int32 → Prop) : Prop :=
  wp_X0_in S ((x1 : Int32).toInt64) (-1) 1 (fun S1 r2 => ((r2 = 0) → wp_X0_spare_22 S1 (-2) K) ∧ ((¬ (r2 = 0)) → jis 0 S1 x0 ∧ wp_X0_spareBy S1 x0 x1 (fun S3 r4 => wp_X0_spare_22 S3 r4 K)))
abbrev d_X0_sum : Nat := 14
def wp_X0_sum_26 (S : jS) (t0 : Int32) (K : jS → Int32 → Prop) : Prop :=
  K S t0
def wp_X0_sum (S : jS) (x0 : Nat) (x1 : Int32) (K : jS → Int32 → Prop) : Prop :=
  jis 0 S x0 ∧ wp_X0_find S x0 (fun S1 _ => wp_X0_in S1 ((x1 : Int32).toInt64) 0 4 (fun S2 r3 => ((r3 = 0) → wp_X0_sum_26 S2 (-2) K) ∧ ((¬ (r3 = 0)) → jis 0 S2 x0 ∧ wp_X0_sumBy S2 x0 x1 (fun S4 r5 => wp_X0_sum_26 S4 r5 K))))
abbrev d_X0_thirst : Nat := 14
def wp_X0_thirst (S : jS) (x0 : Nat) (K : jS → Int32 → Prop) : Prop :=
  jis 0 S x0 ∧ wp_X0_find S x0 (fun S1 _ => jis 0 S1 x0 ∧ wp_X0_thirstNow S1 x0 (fun S2 r3 => K S2 r3))
def wpD_Text_type_1_2 (S : jS) (a : Nat) (x0 : Int32) (K : jS → Int32 → Prop) : Prop := (jis 1 S a ∧ wp_X1_type S a x0 K) ∨ (jis 2 S a ∧ wp_X1_type S a x0 K)
abbrev d_D_Text_type_1_2 : Nat := 1
abbrev d_X0_type : Nat := 3
def wp_X0_type_34 (S : jS) (t0 : Int32) (K : jS → Int32 → Prop) : Prop :=
  K S t0
def wp_X0_type_32 (S : jS) (K : jS → Int32 → Prop) : Prop :=
  wp_X0_type_34 S (-2) K
def wp_X0_type (S : jS) (x0 : Nat) (x1 : Int32) (x2 : Int32) (K : jS → Int32 → Prop) : Prop :=
  wp_X0_isTwo S x1 (fun S1 r2 => ((r2 = 0) → wp_X0_type_32 S1 K) ∧ ((¬ (r2 = 0)) → wp_X0_in S1 ((x2 : Int32).toInt64) 0 255 (fun S3 r4 => ((r4 = 0) → wp_X0_type_32 S3 K) ∧ ((¬ (r4 = 0)) → jgr [0] 3 S3 x0 (fun v5 => jarn 5 S3 v5 x1 (fun v6 => wpD_Text_type_1_2 S3 v6 x2 (fun S7 r8 => wp_X0_type_34 S7 r8 K)))))))
def wpD_Text_undo_1_2 (S : jS) (a : Nat)  (K : jS → Int32 → Prop) : Prop := (jis 1 S a ∧ wp_X1_undo S a  K) ∨ (jis 2 S a ∧ wp_X1_undo S a  K)
abbrev d_D_Text_undo_1_2 : Nat := 1
abbrev d_X0_undo : Nat := 3
def wp_X0_undo_21 (S : jS) (t0 : Int32) (K : jS → Int32 → Prop) : Prop :=
  K S t0
def wp_X0_undo (S : jS) (x0 : Nat) (x1 : Int32) (K : jS → Int32 → Prop) : Prop :=
  wp_X0_isTwo S x1 (fun S1 r2 => ((r2 = 0) → wp_X0_undo_21 S1 (-2) K) ∧ ((¬ (r2 = 0)) → jgr [0] 3 S1 x0 (fun v3 => jarn 5 S1 v3 x1 (fun v4 => wpD_Text_undo_1_2 S1 v4 (fun S5 r6 => wp_X0_undo_21 S5 r6 K)))))
abbrev d_X0_waited : Nat := 14
def wp_X0_waited_31 (S : jS) (t0 : Int32) (K : jS → Int32 → Prop) : Prop :=
  K S t0
def wp_X0_waited (S : jS) (x0 : Nat) (x1 : Int32) (K : jS → Int32 → Prop) : Prop :=
  jis 0 S x0 ∧ wp_X0_find S x0 (fun S1 _ => jis 0 S1 x0 ∧ wp_X0_isGuest S1 x0 x1 (fun S2 r3 => ((r3 = 0) → wp_X0_waited_31 S2 (-2) K) ∧ ((¬ (r3 = 0)) → jgr [0] 4 S2 x0 (fun v4 => jis 3 S2 v4 ∧ wp_J2_get S2 v4 x1 (fun S5 r6 => jco [4] S5 r6 ∧ (jgi [4] 7 S5 r6 (fun v7 => wp_X0_waited_31 S5 v7 K)))))))
abbrev d_X0_waters : Nat := 16
def wp_X0_waters (S : jS) (x0 : Nat) (K : jS → Int32 → Prop) : Prop :=
  jis 0 S x0 ∧ wp_X0_watersNow S x0 (fun S1 r2 => K S1 r2)
def wpD_Text_wipe_1_2 (S : jS) (a : Nat)  (K : jS → Int32 → Prop) : Prop := (jis 1 S a ∧ wp_X1_wipe S a  K) ∨ (jis 2 S a ∧ wp_X1_wipe S a  K)
abbrev d_D_Text_wipe_1_2 : Nat := 1
abbrev d_X0_wipe : Nat := 3
def wp_X0_wipe_21 (S : jS) (t0 : Int32) (K : jS → Int32 → Prop) : Prop :=
  K S t0
def wp_X0_wipe (S : jS) (x0 : Nat) (x1 : Int32) (K : jS → Int32 → Prop) : Prop :=
  wp_X0_isTwo S x1 (fun S1 r2 => ((r2 = 0) → wp_X0_wipe_21 S1 (-2) K) ∧ ((¬ (r2 = 0)) → jgr [0] 3 S1 x0 (fun v3 => jarn 5 S1 v3 x1 (fun v4 => wpD_Text_wipe_1_2 S1 v4 (fun S5 r6 => wp_X0_wipe_21 S5 r6 K)))))
abbrev d_X0_write : Nat := 172
def wp_X0_write_19 (S : jS) (K : jS → Int32 → Prop) : Prop :=
  K S (-2)
def wp_X0_write_83 (S : jS) (t0 : Nat) (t1 : Int32) (t2 : Int32) (t3 : Int32) (x0 : Nat) (x1 : Int32) (x3 : Nat) (x4 : Int32) (x5 : Int32) (Kc60 : jS × Int32 → Prop) (K : jS → Int32 → Prop) : Prop :=
  jis 6 S t0 ∧ wp_X4_lay S t0 t1 t2 t3 (fun S1 _ => Kc60 (S1, (x5 + 1))) (fun _ _ _ => False)
def wp_X0_write_60 (S : jS) (x0 : Nat) (x1 : Int32) (x3 : Nat) (x4 : Int32) (x5 : Int32) (Kc60 : jS × Int32 → Prop) (K : jS → Int32 → Prop) : Prop :=
  ((x4 ≤ x5) → K S x4) ∧ ((¬ (x4 ≤ x5)) → jis 6 S x3 ∧ wp_X4_type S x3 (fun S1 r2 => jgr [0] 14 S1 x0 (fun v3 => jarn 6 S1 v3 x5 (fun v4 => jal 0 S1 v4 x1 (fun v5 => wp_X0_write_83 S1 x3 r2 x5 v5 x0 x1 x3 x4 x5 Kc60 K)))))
def wp_X0_write_60_L (x0 : Nat) (x1 : Int32) (x3 : Nat) (x4 : Int32) (K : jS → Int32 → Prop) : (jS × Int32) → ((jS × Int32) → Prop) → Prop := fun z Kc60 => wp_X0_write_60 z.1 x0 x1 x3 x4 z.2 Kc60 K
def wp_X0_write (S : jS) (x0 : Nat) (x1 : Int32) (x2 : Int32) (K : jS → Int32 → Prop) : Prop :=
  wp_X0_in S ((x1 : Int32).toInt64) 0 2 (fun S1 r2 => ((r2 = 0) → wp_X0_write_19 S1 K) ∧ ((¬ (r2 = 0)) → wp_X0_isSheet S1 x2 (fun S3 r4 => ((r4 = 0) → wp_X0_write_19 S3 K) ∧ ((¬ (r4 = 0)) → jgr [0] 23 S3 x0 (fun v5 => jarn 9 S3 v5 x2 (fun v6 => jgo [6] 0 S3 v6 (fun v7 => (v7 = none → jis 0 S3 x0 ∧ wp_X0_met S3 x0 1 (fun S8 r9 => K S8 r9)) ∧ (∀ a10 : Nat, v7 = some a10 → jis 0 S3 x0 ∧ wp_X0_find S3 x0 (fun S11 _ => jis 6 S11 v6 ∧ wp_X4_size S11 v6 (fun S12 r13 => wp_J7_min S12 24 r13 (fun S14 r15 => ∃ n : Nat, jlp n (wp_X0_write_60_L x0 x1 v6 r15 K) (S14, 0))))))))))))
theorem wk_X0_isIn_14 {X : jX} {G : jG} {K : jS → Int32 → Prop} (C : jC (X, G, 2, jA X G tvi K) d_X0_isIn cX0_isIn "Samovar" (some .boolean) yX0_isIn) {S : jS} {t0 : Int32}  (h : wp_X0_isIn_14 S t0 K) : jJ (X, G, 2, jA X G tvi K) S [] 14 [.int t0] := by
  unfold wp_X0_isIn_14 at h
  exact jr_zreturn C dX0_isIn_14 h
theorem wk_X0_isIn_0 {X : jX} {G : jG} {K : jS → Int32 → Prop} (C : jC (X, G, 2, jA X G tvi K) d_X0_isIn cX0_isIn "Samovar" (some .boolean) yX0_isIn) {S : jS} {x0 : Int32} {x1 : Int32}  (h : wp_X0_isIn S x0 x1 K) : jJ (X, G, 2, jA X G tvi K) S [(0, .int x0), (1, .int x1)] 0 [] := by
  unfold wp_X0_isIn at h
  refine jr_iload_n C 1 rfl dX0_isIn_0 rfl 0 rfl ?_
  refine jr_iload_n C 2 rfl dX0_isIn_1 rfl 1 rfl ?_
  refine jr_ishr C 3 rfl dX0_isIn_2 ?_
  refine jr_iconst (v := 1) C 4 rfl dX0_isIn_3 (by decide) ?_
  refine jr_iand C 5 rfl dX0_isIn_4 ?_
  refine jr_iconst (v := 1) C 6 rfl dX0_isIn_5 (by decide) ?_
  refine jr_icmp_ne C 13 9 rfl dX0_isIn_6 (by decide) (fun c1 => ?_) (fun c1 => ?_)
  · have h := h.1 c1
    refine jr_iconst (v := 1) C 10 rfl dX0_isIn_9 (by decide) ?_
    refine jr_goto C 14 dX0_isIn_10 (by decide) ?_
    exact jr_sub [] rfl (wk_X0_isIn_14 C  h)
  · have h := h.2 c1
    refine jr_iconst (v := 0) C 14 rfl dX0_isIn_13 (by decide) ?_
    exact jr_sub [] rfl (wk_X0_isIn_14 C  h)
theorem m_X0_isIn {l : Launch} (hl : l.stackTraces = false) {G : jG} {K : jS → Int32 → Prop} {S : jS} {x0 : Int32} {x1 : Int32} (h : wp_X0_isIn S x0 x1 K) : jMet l G d_X0_isIn yX0_isIn (ws_ yX0_isIn cX0_isIn 2 (some .boolean)) [.int x0, .int x1] S tvi K :=
  jMet.of hl rfl (by decide) (Nat.le_of_ble_eq_true rfl) (fun X C => jr_sub [0, 1] rfl (wk_X0_isIn_0 C h))
theorem wk_X0_alike_62 {X : jX} {G : jG} {K : jS → Int32 → Prop} (C : jC (X, G, 6, jA X G tvi K) d_X0_alike cX0_alike "Samovar" (some .int) yX0_alike) {S : jS} {t0 : Int32} {t1 : Int32} {x0 : Nat} {x1 : Int32} {x2 : Int32} {x3 : Int32} {x5 : Int32} {Kc8 : jS × Int32 × Int32 × Int32 → Prop} (hc8 : ∀ z : jS × Int32 × Int32 × Int32, Kc8 z → jJ (X, G, 6, jA X G tvi K) z.1 [(0, .ref x0), (1, .int x1), (2, .int x2), (3, .int z.2.1), (4, .int z.2.2.1), (5, .int z.2.2.2)] 8 []) (h : wp_X0_alike_62 S t0 t1 x0 x1 x2 x3 x5 Kc8 K) : jJ (X, G, 6, jA X G tvi K) S [(0, .ref x0), (1, .int x1), (2, .int x2), (3, .int x3), (5, .int x5)] 62 [.int t1, .int t0] := by
  unfold wp_X0_alike_62 at h
  refine jr_iadd C 63 rfl dX0_alike_62 ?_
  refine jr_istore (lv' := [(4, .int (t0 + t1)), (0, .ref x0), (1, .int x1), (2, .int x2), (3, .int x3), (5, .int x5)]) C 65 rfl dX0_alike_63 (Nat.le_of_ble_eq_true rfl) rfl ?_
  refine jr_iinc (v := (x5 + 1)) (lv' := [(5, .int (x5 + 1)), (4, .int (t0 + t1)), (0, .ref x0), (1, .int x1), (2, .int x2), (3, .int x3)]) C 68 rfl dX0_alike_65 5 rfl rfl (Nat.le_of_ble_eq_true rfl) rfl ?_
  refine jr_goto C 8 dX0_alike_68 (by decide) ?_
  exact jr_sub [2, 3, 4, 5, 1, 0] rfl (hc8 _ h)
theorem wk_X0_alike_44 {X : jX} {G : jG} {K : jS → Int32 → Prop} (C : jC (X, G, 6, jA X G tvi K) d_X0_alike cX0_alike "Samovar" (some .int) yX0_alike) {S : jS} {t0 : Int32} {t1 : Int32} {x0 : Nat} {x1 : Int32} {x2 : Int32} {x4 : Int32} {x5 : Int32} {Kc8 : jS × Int32 × Int32 × Int32 → Prop} (hc8 : ∀ z : jS × Int32 × Int32 × Int32, Kc8 z → jJ (X, G, 6, jA X G tvi K) z.1 [(0, .ref x0), (1, .int x1), (2, .int x2), (3, .int z.2.1), (4, .int z.2.2.1), (5, .int z.2.2.2)] 8 []) (h : wp_X0_alike_44 S t0 t1 x0 x1 x2 x4 x5 Kc8 K) : jJ (X, G, 6, jA X G tvi K) S [(0, .ref x0), (1, .int x1), (2, .int x2), (4, .int x4), (5, .int x5)] 44 [.int t1, .int t0] := by
  unfold wp_X0_alike_44 at h
  refine jr_iadd C 45 rfl dX0_alike_44 ?_
  refine jr_istore_n (lv' := [(3, .int (t0 + t1)), (0, .ref x0), (1, .int x1), (2, .int x2), (4, .int x4), (5, .int x5)]) C 46 rfl dX0_alike_45 rfl (Nat.le_of_ble_eq_true rfl) rfl ?_
  refine jr_iload C 48 rfl dX0_alike_46 4 rfl ?_
  refine jr_iload_n C 49 rfl dX0_alike_48 rfl 2 rfl ?_
  refine jr_iload C 51 rfl dX0_alike_49 5 rfl ?_
  refine jr_callSi (As := [.int x1, .int x5]) (st := [.int x4]) C 54 rfl (m_X0_isIn C.2.2.2.2.2.2.2.2.2.2.2.2.2.2.2 h) rfl q849 q850 q94 q851 (by decide) (by decide) nd_X0_isIn (Nat.le_of_ble_eq_true rfl) dX0_alike_51 (fun S1 r2 h => ?_)
  refine jr_if_eq C 61 57 rfl dX0_alike_54 (by decide) (fun c3 => ?_) (fun c3 => ?_)
  · have h := h.1 c3
    refine jr_iconst (v := 0) C 62 rfl dX0_alike_61 (by decide) ?_
    exact jr_sub [1, 2, 3, 0, 5] rfl (wk_X0_alike_62 C hc8 h)
  · have h := h.2 c3
    refine jr_iconst (v := 1) C 58 rfl dX0_alike_57 (by decide) ?_
    refine jr_goto C 62 dX0_alike_58 (by decide) ?_
    exact jr_sub [1, 2, 3, 0, 5] rfl (wk_X0_alike_62 C hc8 h)
theorem wk_X0_alike_43 {X : jX} {G : jG} {K : jS → Int32 → Prop} (C : jC (X, G, 6, jA X G tvi K) d_X0_alike cX0_alike "Samovar" (some .int) yX0_alike) {S : jS} {t0 : Int32} {x0 : Nat} {x1 : Int32} {x2 : Int32} {x4 : Int32} {x5 : Int32} {Kc8 : jS × Int32 × Int32 × Int32 → Prop} (hc8 : ∀ z : jS × Int32 × Int32 × Int32, Kc8 z → jJ (X, G, 6, jA X G tvi K) z.1 [(0, .ref x0), (1, .int x1), (2, .int x2), (3, .int z.2.1), (4, .int z.2.2.1), (5, .int z.2.2.2)] 8 []) (h : wp_X0_alike_43 S t0 x0 x1 x2 x4 x5 Kc8 K) : jJ (X, G, 6, jA X G tvi K) S [(0, .ref x0), (1, .int x1), (2, .int x2), (4, .int x4), (5, .int x5)] 43 [.int t0] := by
  unfold wp_X0_alike_43 at h
  refine jr_iconst (v := 0) C 44 rfl dX0_alike_43 (by decide) ?_
  exact (wk_X0_alike_44 C hc8 h)
theorem wk_X0_alike_8 {X : jX} {G : jG} {K : jS → Int32 → Prop} (C : jC (X, G, 6, jA X G tvi K) d_X0_alike cX0_alike "Samovar" (some .int) yX0_alike) {S : jS} {x0 : Nat} {x1 : Int32} {x2 : Int32} {x3 : Int32} {x4 : Int32} {x5 : Int32} {Kc8 : jS × Int32 × Int32 × Int32 → Prop} (hc8 : ∀ z : jS × Int32 × Int32 × Int32, Kc8 z → jJ (X, G, 6, jA X G tvi K) z.1 [(0, .ref x0), (1, .int x1), (2, .int x2), (3, .int z.2.1), (4, .int z.2.2.1), (5, .int z.2.2.2)] 8 []) (h : wp_X0_alike_8 S x0 x1 x2 x3 x4 x5 Kc8 K) : jJ (X, G, 6, jA X G tvi K) S [(0, .ref x0), (1, .int x1), (2, .int x2), (3, .int x3), (4, .int x4), (5, .int x5)] 8 [] := by
  unfold wp_X0_alike_8 at h
  refine jr_iload C 10 rfl dX0_alike_8 5 rfl ?_
  refine jr_bipush (v := 30) C 12 rfl dX0_alike_10 (by decide) ?_
  refine jr_icmp_gt C 71 15 rfl dX0_alike_12 (by decide) (fun c11 => ?_) (fun c11 => ?_)
  · have h := h.1 c11
    refine jr_iload_n C 72 rfl dX0_alike_71 rfl 3 rfl ?_
    refine jr_iload C 74 rfl dX0_alike_72 4 rfl ?_
    refine jr_iload_n C 75 rfl dX0_alike_74 rfl 3 rfl ?_
    refine jr_isub C 76 rfl dX0_alike_75 ?_
    refine jr_callSi (As := [.int x3, .int (x4 - x3)]) (st := []) C 79 rfl (m_J7_max C.2.2.2.2.2.2.2.2.2.2.2.2.2.2.2 h) rfl q853 q486 q108 q487 (by decide) (by decide) nd_J7_max (Nat.le_of_ble_eq_true rfl) dX0_alike_76 (fun S1 r2 h => ?_)
    exact jr_ireturn C dX0_alike_79 h
  · have h := h.2 c11
    refine jr_iload_n C 16 rfl dX0_alike_15 rfl 3 rfl ?_
    refine jr_iload_n C 17 rfl dX0_alike_16 rfl 1 rfl ?_
    refine jr_iload C 19 rfl dX0_alike_17 5 rfl ?_
    refine jr_callSi (As := [.int x1, .int x5]) (st := [.int x3]) C 22 rfl (m_X0_isIn C.2.2.2.2.2.2.2.2.2.2.2.2.2.2.2 h) rfl q849 q850 q94 q851 (by decide) (by decide) nd_X0_isIn (Nat.le_of_ble_eq_true rfl) dX0_alike_19 (fun S3 r4 h => ?_)
    refine jr_if_eq C 43 25 rfl dX0_alike_22 (by decide) (fun c10 => ?_) (fun c10 => ?_)
    · have h := h.1 c10
      exact jr_sub [0, 1, 2, 4, 5] rfl (wk_X0_alike_43 C hc8 h)
    · have h := h.2 c10
      refine jr_aload_n C 26 rfl dX0_alike_25 rfl 0 rfl ?_
      refine jr_getr C 29 rfl fo_0_19 q247 dX0_alike_26 h (fun v5 h => ?_)
      refine jr_iload C 31 rfl dX0_alike_29 5 rfl ?_
      refine jr_iald C 32 rfl dX0_alike_31 h (fun v6 h => ?_)
      refine jr_iload_n C 33 rfl dX0_alike_32 rfl 2 rfl ?_
      refine jr_callSi (As := [.int v6, .int x2]) (st := [.int x3]) C 36 rfl (m_X0_isIn C.2.2.2.2.2.2.2.2.2.2.2.2.2.2.2 h) rfl q849 q850 q94 q851 (by decide) (by decide) nd_X0_isIn (Nat.le_of_ble_eq_true rfl) dX0_alike_33 (fun S7 r8 h => ?_)
      refine jr_if_eq C 43 39 rfl dX0_alike_36 (by decide) (fun c9 => ?_) (fun c9 => ?_)
      · have h := h.1 c9
        exact jr_sub [0, 1, 2, 4, 5] rfl (wk_X0_alike_43 C hc8 h)
      · have h := h.2 c9
        refine jr_iconst (v := 1) C 40 rfl dX0_alike_39 (by decide) ?_
        refine jr_goto C 44 dX0_alike_40 (by decide) ?_
        exact jr_sub [0, 1, 2, 4, 5] rfl (wk_X0_alike_44 C hc8 h)
theorem wk_X0_alike_8_L {X : jX} {G : jG} {K : jS → Int32 → Prop} (C : jC (X, G, 6, jA X G tvi K) d_X0_alike cX0_alike "Samovar" (some .int) yX0_alike) {x0 : Nat} {x1 : Int32} {x2 : Int32}  : ∀ (n : Nat) (z : jS × Int32 × Int32 × Int32), jlp n (wp_X0_alike_8_L x0 x1 x2 K) z → jJ (X, G, 6, jA X G tvi K) z.1 [(0, .ref x0), (1, .int x1), (2, .int x2), (3, .int z.2.1), (4, .int z.2.2.1), (5, .int z.2.2.2)] 8 [] := by
  intro n
  induction n with
  | zero => intro z h; exact h.elim
  | succ n ih => intro z h; exact wk_X0_alike_8 C ih h
theorem wk_X0_alike_0 {X : jX} {G : jG} {K : jS → Int32 → Prop} (C : jC (X, G, 6, jA X G tvi K) d_X0_alike cX0_alike "Samovar" (some .int) yX0_alike) {S : jS} {x0 : Nat} {x1 : Int32} {x2 : Int32}  (h : wp_X0_alike S x0 x1 x2 K) : jJ (X, G, 6, jA X G tvi K) S [(0, .ref x0), (1, .int x1), (2, .int x2)] 0 [] := by
  unfold wp_X0_alike at h
  refine jr_iconst (v := 0) C 1 rfl dX0_alike_0 (by decide) ?_
  refine jr_istore_n (lv' := [(3, .int 0), (0, .ref x0), (1, .int x1), (2, .int x2)]) C 2 rfl dX0_alike_1 rfl (Nat.le_of_ble_eq_true rfl) rfl ?_
  refine jr_iconst (v := 0) C 3 rfl dX0_alike_2 (by decide) ?_
  refine jr_istore (lv' := [(4, .int 0), (3, .int 0), (0, .ref x0), (1, .int x1), (2, .int x2)]) C 5 rfl dX0_alike_3 (Nat.le_of_ble_eq_true rfl) rfl ?_
  refine jr_iconst (v := 0) C 6 rfl dX0_alike_5 (by decide) ?_
  refine jr_istore (lv' := [(5, .int 0), (4, .int 0), (3, .int 0), (0, .ref x0), (1, .int x1), (2, .int x2)]) C 8 rfl dX0_alike_6 (Nat.le_of_ble_eq_true rfl) rfl ?_
  obtain ⟨n, h⟩ := h
  exact jr_sub [3, 4, 5, 2, 1, 0] rfl (wk_X0_alike_8_L C  n _ h)
theorem m_X0_alike {l : Launch} (hl : l.stackTraces = false) {G : jG} {K : jS → Int32 → Prop} {S : jS} {x0 : Nat} {x1 : Int32} {x2 : Int32} (h : wp_X0_alike S x0 x1 x2 K) : jMet l G d_X0_alike yX0_alike (ws_ yX0_alike cX0_alike 6 (some .int)) [.ref x0, .int x1, .int x2] S tvi K :=
  jMet.of hl rfl (by decide) (Nat.le_of_ble_eq_true rfl) (fun X C => jr_sub [0, 1, 2] rfl (wk_X0_alike_0 C h))
theorem ndD_Woodpile_read_1 : ("Samovar$Text" : String) ≠ "java/lang/invoke/MethodHandle" ∧ ("Samovar$Text" : String) ≠ "java/lang/invoke/VarHandle" ∧ (parseMethodDescriptor "()I").map (fun d => d.parameters.length) = some 0 := by decide +kernel
theorem dr_Woodpile_read_1 {Z : jZ} {d : Nat} {cc : ByteArray} {own : String} {ret : Option FieldType} {y : MethodName} {pc : Nat} {S : jS} {lv : List (Nat × Value)} {st As : List Value} (C : jC Z d cc own ret y) (pc' : Nat) (hp : pc + 3 = pc') {a : Nat}  {K : jS → Int32 → Prop} {stk : List Value} (h : wpD_Woodpile_read_1 S a  K) (hstk : [].reverse ++ .ref a :: st = stk) {index : Nat} (q1 : Cond.methodLink own index (⟨"Samovar$Woodpile", "read", "()I"⟩ : MethodName) ∈ lw_all) (hd : d_D_Woodpile_read_1 + 1 ≤ d) (hst : (st.map fun v => v.category).sum ≤ 8) (hdg : decode cc pc = .ok (.invokevirtual index, 3)) (kk : ∀ (S1 : jS) (r : Int32), K S1 r → jJ Z S1 lv pc' (.int r :: st)) : jJ Z S lv pc stk := by
  unfold wpD_Woodpile_read_1 at h
  obtain ⟨⟨V, hb⟩, h⟩ := h
  exact jr_callUi (As := []) (r0 := (RX2, TX2, 6)) (owner := "Samovar$Text") C pc' hp (m_X1_read C.2.2.2.2.2.2.2.2.2.2.2.2.2.2.2 h) hstk hb rfl (va_Decl.abs (C.2.2.2.2.2.2.2.1.2.2.2.1 _ (jx_g q698 rfl))) q1 q697 (C.2.2.2.2.1 _ q699) q343 q95 q347 (Nat.le_trans (Nat.le_of_ble_eq_true rfl) hd) (by decide) ndD_Woodpile_read_1 hst hdg kk
theorem wk_X0_pieces_0 {X : jX} {G : jG} {K : jS → Int32 → Prop} (C : jC (X, G, 1, jA X G tvi K) d_X0_pieces cX0_pieces "Samovar" (some .int) yX0_pieces) {S : jS} {x0 : Nat}  (h : wp_X0_pieces S x0 K) : jJ (X, G, 1, jA X G tvi K) S [(0, .ref x0)] 0 [] := by
  unfold wp_X0_pieces at h
  refine jr_aload_n C 1 rfl dX0_pieces_0 rfl 0 rfl ?_
  refine jr_getr C 4 rfl fo_0_1 q229 dX0_pieces_1 h (fun v1 h => ?_)
  refine dr_Woodpile_read_1 (As := []) (st := []) C 7 rfl h rfl q696 (by decide) (Nat.le_of_ble_eq_true rfl) dX0_pieces_4 (fun S2 r3 h => ?_)
  refine jr_pop C 8 rfl dX0_pieces_7 rfl ?_
  refine jr_aload_n C 9 rfl dX0_pieces_8 rfl 0 rfl ?_
  refine jr_getr C 12 rfl fo_0_1 q229 dX0_pieces_9 h (fun v4 h => ?_)
  refine jr_getr C 15 rfl fo_1_5 q168 dX0_pieces_12 h (fun v5 h => ?_)
  obtain ⟨⟨V, hb⟩, h⟩ := h
  refine jr_callVi (r0 := (RJ2, TJ2, 3)) (As := []) (st := []) C 18 rfl (m_J2_size C.2.2.2.2.2.2.2.2.2.2.2.2.2.2.2 h) rfl hb rfl q700 q378 q379 q99 q380 (by decide) (by decide) ndV_J2_size (Nat.le_of_ble_eq_true rfl) dX0_pieces_15 (fun S6 r7 h => ?_)
  exact jr_ireturn C dX0_pieces_18 h
theorem m_X0_pieces {l : Launch} (hl : l.stackTraces = false) {G : jG} {K : jS → Int32 → Prop} {S : jS} {x0 : Nat} (h : wp_X0_pieces S x0 K) : jMet l G d_X0_pieces yX0_pieces (ws_ yX0_pieces cX0_pieces 1 (some .int)) [.ref x0] S tvi K :=
  jMet.of hl rfl (by decide) (Nat.le_of_ble_eq_true rfl) (fun X C => jr_sub [0] rfl (wk_X0_pieces_0 C h))
theorem wk_X0_fire_27 {X : jX} {G : jG} {K : jS → Int32 → Prop} (C : jC (X, G, 4, jA X G tvi K) d_X0_fire cX0_fire "Samovar" (some .int) yX0_fire) {S : jS} {t0 : Int32} {t1 : Nat} {x0 : Nat} {x1 : Int32} {x3 : Int32} {Kc4 : jS × Int32 × Int32 → Prop} (hc4 : ∀ z : jS × Int32 × Int32, Kc4 z → jJ (X, G, 4, jA X G tvi K) z.1 [(0, .ref x0), (1, .int x1), (2, .int z.2.1), (3, .int z.2.2)] 4 []) (h : wp_X0_fire_27 S t0 t1 x0 x1 x3 Kc4 K) : jJ (X, G, 4, jA X G tvi K) S [(0, .ref x0), (1, .int x1), (3, .int x3)] 27 [.ref t1, .int t0] := by
  unfold wp_X0_fire_27 at h
  refine jr_iload_n C 28 rfl dX0_fire_27 rfl 1 rfl ?_
  obtain ⟨⟨V, hb⟩, h⟩ := h
  refine jr_callVi (r0 := (RX8, TX8, 3)) (As := [.int x1]) (st := [.int t0]) C 31 rfl (m_X8_fire C.2.2.2.2.2.2.2.2.2.2.2.2.2.2.2 h) rfl hb rfl q858 q859 q860 q116 q861 (by decide) (by decide) ndV_X8_fire (Nat.le_of_ble_eq_true rfl) dX0_fire_28 (fun S1 r2 h => ?_)
  refine jr_iadd C 32 rfl dX0_fire_31 ?_
  refine jr_istore_n (lv' := [(2, .int (t0 + r2)), (0, .ref x0), (1, .int x1), (3, .int x3)]) C 33 rfl dX0_fire_32 rfl (Nat.le_of_ble_eq_true rfl) rfl ?_
  refine jr_iinc (v := (x3 + 1)) (lv' := [(3, .int (x3 + 1)), (2, .int (t0 + r2)), (0, .ref x0), (1, .int x1)]) C 36 rfl dX0_fire_33 3 rfl rfl (Nat.le_of_ble_eq_true rfl) rfl ?_
  refine jr_goto C 4 dX0_fire_36 (by decide) ?_
  exact jr_sub [2, 3, 1, 0] rfl (hc4 _ h)
theorem wk_X0_fire_53 {X : jX} {G : jG} {K : jS → Int32 → Prop} (C : jC (X, G, 4, jA X G tvi K) d_X0_fire cX0_fire "Samovar" (some .int) yX0_fire) {S : jS} {t0 : Int32}  (h : wp_X0_fire_53 S t0 K) : jJ (X, G, 4, jA X G tvi K) S [] 53 [.int t0] := by
  unfold wp_X0_fire_53 at h
  exact jr_ireturn C dX0_fire_53 h
theorem wk_X0_fire_4 {X : jX} {G : jG} {K : jS → Int32 → Prop} (C : jC (X, G, 4, jA X G tvi K) d_X0_fire cX0_fire "Samovar" (some .int) yX0_fire) {S : jS} {x0 : Nat} {x1 : Int32} {x2 : Int32} {x3 : Int32} {Kc4 : jS × Int32 × Int32 → Prop} (hc4 : ∀ z : jS × Int32 × Int32, Kc4 z → jJ (X, G, 4, jA X G tvi K) z.1 [(0, .ref x0), (1, .int x1), (2, .int z.2.1), (3, .int z.2.2)] 4 []) (h : wp_X0_fire_4 S x0 x1 x2 x3 Kc4 K) : jJ (X, G, 4, jA X G tvi K) S [(0, .ref x0), (1, .int x1), (2, .int x2), (3, .int x3)] 4 [] := by
  unfold wp_X0_fire_4 at h
  refine jr_iload_n C 5 rfl dX0_fire_4 rfl 3 rfl ?_
  refine jr_aload_n C 6 rfl dX0_fire_5 rfl 0 rfl ?_
  obtain ⟨⟨V, hb⟩, h⟩ := h
  refine jr_callVi (r0 := (RX0, TX0, 24)) (As := []) (st := [.int x3]) C 9 rfl (m_X0_pieces C.2.2.2.2.2.2.2.2.2.2.2.2.2.2.2 h) rfl hb rfl q692 q694 qs5 q94 q695 (by decide) (by decide) ndV_X0_pieces (Nat.le_of_ble_eq_true rfl) dX0_fire_6 (fun S1 r2 h => ?_)
  refine jr_icmp_ge C 39 12 rfl dX0_fire_9 (by decide) (fun c9 => ?_) (fun c9 => ?_)
  · have h := h.1 c9
    refine jr_aload_n C 40 rfl dX0_fire_39 rfl 0 rfl ?_
    refine jr_geti C 43 rfl fo_0_12 q240 dX0_fire_40 h (fun v3 h => ?_)
    refine jr_if_eq C 52 46 rfl dX0_fire_43 (by decide) (fun c4 => ?_) (fun c4 => ?_)
    · have h := h.1 c4
      refine jr_iload_n C 53 rfl dX0_fire_52 rfl 2 rfl ?_
      exact jr_sub [] rfl (wk_X0_fire_53 C  h)
    · have h := h.2 c4
      refine jr_iconst (v := 2) C 47 rfl dX0_fire_46 (by decide) ?_
      refine jr_iload_n C 48 rfl dX0_fire_47 rfl 2 rfl ?_
      refine jr_imul C 49 rfl dX0_fire_48 ?_
      refine jr_goto C 53 dX0_fire_49 (by decide) ?_
      exact jr_sub [] rfl (wk_X0_fire_53 C  h)
  · have h := h.2 c9
    refine jr_iload_n C 13 rfl dX0_fire_12 rfl 2 rfl ?_
    refine jr_aload_n C 14 rfl dX0_fire_13 rfl 0 rfl ?_
    refine jr_getr C 17 rfl fo_0_1 q229 dX0_fire_14 h (fun v5 h => ?_)
    refine jr_getr C 20 rfl fo_1_5 q168 dX0_fire_17 h (fun v6 h => ?_)
    refine jr_iload_n C 21 rfl dX0_fire_20 rfl 3 rfl ?_
    obtain ⟨⟨V, hb⟩, h⟩ := h
    refine jr_callVr (r0 := (RJ2, TJ2, 3)) (As := [.int x3]) (st := [.int x2]) C 24 rfl (m_J2_get C.2.2.2.2.2.2.2.2.2.2.2.2.2.2.2 h) rfl hb rfl q702 q703 q704 q99 q705 (by decide) (by decide) ndV_J2_get (Nat.le_of_ble_eq_true rfl) dX0_fire_21 (fun S7 r8 h => ?_)
    obtain ⟨hz, h⟩ := h
    refine jr_cast C 27 rfl (cs := [5]) can_Samovar_Piece (by decide) q716 dX0_fire_24 hz ?_
    exact jr_sub [0, 1, 3] rfl (wk_X0_fire_27 C hc4 h)
theorem wk_X0_fire_4_L {X : jX} {G : jG} {K : jS → Int32 → Prop} (C : jC (X, G, 4, jA X G tvi K) d_X0_fire cX0_fire "Samovar" (some .int) yX0_fire) {x0 : Nat} {x1 : Int32}  : ∀ (n : Nat) (z : jS × Int32 × Int32), jlp n (wp_X0_fire_4_L x0 x1 K) z → jJ (X, G, 4, jA X G tvi K) z.1 [(0, .ref x0), (1, .int x1), (2, .int z.2.1), (3, .int z.2.2)] 4 [] := by
  intro n
  induction n with
  | zero => intro z h; exact h.elim
  | succ n ih => intro z h; exact wk_X0_fire_4 C ih h
theorem wk_X0_fire_0 {X : jX} {G : jG} {K : jS → Int32 → Prop} (C : jC (X, G, 4, jA X G tvi K) d_X0_fire cX0_fire "Samovar" (some .int) yX0_fire) {S : jS} {x0 : Nat} {x1 : Int32}  (h : wp_X0_fire S x0 x1 K) : jJ (X, G, 4, jA X G tvi K) S [(0, .ref x0), (1, .int x1)] 0 [] := by
  unfold wp_X0_fire at h
  refine jr_iconst (v := 0) C 1 rfl dX0_fire_0 (by decide) ?_
  refine jr_istore_n (lv' := [(2, .int 0), (0, .ref x0), (1, .int x1)]) C 2 rfl dX0_fire_1 rfl (Nat.le_of_ble_eq_true rfl) rfl ?_
  refine jr_iconst (v := 0) C 3 rfl dX0_fire_2 (by decide) ?_
  refine jr_istore_n (lv' := [(3, .int 0), (2, .int 0), (0, .ref x0), (1, .int x1)]) C 4 rfl dX0_fire_3 rfl (Nat.le_of_ble_eq_true rfl) rfl ?_
  obtain ⟨n, h⟩ := h
  exact jr_sub [2, 3, 1, 0] rfl (wk_X0_fire_4_L C  n _ h)
theorem m_X0_fire {l : Launch} (hl : l.stackTraces = false) {G : jG} {K : jS → Int32 → Prop} {S : jS} {x0 : Nat} {x1 : Int32} (h : wp_X0_fire S x0 x1 K) : jMet l G d_X0_fire yX0_fire (ws_ yX0_fire cX0_fire 4 (some .int)) [.ref x0, .int x1] S tvi K :=
  jMet.of hl rfl (by decide) (Nat.le_of_ble_eq_true rfl) (fun X C => jr_sub [0, 1] rfl (wk_X0_fire_0 C h))
theorem wk_X0_happens_135 {X : jX} {G : jG} {K : jS → Unit → Prop} (C : jC (X, G, 5, jA X G tvv K) d_X0_happens cX0_happens "Samovar" none yX0_happens) {S : jS} {x0 : Nat} {x1 : Int32} {x2 : Int32} {Kc7 : jS × Int32 → Prop} (hc7 : ∀ z : jS × Int32, Kc7 z → jJ (X, G, 5, jA X G tvv K) z.1 [(0, .ref x0), (1, .int x1), (2, .int z.2)] 7 []) (h : wp_X0_happens_135 S x0 x1 x2 Kc7 K) : jJ (X, G, 5, jA X G tvv K) S [(0, .ref x0), (1, .int x1), (2, .int x2)] 135 [] := by
  unfold wp_X0_happens_135 at h
  refine jr_iinc (v := (x2 + 1)) (lv' := [(2, .int (x2 + 1)), (0, .ref x0), (1, .int x1)]) C 138 rfl dX0_happens_135 2 rfl rfl (Nat.le_of_ble_eq_true rfl) rfl ?_
  refine jr_goto C 7 dX0_happens_138 (by decide) ?_
  exact jr_sub [1, 2, 0] rfl (hc7 _ h)
theorem wk_X0_happens_91 {X : jX} {G : jG} {K : jS → Unit → Prop} (C : jC (X, G, 5, jA X G tvv K) d_X0_happens cX0_happens "Samovar" none yX0_happens) {S : jS} {t0 : Nat} {t1 : Int32} {t2 : Int32} {t3 : Int32} {x0 : Nat} {x1 : Int32} {x2 : Int32} {Kc7 : jS × Int32 → Prop} (hc7 : ∀ z : jS × Int32, Kc7 z → jJ (X, G, 5, jA X G tvv K) z.1 [(0, .ref x0), (1, .int x1), (2, .int z.2)] 7 []) (h : wp_X0_happens_91 S t0 t1 t2 t3 x0 x1 x2 Kc7 K) : jJ (X, G, 5, jA X G tvv K) S [(0, .ref x0), (1, .int x1), (2, .int x2)] 91 [.int t3, .int t2, .int t1, .ref t0] := by
  unfold wp_X0_happens_91 at h
  refine jr_imul C 92 rfl dX0_happens_91 ?_
  refine jr_isub C 93 rfl dX0_happens_92 ?_
  refine jr_iconst (v := 0) C 94 rfl dX0_happens_93 (by decide) ?_
  refine jr_callSi (As := [.int (t1 - (t2 * t3)), .int 0]) (st := [.ref t0]) C 97 rfl (m_J7_max C.2.2.2.2.2.2.2.2.2.2.2.2.2.2.2 h) rfl q853 q486 q108 q487 (by decide) (by decide) nd_J7_max (Nat.le_of_ble_eq_true rfl) dX0_happens_94 (fun S1 r2 h => ?_)
  refine jr_putv C 100 rfl fo_0_7 (by decide) q235 dX0_happens_97 rfl rfl h (fun S3 h => ?_)
  refine jr_goto C 135 dX0_happens_100 (by decide) ?_
  exact (wk_X0_happens_135 C hc7 h)
theorem wk_X0_happens_7 {X : jX} {G : jG} {K : jS → Unit → Prop} (C : jC (X, G, 5, jA X G tvv K) d_X0_happens cX0_happens "Samovar" none yX0_happens) {S : jS} {x0 : Nat} {x1 : Int32} {x2 : Int32} {Kc7 : jS × Int32 → Prop} (hc7 : ∀ z : jS × Int32, Kc7 z → jJ (X, G, 5, jA X G tvv K) z.1 [(0, .ref x0), (1, .int x1), (2, .int z.2)] 7 []) (h : wp_X0_happens_7 S x0 x1 x2 Kc7 K) : jJ (X, G, 5, jA X G tvv K) S [(0, .ref x0), (1, .int x1), (2, .int x2)] 7 [] := by
  unfold wp_X0_happens_7 at h
  refine jr_iload_n C 8 rfl dX0_happens_7 rfl 2 rfl ?_
  refine jr_aload_n C 9 rfl dX0_happens_8 rfl 0 rfl ?_
  refine jr_getr C 12 rfl fo_0_6 q234 dX0_happens_9 h (fun v1 h => ?_)
  obtain ⟨⟨V, hb⟩, h⟩ := h
  refine jr_callVi (r0 := (RJ2, TJ2, 3)) (As := []) (st := [.int x2]) C 15 rfl (m_J2_size C.2.2.2.2.2.2.2.2.2.2.2.2.2.2.2 h) rfl hb rfl q700 q378 q379 q99 q380 (by decide) (by decide) ndV_J2_size (Nat.le_of_ble_eq_true rfl) dX0_happens_12 (fun S2 r3 h => ?_)
  refine jr_icmp_ge C 141 18 rfl dX0_happens_15 (by decide) (fun c30 => ?_) (fun c30 => ?_)
  · have h := h.1 c30
    exact jr_return C dX0_happens_141 h
  · have h := h.2 c30
    refine jr_aload_n C 19 rfl dX0_happens_18 rfl 0 rfl ?_
    refine jr_getr C 22 rfl fo_0_6 q234 dX0_happens_19 h (fun v4 h => ?_)
    refine jr_iload_n C 23 rfl dX0_happens_22 rfl 2 rfl ?_
    obtain ⟨⟨V, hb⟩, h⟩ := h
    refine jr_callVr (r0 := (RJ2, TJ2, 3)) (As := [.int x2]) (st := []) C 26 rfl (m_J2_get C.2.2.2.2.2.2.2.2.2.2.2.2.2.2.2 h) rfl hb rfl q702 q703 q704 q99 q705 (by decide) (by decide) ndV_J2_get (Nat.le_of_ble_eq_true rfl) dX0_happens_23 (fun S5 r6 h => ?_)
    obtain ⟨hz, h⟩ := h
    refine jr_castA C 29 rfl (t := 0) (eq_true (by decide)) (by decide) (nm := "[I") rfl q848 dX0_happens_26 hz ?_
    refine jr_astore_n (lv' := [(3, .ref r6), (0, .ref x0), (1, .int x1), (2, .int x2)]) C 30 rfl dX0_happens_29 rfl (Nat.le_of_ble_eq_true rfl) rfl ?_
    refine jr_aload_n C 31 rfl dX0_happens_30 rfl 0 rfl ?_
    refine jr_iconst (v := 1) C 32 rfl dX0_happens_31 (by decide) ?_
    refine jr_iald C 33 rfl dX0_happens_32 h (fun v7 h => ?_)
    refine jr_iload_n C 34 rfl dX0_happens_33 rfl 2 rfl ?_
    refine jr_icmp_ne C 135 37 rfl dX0_happens_34 (by decide) (fun c29 => ?_) (fun c29 => ?_)
    · have h := h.1 c29
      refine jr_aload_n C 38 rfl dX0_happens_37 rfl 1 rfl ?_
      refine jr_geti C 41 rfl fo_0_17 q245 dX0_happens_38 h (fun v8 h => ?_)
      refine jr_iload_n C 42 rfl dX0_happens_41 rfl 3 rfl ?_
      refine jr_callSi (As := [.int v8, .int x2]) (st := []) C 45 rfl (m_X0_isIn C.2.2.2.2.2.2.2.2.2.2.2.2.2.2.2 h) rfl q849 q850 q94 q851 (by decide) (by decide) nd_X0_isIn (Nat.le_of_ble_eq_true rfl) dX0_happens_42 (fun S9 r10 h => ?_)
      refine jr_if_eq C 51 48 rfl dX0_happens_45 (by decide) (fun c28 => ?_) (fun c28 => ?_)
      · have h := h.1 c28
        refine jr_aload_n C 52 rfl dX0_happens_51 rfl 0 rfl ?_
        refine jr_iconst (v := 0) C 53 rfl dX0_happens_52 (by decide) ?_
        refine jr_iald C 54 rfl dX0_happens_53 h (fun v11 h => ?_)
        refine jr_if_ne C 103 57 rfl dX0_happens_54 (by decide) (fun c27 => ?_) (fun c27 => ?_)
        · have h := h.1 c27
          refine jr_aload_n C 58 rfl dX0_happens_57 rfl 0 rfl ?_
          refine jr_iconst (v := 2) C 59 rfl dX0_happens_58 (by decide) ?_
          refine jr_iald C 60 rfl dX0_happens_59 h (fun v12 h => ?_)
          refine jr_bipush (v := 30) C 62 rfl dX0_happens_60 (by decide) ?_
          refine jr_aload_n C 63 rfl dX0_happens_62 rfl 1 rfl ?_
          refine jr_geti C 66 rfl fo_0_8 q236 dX0_happens_63 h (fun v13 h => ?_)
          refine jr_isub C 67 rfl dX0_happens_66 ?_
          refine jr_callSi (As := [.int v12, .int (30 - v13)]) (st := []) C 70 rfl (m_J7_min C.2.2.2.2.2.2.2.2.2.2.2.2.2.2.2 h) rfl q852 q489 q108 q490 (by decide) (by decide) nd_J7_min (Nat.le_of_ble_eq_true rfl) dX0_happens_67 (fun S14 r15 h => ?_)
          refine jr_istore (lv' := [(4, .int r15), (3, .ref r6), (0, .ref x0), (1, .int x1), (2, .int x2)]) C 72 rfl dX0_happens_70 (Nat.le_of_ble_eq_true rfl) rfl ?_
          refine jr_aload_n C 73 rfl dX0_happens_72 rfl 2 rfl ?_
          refine jr_dup C 74 rfl dX0_happens_73 rfl ?_
          refine jr_geti C 77 rfl fo_0_8 q236 dX0_happens_74 h (fun v16 h => ?_)
          refine jr_iload C 79 rfl dX0_happens_77 0 rfl ?_
          refine jr_iadd C 80 rfl dX0_happens_79 ?_
          refine jr_putv C 83 rfl fo_0_8 (by decide) q236 dX0_happens_80 rfl rfl h (fun S17 h => ?_)
          refine jr_aload_n C 84 rfl dX0_happens_83 rfl 2 rfl ?_
          refine jr_aload_n C 85 rfl dX0_happens_84 rfl 2 rfl ?_
          refine jr_geti C 88 rfl fo_0_7 q235 dX0_happens_85 h (fun v18 h => ?_)
          refine jr_iconst (v := 4) C 89 rfl dX0_happens_88 (by decide) ?_
          refine jr_iload C 91 rfl dX0_happens_89 0 rfl ?_
          exact jr_sub [2, 3, 4] rfl (wk_X0_happens_91 C hc7 h)
        · have h := h.2 c27
          refine jr_aload_n C 104 rfl dX0_happens_103 rfl 0 rfl ?_
          refine jr_iconst (v := 0) C 105 rfl dX0_happens_104 (by decide) ?_
          refine jr_iald C 106 rfl dX0_happens_105 h (fun v19 h => ?_)
          refine jr_iconst (v := 1) C 107 rfl dX0_happens_106 (by decide) ?_
          refine jr_icmp_ne C 130 110 rfl dX0_happens_107 (by decide) (fun c26 => ?_) (fun c26 => ?_)
          · have h := h.1 c26
            refine jr_aload_n C 111 rfl dX0_happens_110 rfl 1 rfl ?_
            refine jr_aload_n C 112 rfl dX0_happens_111 rfl 1 rfl ?_
            refine jr_geti C 115 rfl fo_0_9 q237 dX0_happens_112 h (fun v20 h => ?_)
            refine jr_aload_n C 116 rfl dX0_happens_115 rfl 0 rfl ?_
            refine jr_iconst (v := 2) C 117 rfl dX0_happens_116 (by decide) ?_
            refine jr_iald C 118 rfl dX0_happens_117 h (fun v21 h => ?_)
            refine jr_iadd C 119 rfl dX0_happens_118 ?_
            refine jr_bipush (v := 40) C 121 rfl dX0_happens_119 (by decide) ?_
            refine jr_callSi (As := [.int (v20 + v21), .int 40]) (st := [.ref x0]) C 124 rfl (m_J7_min C.2.2.2.2.2.2.2.2.2.2.2.2.2.2.2 h) rfl q852 q489 q108 q490 (by decide) (by decide) nd_J7_min (Nat.le_of_ble_eq_true rfl) dX0_happens_121 (fun S22 r23 h => ?_)
            refine jr_putv C 127 rfl fo_0_9 (by decide) q237 dX0_happens_124 rfl rfl h (fun S24 h => ?_)
            refine jr_goto C 135 dX0_happens_127 (by decide) ?_
            exact jr_sub [1, 2, 3] rfl (wk_X0_happens_135 C hc7 h)
          · have h := h.2 c26
            refine jr_aload_n C 131 rfl dX0_happens_130 rfl 1 rfl ?_
            refine jr_iconst (v := 1) C 132 rfl dX0_happens_131 (by decide) ?_
            obtain ⟨hz, h⟩ := h
            refine jr_putv C 135 rfl fo_0_12 (by decide) q240 dX0_happens_132 (j_nz hz) (j_fz hz) h (fun S25 h => ?_)
            exact jr_sub [1, 2, 3] rfl (wk_X0_happens_135 C hc7 h)
      · have h := h.2 c28
        refine jr_goto C 135 dX0_happens_48 (by decide) ?_
        exact jr_sub [1, 2, 3] rfl (wk_X0_happens_135 C hc7 h)
    · have h := h.2 c29
      exact jr_sub [1, 2, 3] rfl (wk_X0_happens_135 C hc7 h)
theorem wk_X0_happens_7_L {X : jX} {G : jG} {K : jS → Unit → Prop} (C : jC (X, G, 5, jA X G tvv K) d_X0_happens cX0_happens "Samovar" none yX0_happens) {x0 : Nat} {x1 : Int32}  : ∀ (n : Nat) (z : jS × Int32), jlp n (wp_X0_happens_7_L x0 x1 K) z → jJ (X, G, 5, jA X G tvv K) z.1 [(0, .ref x0), (1, .int x1), (2, .int z.2)] 7 [] := by
  intro n
  induction n with
  | zero => intro z h; exact h.elim
  | succ n ih => intro z h; exact wk_X0_happens_7 C ih h
theorem wk_X0_happens_0 {X : jX} {G : jG} {K : jS → Unit → Prop} (C : jC (X, G, 5, jA X G tvv K) d_X0_happens cX0_happens "Samovar" none yX0_happens) {S : jS} {x0 : Nat} {x1 : Int32}  (h : wp_X0_happens S x0 x1 K) : jJ (X, G, 5, jA X G tvv K) S [(0, .ref x0), (1, .int x1)] 0 [] := by
  unfold wp_X0_happens at h
  refine jr_aload_n C 1 rfl dX0_happens_0 rfl 0 rfl ?_
  refine jr_iconst (v := 0) C 2 rfl dX0_happens_1 (by decide) ?_
  obtain ⟨hz, h⟩ := h
  refine jr_putv C 5 rfl fo_0_12 (by decide) q240 dX0_happens_2 (j_nz hz) (j_fz hz) h (fun S1 h => ?_)
  refine jr_iconst (v := 0) C 6 rfl dX0_happens_5 (by decide) ?_
  refine jr_istore_n (lv' := [(2, .int 0), (0, .ref x0), (1, .int x1)]) C 7 rfl dX0_happens_6 rfl (Nat.le_of_ble_eq_true rfl) rfl ?_
  obtain ⟨n, h⟩ := h
  exact jr_sub [1, 2, 0] rfl (wk_X0_happens_7_L C  n _ h)
theorem m_X0_happens {l : Launch} (hl : l.stackTraces = false) {G : jG} {K : jS → Unit → Prop} {S : jS} {x0 : Nat} {x1 : Int32} (h : wp_X0_happens S x0 x1 K) : jMet l G d_X0_happens yX0_happens (ws_ yX0_happens cX0_happens 5 none) [.ref x0, .int x1] S tvv K :=
  jMet.of hl rfl (by decide) (Nat.le_of_ble_eq_true rfl) (fun X C => jr_sub [0, 1] rfl (wk_X0_happens_0 C h))
theorem wk_X0_queues_51 {X : jX} {G : jG} {K : jS → Unit → Prop} (C : jC (X, G, 4, jA X G tvv K) d_X0_queues cX0_queues "Samovar" none yX0_queues) {S : jS} {x0 : Nat} {x1 : Int32} {x2 : Int32} {x3 : Int32} {Kc2 : jS × Int32 → Prop} (hc2 : ∀ z : jS × Int32, Kc2 z → jJ (X, G, 4, jA X G tvv K) z.1 [(0, .ref x0), (1, .int x1), (2, .int x2), (3, .int z.2)] 2 []) (h : wp_X0_queues_51 S x0 x1 x2 x3 Kc2 K) : jJ (X, G, 4, jA X G tvv K) S [(0, .ref x0), (1, .int x1), (2, .int x2), (3, .int x3)] 51 [] := by
  unfold wp_X0_queues_51 at h
  refine jr_iinc (v := (x3 + 1)) (lv' := [(3, .int (x3 + 1)), (0, .ref x0), (1, .int x1), (2, .int x2)]) C 54 rfl dX0_queues_51 3 rfl rfl (Nat.le_of_ble_eq_true rfl) rfl ?_
  refine jr_goto C 2 dX0_queues_54 (by decide) ?_
  exact jr_sub [1, 2, 3, 0] rfl (hc2 _ h)
theorem wk_X0_queues_2 {X : jX} {G : jG} {K : jS → Unit → Prop} (C : jC (X, G, 4, jA X G tvv K) d_X0_queues cX0_queues "Samovar" none yX0_queues) {S : jS} {x0 : Nat} {x1 : Int32} {x2 : Int32} {x3 : Int32} {Kc2 : jS × Int32 → Prop} (hc2 : ∀ z : jS × Int32, Kc2 z → jJ (X, G, 4, jA X G tvv K) z.1 [(0, .ref x0), (1, .int x1), (2, .int x2), (3, .int z.2)] 2 []) (h : wp_X0_queues_2 S x0 x1 x2 x3 Kc2 K) : jJ (X, G, 4, jA X G tvv K) S [(0, .ref x0), (1, .int x1), (2, .int x2), (3, .int x3)] 2 [] := by
  unfold wp_X0_queues_2 at h
  refine jr_iload_n C 3 rfl dX0_queues_2 rfl 3 rfl ?_
  refine jr_aload_n C 4 rfl dX0_queues_3 rfl 0 rfl ?_
  refine jr_getr C 7 rfl fo_0_4 q232 dX0_queues_4 h (fun v1 h => ?_)
  obtain ⟨⟨V, hb⟩, h⟩ := h
  refine jr_callVi (r0 := (RJ2, TJ2, 3)) (As := []) (st := [.int x3]) C 10 rfl (m_J2_size C.2.2.2.2.2.2.2.2.2.2.2.2.2.2.2 h) rfl hb rfl q700 q378 q379 q99 q380 (by decide) (by decide) ndV_J2_size (Nat.le_of_ble_eq_true rfl) dX0_queues_7 (fun S2 r3 h => ?_)
  refine jr_icmp_ge C 57 13 rfl dX0_queues_10 (by decide) (fun c16 => ?_) (fun c16 => ?_)
  · have h := h.1 c16
    exact jr_return C dX0_queues_57 h
  · have h := h.2 c16
    refine jr_aload_n C 14 rfl dX0_queues_13 rfl 0 rfl ?_
    refine jr_getr C 17 rfl fo_0_4 q232 dX0_queues_14 h (fun v4 h => ?_)
    refine jr_iload_n C 18 rfl dX0_queues_17 rfl 3 rfl ?_
    obtain ⟨⟨V, hb⟩, h⟩ := h
    refine jr_callVr (r0 := (RJ2, TJ2, 3)) (As := [.int x3]) (st := []) C 21 rfl (m_J2_get C.2.2.2.2.2.2.2.2.2.2.2.2.2.2.2 h) rfl hb rfl q702 q703 q704 q99 q705 (by decide) (by decide) ndV_J2_get (Nat.le_of_ble_eq_true rfl) dX0_queues_18 (fun S5 r6 h => ?_)
    obtain ⟨hz, h⟩ := h
    refine jr_cast C 24 rfl (cs := [4]) can_Samovar_Guest (by decide) q213 dX0_queues_21 hz ?_
    refine jr_iload_n C 25 rfl dX0_queues_24 rfl 1 rfl ?_
    refine jr_iload_n C 26 rfl dX0_queues_25 rfl 2 rfl ?_
    obtain ⟨⟨V, hb⟩, h⟩ := h
    refine jr_callVi (r0 := (RX7, TX7, 8)) (As := [.int x1, .int x2]) (st := []) C 29 rfl (m_X7_comes C.2.2.2.2.2.2.2.2.2.2.2.2.2.2.2 h) rfl hb rfl q893 q894 q895 q112 q896 (by decide) (by decide) ndV_X7_comes (Nat.le_of_ble_eq_true rfl) dX0_queues_26 (fun S7 r8 h => ?_)
    refine jr_if_eq C 51 32 rfl dX0_queues_29 (by decide) (fun c15 => ?_) (fun c15 => ?_)
    · have h := h.1 c15
      exact (wk_X0_queues_51 C hc2 h)
    · have h := h.2 c15
      refine jr_aload_n C 33 rfl dX0_queues_32 rfl 0 rfl ?_
      refine jr_getr C 36 rfl fo_0_13 q241 dX0_queues_33 h (fun v9 h => ?_)
      refine jr_aload_n C 37 rfl dX0_queues_36 rfl 0 rfl ?_
      refine jr_getr C 40 rfl fo_0_4 q232 dX0_queues_37 h (fun v10 h => ?_)
      refine jr_iload_n C 41 rfl dX0_queues_40 rfl 3 rfl ?_
      obtain ⟨⟨V, hb⟩, h⟩ := h
      refine jr_callVr (r0 := (RJ2, TJ2, 3)) (As := [.int x3]) (st := [.ref v9]) C 44 rfl (m_J2_get C.2.2.2.2.2.2.2.2.2.2.2.2.2.2.2 h) rfl hb rfl q702 q703 q704 q99 q705 (by decide) (by decide) ndV_J2_get (Nat.le_of_ble_eq_true rfl) dX0_queues_41 (fun S11 r12 h => ?_)
      obtain ⟨hz, h⟩ := h
      refine jr_cast C 47 rfl (cs := [4]) can_Samovar_Guest (by decide) q213 dX0_queues_44 hz ?_
      obtain ⟨⟨V, hb⟩, h⟩ := h
      refine jr_callVi (r0 := (RJ2, TJ2, 3)) (As := [.ref r12]) (st := []) C 50 rfl (m_J2_add C.2.2.2.2.2.2.2.2.2.2.2.2.2.2.2 h) rfl hb rfl q780 q596 q597 q99 q598 (by decide) (by decide) ndV_J2_add (Nat.le_of_ble_eq_true rfl) dX0_queues_47 (fun S13 r14 h => ?_)
      refine jr_pop C 51 rfl dX0_queues_50 rfl ?_
      exact (wk_X0_queues_51 C hc2 h)
theorem wk_X0_queues_2_L {X : jX} {G : jG} {K : jS → Unit → Prop} (C : jC (X, G, 4, jA X G tvv K) d_X0_queues cX0_queues "Samovar" none yX0_queues) {x0 : Nat} {x1 : Int32} {x2 : Int32}  : ∀ (n : Nat) (z : jS × Int32), jlp n (wp_X0_queues_2_L x0 x1 x2 K) z → jJ (X, G, 4, jA X G tvv K) z.1 [(0, .ref x0), (1, .int x1), (2, .int x2), (3, .int z.2)] 2 [] := by
  intro n
  induction n with
  | zero => intro z h; exact h.elim
  | succ n ih => intro z h; exact wk_X0_queues_2 C ih h
theorem wk_X0_queues_0 {X : jX} {G : jG} {K : jS → Unit → Prop} (C : jC (X, G, 4, jA X G tvv K) d_X0_queues cX0_queues "Samovar" none yX0_queues) {S : jS} {x0 : Nat} {x1 : Int32} {x2 : Int32}  (h : wp_X0_queues S x0 x1 x2 K) : jJ (X, G, 4, jA X G tvv K) S [(0, .ref x0), (1, .int x1), (2, .int x2)] 0 [] := by
  unfold wp_X0_queues at h
  refine jr_iconst (v := 0) C 1 rfl dX0_queues_0 (by decide) ?_
  refine jr_istore_n (lv' := [(3, .int 0), (0, .ref x0), (1, .int x1), (2, .int x2)]) C 2 rfl dX0_queues_1 rfl (Nat.le_of_ble_eq_true rfl) rfl ?_
  obtain ⟨n, h⟩ := h
  exact jr_sub [1, 2, 3, 0] rfl (wk_X0_queues_2_L C  n _ h)
theorem m_X0_queues {l : Launch} (hl : l.stackTraces = false) {G : jG} {K : jS → Unit → Prop} {S : jS} {x0 : Nat} {x1 : Int32} {x2 : Int32} (h : wp_X0_queues S x0 x1 x2 K) : jMet l G d_X0_queues yX0_queues (ws_ yX0_queues cX0_queues 4 none) [.ref x0, .int x1, .int x2] S tvv K :=
  jMet.of hl rfl (by decide) (Nat.le_of_ble_eq_true rfl) (fun X C => jr_sub [0, 1, 2] rfl (wk_X0_queues_0 C h))
theorem ndD_Taste_needs_12_13 : ("Samovar$Taste" : String) ≠ "java/lang/invoke/MethodHandle" ∧ ("Samovar$Taste" : String) ≠ "java/lang/invoke/VarHandle" ∧ (parseMethodDescriptor "()I").map (fun d => d.parameters.length) = some 0 := by decide +kernel
theorem dr_Taste_needs_12_13 {Z : jZ} {d : Nat} {cc : ByteArray} {own : String} {ret : Option FieldType} {y : MethodName} {pc : Nat} {S : jS} {lv : List (Nat × Value)} {st As : List Value} (C : jC Z d cc own ret y) (pc' : Nat) (hp : pc + 3 = pc') {a : Nat}  {K : jS → Int32 → Prop} {stk : List Value} (h : wpD_Taste_needs_12_13 S a  K) (hstk : [].reverse ++ .ref a :: st = stk) {index : Nat} (q1 : Cond.methodLink own index (⟨"Samovar$Taste", "needs", "()I"⟩ : MethodName) ∈ lw_all) (hd : d_D_Taste_needs_12_13 + 1 ≤ d) (hst : (st.map fun v => v.category).sum ≤ 8) (hdg : decode cc pc = .ok (.invokevirtual index, 3)) (kk : ∀ (S1 : jS) (r : Int32), K S1 r → jJ Z S1 lv pc' (.int r :: st)) : jJ Z S lv pc stk := by
  unfold wpD_Taste_needs_12_13 at h
  rcases h with ⟨⟨V, hb⟩, h⟩ | ⟨⟨V, hb⟩, h⟩
  · exact jr_callUi (As := []) (r0 := (RX13, TX_0, 0)) (owner := "Samovar$Taste") C pc' hp (m_X13_needs C.2.2.2.2.2.2.2.2.2.2.2.2.2.2.2 h) hstk hb rfl (va_Decl.of (C.2.2.2.2.1 _ q902) (C.2.2.2.2.1 _ q909)) q1 q904 (C.2.2.2.2.1 _ q903) q902 q1846 q909 (Nat.le_trans (Nat.le_of_ble_eq_true rfl) hd) (by decide) ndD_Taste_needs_12_13 hst hdg kk
  · exact jr_callUi (As := []) (r0 := (RX11, TX_0, 0)) (owner := "Samovar$Taste") C pc' hp (m_X11_needs C.2.2.2.2.2.2.2.2.2.2.2.2.2.2.2 h) hstk hb rfl (va_Decl.of (C.2.2.2.2.1 _ q902) (C.2.2.2.2.1 _ q909)) q1 q904 (C.2.2.2.2.1 _ q905) q906 q1845 q907 (Nat.le_trans (Nat.le_of_ble_eq_true rfl) hd) (by decide) ndD_Taste_needs_12_13 hst hdg kk
theorem wk_X0_serves_58 {X : jX} {G : jG} {K : jS → Int32 → Prop} (C : jC (X, G, 4, jA X G tvi K) d_X0_serves cX0_serves "Samovar" (some .int) yX0_serves) {S : jS} {x0 : Nat} {x1 : Int32} {x2 : Int32} {x3 : Nat}  (h : wp_X0_serves_58 S x0 x1 x2 x3 K) : jJ (X, G, 4, jA X G tvi K) S [(0, .ref x0), (1, .int x1), (2, .int x2), (3, .ref x3)] 58 [] := by
  unfold wp_X0_serves_58 at h
  refine jr_aload_n C 59 rfl dX0_serves_58 rfl 0 rfl ?_
  refine jr_dup C 60 rfl dX0_serves_59 rfl ?_
  refine jr_geti C 63 rfl fo_0_8 q236 dX0_serves_60 h (fun v1 h => ?_)
  refine jr_iconst (v := 1) C 64 rfl dX0_serves_63 (by decide) ?_
  refine jr_isub C 65 rfl dX0_serves_64 ?_
  refine jr_putv C 68 rfl fo_0_8 (by decide) q236 dX0_serves_65 rfl rfl h (fun S2 h => ?_)
  refine jr_aload_n C 69 rfl dX0_serves_68 rfl 0 rfl ?_
  refine jr_dup C 70 rfl dX0_serves_69 rfl ?_
  refine jr_geti C 73 rfl fo_0_11 q239 dX0_serves_70 h (fun v3 h => ?_)
  refine jr_iconst (v := 1) C 74 rfl dX0_serves_73 (by decide) ?_
  refine jr_iadd C 75 rfl dX0_serves_74 ?_
  refine jr_putv C 78 rfl fo_0_11 (by decide) q239 dX0_serves_75 rfl rfl h (fun S4 h => ?_)
  refine jr_aload_n C 79 rfl dX0_serves_78 rfl 0 rfl ?_
  refine jr_getr C 82 rfl fo_0_13 q241 dX0_serves_79 h (fun v5 h => ?_)
  refine jr_iload_n C 83 rfl dX0_serves_82 rfl 2 rfl ?_
  obtain ⟨⟨V, hb⟩, h⟩ := h
  refine jr_callVr (r0 := (RJ2, TJ2, 3)) (As := [.int x2]) (st := []) C 86 rfl (m_J2_remove C.2.2.2.2.2.2.2.2.2.2.2.2.2.2.2 h) rfl hb rfl q789 q790 q791 q99 q792 (by decide) (by decide) ndV_J2_remove (Nat.le_of_ble_eq_true rfl) dX0_serves_83 (fun S6 r7 h => ?_)
  refine jr_pop C 87 rfl dX0_serves_86 rfl ?_
  refine jr_aload_n C 88 rfl dX0_serves_87 rfl 3 rfl ?_
  refine jr_iload_n C 89 rfl dX0_serves_88 rfl 1 rfl ?_
  obtain ⟨⟨V, hb⟩, h⟩ := h
  refine jr_callVv (r0 := (RX7, TX7, 8)) (As := [.int x1]) (st := []) C 92 rfl (m_X7_served C.2.2.2.2.2.2.2.2.2.2.2.2.2.2.2 h) rfl hb rfl q910 q911 q912 q112 q913 (by decide) (by decide) ndV_X7_served (Nat.le_of_ble_eq_true rfl) dX0_serves_89 (fun S8 _ h => ?_)
  refine jr_aload_n C 93 rfl dX0_serves_92 rfl 0 rfl ?_
  refine jr_getr C 96 rfl fo_0_4 q232 dX0_serves_93 h (fun v9 h => ?_)
  refine jr_aload_n C 97 rfl dX0_serves_96 rfl 3 rfl ?_
  obtain ⟨⟨V, hb⟩, h⟩ := h
  refine jr_callVi (r0 := (RJ2, TJ2, 3)) (As := [.ref x3]) (st := []) C 100 rfl (m_J2_indexOf C.2.2.2.2.2.2.2.2.2.2.2.2.2.2.2 h) rfl hb rfl q923 q924 q925 q99 q926 (by decide) (by decide) ndV_J2_indexOf (Nat.le_of_ble_eq_true rfl) dX0_serves_97 (fun S10 r11 h => ?_)
  exact jr_ireturn C dX0_serves_100 h
theorem wk_X0_serves_13 {X : jX} {G : jG} {K : jS → Int32 → Prop} (C : jC (X, G, 4, jA X G tvi K) d_X0_serves cX0_serves "Samovar" (some .int) yX0_serves) {S : jS} {x0 : Nat} {x1 : Int32} {x2 : Int32} {Kc2 : jS × Int32 → Prop} (hc2 : ∀ z : jS × Int32, Kc2 z → jJ (X, G, 4, jA X G tvi K) z.1 [(0, .ref x0), (1, .int x1), (2, .int z.2)] 2 []) (h : wp_X0_serves_13 S x0 x1 x2 Kc2 K) : jJ (X, G, 4, jA X G tvi K) S [(0, .ref x0), (1, .int x1), (2, .int x2)] 13 [] := by
  unfold wp_X0_serves_13 at h
  refine jr_aload_n C 14 rfl dX0_serves_13 rfl 0 rfl ?_
  refine jr_getr C 17 rfl fo_0_13 q241 dX0_serves_14 h (fun v1 h => ?_)
  refine jr_iload_n C 18 rfl dX0_serves_17 rfl 2 rfl ?_
  obtain ⟨⟨V, hb⟩, h⟩ := h
  refine jr_callVr (r0 := (RJ2, TJ2, 3)) (As := [.int x2]) (st := []) C 21 rfl (m_J2_get C.2.2.2.2.2.2.2.2.2.2.2.2.2.2.2 h) rfl hb rfl q702 q703 q704 q99 q705 (by decide) (by decide) ndV_J2_get (Nat.le_of_ble_eq_true rfl) dX0_serves_18 (fun S2 r3 h => ?_)
  obtain ⟨hz, h⟩ := h
  refine jr_cast C 24 rfl (cs := [4]) can_Samovar_Guest (by decide) q213 dX0_serves_21 hz ?_
  refine jr_astore_n (lv' := [(3, .ref r3), (0, .ref x0), (1, .int x1), (2, .int x2)]) C 25 rfl dX0_serves_24 rfl (Nat.le_of_ble_eq_true rfl) rfl ?_
  refine jr_aload_n C 26 rfl dX0_serves_25 rfl 0 rfl ?_
  refine jr_getrN C 29 rfl fo_4_1 (jx_g q566 rfl) dX0_serves_26 h (fun v4 h => ?_)
  refine dr_Taste_needs_12_13 (As := []) (st := []) C 32 rfl h rfl q901 (by decide) (Nat.le_of_ble_eq_true rfl) dX0_serves_29 (fun S5 r6 h => ?_)
  refine jr_aload_n C 33 rfl dX0_serves_32 rfl 1 rfl ?_
  refine jr_geti C 36 rfl fo_0_9 q237 dX0_serves_33 h (fun v7 h => ?_)
  refine jr_icmp_le C 42 39 rfl dX0_serves_36 (by decide) (fun c13 => ?_) (fun c13 => ?_)
  · have h := h.1 c13
    refine jr_aload_n C 43 rfl dX0_serves_42 rfl 1 rfl ?_
    refine jr_dup C 44 rfl dX0_serves_43 rfl ?_
    refine jr_geti C 47 rfl fo_0_9 q237 dX0_serves_44 h (fun v8 h => ?_)
    refine jr_aload_n C 48 rfl dX0_serves_47 rfl 0 rfl ?_
    refine jr_getrN C 51 rfl fo_4_1 (jx_g q566 rfl) dX0_serves_48 h (fun v9 h => ?_)
    refine dr_Taste_needs_12_13 (As := []) (st := [.int v8, .ref x0]) C 54 rfl h rfl q901 (by decide) (Nat.le_of_ble_eq_true rfl) dX0_serves_51 (fun S10 r11 h => ?_)
    refine jr_isub C 55 rfl dX0_serves_54 ?_
    refine jr_putv C 58 rfl fo_0_9 (by decide) q237 dX0_serves_55 rfl rfl h (fun S12 h => ?_)
    exact jr_sub [1, 2, 3, 0] rfl (wk_X0_serves_58 C  h)
  · have h := h.2 c13
    refine jr_goto C 101 dX0_serves_39 (by decide) ?_
    refine jr_iinc (v := (x2 + 1)) (lv' := [(2, .int (x2 + 1)), (3, .ref r3), (0, .ref x0), (1, .int x1)]) C 104 rfl dX0_serves_101 3 rfl rfl (Nat.le_of_ble_eq_true rfl) rfl ?_
    refine jr_goto C 2 dX0_serves_104 (by decide) ?_
    exact jr_sub [2, 3, 0] rfl (hc2 _ h)
theorem wk_X0_serves_107 {X : jX} {G : jG} {K : jS → Int32 → Prop} (C : jC (X, G, 4, jA X G tvi K) d_X0_serves cX0_serves "Samovar" (some .int) yX0_serves) {S : jS}   (h : wp_X0_serves_107 S K) : jJ (X, G, 4, jA X G tvi K) S [] 107 [] := by
  unfold wp_X0_serves_107 at h
  refine jr_iconst (v := (-1)) C 108 rfl dX0_serves_107 (by decide) ?_
  exact jr_ireturn C dX0_serves_108 h
theorem wk_X0_serves_2 {X : jX} {G : jG} {K : jS → Int32 → Prop} (C : jC (X, G, 4, jA X G tvi K) d_X0_serves cX0_serves "Samovar" (some .int) yX0_serves) {S : jS} {x0 : Nat} {x1 : Int32} {x2 : Int32} {Kc2 : jS × Int32 → Prop} (hc2 : ∀ z : jS × Int32, Kc2 z → jJ (X, G, 4, jA X G tvi K) z.1 [(0, .ref x0), (1, .int x1), (2, .int z.2)] 2 []) (h : wp_X0_serves_2 S x0 x1 x2 Kc2 K) : jJ (X, G, 4, jA X G tvi K) S [(0, .ref x0), (1, .int x1), (2, .int x2)] 2 [] := by
  unfold wp_X0_serves_2 at h
  refine jr_iload_n C 3 rfl dX0_serves_2 rfl 2 rfl ?_
  refine jr_aload_n C 4 rfl dX0_serves_3 rfl 0 rfl ?_
  refine jr_getr C 7 rfl fo_0_13 q241 dX0_serves_4 h (fun v1 h => ?_)
  obtain ⟨⟨V, hb⟩, h⟩ := h
  refine jr_callVi (r0 := (RJ2, TJ2, 3)) (As := []) (st := [.int x2]) C 10 rfl (m_J2_size C.2.2.2.2.2.2.2.2.2.2.2.2.2.2.2 h) rfl hb rfl q700 q378 q379 q99 q380 (by decide) (by decide) ndV_J2_size (Nat.le_of_ble_eq_true rfl) dX0_serves_7 (fun S2 r3 h => ?_)
  refine jr_icmp_ge C 107 13 rfl dX0_serves_10 (by decide) (fun c4 => ?_) (fun c4 => ?_)
  · have h := h.1 c4
    exact jr_sub [] rfl (wk_X0_serves_107 C  h)
  · have h := h.2 c4
    exact (wk_X0_serves_13 C hc2 h)
theorem wk_X0_serves_2_L {X : jX} {G : jG} {K : jS → Int32 → Prop} (C : jC (X, G, 4, jA X G tvi K) d_X0_serves cX0_serves "Samovar" (some .int) yX0_serves) {x0 : Nat} {x1 : Int32}  : ∀ (n : Nat) (z : jS × Int32), jlp n (wp_X0_serves_2_L x0 x1 K) z → jJ (X, G, 4, jA X G tvi K) z.1 [(0, .ref x0), (1, .int x1), (2, .int z.2)] 2 [] := by
  intro n
  induction n with
  | zero => intro z h; exact h.elim
  | succ n ih => intro z h; exact wk_X0_serves_2 C ih h
theorem wk_X0_serves_0 {X : jX} {G : jG} {K : jS → Int32 → Prop} (C : jC (X, G, 4, jA X G tvi K) d_X0_serves cX0_serves "Samovar" (some .int) yX0_serves) {S : jS} {x0 : Nat} {x1 : Int32}  (h : wp_X0_serves S x0 x1 K) : jJ (X, G, 4, jA X G tvi K) S [(0, .ref x0), (1, .int x1)] 0 [] := by
  unfold wp_X0_serves at h
  refine jr_iconst (v := 0) C 1 rfl dX0_serves_0 (by decide) ?_
  refine jr_istore_n (lv' := [(2, .int 0), (0, .ref x0), (1, .int x1)]) C 2 rfl dX0_serves_1 rfl (Nat.le_of_ble_eq_true rfl) rfl ?_
  obtain ⟨n, h⟩ := h
  exact jr_sub [1, 2, 0] rfl (wk_X0_serves_2_L C  n _ h)
theorem m_X0_serves {l : Launch} (hl : l.stackTraces = false) {G : jG} {K : jS → Int32 → Prop} {S : jS} {x0 : Nat} {x1 : Int32} (h : wp_X0_serves S x0 x1 K) : jMet l G d_X0_serves yX0_serves (ws_ yX0_serves cX0_serves 4 (some .int)) [.ref x0, .int x1] S tvi K :=
  jMet.of hl rfl (by decide) (Nat.le_of_ble_eq_true rfl) (fun X C => jr_sub [0, 1] rfl (wk_X0_serves_0 C h))
theorem wk_X0_tire_62 {X : jX} {G : jG} {K : jS → Unit → Prop} (C : jC (X, G, 3, jA X G tvv K) d_X0_tire cX0_tire "Samovar" none yX0_tire) {S : jS} {x0 : Nat} {x1 : Int32} {Kc10 : jS × Int32 → Prop} (hc10 : ∀ z : jS × Int32, Kc10 z → jJ (X, G, 3, jA X G tvv K) z.1 [(0, .ref x0), (1, .int z.2)] 10 []) (h : wp_X0_tire_62 S x0 x1 Kc10 K) : jJ (X, G, 3, jA X G tvv K) S [(0, .ref x0), (1, .int x1)] 62 [] := by
  unfold wp_X0_tire_62 at h
  refine jr_iinc (v := (x1 + (-1))) (lv' := [(1, .int (x1 + (-1))), (0, .ref x0)]) C 65 rfl dX0_tire_62 1 rfl rfl (Nat.le_of_ble_eq_true rfl) rfl ?_
  refine jr_goto C 10 dX0_tire_65 (by decide) ?_
  exact jr_sub [1, 0] rfl (hc10 _ h)
theorem wk_X0_tire_10 {X : jX} {G : jG} {K : jS → Unit → Prop} (C : jC (X, G, 3, jA X G tvv K) d_X0_tire cX0_tire "Samovar" none yX0_tire) {S : jS} {x0 : Nat} {x1 : Int32} {Kc10 : jS × Int32 → Prop} (hc10 : ∀ z : jS × Int32, Kc10 z → jJ (X, G, 3, jA X G tvv K) z.1 [(0, .ref x0), (1, .int z.2)] 10 []) (h : wp_X0_tire_10 S x0 x1 Kc10 K) : jJ (X, G, 3, jA X G tvv K) S [(0, .ref x0), (1, .int x1)] 10 [] := by
  unfold wp_X0_tire_10 at h
  refine jr_iload_n C 11 rfl dX0_tire_10 rfl 1 rfl ?_
  refine jr_if_lt C 68 14 rfl dX0_tire_11 (by decide) (fun c12 => ?_) (fun c12 => ?_)
  · have h := h.1 c12
    exact jr_return C dX0_tire_68 h
  · have h := h.2 c12
    refine jr_aload_n C 15 rfl dX0_tire_14 rfl 0 rfl ?_
    refine jr_getr C 18 rfl fo_0_13 q241 dX0_tire_15 h (fun v1 h => ?_)
    refine jr_iload_n C 19 rfl dX0_tire_18 rfl 1 rfl ?_
    obtain ⟨⟨V, hb⟩, h⟩ := h
    refine jr_callVr (r0 := (RJ2, TJ2, 3)) (As := [.int x1]) (st := []) C 22 rfl (m_J2_get C.2.2.2.2.2.2.2.2.2.2.2.2.2.2.2 h) rfl hb rfl q702 q703 q704 q99 q705 (by decide) (by decide) ndV_J2_get (Nat.le_of_ble_eq_true rfl) dX0_tire_19 (fun S2 r3 h => ?_)
    obtain ⟨hz, h⟩ := h
    refine jr_cast C 25 rfl (cs := [4]) can_Samovar_Guest (by decide) q213 dX0_tire_22 hz ?_
    refine jr_astore_n (lv' := [(2, .ref r3), (0, .ref x0), (1, .int x1)]) C 26 rfl dX0_tire_25 rfl (Nat.le_of_ble_eq_true rfl) rfl ?_
    refine jr_aload_n C 27 rfl dX0_tire_26 rfl 0 rfl ?_
    refine jr_dup C 28 rfl dX0_tire_27 rfl ?_
    refine jr_getiN C 31 rfl fo_4_6 (jx_g q575 rfl) dX0_tire_28 h (fun v4 h => ?_)
    refine jr_iconst (v := 1) C 32 rfl dX0_tire_31 (by decide) ?_
    refine jr_iadd C 33 rfl dX0_tire_32 ?_
    refine jr_putvN C 36 rfl fo_4_6 (by decide) (jx_g q575 rfl) dX0_tire_33 rfl rfl h (fun S5 h => ?_)
    refine jr_aload_n C 37 rfl dX0_tire_36 rfl 0 rfl ?_
    refine jr_getiN C 40 rfl fo_4_6 (jx_g q575 rfl) dX0_tire_37 h (fun v6 h => ?_)
    refine jr_bipush (v := 6) C 42 rfl dX0_tire_40 (by decide) ?_
    refine jr_icmp_ge C 48 45 rfl dX0_tire_42 (by decide) (fun c11 => ?_) (fun c11 => ?_)
    · have h := h.1 c11
      refine jr_aload_n C 49 rfl dX0_tire_48 rfl 0 rfl ?_
      refine jr_iconst (v := 4) C 50 rfl dX0_tire_49 (by decide) ?_
      refine jr_putvN C 53 rfl fo_4_3 (by decide) (jx_g q570 rfl) dX0_tire_50 rfl rfl h (fun S7 h => ?_)
      refine jr_aload_n C 54 rfl dX0_tire_53 rfl 1 rfl ?_
      refine jr_getr C 57 rfl fo_0_13 q241 dX0_tire_54 h (fun v8 h => ?_)
      refine jr_iload_n C 58 rfl dX0_tire_57 rfl 2 rfl ?_
      obtain ⟨⟨V, hb⟩, h⟩ := h
      refine jr_callVr (r0 := (RJ2, TJ2, 3)) (As := [.int x1]) (st := []) C 61 rfl (m_J2_remove C.2.2.2.2.2.2.2.2.2.2.2.2.2.2.2 h) rfl hb rfl q789 q790 q791 q99 q792 (by decide) (by decide) ndV_J2_remove (Nat.le_of_ble_eq_true rfl) dX0_tire_58 (fun S9 r10 h => ?_)
      refine jr_pop C 62 rfl dX0_tire_61 rfl ?_
      exact jr_sub [1, 2] rfl (wk_X0_tire_62 C hc10 h)
    · have h := h.2 c11
      refine jr_goto C 62 dX0_tire_45 (by decide) ?_
      exact jr_sub [1, 2] rfl (wk_X0_tire_62 C hc10 h)
theorem wk_X0_tire_10_L {X : jX} {G : jG} {K : jS → Unit → Prop} (C : jC (X, G, 3, jA X G tvv K) d_X0_tire cX0_tire "Samovar" none yX0_tire) {x0 : Nat}  : ∀ (n : Nat) (z : jS × Int32), jlp n (wp_X0_tire_10_L x0 K) z → jJ (X, G, 3, jA X G tvv K) z.1 [(0, .ref x0), (1, .int z.2)] 10 [] := by
  intro n
  induction n with
  | zero => intro z h; exact h.elim
  | succ n ih => intro z h; exact wk_X0_tire_10 C ih h
theorem wk_X0_tire_0 {X : jX} {G : jG} {K : jS → Unit → Prop} (C : jC (X, G, 3, jA X G tvv K) d_X0_tire cX0_tire "Samovar" none yX0_tire) {S : jS} {x0 : Nat}  (h : wp_X0_tire S x0 K) : jJ (X, G, 3, jA X G tvv K) S [(0, .ref x0)] 0 [] := by
  unfold wp_X0_tire at h
  refine jr_aload_n C 1 rfl dX0_tire_0 rfl 0 rfl ?_
  refine jr_getr C 4 rfl fo_0_13 q241 dX0_tire_1 h (fun v1 h => ?_)
  obtain ⟨⟨V, hb⟩, h⟩ := h
  refine jr_callVi (r0 := (RJ2, TJ2, 3)) (As := []) (st := []) C 7 rfl (m_J2_size C.2.2.2.2.2.2.2.2.2.2.2.2.2.2.2 h) rfl hb rfl q700 q378 q379 q99 q380 (by decide) (by decide) ndV_J2_size (Nat.le_of_ble_eq_true rfl) dX0_tire_4 (fun S2 r3 h => ?_)
  refine jr_iconst (v := 1) C 8 rfl dX0_tire_7 (by decide) ?_
  refine jr_isub C 9 rfl dX0_tire_8 ?_
  refine jr_istore_n (lv' := [(1, .int (r3 - 1)), (0, .ref x0)]) C 10 rfl dX0_tire_9 rfl (Nat.le_of_ble_eq_true rfl) rfl ?_
  obtain ⟨n, h⟩ := h
  exact jr_sub [1, 0] rfl (wk_X0_tire_10_L C  n _ h)
theorem m_X0_tire {l : Launch} (hl : l.stackTraces = false) {G : jG} {K : jS → Unit → Prop} {S : jS} {x0 : Nat} (h : wp_X0_tire S x0 K) : jMet l G d_X0_tire yX0_tire (ws_ yX0_tire cX0_tire 3 none) [.ref x0] S tvv K :=
  jMet.of hl rfl (by decide) (Nat.le_of_ble_eq_true rfl) (fun X C => jr_sub [0] rfl (wk_X0_tire_0 C h))
theorem wk_X0_passes_267 {X : jX} {G : jG} {K : jS → Unit → Prop} (C : jC (X, G, 6, jA X G tvv K) d_X0_passes cX0_passes "Samovar" none yX0_passes) {S : jS} {t0 : Nat} {t1 : Int32} {t2 : Int32} {x0 : Nat} {x1 : Int32} {x4 : Int32} {Kc189 : jS × Int32 → Prop} (hc189 : ∀ z : jS × Int32, Kc189 z → jJ (X, G, 6, jA X G tvv K) z.1 [(0, .ref x0), (1, .int x1), (4, .int z.2)] 189 []) (h : wp_X0_passes_267 S t0 t1 t2 x0 x1 x4 Kc189 K) : jJ (X, G, 6, jA X G tvv K) S [(0, .ref x0), (1, .int x1), (4, .int x4)] 267 [.int t2, .int t1, .ref t0] := by
  unfold wp_X0_passes_267 at h
  refine jr_iadd C 268 rfl dX0_passes_267 ?_
  refine jr_putvN C 271 rfl fo_4_7 (by decide) (jx_g q577 rfl) dX0_passes_268 rfl rfl h (fun S1 h => ?_)
  refine jr_iinc (v := (x4 + 1)) (lv' := [(4, .int (x4 + 1)), (0, .ref x0), (1, .int x1)]) C 274 rfl dX0_passes_271 2 rfl rfl (Nat.le_of_ble_eq_true rfl) rfl ?_
  refine jr_goto C 189 dX0_passes_274 (by decide) ?_
  exact jr_sub [1, 2, 0] rfl (hc189 _ h)
theorem wk_X0_passes_189 {X : jX} {G : jG} {K : jS → Unit → Prop} (C : jC (X, G, 6, jA X G tvv K) d_X0_passes cX0_passes "Samovar" none yX0_passes) {S : jS} {x0 : Nat} {x1 : Int32} {x4 : Int32} {Kc189 : jS × Int32 → Prop} (hc189 : ∀ z : jS × Int32, Kc189 z → jJ (X, G, 6, jA X G tvv K) z.1 [(0, .ref x0), (1, .int x1), (4, .int z.2)] 189 []) (h : wp_X0_passes_189 S x0 x1 x4 Kc189 K) : jJ (X, G, 6, jA X G tvv K) S [(0, .ref x0), (1, .int x1), (4, .int x4)] 189 [] := by
  unfold wp_X0_passes_189 at h
  refine jr_iload C 191 rfl dX0_passes_189 2 rfl ?_
  refine jr_aload_n C 192 rfl dX0_passes_191 rfl 0 rfl ?_
  refine jr_getr C 195 rfl fo_0_4 q232 dX0_passes_192 h (fun v1 h => ?_)
  obtain ⟨⟨V, hb⟩, h⟩ := h
  refine jr_callVi (r0 := (RJ2, TJ2, 3)) (As := []) (st := [.int x4]) C 198 rfl (m_J2_size C.2.2.2.2.2.2.2.2.2.2.2.2.2.2.2 h) rfl hb rfl q700 q378 q379 q99 q380 (by decide) (by decide) ndV_J2_size (Nat.le_of_ble_eq_true rfl) dX0_passes_195 (fun S2 r3 h => ?_)
  refine jr_icmp_ge C 277 201 rfl dX0_passes_198 (by decide) (fun c20 => ?_) (fun c20 => ?_)
  · have h := h.1 c20
    exact jr_return C dX0_passes_277 h
  · have h := h.2 c20
    refine jr_aload_n C 202 rfl dX0_passes_201 rfl 0 rfl ?_
    refine jr_getr C 205 rfl fo_0_4 q232 dX0_passes_202 h (fun v4 h => ?_)
    refine jr_iload C 207 rfl dX0_passes_205 2 rfl ?_
    obtain ⟨⟨V, hb⟩, h⟩ := h
    refine jr_callVr (r0 := (RJ2, TJ2, 3)) (As := [.int x4]) (st := []) C 210 rfl (m_J2_get C.2.2.2.2.2.2.2.2.2.2.2.2.2.2.2 h) rfl hb rfl q702 q703 q704 q99 q705 (by decide) (by decide) ndV_J2_get (Nat.le_of_ble_eq_true rfl) dX0_passes_207 (fun S5 r6 h => ?_)
    obtain ⟨hz, h⟩ := h
    refine jr_cast C 213 rfl (cs := [4]) can_Samovar_Guest (by decide) q213 dX0_passes_210 hz ?_
    refine jr_astore (lv' := [(5, .ref r6), (0, .ref x0), (1, .int x1), (4, .int x4)]) C 215 rfl dX0_passes_213 (Nat.le_of_ble_eq_true rfl) rfl ?_
    refine jr_aload_n C 216 rfl dX0_passes_215 rfl 1 rfl ?_
    refine jr_getr C 219 rfl fo_0_16 q244 dX0_passes_216 h (fun v7 h => ?_)
    refine jr_iload_n C 220 rfl dX0_passes_219 rfl 2 rfl ?_
    refine jr_aaldn C 221 rfl (t := 7) rfl rfl dX0_passes_220 h (fun v8 h => ?_)
    refine jr_iload C 223 rfl dX0_passes_221 3 rfl ?_
    refine jr_aaldn C 224 rfl (t := 6) rfl rfl dX0_passes_223 h (fun v9 h => ?_)
    refine jr_iconst (v := 0) C 225 rfl dX0_passes_224 (by decide) ?_
    refine jr_aload C 227 rfl dX0_passes_225 0 rfl ?_
    refine jr_getiN C 230 rfl fo_4_3 (jx_g q570 rfl) dX0_passes_227 h (fun v10 h => ?_)
    refine jr_iast C 231 rfl dX0_passes_230 h (fun S11 h => ?_)
    refine jr_aload_n C 232 rfl dX0_passes_231 rfl 1 rfl ?_
    refine jr_getr C 235 rfl fo_0_16 q244 dX0_passes_232 h (fun v12 h => ?_)
    refine jr_iload_n C 236 rfl dX0_passes_235 rfl 2 rfl ?_
    refine jr_aaldn C 237 rfl (t := 7) rfl rfl dX0_passes_236 h (fun v13 h => ?_)
    refine jr_iload C 239 rfl dX0_passes_237 3 rfl ?_
    refine jr_aaldn C 240 rfl (t := 6) rfl rfl dX0_passes_239 h (fun v14 h => ?_)
    refine jr_iconst (v := 1) C 241 rfl dX0_passes_240 (by decide) ?_
    refine jr_aload C 243 rfl dX0_passes_241 0 rfl ?_
    refine jr_getiN C 246 rfl fo_4_4 (jx_g q572 rfl) dX0_passes_243 h (fun v15 h => ?_)
    refine jr_iast C 247 rfl dX0_passes_246 h (fun S16 h => ?_)
    refine jr_aload C 249 rfl dX0_passes_247 0 rfl ?_
    refine jr_dup C 250 rfl dX0_passes_249 rfl ?_
    refine jr_getiN C 253 rfl fo_4_7 (jx_g q577 rfl) dX0_passes_250 h (fun v17 h => ?_)
    refine jr_aload C 255 rfl dX0_passes_253 0 rfl ?_
    refine jr_getiN C 258 rfl fo_4_3 (jx_g q570 rfl) dX0_passes_255 h (fun v18 h => ?_)
    refine jr_iconst (v := 1) C 259 rfl dX0_passes_258 (by decide) ?_
    refine jr_icmp_ne C 266 262 rfl dX0_passes_259 (by decide) (fun c19 => ?_) (fun c19 => ?_)
    · have h := h.1 c19
      refine jr_iconst (v := 1) C 263 rfl dX0_passes_262 (by decide) ?_
      refine jr_goto C 267 dX0_passes_263 (by decide) ?_
      exact jr_sub [1, 2, 3] rfl (wk_X0_passes_267 C hc189 h)
    · have h := h.2 c19
      refine jr_iconst (v := 0) C 267 rfl dX0_passes_266 (by decide) ?_
      exact jr_sub [1, 2, 3] rfl (wk_X0_passes_267 C hc189 h)
theorem wk_X0_passes_189_L {X : jX} {G : jG} {K : jS → Unit → Prop} (C : jC (X, G, 6, jA X G tvv K) d_X0_passes cX0_passes "Samovar" none yX0_passes) {x0 : Nat} {x1 : Int32}  : ∀ (n : Nat) (z : jS × Int32), jlp n (wp_X0_passes_189_L x0 x1 K) z → jJ (X, G, 6, jA X G tvv K) z.1 [(0, .ref x0), (1, .int x1), (4, .int z.2)] 189 [] := by
  intro n
  induction n with
  | zero => intro z h; exact h.elim
  | succ n ih => intro z h; exact wk_X0_passes_189 C ih h
theorem wk_X0_passes_147 {X : jX} {G : jG} {K : jS → Unit → Prop} (C : jC (X, G, 6, jA X G tvv K) d_X0_passes cX0_passes "Samovar" none yX0_passes) {S : jS} {t0 : Nat} {t1 : Int32} {t2 : Int32} {x0 : Nat} {x1 : Int32} {x2 : Nat}  (h : wp_X0_passes_147 S t0 t1 t2 x0 x1 x2 K) : jJ (X, G, 6, jA X G tvv K) S [(0, .ref x0), (1, .int x1), (2, .ref x2)] 147 [.int t2, .int t1, .ref t0] := by
  unfold wp_X0_passes_147 at h
  refine jr_iast C 148 rfl dX0_passes_147 h (fun S1 h => ?_)
  refine jr_aload_n C 149 rfl dX0_passes_148 rfl 0 rfl ?_
  obtain ⟨⟨V, hb⟩, h⟩ := h
  refine jr_callVv (r0 := (RX0, TX0, 24)) (As := []) (st := []) C 152 rfl (m_X0_tire C.2.2.2.2.2.2.2.2.2.2.2.2.2.2.2 h) rfl hb rfl q959 q961 qs16 q94 q962 (by decide) (by decide) ndV_X0_tire (Nat.le_of_ble_eq_true rfl) dX0_passes_149 (fun S2 _ h => ?_)
  refine jr_aload_n C 153 rfl dX0_passes_152 rfl 2 rfl ?_
  refine jr_iconst (v := 0) C 154 rfl dX0_passes_153 (by decide) ?_
  refine jr_aload_n C 155 rfl dX0_passes_154 rfl 0 rfl ?_
  refine jr_geti C 158 rfl fo_0_7 q235 dX0_passes_155 h (fun v3 h => ?_)
  refine jr_iast C 159 rfl dX0_passes_158 h (fun S4 h => ?_)
  refine jr_aload_n C 160 rfl dX0_passes_159 rfl 2 rfl ?_
  refine jr_iconst (v := 1) C 161 rfl dX0_passes_160 (by decide) ?_
  refine jr_aload_n C 162 rfl dX0_passes_161 rfl 0 rfl ?_
  refine jr_geti C 165 rfl fo_0_8 q236 dX0_passes_162 h (fun v5 h => ?_)
  refine jr_iast C 166 rfl dX0_passes_165 h (fun S6 h => ?_)
  refine jr_aload_n C 167 rfl dX0_passes_166 rfl 2 rfl ?_
  refine jr_iconst (v := 2) C 168 rfl dX0_passes_167 (by decide) ?_
  refine jr_aload_n C 169 rfl dX0_passes_168 rfl 0 rfl ?_
  refine jr_geti C 172 rfl fo_0_9 q237 dX0_passes_169 h (fun v7 h => ?_)
  refine jr_iast C 173 rfl dX0_passes_172 h (fun S8 h => ?_)
  refine jr_aload_n C 174 rfl dX0_passes_173 rfl 0 rfl ?_
  refine jr_getr C 177 rfl fo_0_15 q243 dX0_passes_174 h (fun v9 h => ?_)
  refine jr_iload_n C 178 rfl dX0_passes_177 rfl 1 rfl ?_
  refine jr_aload_n C 179 rfl dX0_passes_178 rfl 0 rfl ?_
  refine jr_getr C 182 rfl fo_0_13 q241 dX0_passes_179 h (fun v10 h => ?_)
  obtain ⟨⟨V, hb⟩, h⟩ := h
  refine jr_callVi (r0 := (RJ2, TJ2, 3)) (As := []) (st := [.int x1, .ref v9]) C 185 rfl (m_J2_size C.2.2.2.2.2.2.2.2.2.2.2.2.2.2.2 h) rfl hb rfl q700 q378 q379 q99 q380 (by decide) (by decide) ndV_J2_size (Nat.le_of_ble_eq_true rfl) dX0_passes_182 (fun S11 r12 h => ?_)
  refine jr_iast C 186 rfl dX0_passes_185 h (fun S13 h => ?_)
  refine jr_iconst (v := 0) C 187 rfl dX0_passes_186 (by decide) ?_
  refine jr_istore (lv' := [(4, .int 0), (0, .ref x0), (1, .int x1), (2, .ref x2)]) C 189 rfl dX0_passes_187 (Nat.le_of_ble_eq_true rfl) rfl ?_
  obtain ⟨n, h⟩ := h
  exact jr_sub [1, 2, 0] rfl (wk_X0_passes_189_L C  n _ h)
theorem wk_X0_passes_131 {X : jX} {G : jG} {K : jS → Unit → Prop} (C : jC (X, G, 6, jA X G tvv K) d_X0_passes cX0_passes "Samovar" none yX0_passes) {S : jS} {t0 : Nat} {t1 : Int32} {t2 : Int32} {x0 : Nat} {x1 : Int32} {x2 : Nat} {x3 : Int32}  (h : wp_X0_passes_131 S t0 t1 t2 x0 x1 x2 x3 K) : jJ (X, G, 6, jA X G tvv K) S [(0, .ref x0), (1, .int x1), (2, .ref x2), (3, .int x3)] 131 [.int t2, .int t1, .ref t0] := by
  unfold wp_X0_passes_131 at h
  refine jr_iast C 132 rfl dX0_passes_131 h (fun S1 h => ?_)
  refine jr_aload_n C 133 rfl dX0_passes_132 rfl 2 rfl ?_
  refine jr_iconst (v := 5) C 134 rfl dX0_passes_133 (by decide) ?_
  refine jr_iload_n C 135 rfl dX0_passes_134 rfl 3 rfl ?_
  refine jr_if_eq C 146 138 rfl dX0_passes_135 (by decide) (fun c4 => ?_) (fun c4 => ?_)
  · have h := h.1 c4
    refine jr_iconst (v := (-1)) C 147 rfl dX0_passes_146 (by decide) ?_
    exact jr_sub [0, 1, 2] rfl (wk_X0_passes_147 C  h)
  · have h := h.2 c4
    refine jr_aload_n C 139 rfl dX0_passes_138 rfl 0 rfl ?_
    refine jr_iload_n C 140 rfl dX0_passes_139 rfl 1 rfl ?_
    obtain ⟨⟨V, hb⟩, h⟩ := h
    refine jr_callVi (r0 := (RX0, TX0, 24)) (As := [.int x1]) (st := [.int 5, .ref x2]) C 143 rfl (m_X0_serves C.2.2.2.2.2.2.2.2.2.2.2.2.2.2.2 h) rfl hb rfl q897 q899 qs15 q94 q900 (by decide) (by decide) ndV_X0_serves (Nat.le_of_ble_eq_true rfl) dX0_passes_140 (fun S2 r3 h => ?_)
    refine jr_goto C 147 dX0_passes_143 (by decide) ?_
    exact jr_sub [0, 1, 2] rfl (wk_X0_passes_147 C  h)
theorem wk_X0_passes_107 {X : jX} {G : jG} {K : jS → Unit → Prop} (C : jC (X, G, 6, jA X G tvv K) d_X0_passes cX0_passes "Samovar" none yX0_passes) {S : jS} {t0 : Int32} {x0 : Nat} {x1 : Int32} {x2 : Nat}  (h : wp_X0_passes_107 S t0 x0 x1 x2 K) : jJ (X, G, 6, jA X G tvv K) S [(0, .ref x0), (1, .int x1), (2, .ref x2)] 107 [.int t0] := by
  unfold wp_X0_passes_107 at h
  refine jr_istore_n (lv' := [(3, .int t0), (0, .ref x0), (1, .int x1), (2, .ref x2)]) C 108 rfl dX0_passes_107 rfl (Nat.le_of_ble_eq_true rfl) rfl ?_
  refine jr_aload_n C 109 rfl dX0_passes_108 rfl 1 rfl ?_
  refine jr_iload_n C 110 rfl dX0_passes_109 rfl 2 rfl ?_
  refine jr_iconst (v := 0) C 111 rfl dX0_passes_110 (by decide) ?_
  obtain ⟨⟨V, hb⟩, h⟩ := h
  refine jr_callVv (r0 := (RX0, TX0, 24)) (As := [.int x1, .int 0]) (st := []) C 114 rfl (m_X0_queues C.2.2.2.2.2.2.2.2.2.2.2.2.2.2.2 h) rfl hb rfl q889 q891 qs14 q94 q892 (by decide) (by decide) ndV_X0_queues (Nat.le_of_ble_eq_true rfl) dX0_passes_111 (fun S1 _ h => ?_)
  refine jr_aload_n C 115 rfl dX0_passes_114 rfl 1 rfl ?_
  refine jr_iload_n C 116 rfl dX0_passes_115 rfl 2 rfl ?_
  refine jr_iconst (v := 1) C 117 rfl dX0_passes_116 (by decide) ?_
  obtain ⟨⟨V, hb⟩, h⟩ := h
  refine jr_callVv (r0 := (RX0, TX0, 24)) (As := [.int x1, .int 1]) (st := []) C 120 rfl (m_X0_queues C.2.2.2.2.2.2.2.2.2.2.2.2.2.2.2 h) rfl hb rfl q889 q891 qs14 q94 q892 (by decide) (by decide) ndV_X0_queues (Nat.le_of_ble_eq_true rfl) dX0_passes_117 (fun S2 _ h => ?_)
  refine jr_aload_n C 121 rfl dX0_passes_120 rfl 3 rfl ?_
  refine jr_iconst (v := 4) C 122 rfl dX0_passes_121 (by decide) ?_
  refine jr_iload_n C 123 rfl dX0_passes_122 rfl 0 rfl ?_
  refine jr_if_eq C 130 126 rfl dX0_passes_123 (by decide) (fun c3 => ?_) (fun c3 => ?_)
  · have h := h.1 c3
    refine jr_iconst (v := 0) C 131 rfl dX0_passes_130 (by decide) ?_
    exact jr_sub [1, 2, 3, 0] rfl (wk_X0_passes_131 C  h)
  · have h := h.2 c3
    refine jr_iconst (v := 1) C 127 rfl dX0_passes_126 (by decide) ?_
    refine jr_goto C 131 dX0_passes_127 (by decide) ?_
    exact jr_sub [1, 2, 3, 0] rfl (wk_X0_passes_131 C  h)
theorem wk_X0_passes_106 {X : jX} {G : jG} {K : jS → Unit → Prop} (C : jC (X, G, 6, jA X G tvv K) d_X0_passes cX0_passes "Samovar" none yX0_passes) {S : jS} {x0 : Nat} {x1 : Int32} {x2 : Nat}  (h : wp_X0_passes_106 S x0 x1 x2 K) : jJ (X, G, 6, jA X G tvv K) S [(0, .ref x0), (1, .int x1), (2, .ref x2)] 106 [] := by
  unfold wp_X0_passes_106 at h
  refine jr_iconst (v := 0) C 107 rfl dX0_passes_106 (by decide) ?_
  exact (wk_X0_passes_107 C  h)
theorem wk_X0_passes_86 {X : jX} {G : jG} {K : jS → Unit → Prop} (C : jC (X, G, 6, jA X G tvv K) d_X0_passes cX0_passes "Samovar" none yX0_passes) {S : jS} {x0 : Nat} {x1 : Int32} {x2 : Nat}  (h : wp_X0_passes_86 S x0 x1 x2 K) : jJ (X, G, 6, jA X G tvv K) S [(0, .ref x0), (1, .int x1), (2, .ref x2)] 86 [] := by
  unfold wp_X0_passes_86 at h
  refine jr_aload_n C 87 rfl dX0_passes_86 rfl 0 rfl ?_
  refine jr_geti C 90 rfl fo_0_7 q235 dX0_passes_87 h (fun v1 h => ?_)
  refine jr_bipush (v := 80) C 92 rfl dX0_passes_90 (by decide) ?_
  refine jr_icmp_lt C 106 95 rfl dX0_passes_92 (by decide) (fun c4 => ?_) (fun c4 => ?_)
  · have h := h.1 c4
    exact (wk_X0_passes_106 C  h)
  · have h := h.2 c4
    refine jr_aload_n C 96 rfl dX0_passes_95 rfl 0 rfl ?_
    refine jr_geti C 99 rfl fo_0_8 q236 dX0_passes_96 h (fun v2 h => ?_)
    refine jr_if_le C 106 102 rfl dX0_passes_99 (by decide) (fun c3 => ?_) (fun c3 => ?_)
    · have h := h.1 c3
      exact (wk_X0_passes_106 C  h)
    · have h := h.2 c3
      refine jr_iconst (v := 1) C 103 rfl dX0_passes_102 (by decide) ?_
      refine jr_goto C 107 dX0_passes_103 (by decide) ?_
      exact (wk_X0_passes_107 C  h)
theorem wk_X0_passes_73 {X : jX} {G : jG} {K : jS → Unit → Prop} (C : jC (X, G, 6, jA X G tvv K) d_X0_passes cX0_passes "Samovar" none yX0_passes) {S : jS} {t0 : Nat} {t1 : Int32} {x0 : Nat} {x1 : Int32} {x2 : Nat}  (h : wp_X0_passes_73 S t0 t1 x0 x1 x2 K) : jJ (X, G, 6, jA X G tvv K) S [(0, .ref x0), (1, .int x1), (2, .ref x2)] 73 [.int t1, .ref t0] := by
  unfold wp_X0_passes_73 at h
  refine jr_putv C 76 rfl fo_0_8 (by decide) q236 dX0_passes_73 rfl rfl h (fun S1 h => ?_)
  refine jr_aload_n C 77 rfl dX0_passes_76 rfl 0 rfl ?_
  refine jr_dup C 78 rfl dX0_passes_77 rfl ?_
  refine jr_geti C 81 rfl fo_0_10 q238 dX0_passes_78 h (fun v2 h => ?_)
  refine jr_iconst (v := 1) C 82 rfl dX0_passes_81 (by decide) ?_
  refine jr_iadd C 83 rfl dX0_passes_82 ?_
  refine jr_putv C 86 rfl fo_0_10 (by decide) q238 dX0_passes_83 rfl rfl h (fun S3 h => ?_)
  exact (wk_X0_passes_86 C  h)
theorem wk_X0_passes_0 {X : jX} {G : jG} {K : jS → Unit → Prop} (C : jC (X, G, 6, jA X G tvv K) d_X0_passes cX0_passes "Samovar" none yX0_passes) {S : jS} {x0 : Nat} {x1 : Int32}  (h : wp_X0_passes S x0 x1 K) : jJ (X, G, 6, jA X G tvv K) S [(0, .ref x0), (1, .int x1)] 0 [] := by
  unfold wp_X0_passes at h
  refine jr_aload_n C 1 rfl dX0_passes_0 rfl 0 rfl ?_
  refine jr_iload_n C 2 rfl dX0_passes_1 rfl 1 rfl ?_
  obtain ⟨⟨V, hb⟩, h⟩ := h
  refine jr_callVv (r0 := (RX0, TX0, 24)) (As := [.int x1]) (st := []) C 5 rfl (m_X0_happens C.2.2.2.2.2.2.2.2.2.2.2.2.2.2.2 h) rfl hb rfl q844 q846 qs12 q94 q847 (by decide) (by decide) ndV_X0_happens (Nat.le_of_ble_eq_true rfl) dX0_passes_2 (fun S1 _ h => ?_)
  refine jr_aload_n C 6 rfl dX0_passes_5 rfl 0 rfl ?_
  refine jr_getr C 9 rfl fo_0_14 q242 dX0_passes_6 h (fun v2 h => ?_)
  refine jr_iload_n C 10 rfl dX0_passes_9 rfl 1 rfl ?_
  refine jr_aaldn C 11 rfl (t := 6) rfl rfl dX0_passes_10 h (fun v3 h => ?_)
  refine jr_astore_n (lv' := [(2, .ref v3), (0, .ref x0), (1, .int x1)]) C 12 rfl dX0_passes_11 rfl (Nat.le_of_ble_eq_true rfl) rfl ?_
  refine jr_aload_n C 13 rfl dX0_passes_12 rfl 0 rfl ?_
  refine jr_iconst (v := 3) C 14 rfl dX0_passes_13 (by decide) ?_
  refine jr_aload_n C 15 rfl dX0_passes_14 rfl 1 rfl ?_
  refine jr_iload_n C 16 rfl dX0_passes_15 rfl 2 rfl ?_
  obtain ⟨⟨V, hb⟩, h⟩ := h
  refine jr_callVi (r0 := (RX0, TX0, 24)) (As := [.int x1]) (st := [.int 3, .ref v3]) C 19 rfl (m_X0_fire C.2.2.2.2.2.2.2.2.2.2.2.2.2.2.2 h) rfl hb rfl q854 q856 qs13 q94 q857 (by decide) (by decide) ndV_X0_fire (Nat.le_of_ble_eq_true rfl) dX0_passes_16 (fun S4 r5 h => ?_)
  refine jr_iast C 20 rfl dX0_passes_19 h (fun S6 h => ?_)
  refine jr_aload_n C 21 rfl dX0_passes_20 rfl 1 rfl ?_
  refine jr_aload_n C 22 rfl dX0_passes_21 rfl 1 rfl ?_
  refine jr_geti C 25 rfl fo_0_7 q235 dX0_passes_22 h (fun v7 h => ?_)
  refine jr_aload_n C 26 rfl dX0_passes_25 rfl 0 rfl ?_
  refine jr_iconst (v := 3) C 27 rfl dX0_passes_26 (by decide) ?_
  refine jr_iald C 28 rfl dX0_passes_27 h (fun v8 h => ?_)
  refine jr_iadd C 29 rfl dX0_passes_28 ?_
  refine jr_iconst (v := 2) C 30 rfl dX0_passes_29 (by decide) ?_
  refine jr_isub C 31 rfl dX0_passes_30 ?_
  refine jr_aload_n C 32 rfl dX0_passes_31 rfl 1 rfl ?_
  refine jr_geti C 35 rfl fo_0_8 q236 dX0_passes_32 h (fun v9 h => ?_)
  refine jr_iconst (v := 5) C 36 rfl dX0_passes_35 (by decide) ?_
  obtain ⟨hz, h⟩ := h
  refine jr_idiv C 37 rfl dX0_passes_36 hz ?_
  refine jr_isub C 38 rfl dX0_passes_37 ?_
  refine jr_iconst (v := 0) C 39 rfl dX0_passes_38 (by decide) ?_
  refine jr_callSi (As := [.int (((v7 + v8) - 2) - (v9 / 5)), .int 0]) (st := [.ref x0]) C 42 rfl (m_J7_max C.2.2.2.2.2.2.2.2.2.2.2.2.2.2.2 h) rfl q853 q486 q108 q487 (by decide) (by decide) nd_J7_max (Nat.le_of_ble_eq_true rfl) dX0_passes_39 (fun S10 r11 h => ?_)
  refine jr_bipush (v := 100) C 44 rfl dX0_passes_42 (by decide) ?_
  refine jr_callSi (As := [.int r11, .int 100]) (st := [.ref x0]) C 47 rfl (m_J7_min C.2.2.2.2.2.2.2.2.2.2.2.2.2.2.2 h) rfl q852 q489 q108 q490 (by decide) (by decide) nd_J7_min (Nat.le_of_ble_eq_true rfl) dX0_passes_44 (fun S12 r13 h => ?_)
  refine jr_putv C 50 rfl fo_0_7 (by decide) q235 dX0_passes_47 rfl rfl h (fun S14 h => ?_)
  refine jr_aload_n C 51 rfl dX0_passes_50 rfl 1 rfl ?_
  refine jr_geti C 54 rfl fo_0_7 q235 dX0_passes_51 h (fun v15 h => ?_)
  refine jr_bipush (v := 100) C 56 rfl dX0_passes_54 (by decide) ?_
  refine jr_icmp_ne C 86 59 rfl dX0_passes_56 (by decide) (fun c19 => ?_) (fun c19 => ?_)
  · have h := h.1 c19
    refine jr_aload_n C 60 rfl dX0_passes_59 rfl 1 rfl ?_
    refine jr_geti C 63 rfl fo_0_8 q236 dX0_passes_60 h (fun v16 h => ?_)
    refine jr_if_le C 86 66 rfl dX0_passes_63 (by decide) (fun c18 => ?_) (fun c18 => ?_)
    · have h := h.1 c18
      exact jr_sub [1, 2, 0] rfl (wk_X0_passes_86 C  h)
    · have h := h.2 c18
      refine jr_aload_n C 67 rfl dX0_passes_66 rfl 1 rfl ?_
      refine jr_dup C 68 rfl dX0_passes_67 rfl ?_
      refine jr_geti C 71 rfl fo_0_8 q236 dX0_passes_68 h (fun v17 h => ?_)
      refine jr_iconst (v := 1) C 72 rfl dX0_passes_71 (by decide) ?_
      refine jr_isub C 73 rfl dX0_passes_72 ?_
      exact jr_sub [1, 2, 0] rfl (wk_X0_passes_73 C  h)
  · have h := h.2 c19
    exact jr_sub [1, 2, 0] rfl (wk_X0_passes_86 C  h)
theorem m_X0_passes {l : Launch} (hl : l.stackTraces = false) {G : jG} {K : jS → Unit → Prop} {S : jS} {x0 : Nat} {x1 : Int32} (h : wp_X0_passes S x0 x1 K) : jMet l G d_X0_passes yX0_passes (ws_ yX0_passes cX0_passes 6 none) [.ref x0, .int x1] S tvv K :=
  jMet.of hl rfl (by decide) (Nat.le_of_ble_eq_true rfl) (fun X C => jr_sub [0, 1] rfl (wk_X0_passes_0 C h))
theorem ndD_Company_read_2 : ("Samovar$Text" : String) ≠ "java/lang/invoke/MethodHandle" ∧ ("Samovar$Text" : String) ≠ "java/lang/invoke/VarHandle" ∧ (parseMethodDescriptor "()I").map (fun d => d.parameters.length) = some 0 := by decide +kernel
theorem dr_Company_read_2 {Z : jZ} {d : Nat} {cc : ByteArray} {own : String} {ret : Option FieldType} {y : MethodName} {pc : Nat} {S : jS} {lv : List (Nat × Value)} {st As : List Value} (C : jC Z d cc own ret y) (pc' : Nat) (hp : pc + 3 = pc') {a : Nat}  {K : jS → Int32 → Prop} {stk : List Value} (h : wpD_Company_read_2 S a  K) (hstk : [].reverse ++ .ref a :: st = stk) {index : Nat} (q1 : Cond.methodLink own index (⟨"Samovar$Company", "read", "()I"⟩ : MethodName) ∈ lw_all) (hd : d_D_Company_read_2 + 1 ≤ d) (hst : (st.map fun v => v.category).sum ≤ 8) (hdg : decode cc pc = .ok (.invokevirtual index, 3)) (kk : ∀ (S1 : jS) (r : Int32), K S1 r → jJ Z S1 lv pc' (.int r :: st)) : jJ Z S lv pc stk := by
  unfold wpD_Company_read_2 at h
  obtain ⟨⟨V, hb⟩, h⟩ := h
  exact jr_callUi (As := []) (r0 := (RX3, TX3, 6)) (owner := "Samovar$Text") C pc' hp (m_X1_read C.2.2.2.2.2.2.2.2.2.2.2.2.2.2.2 h) hstk hb rfl (va_Decl.abs (C.2.2.2.2.2.2.2.1.2.2.2.1 _ (jx_g q698 rfl))) q1 q749 (C.2.2.2.2.1 _ q750) q343 q95 q347 (Nat.le_trans (Nat.le_of_ble_eq_true rfl) hd) (by decide) ndD_Company_read_2 hst hdg kk
theorem wk_X0_find_22 {X : jX} {G : jG} {K : jS → Unit → Prop} (C : jC (X, G, 2, jA X G tvv K) d_X0_find cX0_find "Samovar" none yX0_find) {S : jS} {t0 : Nat} {x0 : Nat} {x1 : Int32} {Kc10 : jS × Int32 → Prop} (hc10 : ∀ z : jS × Int32, Kc10 z → jJ (X, G, 2, jA X G tvv K) z.1 [(0, .ref x0), (1, .int z.2)] 10 []) (h : wp_X0_find_22 S t0 x0 x1 Kc10 K) : jJ (X, G, 2, jA X G tvv K) S [(0, .ref x0), (1, .int x1)] 22 [.ref t0] := by
  unfold wp_X0_find_22 at h
  refine jr_getr C 25 rfl fo_0_4 q232 dX0_find_22 h (fun v1 h => ?_)
  refine jr_iload_n C 26 rfl dX0_find_25 rfl 1 rfl ?_
  obtain ⟨⟨V, hb⟩, h⟩ := h
  refine jr_callVr (r0 := (RJ2, TJ2, 3)) (As := [.int x1]) (st := []) C 29 rfl (m_J2_get C.2.2.2.2.2.2.2.2.2.2.2.2.2.2.2 h) rfl hb rfl q702 q703 q704 q99 q705 (by decide) (by decide) ndV_J2_get (Nat.le_of_ble_eq_true rfl) dX0_find_26 (fun S2 r3 h => ?_)
  obtain ⟨hz, h⟩ := h
  refine jr_cast C 32 rfl (cs := [4]) can_Samovar_Guest (by decide) q213 dX0_find_29 hz ?_
  obtain ⟨⟨V, hb⟩, h⟩ := h
  refine jr_callVv (r0 := (RX7, TX7, 8)) (As := []) (st := []) C 35 rfl (m_X7_begins C.2.2.2.2.2.2.2.2.2.2.2.2.2.2.2 h) rfl hb rfl q835 q836 q837 q112 q838 (by decide) (by decide) ndV_X7_begins (Nat.le_of_ble_eq_true rfl) dX0_find_32 (fun S4 _ h => ?_)
  refine jr_iinc (v := (x1 + 1)) (lv' := [(1, .int (x1 + 1)), (0, .ref x0)]) C 38 rfl dX0_find_35 1 rfl rfl (Nat.le_of_ble_eq_true rfl) rfl ?_
  refine jr_goto C 10 dX0_find_38 (by decide) ?_
  exact jr_sub [1, 0] rfl (hc10 _ h)
theorem wk_X0_find_93 {X : jX} {G : jG} {K : jS → Unit → Prop} (C : jC (X, G, 2, jA X G tvv K) d_X0_find cX0_find "Samovar" none yX0_find) {S : jS} {t0 : Nat} {t1 : Int32} {x0 : Nat} {x1 : Int32} {Kc85 : jS × Int32 → Prop} (hc85 : ∀ z : jS × Int32, Kc85 z → jJ (X, G, 2, jA X G tvv K) z.1 [(0, .ref x0), (1, .int z.2)] 85 []) (h : wp_X0_find_93 S t0 t1 x0 x1 Kc85 K) : jJ (X, G, 2, jA X G tvv K) S [(0, .ref x0), (1, .int x1)] 93 [.int t1, .ref t0] := by
  unfold wp_X0_find_93 at h
  obtain ⟨⟨V, hb⟩, h⟩ := h
  refine jr_callVv (r0 := (RX0, TX0, 24)) (As := [.int t1]) (st := []) C 96 rfl (m_X0_passes C.2.2.2.2.2.2.2.2.2.2.2.2.2.2.2 h) rfl hb rfl q840 q842 qs11 q94 q843 (by decide) (by decide) ndV_X0_passes (Nat.le_of_ble_eq_true rfl) dX0_find_93 (fun S1 _ h => ?_)
  refine jr_iinc (v := (x1 + 1)) (lv' := [(1, .int (x1 + 1)), (0, .ref x0)]) C 99 rfl dX0_find_96 1 rfl rfl (Nat.le_of_ble_eq_true rfl) rfl ?_
  refine jr_goto C 85 dX0_find_99 (by decide) ?_
  exact jr_sub [1, 0] rfl (hc85 _ h)
theorem wk_X0_find_85 {X : jX} {G : jG} {K : jS → Unit → Prop} (C : jC (X, G, 2, jA X G tvv K) d_X0_find cX0_find "Samovar" none yX0_find) {S : jS} {x0 : Nat} {x1 : Int32} {Kc85 : jS × Int32 → Prop} (hc85 : ∀ z : jS × Int32, Kc85 z → jJ (X, G, 2, jA X G tvv K) z.1 [(0, .ref x0), (1, .int z.2)] 85 []) (h : wp_X0_find_85 S x0 x1 Kc85 K) : jJ (X, G, 2, jA X G tvv K) S [(0, .ref x0), (1, .int x1)] 85 [] := by
  unfold wp_X0_find_85 at h
  refine jr_iload_n C 86 rfl dX0_find_85 rfl 1 rfl ?_
  refine jr_bipush (v := 24) C 88 rfl dX0_find_86 (by decide) ?_
  refine jr_icmp_ge C 102 91 rfl dX0_find_88 (by decide) (fun c1 => ?_) (fun c1 => ?_)
  · have h := h.1 c1
    exact jr_return C dX0_find_102 h
  · have h := h.2 c1
    refine jr_aload_n C 92 rfl dX0_find_91 rfl 0 rfl ?_
    refine jr_iload_n C 93 rfl dX0_find_92 rfl 1 rfl ?_
    exact (wk_X0_find_93 C hc85 h)
theorem wk_X0_find_85_L {X : jX} {G : jG} {K : jS → Unit → Prop} (C : jC (X, G, 2, jA X G tvv K) d_X0_find cX0_find "Samovar" none yX0_find) {x0 : Nat}  : ∀ (n : Nat) (z : jS × Int32), jlp n (wp_X0_find_85_L x0 K) z → jJ (X, G, 2, jA X G tvv K) z.1 [(0, .ref x0), (1, .int z.2)] 85 [] := by
  intro n
  induction n with
  | zero => intro z h; exact h.elim
  | succ n ih => intro z h; exact wk_X0_find_85 C ih h
theorem wk_X0_find_42 {X : jX} {G : jG} {K : jS → Unit → Prop} (C : jC (X, G, 2, jA X G tvv K) d_X0_find cX0_find "Samovar" none yX0_find) {S : jS} {t0 : Nat} {x0 : Nat}  (h : wp_X0_find_42 S t0 x0 K) : jJ (X, G, 2, jA X G tvv K) S [(0, .ref x0)] 42 [.ref t0] := by
  unfold wp_X0_find_42 at h
  refine jr_getr C 45 rfl fo_0_13 q241 dX0_find_42 h (fun v1 h => ?_)
  obtain ⟨⟨V, hb⟩, h⟩ := h
  refine jr_callVv (r0 := (RJ2, TJ2, 3)) (As := []) (st := []) C 48 rfl (m_J2_clear C.2.2.2.2.2.2.2.2.2.2.2.2.2.2.2 h) rfl hb rfl q839 q360 q361 q99 q362 (by decide) (by decide) ndV_J2_clear (Nat.le_of_ble_eq_true rfl) dX0_find_45 (fun S2 _ h => ?_)
  refine jr_aload_n C 49 rfl dX0_find_48 rfl 0 rfl ?_
  refine jr_iconst (v := 0) C 50 rfl dX0_find_49 (by decide) ?_
  refine jr_putv C 53 rfl fo_0_7 (by decide) q235 dX0_find_50 rfl rfl h (fun S3 h => ?_)
  refine jr_aload_n C 54 rfl dX0_find_53 rfl 0 rfl ?_
  refine jr_aload_n C 55 rfl dX0_find_54 rfl 0 rfl ?_
  refine jr_getr C 58 rfl fo_0_5 q233 dX0_find_55 h (fun v4 h => ?_)
  refine jr_iconst (v := 0) C 59 rfl dX0_find_58 (by decide) ?_
  refine jr_iald C 60 rfl dX0_find_59 h (fun v5 h => ?_)
  refine jr_putv C 63 rfl fo_0_8 (by decide) q236 dX0_find_60 rfl rfl h (fun S6 h => ?_)
  refine jr_aload_n C 64 rfl dX0_find_63 rfl 0 rfl ?_
  refine jr_aload_n C 65 rfl dX0_find_64 rfl 0 rfl ?_
  refine jr_getr C 68 rfl fo_0_5 q233 dX0_find_65 h (fun v7 h => ?_)
  refine jr_iconst (v := 1) C 69 rfl dX0_find_68 (by decide) ?_
  refine jr_iald C 70 rfl dX0_find_69 h (fun v8 h => ?_)
  refine jr_putv C 73 rfl fo_0_9 (by decide) q237 dX0_find_70 rfl rfl h (fun S9 h => ?_)
  refine jr_aload_n C 74 rfl dX0_find_73 rfl 0 rfl ?_
  refine jr_iconst (v := 0) C 75 rfl dX0_find_74 (by decide) ?_
  refine jr_putv C 78 rfl fo_0_10 (by decide) q238 dX0_find_75 rfl rfl h (fun S10 h => ?_)
  refine jr_aload_n C 79 rfl dX0_find_78 rfl 0 rfl ?_
  refine jr_iconst (v := 0) C 80 rfl dX0_find_79 (by decide) ?_
  refine jr_putv C 83 rfl fo_0_11 (by decide) q239 dX0_find_80 rfl rfl h (fun S11 h => ?_)
  refine jr_iconst (v := 0) C 84 rfl dX0_find_83 (by decide) ?_
  refine jr_istore_n (lv' := [(1, .int 0), (0, .ref x0)]) C 85 rfl dX0_find_84 rfl (Nat.le_of_ble_eq_true rfl) rfl ?_
  obtain ⟨n, h⟩ := h
  exact jr_sub [1, 0] rfl (wk_X0_find_85_L C  n _ h)
theorem wk_X0_find_10 {X : jX} {G : jG} {K : jS → Unit → Prop} (C : jC (X, G, 2, jA X G tvv K) d_X0_find cX0_find "Samovar" none yX0_find) {S : jS} {x0 : Nat} {x1 : Int32} {Kc10 : jS × Int32 → Prop} (hc10 : ∀ z : jS × Int32, Kc10 z → jJ (X, G, 2, jA X G tvv K) z.1 [(0, .ref x0), (1, .int z.2)] 10 []) (h : wp_X0_find_10 S x0 x1 Kc10 K) : jJ (X, G, 2, jA X G tvv K) S [(0, .ref x0), (1, .int x1)] 10 [] := by
  unfold wp_X0_find_10 at h
  refine jr_iload_n C 11 rfl dX0_find_10 rfl 1 rfl ?_
  refine jr_aload_n C 12 rfl dX0_find_11 rfl 0 rfl ?_
  refine jr_getr C 15 rfl fo_0_4 q232 dX0_find_12 h (fun v1 h => ?_)
  obtain ⟨⟨V, hb⟩, h⟩ := h
  refine jr_callVi (r0 := (RJ2, TJ2, 3)) (As := []) (st := [.int x1]) C 18 rfl (m_J2_size C.2.2.2.2.2.2.2.2.2.2.2.2.2.2.2 h) rfl hb rfl q700 q378 q379 q99 q380 (by decide) (by decide) ndV_J2_size (Nat.le_of_ble_eq_true rfl) dX0_find_15 (fun S2 r3 h => ?_)
  refine jr_icmp_ge C 41 21 rfl dX0_find_18 (by decide) (fun c4 => ?_) (fun c4 => ?_)
  · have h := h.1 c4
    refine jr_aload_n C 42 rfl dX0_find_41 rfl 0 rfl ?_
    exact jr_sub [0] rfl (wk_X0_find_42 C  h)
  · have h := h.2 c4
    refine jr_aload_n C 22 rfl dX0_find_21 rfl 0 rfl ?_
    exact (wk_X0_find_22 C hc10 h)
theorem wk_X0_find_10_L {X : jX} {G : jG} {K : jS → Unit → Prop} (C : jC (X, G, 2, jA X G tvv K) d_X0_find cX0_find "Samovar" none yX0_find) {x0 : Nat}  : ∀ (n : Nat) (z : jS × Int32), jlp n (wp_X0_find_10_L x0 K) z → jJ (X, G, 2, jA X G tvv K) z.1 [(0, .ref x0), (1, .int z.2)] 10 [] := by
  intro n
  induction n with
  | zero => intro z h; exact h.elim
  | succ n ih => intro z h; exact wk_X0_find_10 C ih h
theorem wk_X0_find_0 {X : jX} {G : jG} {K : jS → Unit → Prop} (C : jC (X, G, 2, jA X G tvv K) d_X0_find cX0_find "Samovar" none yX0_find) {S : jS} {x0 : Nat}  (h : wp_X0_find S x0 K) : jJ (X, G, 2, jA X G tvv K) S [(0, .ref x0)] 0 [] := by
  unfold wp_X0_find at h
  refine jr_aload_n C 1 rfl dX0_find_0 rfl 0 rfl ?_
  refine jr_getr C 4 rfl fo_0_2 q230 dX0_find_1 h (fun v1 h => ?_)
  refine dr_Company_read_2 (As := []) (st := []) C 7 rfl h rfl q748 (by decide) (Nat.le_of_ble_eq_true rfl) dX0_find_4 (fun S2 r3 h => ?_)
  refine jr_pop C 8 rfl dX0_find_7 rfl ?_
  refine jr_iconst (v := 0) C 9 rfl dX0_find_8 (by decide) ?_
  refine jr_istore_n (lv' := [(1, .int 0), (0, .ref x0)]) C 10 rfl dX0_find_9 rfl (Nat.le_of_ble_eq_true rfl) rfl ?_
  obtain ⟨n, h⟩ := h
  exact jr_sub [1, 0] rfl (wk_X0_find_10_L C  n _ h)
theorem m_X0_find {l : Launch} (hl : l.stackTraces = false) {G : jG} {K : jS → Unit → Prop} {S : jS} {x0 : Nat} (h : wp_X0_find S x0 K) : jMet l G d_X0_find yX0_find (ws_ yX0_find cX0_find 2 none) [.ref x0] S tvv K :=
  jMet.of hl rfl (by decide) (Nat.le_of_ble_eq_true rfl) (fun X C => jr_sub [0] rfl (wk_X0_find_0 C h))
theorem wk_X0_isSeen_64 {X : jX} {G : jG} {K : jS → Int32 → Prop} (C : jC (X, G, 3, jA X G tvi K) d_X0_isSeen cX0_isSeen "Samovar" (some .boolean) yX0_isSeen) {S : jS} {t0 : Int32} {x0 : Nat} {x2 : Int32} {Kc8 : jS × Int32 × Int32 → Prop} (hc8 : ∀ z : jS × Int32 × Int32, Kc8 z → jJ (X, G, 3, jA X G tvi K) z.1 [(0, .ref x0), (1, .int z.2.1), (2, .int z.2.2)] 8 []) (h : wp_X0_isSeen_64 S t0 x0 x2 Kc8 K) : jJ (X, G, 3, jA X G tvi K) S [(0, .ref x0), (2, .int x2)] 64 [.int t0] := by
  unfold wp_X0_isSeen_64 at h
  refine jr_istore_n (lv' := [(1, .int t0), (0, .ref x0), (2, .int x2)]) C 65 rfl dX0_isSeen_64 rfl (Nat.le_of_ble_eq_true rfl) rfl ?_
  refine jr_iinc (v := (x2 + 1)) (lv' := [(2, .int (x2 + 1)), (1, .int t0), (0, .ref x0)]) C 68 rfl dX0_isSeen_65 2 rfl rfl (Nat.le_of_ble_eq_true rfl) rfl ?_
  refine jr_goto C 8 dX0_isSeen_68 (by decide) ?_
  exact jr_sub [2, 1, 0] rfl (hc8 _ h)
theorem wk_X0_isSeen_71 {X : jX} {G : jG} {K : jS → Int32 → Prop} (C : jC (X, G, 3, jA X G tvi K) d_X0_isSeen cX0_isSeen "Samovar" (some .boolean) yX0_isSeen) {S : jS} {x1 : Int32}  (h : wp_X0_isSeen_71 S x1 K) : jJ (X, G, 3, jA X G tvi K) S [(1, .int x1)] 71 [] := by
  unfold wp_X0_isSeen_71 at h
  refine jr_iload_n C 72 rfl dX0_isSeen_71 rfl 0 rfl ?_
  exact jr_zreturn C dX0_isSeen_72 h
theorem wk_X0_isSeen_8 {X : jX} {G : jG} {K : jS → Int32 → Prop} (C : jC (X, G, 3, jA X G tvi K) d_X0_isSeen cX0_isSeen "Samovar" (some .boolean) yX0_isSeen) {S : jS} {x0 : Nat} {x1 : Int32} {x2 : Int32} {Kc8 : jS × Int32 × Int32 → Prop} (hc8 : ∀ z : jS × Int32 × Int32, Kc8 z → jJ (X, G, 3, jA X G tvi K) z.1 [(0, .ref x0), (1, .int z.2.1), (2, .int z.2.2)] 8 []) (h : wp_X0_isSeen_8 S x0 x1 x2 Kc8 K) : jJ (X, G, 3, jA X G tvi K) S [(0, .ref x0), (1, .int x1), (2, .int x2)] 8 [] := by
  unfold wp_X0_isSeen_8 at h
  refine jr_iload_n C 9 rfl dX0_isSeen_8 rfl 2 rfl ?_
  refine jr_aload_n C 10 rfl dX0_isSeen_9 rfl 0 rfl ?_
  refine jr_getr C 13 rfl fo_0_18 q246 dX0_isSeen_10 h (fun v1 h => ?_)
  obtain ⟨⟨V, hb⟩, h⟩ := h
  refine jr_callVi (r0 := (RJ2, TJ2, 3)) (As := []) (st := [.int x2]) C 16 rfl (m_J2_size C.2.2.2.2.2.2.2.2.2.2.2.2.2.2.2 h) rfl hb rfl q700 q378 q379 q99 q380 (by decide) (by decide) ndV_J2_size (Nat.le_of_ble_eq_true rfl) dX0_isSeen_13 (fun S2 r3 h => ?_)
  refine jr_icmp_ge C 71 19 rfl dX0_isSeen_16 (by decide) (fun c17 => ?_) (fun c17 => ?_)
  · have h := h.1 c17
    exact jr_sub [1] rfl (wk_X0_isSeen_71 C  h)
  · have h := h.2 c17
    refine jr_iload_n C 20 rfl dX0_isSeen_19 rfl 1 rfl ?_
    refine jr_if_eq C 71 23 rfl dX0_isSeen_20 (by decide) (fun c16 => ?_) (fun c16 => ?_)
    · have h := h.1 c16
      exact jr_sub [1] rfl (wk_X0_isSeen_71 C  h)
    · have h := h.2 c16
      refine jr_aload_n C 24 rfl dX0_isSeen_23 rfl 0 rfl ?_
      refine jr_getr C 27 rfl fo_0_14 q242 dX0_isSeen_24 h (fun v4 h => ?_)
      refine jr_aload_n C 28 rfl dX0_isSeen_27 rfl 0 rfl ?_
      refine jr_getr C 31 rfl fo_0_18 q246 dX0_isSeen_28 h (fun v5 h => ?_)
      refine jr_iload_n C 32 rfl dX0_isSeen_31 rfl 2 rfl ?_
      obtain ⟨⟨V, hb⟩, h⟩ := h
      refine jr_callVr (r0 := (RJ2, TJ2, 3)) (As := [.int x2]) (st := [.ref v4]) C 35 rfl (m_J2_get C.2.2.2.2.2.2.2.2.2.2.2.2.2.2.2 h) rfl hb rfl q702 q703 q704 q99 q705 (by decide) (by decide) ndV_J2_get (Nat.le_of_ble_eq_true rfl) dX0_isSeen_32 (fun S6 r7 h => ?_)
      obtain ⟨hz, h⟩ := h
      refine jr_castA C 38 rfl (t := 0) (eq_true (by decide)) (by decide) (nm := "[I") rfl q848 dX0_isSeen_35 hz ?_
      refine jr_iconst (v := 0) C 39 rfl dX0_isSeen_38 (by decide) ?_
      refine jr_iald C 40 rfl dX0_isSeen_39 h (fun v8 h => ?_)
      refine jr_aaldn C 41 rfl (t := 6) rfl rfl dX0_isSeen_40 h (fun v9 h => ?_)
      refine jr_iconst (v := 4) C 42 rfl dX0_isSeen_41 (by decide) ?_
      refine jr_iald C 43 rfl dX0_isSeen_42 h (fun v10 h => ?_)
      refine jr_aload_n C 44 rfl dX0_isSeen_43 rfl 0 rfl ?_
      refine jr_getr C 47 rfl fo_0_18 q246 dX0_isSeen_44 h (fun v11 h => ?_)
      refine jr_iload_n C 48 rfl dX0_isSeen_47 rfl 2 rfl ?_
      obtain ⟨⟨V, hb⟩, h⟩ := h
      refine jr_callVr (r0 := (RJ2, TJ2, 3)) (As := [.int x2]) (st := [.int v10]) C 51 rfl (m_J2_get C.2.2.2.2.2.2.2.2.2.2.2.2.2.2.2 h) rfl hb rfl q702 q703 q704 q99 q705 (by decide) (by decide) ndV_J2_get (Nat.le_of_ble_eq_true rfl) dX0_isSeen_48 (fun S12 r13 h => ?_)
      obtain ⟨hz, h⟩ := h
      refine jr_castA C 54 rfl (t := 0) (eq_true (by decide)) (by decide) (nm := "[I") rfl q848 dX0_isSeen_51 hz ?_
      refine jr_iconst (v := 1) C 55 rfl dX0_isSeen_54 (by decide) ?_
      refine jr_iald C 56 rfl dX0_isSeen_55 h (fun v14 h => ?_)
      refine jr_icmp_ne C 63 59 rfl dX0_isSeen_56 (by decide) (fun c15 => ?_) (fun c15 => ?_)
      · have h := h.1 c15
        refine jr_iconst (v := 1) C 60 rfl dX0_isSeen_59 (by decide) ?_
        refine jr_goto C 64 dX0_isSeen_60 (by decide) ?_
        exact jr_sub [0, 2] rfl (wk_X0_isSeen_64 C hc8 h)
      · have h := h.2 c15
        refine jr_iconst (v := 0) C 64 rfl dX0_isSeen_63 (by decide) ?_
        exact jr_sub [0, 2] rfl (wk_X0_isSeen_64 C hc8 h)
theorem wk_X0_isSeen_8_L {X : jX} {G : jG} {K : jS → Int32 → Prop} (C : jC (X, G, 3, jA X G tvi K) d_X0_isSeen cX0_isSeen "Samovar" (some .boolean) yX0_isSeen) {x0 : Nat}  : ∀ (n : Nat) (z : jS × Int32 × Int32), jlp n (wp_X0_isSeen_8_L x0 K) z → jJ (X, G, 3, jA X G tvi K) z.1 [(0, .ref x0), (1, .int z.2.1), (2, .int z.2.2)] 8 [] := by
  intro n
  induction n with
  | zero => intro z h; exact h.elim
  | succ n ih => intro z h; exact wk_X0_isSeen_8 C ih h
theorem wk_X0_isSeen_0 {X : jX} {G : jG} {K : jS → Int32 → Prop} (C : jC (X, G, 3, jA X G tvi K) d_X0_isSeen cX0_isSeen "Samovar" (some .boolean) yX0_isSeen) {S : jS} {x0 : Nat}  (h : wp_X0_isSeen S x0 K) : jJ (X, G, 3, jA X G tvi K) S [(0, .ref x0)] 0 [] := by
  unfold wp_X0_isSeen at h
  refine jr_aload_n C 1 rfl dX0_isSeen_0 rfl 0 rfl ?_
  obtain ⟨⟨V, hb⟩, h⟩ := h
  refine jr_callVv (r0 := (RX0, TX0, 24)) (As := []) (st := []) C 4 rfl (m_X0_find C.2.2.2.2.2.2.2.2.2.2.2.2.2.2.2 h) rfl hb rfl q831 q833 qs10 q94 q834 (by decide) (by decide) ndV_X0_find (Nat.le_of_ble_eq_true rfl) dX0_isSeen_1 (fun S1 _ h => ?_)
  refine jr_iconst (v := 1) C 5 rfl dX0_isSeen_4 (by decide) ?_
  refine jr_istore_n (lv' := [(1, .int 1), (0, .ref x0)]) C 6 rfl dX0_isSeen_5 rfl (Nat.le_of_ble_eq_true rfl) rfl ?_
  refine jr_iconst (v := 0) C 7 rfl dX0_isSeen_6 (by decide) ?_
  refine jr_istore_n (lv' := [(2, .int 0), (1, .int 1), (0, .ref x0)]) C 8 rfl dX0_isSeen_7 rfl (Nat.le_of_ble_eq_true rfl) rfl ?_
  obtain ⟨n, h⟩ := h
  exact jr_sub [2, 1, 0] rfl (wk_X0_isSeen_8_L C  n _ h)
theorem m_X0_isSeen {l : Launch} (hl : l.stackTraces = false) {G : jG} {K : jS → Int32 → Prop} {S : jS} {x0 : Nat} (h : wp_X0_isSeen S x0 K) : jMet l G d_X0_isSeen yX0_isSeen (ws_ yX0_isSeen cX0_isSeen 3 (some .boolean)) [.ref x0] S tvi K :=
  jMet.of hl rfl (by decide) (Nat.le_of_ble_eq_true rfl) (fun X C => jr_sub [0] rfl (wk_X0_isSeen_0 C h))
theorem wk_X0_watersNow_62 {X : jX} {G : jG} {K : jS → Int32 → Prop} (C : jC (X, G, 6, jA X G tvi K) d_X0_watersNow cX0_watersNow "Samovar" (some .int) yX0_watersNow) {S : jS} {t0 : Nat} {x0 : Nat} {x1 : Int32} {x2 : Int32} {x3 : Int32} {x4 : Int32} {Kc11 : jS × Int32 × Int32 → Prop} (hc11 : ∀ z : jS × Int32 × Int32, Kc11 z → jJ (X, G, 6, jA X G tvi K) z.1 [(0, .ref x0), (1, .int x1), (2, .int z.2.1), (3, .int z.2.2)] 11 []) {Kc51 : jS × Int32 → Prop} (hc51 : ∀ z : jS × Int32, Kc51 z → jJ (X, G, 6, jA X G tvi K) z.1 [(0, .ref x0), (1, .int x1), (2, .int x2), (3, .int x3), (4, .int z.2)] 51 []) (h : wp_X0_watersNow_62 S t0 x0 x1 x2 x3 x4 Kc11 Kc51 K) : jJ (X, G, 6, jA X G tvi K) S [(0, .ref x0), (1, .int x1), (2, .int x2), (3, .int x3), (4, .int x4)] 62 [.ref t0] := by
  unfold wp_X0_watersNow_62 at h
  refine jr_iload_n C 63 rfl dX0_watersNow_62 rfl 3 rfl ?_
  refine jr_dup2 C 64 rfl dX0_watersNow_63 rfl rfl ?_
  refine jr_iald C 65 rfl dX0_watersNow_64 h (fun v1 h => ?_)
  refine jr_aload_n C 66 rfl dX0_watersNow_65 rfl 0 rfl ?_
  refine jr_getr C 69 rfl fo_0_14 q242 dX0_watersNow_66 h (fun v2 h => ?_)
  refine jr_iload C 71 rfl dX0_watersNow_69 4 rfl ?_
  refine jr_aaldn C 72 rfl (t := 6) rfl rfl dX0_watersNow_71 h (fun v3 h => ?_)
  refine jr_iconst (v := 4) C 73 rfl dX0_watersNow_72 (by decide) ?_
  refine jr_iald C 74 rfl dX0_watersNow_73 h (fun v4 h => ?_)
  refine jr_iload C 76 rfl dX0_watersNow_74 4 rfl ?_
  refine jr_ishl C 77 rfl dX0_watersNow_76 ?_
  refine jr_ior C 78 rfl dX0_watersNow_77 ?_
  refine jr_iast C 79 rfl dX0_watersNow_78 h (fun S5 h => ?_)
  refine jr_iinc (v := (x4 + 1)) (lv' := [(4, .int (x4 + 1)), (0, .ref x0), (1, .int x1), (2, .int x2), (3, .int x3)]) C 82 rfl dX0_watersNow_79 4 rfl rfl (Nat.le_of_ble_eq_true rfl) rfl ?_
  refine jr_goto C 51 dX0_watersNow_82 (by decide) ?_
  exact jr_sub [1, 2, 3, 4, 0] rfl (hc51 _ h)
theorem wk_X0_watersNow_51 {X : jX} {G : jG} {K : jS → Int32 → Prop} (C : jC (X, G, 6, jA X G tvi K) d_X0_watersNow cX0_watersNow "Samovar" (some .int) yX0_watersNow) {S : jS} {x0 : Nat} {x1 : Int32} {x2 : Int32} {x3 : Int32} {x4 : Int32} {Kc11 : jS × Int32 × Int32 → Prop} (hc11 : ∀ z : jS × Int32 × Int32, Kc11 z → jJ (X, G, 6, jA X G tvi K) z.1 [(0, .ref x0), (1, .int x1), (2, .int z.2.1), (3, .int z.2.2)] 11 []) {Kc51 : jS × Int32 → Prop} (hc51 : ∀ z : jS × Int32, Kc51 z → jJ (X, G, 6, jA X G tvi K) z.1 [(0, .ref x0), (1, .int x1), (2, .int x2), (3, .int x3), (4, .int z.2)] 51 []) (h : wp_X0_watersNow_51 S x0 x1 x2 x3 x4 Kc11 Kc51 K) : jJ (X, G, 6, jA X G tvi K) S [(0, .ref x0), (1, .int x1), (2, .int x2), (3, .int x3), (4, .int x4)] 51 [] := by
  unfold wp_X0_watersNow_51 at h
  refine jr_iload C 53 rfl dX0_watersNow_51 4 rfl ?_
  refine jr_bipush (v := 24) C 55 rfl dX0_watersNow_53 (by decide) ?_
  refine jr_icmp_ge C 85 58 rfl dX0_watersNow_55 (by decide) (fun c2 => ?_) (fun c2 => ?_)
  · have h := h.1 c2
    refine jr_iinc (v := (x3 + 1)) (lv' := [(3, .int (x3 + 1)), (0, .ref x0), (1, .int x1), (2, .int x2), (4, .int x4)]) C 88 rfl dX0_watersNow_85 3 rfl rfl (Nat.le_of_ble_eq_true rfl) rfl ?_
    refine jr_goto C 11 dX0_watersNow_88 (by decide) ?_
    exact jr_sub [1, 2, 3, 0] rfl (hc11 _ h)
  · have h := h.2 c2
    refine jr_aload_n C 59 rfl dX0_watersNow_58 rfl 0 rfl ?_
    refine jr_getr C 62 rfl fo_0_19 q247 dX0_watersNow_59 h (fun v1 h => ?_)
    exact (wk_X0_watersNow_62 C hc11 hc51 h)
theorem wk_X0_watersNow_51_L {X : jX} {G : jG} {K : jS → Int32 → Prop} (C : jC (X, G, 6, jA X G tvi K) d_X0_watersNow cX0_watersNow "Samovar" (some .int) yX0_watersNow) {x0 : Nat} {x1 : Int32} {x2 : Int32} {x3 : Int32} {Kc11 : jS × Int32 × Int32 → Prop} (hc11 : ∀ z : jS × Int32 × Int32, Kc11 z → jJ (X, G, 6, jA X G tvi K) z.1 [(0, .ref x0), (1, .int x1), (2, .int z.2.1), (3, .int z.2.2)] 11 []) : ∀ (n : Nat) (z : jS × Int32), jlp n (wp_X0_watersNow_51_L x0 x1 x2 x3 Kc11 K) z → jJ (X, G, 6, jA X G tvi K) z.1 [(0, .ref x0), (1, .int x1), (2, .int x2), (3, .int x3), (4, .int z.2)] 51 [] := by
  intro n
  induction n with
  | zero => intro z h; exact h.elim
  | succ n ih => intro z h; exact wk_X0_watersNow_51 C hc11 ih h
theorem wk_X0_watersNow_39 {X : jX} {G : jG} {K : jS → Int32 → Prop} (C : jC (X, G, 6, jA X G tvi K) d_X0_watersNow cX0_watersNow "Samovar" (some .int) yX0_watersNow) {S : jS} {t0 : Int32} {t1 : Int32} {x0 : Nat} {x1 : Int32} {x3 : Int32} {Kc11 : jS × Int32 × Int32 → Prop} (hc11 : ∀ z : jS × Int32 × Int32, Kc11 z → jJ (X, G, 6, jA X G tvi K) z.1 [(0, .ref x0), (1, .int x1), (2, .int z.2.1), (3, .int z.2.2)] 11 []) (h : wp_X0_watersNow_39 S t0 t1 x0 x1 x3 Kc11 K) : jJ (X, G, 6, jA X G tvi K) S [(0, .ref x0), (1, .int x1), (3, .int x3)] 39 [.int t1, .int t0] := by
  unfold wp_X0_watersNow_39 at h
  refine jr_ior C 40 rfl dX0_watersNow_39 ?_
  refine jr_istore_n (lv' := [(2, .int (t0 ||| t1)), (0, .ref x0), (1, .int x1), (3, .int x3)]) C 41 rfl dX0_watersNow_40 rfl (Nat.le_of_ble_eq_true rfl) rfl ?_
  refine jr_aload_n C 42 rfl dX0_watersNow_41 rfl 1 rfl ?_
  refine jr_getr C 45 rfl fo_0_19 q247 dX0_watersNow_42 h (fun v1 h => ?_)
  refine jr_iload_n C 46 rfl dX0_watersNow_45 rfl 3 rfl ?_
  refine jr_iconst (v := 0) C 47 rfl dX0_watersNow_46 (by decide) ?_
  refine jr_iast C 48 rfl dX0_watersNow_47 h (fun S2 h => ?_)
  refine jr_iconst (v := 0) C 49 rfl dX0_watersNow_48 (by decide) ?_
  refine jr_istore (lv' := [(4, .int 0), (2, .int (t0 ||| t1)), (0, .ref x0), (1, .int x1), (3, .int x3)]) C 51 rfl dX0_watersNow_49 (Nat.le_of_ble_eq_true rfl) rfl ?_
  obtain ⟨n, h⟩ := h
  exact jr_sub [2, 3, 1, 4, 0] rfl (wk_X0_watersNow_51_L C hc11 n _ h)
theorem wk_X0_watersNow_11 {X : jX} {G : jG} {K : jS → Int32 → Prop} (C : jC (X, G, 6, jA X G tvi K) d_X0_watersNow cX0_watersNow "Samovar" (some .int) yX0_watersNow) {S : jS} {x0 : Nat} {x1 : Int32} {x2 : Int32} {x3 : Int32} {Kc11 : jS × Int32 × Int32 → Prop} (hc11 : ∀ z : jS × Int32 × Int32, Kc11 z → jJ (X, G, 6, jA X G tvi K) z.1 [(0, .ref x0), (1, .int x1), (2, .int z.2.1), (3, .int z.2.2)] 11 []) (h : wp_X0_watersNow_11 S x0 x1 x2 x3 Kc11 K) : jJ (X, G, 6, jA X G tvi K) S [(0, .ref x0), (1, .int x1), (2, .int x2), (3, .int x3)] 11 [] := by
  unfold wp_X0_watersNow_11 at h
  refine jr_iload_n C 12 rfl dX0_watersNow_11 rfl 3 rfl ?_
  refine jr_bipush (v := 30) C 14 rfl dX0_watersNow_12 (by decide) ?_
  refine jr_icmp_gt C 91 17 rfl dX0_watersNow_14 (by decide) (fun c8 => ?_) (fun c8 => ?_)
  · have h := h.1 c8
    refine jr_aload_n C 92 rfl dX0_watersNow_91 rfl 0 rfl ?_
    refine jr_getr C 95 rfl fo_0_5 q233 dX0_watersNow_92 h (fun v1 h => ?_)
    refine jr_iconst (v := 0) C 96 rfl dX0_watersNow_95 (by decide) ?_
    refine jr_iload_n C 97 rfl dX0_watersNow_96 rfl 1 rfl ?_
    refine jr_iast C 98 rfl dX0_watersNow_97 h (fun S2 h => ?_)
    refine jr_goto C 113 dX0_watersNow_98 (by decide) ?_
    refine jr_iload_n C 114 rfl dX0_watersNow_113 rfl 2 rfl ?_
    exact jr_ireturn C dX0_watersNow_114 h
  · have h := h.2 c8
    refine jr_aload_n C 18 rfl dX0_watersNow_17 rfl 0 rfl ?_
    refine jr_getr C 21 rfl fo_0_5 q233 dX0_watersNow_18 h (fun v3 h => ?_)
    refine jr_iconst (v := 0) C 22 rfl dX0_watersNow_21 (by decide) ?_
    refine jr_iload_n C 23 rfl dX0_watersNow_22 rfl 3 rfl ?_
    refine jr_iast C 24 rfl dX0_watersNow_23 h (fun S4 h => ?_)
    refine jr_iload_n C 25 rfl dX0_watersNow_24 rfl 2 rfl ?_
    refine jr_aload_n C 26 rfl dX0_watersNow_25 rfl 0 rfl ?_
    obtain ⟨⟨V, hb⟩, h⟩ := h
    refine jr_callVi (r0 := (RX0, TX0, 24)) (As := []) (st := [.int x2]) C 29 rfl (m_X0_isSeen C.2.2.2.2.2.2.2.2.2.2.2.2.2.2.2 h) rfl hb rfl q1071 q1073 qs29 q94 q1074 (by decide) (by decide) ndV_X0_isSeen (Nat.le_of_ble_eq_true rfl) dX0_watersNow_26 (fun S5 r6 h => ?_)
    refine jr_if_eq C 38 32 rfl dX0_watersNow_29 (by decide) (fun c7 => ?_) (fun c7 => ?_)
    · have h := h.1 c7
      refine jr_iconst (v := 0) C 39 rfl dX0_watersNow_38 (by decide) ?_
      exact jr_sub [0, 1, 3] rfl (wk_X0_watersNow_39 C hc11 h)
    · have h := h.2 c7
      refine jr_iconst (v := 1) C 33 rfl dX0_watersNow_32 (by decide) ?_
      refine jr_iload_n C 34 rfl dX0_watersNow_33 rfl 3 rfl ?_
      refine jr_ishl C 35 rfl dX0_watersNow_34 ?_
      refine jr_goto C 39 dX0_watersNow_35 (by decide) ?_
      exact jr_sub [0, 1, 3] rfl (wk_X0_watersNow_39 C hc11 h)
theorem wk_X0_watersNow_11_L {X : jX} {G : jG} {K : jS → Int32 → Prop} (C : jC (X, G, 6, jA X G tvi K) d_X0_watersNow cX0_watersNow "Samovar" (some .int) yX0_watersNow) {x0 : Nat} {x1 : Int32}  : ∀ (n : Nat) (z : jS × Int32 × Int32), jlp n (wp_X0_watersNow_11_L x0 x1 K) z → jJ (X, G, 6, jA X G tvi K) z.1 [(0, .ref x0), (1, .int x1), (2, .int z.2.1), (3, .int z.2.2)] 11 [] := by
  intro n
  induction n with
  | zero => intro z h; exact h.elim
  | succ n ih => intro z h; exact wk_X0_watersNow_11 C ih h
theorem wk_X0_watersNow_0 {X : jX} {G : jG} {K : jS → Int32 → Prop} (C : jC (X, G, 6, jA X G tvi K) d_X0_watersNow cX0_watersNow "Samovar" (some .int) yX0_watersNow) {S : jS} {x0 : Nat}  (h : wp_X0_watersNow S x0 K) : jJ (X, G, 6, jA X G tvi K) S [(0, .ref x0)] 0 [] := by
  unfold wp_X0_watersNow at h
  refine jr_aload_n C 1 rfl dX0_watersNow_0 rfl 0 rfl ?_
  refine jr_getr C 4 rfl fo_0_5 q233 dX0_watersNow_1 h (fun v1 h => ?_)
  refine jr_iconst (v := 0) C 5 rfl dX0_watersNow_4 (by decide) ?_
  refine jr_iald C 6 rfl dX0_watersNow_5 h (fun v2 h => ?_)
  refine jr_istore_n (lv' := [(1, .int v2), (0, .ref x0)]) C 7 rfl dX0_watersNow_6 rfl (Nat.le_of_ble_eq_true rfl) rfl ?_
  refine jr_iconst (v := 0) C 8 rfl dX0_watersNow_7 (by decide) ?_
  refine jr_istore_n (lv' := [(2, .int 0), (1, .int v2), (0, .ref x0)]) C 9 rfl dX0_watersNow_8 rfl (Nat.le_of_ble_eq_true rfl) rfl ?_
  refine jr_iconst (v := 0) C 10 rfl dX0_watersNow_9 (by decide) ?_
  refine jr_istore_n (lv' := [(3, .int 0), (2, .int 0), (1, .int v2), (0, .ref x0)]) C 11 rfl dX0_watersNow_10 rfl (Nat.le_of_ble_eq_true rfl) rfl ?_
  obtain ⟨n, h⟩ := h
  exact jr_sub [3, 2, 1, 0] rfl (wk_X0_watersNow_11_L C  n _ h)
theorem m_X0_watersNow {l : Launch} (hl : l.stackTraces = false) {G : jG} {K : jS → Int32 → Prop} {S : jS} {x0 : Nat} (h : wp_X0_watersNow S x0 K) : jMet l G d_X0_watersNow yX0_watersNow (wsW_ yX0_watersNow cX0_watersNow 6 (some .int) [((9), (91), (101), (0)), ((101), (103), (101), (0))]) [.ref x0] S tvi K :=
  jMet.ofH hl rfl (by decide) (Nat.le_of_ble_eq_true rfl) (fun X C => jr_sub [0] rfl (wk_X0_watersNow_0 C h))
theorem wk_X0_askNow_35 {X : jX} {G : jG} {K : jS → Int32 → Prop} (C : jC (X, G, 4, jA X G tvi K) d_X0_askNow cX0_askNow "Samovar" (some .int) yX0_askNow) {S : jS} {t0 : Int32} {x0 : Nat} {x1 : Int32} {x3 : Int32} {Kc9 : jS × Int32 × Int32 → Prop} (hc9 : ∀ z : jS × Int32 × Int32, Kc9 z → jJ (X, G, 4, jA X G tvi K) z.1 [(0, .ref x0), (1, .int x1), (2, .int z.2.1), (3, .int z.2.2)] 9 []) (h : wp_X0_askNow_35 S t0 x0 x1 x3 Kc9 K) : jJ (X, G, 4, jA X G tvi K) S [(0, .ref x0), (1, .int x1), (3, .int x3)] 35 [.int t0] := by
  unfold wp_X0_askNow_35 at h
  refine jr_istore_n (lv' := [(2, .int t0), (0, .ref x0), (1, .int x1), (3, .int x3)]) C 36 rfl dX0_askNow_35 rfl (Nat.le_of_ble_eq_true rfl) rfl ?_
  refine jr_iinc (v := (x3 + 1)) (lv' := [(3, .int (x3 + 1)), (2, .int t0), (0, .ref x0), (1, .int x1)]) C 39 rfl dX0_askNow_36 3 rfl rfl (Nat.le_of_ble_eq_true rfl) rfl ?_
  refine jr_goto C 9 dX0_askNow_39 (by decide) ?_
  exact jr_sub [2, 3, 1, 0] rfl (hc9 _ h)
theorem wk_X0_askNow_9 {X : jX} {G : jG} {K : jS → Int32 → Prop} (C : jC (X, G, 4, jA X G tvi K) d_X0_askNow cX0_askNow "Samovar" (some .int) yX0_askNow) {S : jS} {x0 : Nat} {x1 : Int32} {x2 : Int32} {x3 : Int32} {Kc9 : jS × Int32 × Int32 → Prop} (hc9 : ∀ z : jS × Int32 × Int32, Kc9 z → jJ (X, G, 4, jA X G tvi K) z.1 [(0, .ref x0), (1, .int x1), (2, .int z.2.1), (3, .int z.2.2)] 9 []) (h : wp_X0_askNow_9 S x0 x1 x2 x3 Kc9 K) : jJ (X, G, 4, jA X G tvi K) S [(0, .ref x0), (1, .int x1), (2, .int x2), (3, .int x3)] 9 [] := by
  unfold wp_X0_askNow_9 at h
  refine jr_iload_n C 10 rfl dX0_askNow_9 rfl 3 rfl ?_
  refine jr_bipush (v := 24) C 12 rfl dX0_askNow_10 (by decide) ?_
  refine jr_icmp_ge C 42 15 rfl dX0_askNow_12 (by decide) (fun c6 => ?_) (fun c6 => ?_)
  · have h := h.1 c6
    refine jr_iload_n C 43 rfl dX0_askNow_42 rfl 2 rfl ?_
    exact jr_ireturn C dX0_askNow_43 h
  · have h := h.2 c6
    refine jr_aload_n C 16 rfl dX0_askNow_15 rfl 0 rfl ?_
    refine jr_iload_n C 17 rfl dX0_askNow_16 rfl 1 rfl ?_
    refine jr_iload_n C 18 rfl dX0_askNow_17 rfl 3 rfl ?_
    obtain ⟨⟨V, hb⟩, h⟩ := h
    refine jr_callVi (r0 := (RX0, TX0, 24)) (As := [.int x1, .int x3]) (st := []) C 21 rfl (m_X0_alike C.2.2.2.2.2.2.2.2.2.2.2.2.2.2.2 h) rfl hb rfl q1099 q1101 qs33 q94 q1102 (by decide) (by decide) ndV_X0_alike (Nat.le_of_ble_eq_true rfl) dX0_askNow_18 (fun S1 r2 h => ?_)
    refine jr_aload_n C 22 rfl dX0_askNow_21 rfl 0 rfl ?_
    refine jr_iload_n C 23 rfl dX0_askNow_22 rfl 1 rfl ?_
    refine jr_iload_n C 24 rfl dX0_askNow_23 rfl 2 rfl ?_
    obtain ⟨⟨V, hb⟩, h⟩ := h
    refine jr_callVi (r0 := (RX0, TX0, 24)) (As := [.int x1, .int x2]) (st := [.int r2]) C 27 rfl (m_X0_alike C.2.2.2.2.2.2.2.2.2.2.2.2.2.2.2 h) rfl hb rfl q1099 q1101 qs33 q94 q1102 (by decide) (by decide) ndV_X0_alike (Nat.le_of_ble_eq_true rfl) dX0_askNow_24 (fun S3 r4 h => ?_)
    refine jr_icmp_ge C 34 30 rfl dX0_askNow_27 (by decide) (fun c5 => ?_) (fun c5 => ?_)
    · have h := h.1 c5
      refine jr_iload_n C 35 rfl dX0_askNow_34 rfl 2 rfl ?_
      exact jr_sub [0, 1, 3] rfl (wk_X0_askNow_35 C hc9 h)
    · have h := h.2 c5
      refine jr_iload_n C 31 rfl dX0_askNow_30 rfl 3 rfl ?_
      refine jr_goto C 35 dX0_askNow_31 (by decide) ?_
      exact jr_sub [0, 1, 3] rfl (wk_X0_askNow_35 C hc9 h)
theorem wk_X0_askNow_9_L {X : jX} {G : jG} {K : jS → Int32 → Prop} (C : jC (X, G, 4, jA X G tvi K) d_X0_askNow cX0_askNow "Samovar" (some .int) yX0_askNow) {x0 : Nat} {x1 : Int32}  : ∀ (n : Nat) (z : jS × Int32 × Int32), jlp n (wp_X0_askNow_9_L x0 x1 K) z → jJ (X, G, 4, jA X G tvi K) z.1 [(0, .ref x0), (1, .int x1), (2, .int z.2.1), (3, .int z.2.2)] 9 [] := by
  intro n
  induction n with
  | zero => intro z h; exact h.elim
  | succ n ih => intro z h; exact wk_X0_askNow_9 C ih h
theorem wk_X0_askNow_0 {X : jX} {G : jG} {K : jS → Int32 → Prop} (C : jC (X, G, 4, jA X G tvi K) d_X0_askNow cX0_askNow "Samovar" (some .int) yX0_askNow) {S : jS} {x0 : Nat}  (h : wp_X0_askNow S x0 K) : jJ (X, G, 4, jA X G tvi K) S [(0, .ref x0)] 0 [] := by
  unfold wp_X0_askNow at h
  refine jr_aload_n C 1 rfl dX0_askNow_0 rfl 0 rfl ?_
  obtain ⟨⟨V, hb⟩, h⟩ := h
  refine jr_callVWi (r0 := (RX0, TX0, 24)) (As := []) (st := []) C 4 rfl (m_X0_watersNow C.2.2.2.2.2.2.2.2.2.2.2.2.2.2.2 h) rfl hb rfl q1079 q1081 qs30 q94 q1082 (by decide) (by decide) ndV_X0_watersNow (Nat.le_of_ble_eq_true rfl) dX0_askNow_1 (fun S1 r2 h => ?_)
  refine jr_istore_n (lv' := [(1, .int r2), (0, .ref x0)]) C 5 rfl dX0_askNow_4 rfl (Nat.le_of_ble_eq_true rfl) rfl ?_
  refine jr_iconst (v := 0) C 6 rfl dX0_askNow_5 (by decide) ?_
  refine jr_istore_n (lv' := [(2, .int 0), (1, .int r2), (0, .ref x0)]) C 7 rfl dX0_askNow_6 rfl (Nat.le_of_ble_eq_true rfl) rfl ?_
  refine jr_iconst (v := 1) C 8 rfl dX0_askNow_7 (by decide) ?_
  refine jr_istore_n (lv' := [(3, .int 1), (2, .int 0), (1, .int r2), (0, .ref x0)]) C 9 rfl dX0_askNow_8 rfl (Nat.le_of_ble_eq_true rfl) rfl ?_
  obtain ⟨n, h⟩ := h
  exact jr_sub [3, 2, 1, 0] rfl (wk_X0_askNow_9_L C  n _ h)
theorem m_X0_askNow {l : Launch} (hl : l.stackTraces = false) {G : jG} {K : jS → Int32 → Prop} {S : jS} {x0 : Nat} (h : wp_X0_askNow S x0 K) : jMet l G d_X0_askNow yX0_askNow (ws_ yX0_askNow cX0_askNow 4 (some .int)) [.ref x0] S tvi K :=
  jMet.of hl rfl (by decide) (Nat.le_of_ble_eq_true rfl) (fun X C => jr_sub [0] rfl (wk_X0_askNow_0 C h))
theorem wk_X0_ask_0 {X : jX} {G : jG} {K : jS → Int32 → Prop} (C : jC (X, G, 1, jA X G tvi K) d_X0_ask cX0_ask "Samovar" (some .int) yX0_ask) {S : jS} {x0 : Nat}  (h : wp_X0_ask S x0 K) : jJ (X, G, 1, jA X G tvi K) S [(0, .ref x0)] 0 [] := by
  unfold wp_X0_ask at h
  refine jr_aload_n C 1 rfl dX0_ask_0 rfl 0 rfl ?_
  obtain ⟨⟨V, hb⟩, h⟩ := h
  refine jr_callVi (r0 := (RX0, TX0, 24)) (As := []) (st := []) C 4 rfl (m_X0_askNow C.2.2.2.2.2.2.2.2.2.2.2.2.2.2.2 h) rfl hb rfl q1095 q1097 qs32 q94 q1098 (by decide) (by decide) ndV_X0_askNow (Nat.le_of_ble_eq_true rfl) dX0_ask_1 (fun S1 r2 h => ?_)
  exact jr_ireturn C dX0_ask_4 h
theorem m_X0_ask {l : Launch} (hl : l.stackTraces = false) {G : jG} {K : jS → Int32 → Prop} {S : jS} {x0 : Nat} (h : wp_X0_ask S x0 K) : jMet l G d_X0_ask yX0_ask (ws_ yX0_ask cX0_ask 1 (some .int)) [.ref x0] S tvi K :=
  jMet.of hl rfl (by decide) (Nat.le_of_ble_eq_true rfl) (fun X C => jr_sub [0] rfl (wk_X0_ask_0 C h))
theorem wk_X0_isMinute_0 {X : jX} {G : jG} {K : jS → Int32 → Prop} (C : jC (X, G, 1, jA X G tvi K) d_X0_isMinute cX0_isMinute "Samovar" (some .boolean) yX0_isMinute) {S : jS} {x0 : Int32}  (h : wp_X0_isMinute S x0 K) : jJ (X, G, 1, jA X G tvi K) S [(0, .int x0)] 0 [] := by
  unfold wp_X0_isMinute at h
  refine jr_iload_n C 1 rfl dX0_isMinute_0 rfl 0 rfl ?_
  refine jr_i2l C 2 rfl dX0_isMinute_1 ?_
  refine jr_lconst (v := 0) C 3 rfl dX0_isMinute_2 (by decide) ?_
  refine jr_ldc2 (v := 23) C 6 rfl dX0_isMinute_3 q778 ?_
  refine jr_callSi (As := [.long ((x0 : Int32).toInt64), .long 0, .long 23]) (st := []) C 9 rfl (m_X0_in C.2.2.2.2.2.2.2.2.2.2.2.2.2.2.2 h) rfl q308 q309 q94 q310 (by decide) (by decide) nd_X0_in (Nat.le_of_ble_eq_true rfl) dX0_isMinute_6 (fun S1 r2 h => ?_)
  exact jr_zreturn C dX0_isMinute_9 h
theorem m_X0_isMinute {l : Launch} (hl : l.stackTraces = false) {G : jG} {K : jS → Int32 → Prop} {S : jS} {x0 : Int32} (h : wp_X0_isMinute S x0 K) : jMet l G d_X0_isMinute yX0_isMinute (ws_ yX0_isMinute cX0_isMinute 1 (some .boolean)) [.int x0] S tvi K :=
  jMet.of hl rfl (by decide) (Nat.le_of_ble_eq_true rfl) (fun X C => jr_sub [0] rfl (wk_X0_isMinute_0 C h))
theorem wk_X0_at_36 {X : jX} {G : jG} {K : jS → Int32 → Prop} (C : jC (X, G, 3, jA X G tvi K) d_X0_at cX0_at "Samovar" (some .int) yX0_at) {S : jS} {t0 : Int32}  (h : wp_X0_at_36 S t0 K) : jJ (X, G, 3, jA X G tvi K) S [] 36 [.int t0] := by
  unfold wp_X0_at_36 at h
  exact jr_ireturn C dX0_at_36 h
theorem wk_X0_at_34 {X : jX} {G : jG} {K : jS → Int32 → Prop} (C : jC (X, G, 3, jA X G tvi K) d_X0_at cX0_at "Samovar" (some .int) yX0_at) {S : jS}   (h : wp_X0_at_34 S K) : jJ (X, G, 3, jA X G tvi K) S [] 34 [] := by
  unfold wp_X0_at_34 at h
  refine jr_bipush (v := (-2)) C 36 rfl dX0_at_34 (by decide) ?_
  exact (wk_X0_at_36 C  h)
theorem wk_X0_at_0 {X : jX} {G : jG} {K : jS → Int32 → Prop} (C : jC (X, G, 3, jA X G tvi K) d_X0_at cX0_at "Samovar" (some .int) yX0_at) {S : jS} {x0 : Nat} {x1 : Int32} {x2 : Int32}  (h : wp_X0_at S x0 x1 x2 K) : jJ (X, G, 3, jA X G tvi K) S [(0, .ref x0), (1, .int x1), (2, .int x2)] 0 [] := by
  unfold wp_X0_at at h
  refine jr_aload_n C 1 rfl dX0_at_0 rfl 0 rfl ?_
  obtain ⟨⟨V, hb⟩, h⟩ := h
  refine jr_callVv (r0 := (RX0, TX0, 24)) (As := []) (st := []) C 4 rfl (m_X0_find C.2.2.2.2.2.2.2.2.2.2.2.2.2.2.2 h) rfl hb rfl q831 q833 qs10 q94 q834 (by decide) (by decide) ndV_X0_find (Nat.le_of_ble_eq_true rfl) dX0_at_1 (fun S1 _ h => ?_)
  refine jr_iload_n C 5 rfl dX0_at_4 rfl 1 rfl ?_
  refine jr_callSi (As := [.int x1]) (st := []) C 8 rfl (m_X0_isMinute C.2.2.2.2.2.2.2.2.2.2.2.2.2.2.2 h) rfl q775 q776 q94 q777 (by decide) (by decide) nd_X0_isMinute (Nat.le_of_ble_eq_true rfl) dX0_at_5 (fun S2 r3 h => ?_)
  refine jr_if_eq C 34 11 rfl dX0_at_8 (by decide) (fun c10 => ?_) (fun c10 => ?_)
  · have h := h.1 c10
    exact jr_sub [] rfl (wk_X0_at_34 C  h)
  · have h := h.2 c10
    refine jr_iload_n C 12 rfl dX0_at_11 rfl 2 rfl ?_
    refine jr_i2l C 13 rfl dX0_at_12 ?_
    refine jr_lconst (v := 0) C 14 rfl dX0_at_13 (by decide) ?_
    refine jr_ldc2 (v := 5) C 17 rfl dX0_at_14 q963 ?_
    refine jr_callSi (As := [.long ((x2 : Int32).toInt64), .long 0, .long 5]) (st := []) C 20 rfl (m_X0_in C.2.2.2.2.2.2.2.2.2.2.2.2.2.2.2 h) rfl q308 q309 q94 q310 (by decide) (by decide) nd_X0_in (Nat.le_of_ble_eq_true rfl) dX0_at_17 (fun S4 r5 h => ?_)
    refine jr_if_eq C 34 23 rfl dX0_at_20 (by decide) (fun c9 => ?_) (fun c9 => ?_)
    · have h := h.1 c9
      exact jr_sub [] rfl (wk_X0_at_34 C  h)
    · have h := h.2 c9
      refine jr_aload_n C 24 rfl dX0_at_23 rfl 0 rfl ?_
      refine jr_getr C 27 rfl fo_0_14 q242 dX0_at_24 h (fun v6 h => ?_)
      refine jr_iload_n C 28 rfl dX0_at_27 rfl 1 rfl ?_
      refine jr_aaldn C 29 rfl (t := 6) rfl rfl dX0_at_28 h (fun v7 h => ?_)
      refine jr_iload_n C 30 rfl dX0_at_29 rfl 2 rfl ?_
      refine jr_iald C 31 rfl dX0_at_30 h (fun v8 h => ?_)
      refine jr_goto C 36 dX0_at_31 (by decide) ?_
      exact jr_sub [] rfl (wk_X0_at_36 C  h)
theorem m_X0_at {l : Launch} (hl : l.stackTraces = false) {G : jG} {K : jS → Int32 → Prop} {S : jS} {x0 : Nat} {x1 : Int32} {x2 : Int32} (h : wp_X0_at S x0 x1 x2 K) : jMet l G d_X0_at yX0_at (ws_ yX0_at cX0_at 3 (some .int)) [.ref x0, .int x1, .int x2] S tvi K :=
  jMet.of hl rfl (by decide) (Nat.le_of_ble_eq_true rfl) (fun X C => jr_sub [0, 1, 2] rfl (wk_X0_at_0 C h))
theorem wk_X0_back_0 {X : jX} {G : jG} {K : jS → Int32 → Prop} (C : jC (X, G, 1, jA X G tvi K) d_X0_back cX0_back "Samovar" (some .int) yX0_back) {S : jS} {x0 : Nat}  (h : wp_X0_back S x0 K) : jJ (X, G, 1, jA X G tvi K) S [(0, .ref x0)] 0 [] := by
  unfold wp_X0_back at h
  refine jr_aload_n C 1 rfl dX0_back_0 rfl 0 rfl ?_
  refine jr_getr C 4 rfl fo_0_6 q234 dX0_back_1 h (fun v1 h => ?_)
  obtain ⟨⟨V, hb⟩, h⟩ := h
  refine jr_callVi (r0 := (RJ2, TJ2, 3)) (As := []) (st := []) C 7 rfl (m_J2_isEmpty C.2.2.2.2.2.2.2.2.2.2.2.2.2.2.2 h) rfl hb rfl q785 q786 q787 q99 q788 (by decide) (by decide) ndV_J2_isEmpty (Nat.le_of_ble_eq_true rfl) dX0_back_4 (fun S2 r3 h => ?_)
  refine jr_if_eq C 13 10 rfl dX0_back_7 (by decide) (fun c13 => ?_) (fun c13 => ?_)
  · have h := h.1 c13
    refine jr_aload_n C 14 rfl dX0_back_13 rfl 0 rfl ?_
    refine jr_getr C 17 rfl fo_0_6 q234 dX0_back_14 h (fun v4 h => ?_)
    refine jr_aload_n C 18 rfl dX0_back_17 rfl 0 rfl ?_
    refine jr_getr C 21 rfl fo_0_6 q234 dX0_back_18 h (fun v5 h => ?_)
    obtain ⟨⟨V, hb⟩, h⟩ := h
    refine jr_callVi (r0 := (RJ2, TJ2, 3)) (As := []) (st := [.ref v4]) C 24 rfl (m_J2_size C.2.2.2.2.2.2.2.2.2.2.2.2.2.2.2 h) rfl hb rfl q700 q378 q379 q99 q380 (by decide) (by decide) ndV_J2_size (Nat.le_of_ble_eq_true rfl) dX0_back_21 (fun S6 r7 h => ?_)
    refine jr_iconst (v := 1) C 25 rfl dX0_back_24 (by decide) ?_
    refine jr_isub C 26 rfl dX0_back_25 ?_
    obtain ⟨⟨V, hb⟩, h⟩ := h
    refine jr_callVr (r0 := (RJ2, TJ2, 3)) (As := [.int (r7 - 1)]) (st := []) C 29 rfl (m_J2_remove C.2.2.2.2.2.2.2.2.2.2.2.2.2.2.2 h) rfl hb rfl q789 q790 q791 q99 q792 (by decide) (by decide) ndV_J2_remove (Nat.le_of_ble_eq_true rfl) dX0_back_26 (fun S8 r9 h => ?_)
    refine jr_pop C 30 rfl dX0_back_29 rfl ?_
    refine jr_aload_n C 31 rfl dX0_back_30 rfl 0 rfl ?_
    refine jr_getr C 34 rfl fo_0_6 q234 dX0_back_31 h (fun v10 h => ?_)
    obtain ⟨⟨V, hb⟩, h⟩ := h
    refine jr_callVi (r0 := (RJ2, TJ2, 3)) (As := []) (st := []) C 37 rfl (m_J2_size C.2.2.2.2.2.2.2.2.2.2.2.2.2.2.2 h) rfl hb rfl q700 q378 q379 q99 q380 (by decide) (by decide) ndV_J2_size (Nat.le_of_ble_eq_true rfl) dX0_back_34 (fun S11 r12 h => ?_)
    exact jr_ireturn C dX0_back_37 h
  · have h := h.2 c13
    refine jr_bipush (v := (-3)) C 12 rfl dX0_back_10 (by decide) ?_
    exact jr_ireturn C dX0_back_12 h
theorem m_X0_back {l : Launch} (hl : l.stackTraces = false) {G : jG} {K : jS → Int32 → Prop} {S : jS} {x0 : Nat} (h : wp_X0_back S x0 K) : jMet l G d_X0_back yX0_back (ws_ yX0_back cX0_back 1 (some .int)) [.ref x0] S tvi K :=
  jMet.of hl rfl (by decide) (Nat.le_of_ble_eq_true rfl) (fun X C => jr_sub [0] rfl (wk_X0_back_0 C h))
theorem wk_X0_betterOf_56 {X : jX} {G : jG} {K : jS → Int32 → Prop} (C : jC (X, G, 8, jA X G tvi K) d_X0_betterOf cX0_betterOf "Samovar" (some .int) yX0_betterOf) {S : jS} {x0 : Nat} {x1 : Nat} {x2 : Int32} {x3 : Nat} {x4 : Int32} {x5 : Int32} {x6 : Int32} {Kc14 : jS × Int32 × Int32 × Int32 → Prop} (hc14 : ∀ z : jS × Int32 × Int32 × Int32, Kc14 z → jJ (X, G, 8, jA X G tvi K) z.1 [(0, .ref x0), (1, .ref x1), (2, .int x2), (3, .ref x3), (4, .int z.2.1), (5, .int z.2.2.1), (6, .int z.2.2.2)] 14 []) (h : wp_X0_betterOf_56 S x0 x1 x2 x3 x4 x5 x6 Kc14 K) : jJ (X, G, 8, jA X G tvi K) S [(0, .ref x0), (1, .ref x1), (2, .int x2), (3, .ref x3), (4, .int x4), (5, .int x5), (6, .int x6)] 56 [] := by
  unfold wp_X0_betterOf_56 at h
  refine jr_iinc (v := (x6 + 1)) (lv' := [(6, .int (x6 + 1)), (0, .ref x0), (1, .ref x1), (2, .int x2), (3, .ref x3), (4, .int x4), (5, .int x5)]) C 59 rfl dX0_betterOf_56 6 rfl rfl (Nat.le_of_ble_eq_true rfl) rfl ?_
  refine jr_goto C 14 dX0_betterOf_59 (by decide) ?_
  exact jr_sub [1, 2, 3, 4, 5, 6, 0] rfl (hc14 _ h)
theorem wk_X0_betterOf_91 {X : jX} {G : jG} {K : jS → Int32 → Prop} (C : jC (X, G, 8, jA X G tvi K) d_X0_betterOf cX0_betterOf "Samovar" (some .int) yX0_betterOf) {S : jS} {t0 : Int32}  (h : wp_X0_betterOf_91 S t0 K) : jJ (X, G, 8, jA X G tvi K) S [] 91 [.int t0] := by
  unfold wp_X0_betterOf_91 at h
  exact jr_ireturn C dX0_betterOf_91 h
theorem wk_X0_betterOf_14 {X : jX} {G : jG} {K : jS → Int32 → Prop} (C : jC (X, G, 8, jA X G tvi K) d_X0_betterOf cX0_betterOf "Samovar" (some .int) yX0_betterOf) {S : jS} {x0 : Nat} {x1 : Nat} {x2 : Int32} {x3 : Nat} {x4 : Int32} {x5 : Int32} {x6 : Int32} {Kc14 : jS × Int32 × Int32 × Int32 → Prop} (hc14 : ∀ z : jS × Int32 × Int32 × Int32, Kc14 z → jJ (X, G, 8, jA X G tvi K) z.1 [(0, .ref x0), (1, .ref x1), (2, .int x2), (3, .ref x3), (4, .int z.2.1), (5, .int z.2.2.1), (6, .int z.2.2.2)] 14 []) (h : wp_X0_betterOf_14 S x0 x1 x2 x3 x4 x5 x6 Kc14 K) : jJ (X, G, 8, jA X G tvi K) S [(0, .ref x0), (1, .ref x1), (2, .int x2), (3, .ref x3), (4, .int x4), (5, .int x5), (6, .int x6)] 14 [] := by
  unfold wp_X0_betterOf_14 at h
  refine jr_iload C 16 rfl dX0_betterOf_14 6 rfl ?_
  refine jr_iconst (v := 3) C 17 rfl dX0_betterOf_16 (by decide) ?_
  refine jr_icmp_ge C 62 20 rfl dX0_betterOf_17 (by decide) (fun c10 => ?_) (fun c10 => ?_)
  · have h := h.1 c10
    refine jr_aload_n C 63 rfl dX0_betterOf_62 rfl 1 rfl ?_
    refine jr_aload_n C 64 rfl dX0_betterOf_63 rfl 3 rfl ?_
    refine jr_putvN C 67 rfl fo_5_1 (by decide) (jx_g q673 rfl) dX0_betterOf_64 rfl rfl h (fun S1 h => ?_)
    refine jr_goto C 80 dX0_betterOf_67 (by decide) ?_
    refine jr_iload_n C 81 rfl dX0_betterOf_80 rfl 2 rfl ?_
    refine jr_if_ne C 89 84 rfl dX0_betterOf_81 (by decide) (fun c2 => ?_) (fun c2 => ?_)
    · have h := h.1 c2
      refine jr_iload C 86 rfl dX0_betterOf_84 4 rfl ?_
      refine jr_goto C 91 dX0_betterOf_86 (by decide) ?_
      exact jr_sub [] rfl (wk_X0_betterOf_91 C  h)
    · have h := h.2 c2
      refine jr_iload C 91 rfl dX0_betterOf_89 5 rfl ?_
      exact jr_sub [] rfl (wk_X0_betterOf_91 C  h)
  · have h := h.2 c10
    refine jr_aload_n C 21 rfl dX0_betterOf_20 rfl 1 rfl ?_
    refine jr_gets C 24 rfl (i := 0) rfl q1025 dX0_betterOf_21 h (fun v3 h => ?_)
    refine jr_iload C 26 rfl dX0_betterOf_24 6 rfl ?_
    refine jr_aaldn C 27 rfl (t := 10) rfl rfl dX0_betterOf_26 h (fun v4 h => ?_)
    refine jr_putvN C 30 rfl fo_5_1 (by decide) (jx_g q673 rfl) dX0_betterOf_27 rfl rfl h (fun S5 h => ?_)
    refine jr_aload_n C 31 rfl dX0_betterOf_30 rfl 0 rfl ?_
    obtain ⟨⟨V, hb⟩, h⟩ := h
    refine jr_callVv (r0 := (RX0, TX0, 24)) (As := []) (st := []) C 34 rfl (m_X0_find C.2.2.2.2.2.2.2.2.2.2.2.2.2.2.2 h) rfl hb rfl q831 q833 qs10 q94 q834 (by decide) (by decide) ndV_X0_find (Nat.le_of_ble_eq_true rfl) dX0_betterOf_31 (fun S6 _ h => ?_)
    refine jr_aload_n C 35 rfl dX0_betterOf_34 rfl 0 rfl ?_
    refine jr_geti C 38 rfl fo_0_11 q239 dX0_betterOf_35 h (fun v7 h => ?_)
    refine jr_iload C 40 rfl dX0_betterOf_38 5 rfl ?_
    refine jr_icmp_gt C 46 43 rfl dX0_betterOf_40 (by decide) (fun c9 => ?_) (fun c9 => ?_)
    · have h := h.1 c9
      refine jr_iload C 48 rfl dX0_betterOf_46 6 rfl ?_
      refine jr_istore (lv' := [(4, .int x6), (0, .ref x0), (1, .ref x1), (2, .int x2), (3, .ref x3), (5, .int x5), (6, .int x6)]) C 50 rfl dX0_betterOf_48 (Nat.le_of_ble_eq_true rfl) rfl ?_
      refine jr_aload_n C 51 rfl dX0_betterOf_50 rfl 1 rfl ?_
      refine jr_geti C 54 rfl fo_0_11 q239 dX0_betterOf_51 h (fun v8 h => ?_)
      refine jr_istore (lv' := [(5, .int v8), (4, .int x6), (0, .ref x0), (1, .ref x1), (2, .int x2), (3, .ref x3), (6, .int x6)]) C 56 rfl dX0_betterOf_54 (Nat.le_of_ble_eq_true rfl) rfl ?_
      exact jr_sub [2, 3, 4, 5, 1, 0, 6] rfl (wk_X0_betterOf_56 C hc14 h)
    · have h := h.2 c9
      refine jr_goto C 56 dX0_betterOf_43 (by decide) ?_
      exact (wk_X0_betterOf_56 C hc14 h)
theorem wk_X0_betterOf_14_L {X : jX} {G : jG} {K : jS → Int32 → Prop} (C : jC (X, G, 8, jA X G tvi K) d_X0_betterOf cX0_betterOf "Samovar" (some .int) yX0_betterOf) {x0 : Nat} {x1 : Nat} {x2 : Int32} {x3 : Nat}  : ∀ (n : Nat) (z : jS × Int32 × Int32 × Int32), jlp n (wp_X0_betterOf_14_L x0 x1 x2 x3 K) z → jJ (X, G, 8, jA X G tvi K) z.1 [(0, .ref x0), (1, .ref x1), (2, .int x2), (3, .ref x3), (4, .int z.2.1), (5, .int z.2.2.1), (6, .int z.2.2.2)] 14 [] := by
  intro n
  induction n with
  | zero => intro z h; exact h.elim
  | succ n ih => intro z h; exact wk_X0_betterOf_14 C ih h
theorem wk_X0_betterOf_0 {X : jX} {G : jG} {K : jS → Int32 → Prop} (C : jC (X, G, 8, jA X G tvi K) d_X0_betterOf cX0_betterOf "Samovar" (some .int) yX0_betterOf) {S : jS} {x0 : Nat} {x1 : Nat} {x2 : Int32}  (h : wp_X0_betterOf S x0 x1 x2 K) : jJ (X, G, 8, jA X G tvi K) S [(0, .ref x0), (1, .ref x1), (2, .int x2)] 0 [] := by
  unfold wp_X0_betterOf at h
  refine jr_aload_n C 1 rfl dX0_betterOf_0 rfl 1 rfl ?_
  refine jr_getrN C 4 rfl fo_5_1 (jx_g q673 rfl) dX0_betterOf_1 h (fun v1 h => ?_)
  refine jr_astore_n (lv' := [(3, .ref v1), (0, .ref x0), (1, .ref x1), (2, .int x2)]) C 5 rfl dX0_betterOf_4 rfl (Nat.le_of_ble_eq_true rfl) rfl ?_
  refine jr_iconst (v := (-1)) C 6 rfl dX0_betterOf_5 (by decide) ?_
  refine jr_istore (lv' := [(4, .int (-1)), (3, .ref v1), (0, .ref x0), (1, .ref x1), (2, .int x2)]) C 8 rfl dX0_betterOf_6 (Nat.le_of_ble_eq_true rfl) rfl ?_
  refine jr_iconst (v := (-1)) C 9 rfl dX0_betterOf_8 (by decide) ?_
  refine jr_istore (lv' := [(5, .int (-1)), (4, .int (-1)), (3, .ref v1), (0, .ref x0), (1, .ref x1), (2, .int x2)]) C 11 rfl dX0_betterOf_9 (Nat.le_of_ble_eq_true rfl) rfl ?_
  refine jr_iconst (v := 0) C 12 rfl dX0_betterOf_11 (by decide) ?_
  refine jr_istore (lv' := [(6, .int 0), (5, .int (-1)), (4, .int (-1)), (3, .ref v1), (0, .ref x0), (1, .ref x1), (2, .int x2)]) C 14 rfl dX0_betterOf_12 (Nat.le_of_ble_eq_true rfl) rfl ?_
  obtain ⟨n, h⟩ := h
  exact jr_sub [4, 5, 6, 3, 2, 1, 0] rfl (wk_X0_betterOf_14_L C  n _ h)
theorem m_X0_betterOf {l : Launch} (hl : l.stackTraces = false) {G : jG} {K : jS → Int32 → Prop} {S : jS} {x0 : Nat} {x1 : Nat} {x2 : Int32} (h : wp_X0_betterOf S x0 x1 x2 K) : jMet l G d_X0_betterOf yX0_betterOf (wsW_ yX0_betterOf cX0_betterOf 8 (some .int) [((11), (62), (70), (0)), ((70), (72), (70), (0))]) [.ref x0, .ref x1, .int x2] S tvi K :=
  jMet.ofH hl rfl (by decide) (Nat.le_of_ble_eq_true rfl) (fun X C => jr_sub [0, 1, 2] rfl (wk_X0_betterOf_0 C h))
theorem wk_X0_isPiece_0 {X : jX} {G : jG} {K : jS → Int32 → Prop} (C : jC (X, G, 2, jA X G tvi K) d_X0_isPiece cX0_isPiece "Samovar" (some .boolean) yX0_isPiece) {S : jS} {x0 : Nat} {x1 : Int32}  (h : wp_X0_isPiece S x0 x1 K) : jJ (X, G, 2, jA X G tvi K) S [(0, .ref x0), (1, .int x1)] 0 [] := by
  unfold wp_X0_isPiece at h
  refine jr_iload_n C 1 rfl dX0_isPiece_0 rfl 1 rfl ?_
  refine jr_i2l C 2 rfl dX0_isPiece_1 ?_
  refine jr_lconst (v := 0) C 3 rfl dX0_isPiece_2 (by decide) ?_
  refine jr_aload_n C 4 rfl dX0_isPiece_3 rfl 0 rfl ?_
  obtain ⟨⟨V, hb⟩, h⟩ := h
  refine jr_callVi (r0 := (RX0, TX0, 24)) (As := []) (st := [.long 0, .long ((x1 : Int32).toInt64)]) C 7 rfl (m_X0_pieces C.2.2.2.2.2.2.2.2.2.2.2.2.2.2.2 h) rfl hb rfl q692 q694 qs5 q94 q695 (by decide) (by decide) ndV_X0_pieces (Nat.le_of_ble_eq_true rfl) dX0_isPiece_4 (fun S1 r2 h => ?_)
  refine jr_iconst (v := 1) C 8 rfl dX0_isPiece_7 (by decide) ?_
  refine jr_isub C 9 rfl dX0_isPiece_8 ?_
  refine jr_i2l C 10 rfl dX0_isPiece_9 ?_
  refine jr_callSi (As := [.long ((x1 : Int32).toInt64), .long 0, .long (((r2 - 1) : Int32).toInt64)]) (st := []) C 13 rfl (m_X0_in C.2.2.2.2.2.2.2.2.2.2.2.2.2.2.2 h) rfl q308 q309 q94 q310 (by decide) (by decide) nd_X0_in (Nat.le_of_ble_eq_true rfl) dX0_isPiece_10 (fun S3 r4 h => ?_)
  exact jr_zreturn C dX0_isPiece_13 h
theorem m_X0_isPiece {l : Launch} (hl : l.stackTraces = false) {G : jG} {K : jS → Int32 → Prop} {S : jS} {x0 : Nat} {x1 : Int32} (h : wp_X0_isPiece S x0 x1 K) : jMet l G d_X0_isPiece yX0_isPiece (ws_ yX0_isPiece cX0_isPiece 2 (some .boolean)) [.ref x0, .int x1] S tvi K :=
  jMet.of hl rfl (by decide) (Nat.le_of_ble_eq_true rfl) (fun X C => jr_sub [0, 1] rfl (wk_X0_isPiece_0 C h))
theorem wk_X0_isTwo_0 {X : jX} {G : jG} {K : jS → Int32 → Prop} (C : jC (X, G, 1, jA X G tvi K) d_X0_isTwo cX0_isTwo "Samovar" (some .boolean) yX0_isTwo) {S : jS} {x0 : Int32}  (h : wp_X0_isTwo S x0 K) : jJ (X, G, 1, jA X G tvi K) S [(0, .int x0)] 0 [] := by
  unfold wp_X0_isTwo at h
  refine jr_iload_n C 1 rfl dX0_isTwo_0 rfl 0 rfl ?_
  refine jr_i2l C 2 rfl dX0_isTwo_1 ?_
  refine jr_lconst (v := 0) C 3 rfl dX0_isTwo_2 (by decide) ?_
  refine jr_lconst (v := 1) C 4 rfl dX0_isTwo_3 (by decide) ?_
  refine jr_callSi (As := [.long ((x0 : Int32).toInt64), .long 0, .long 1]) (st := []) C 7 rfl (m_X0_in C.2.2.2.2.2.2.2.2.2.2.2.2.2.2.2 h) rfl q308 q309 q94 q310 (by decide) (by decide) nd_X0_in (Nat.le_of_ble_eq_true rfl) dX0_isTwo_4 (fun S1 r2 h => ?_)
  exact jr_zreturn C dX0_isTwo_7 h
theorem m_X0_isTwo {l : Launch} (hl : l.stackTraces = false) {G : jG} {K : jS → Int32 → Prop} {S : jS} {x0 : Int32} (h : wp_X0_isTwo S x0 K) : jMet l G d_X0_isTwo yX0_isTwo (ws_ yX0_isTwo cX0_isTwo 1 (some .boolean)) [.int x0] S tvi K :=
  jMet.of hl rfl (by decide) (Nat.le_of_ble_eq_true rfl) (fun X C => jr_sub [0] rfl (wk_X0_isTwo_0 C h))
theorem wk_X0_better_39 {X : jX} {G : jG} {K : jS → Int32 → Prop} (C : jC (X, G, 3, jA X G tvi K) d_X0_better cX0_better "Samovar" (some .int) yX0_better) {S : jS} {t0 : Int32}  (h : wp_X0_better_39 S t0 K) : jJ (X, G, 3, jA X G tvi K) S [] 39 [.int t0] := by
  unfold wp_X0_better_39 at h
  exact jr_ireturn C dX0_better_39 h
theorem wk_X0_better_37 {X : jX} {G : jG} {K : jS → Int32 → Prop} (C : jC (X, G, 3, jA X G tvi K) d_X0_better cX0_better "Samovar" (some .int) yX0_better) {S : jS}   (h : wp_X0_better_37 S K) : jJ (X, G, 3, jA X G tvi K) S [] 37 [] := by
  unfold wp_X0_better_37 at h
  refine jr_bipush (v := (-2)) C 39 rfl dX0_better_37 (by decide) ?_
  exact (wk_X0_better_39 C  h)
theorem wk_X0_better_0 {X : jX} {G : jG} {K : jS → Int32 → Prop} (C : jC (X, G, 3, jA X G tvi K) d_X0_better cX0_better "Samovar" (some .int) yX0_better) {S : jS} {x0 : Nat} {x1 : Int32} {x2 : Int32}  (h : wp_X0_better S x0 x1 x2 K) : jJ (X, G, 3, jA X G tvi K) S [(0, .ref x0), (1, .int x1), (2, .int x2)] 0 [] := by
  unfold wp_X0_better at h
  refine jr_aload_n C 1 rfl dX0_better_0 rfl 0 rfl ?_
  refine jr_iload_n C 2 rfl dX0_better_1 rfl 1 rfl ?_
  obtain ⟨⟨V, hb⟩, h⟩ := h
  refine jr_callVi (r0 := (RX0, TX0, 24)) (As := [.int x1]) (st := []) C 5 rfl (m_X0_isPiece C.2.2.2.2.2.2.2.2.2.2.2.2.2.2.2 h) rfl hb rfl q688 q690 qs4 q94 q691 (by decide) (by decide) ndV_X0_isPiece (Nat.le_of_ble_eq_true rfl) dX0_better_2 (fun S1 r2 h => ?_)
  refine jr_if_eq C 37 8 rfl dX0_better_5 (by decide) (fun c12 => ?_) (fun c12 => ?_)
  · have h := h.1 c12
    exact jr_sub [] rfl (wk_X0_better_37 C  h)
  · have h := h.2 c12
    refine jr_iload_n C 9 rfl dX0_better_8 rfl 2 rfl ?_
    refine jr_callSi (As := [.int x2]) (st := []) C 12 rfl (m_X0_isTwo C.2.2.2.2.2.2.2.2.2.2.2.2.2.2.2 h) rfl q305 q306 q94 q307 (by decide) (by decide) nd_X0_isTwo (Nat.le_of_ble_eq_true rfl) dX0_better_9 (fun S3 r4 h => ?_)
    refine jr_if_eq C 37 15 rfl dX0_better_12 (by decide) (fun c11 => ?_) (fun c11 => ?_)
    · have h := h.1 c11
      exact jr_sub [] rfl (wk_X0_better_37 C  h)
    · have h := h.2 c11
      refine jr_aload_n C 16 rfl dX0_better_15 rfl 0 rfl ?_
      refine jr_aload_n C 17 rfl dX0_better_16 rfl 0 rfl ?_
      refine jr_getr C 20 rfl fo_0_1 q229 dX0_better_17 h (fun v5 h => ?_)
      refine jr_getr C 23 rfl fo_1_5 q168 dX0_better_20 h (fun v6 h => ?_)
      refine jr_iload_n C 24 rfl dX0_better_23 rfl 1 rfl ?_
      obtain ⟨⟨V, hb⟩, h⟩ := h
      refine jr_callVr (r0 := (RJ2, TJ2, 3)) (As := [.int x1]) (st := [.ref x0]) C 27 rfl (m_J2_get C.2.2.2.2.2.2.2.2.2.2.2.2.2.2.2 h) rfl hb rfl q702 q703 q704 q99 q705 (by decide) (by decide) ndV_J2_get (Nat.le_of_ble_eq_true rfl) dX0_better_24 (fun S7 r8 h => ?_)
      obtain ⟨hz, h⟩ := h
      refine jr_cast C 30 rfl (cs := [5]) can_Samovar_Piece (by decide) q716 dX0_better_27 hz ?_
      refine jr_iload_n C 31 rfl dX0_better_30 rfl 2 rfl ?_
      obtain ⟨⟨V, hb⟩, h⟩ := h
      refine jr_callVWi (r0 := (RX0, TX0, 24)) (As := [.ref r8, .int x2]) (st := []) C 34 rfl (m_X0_betterOf C.2.2.2.2.2.2.2.2.2.2.2.2.2.2.2 h) rfl hb rfl q1021 q1023 qs23 q94 q1024 (by decide) (by decide) ndV_X0_betterOf (Nat.le_of_ble_eq_true rfl) dX0_better_31 (fun S9 r10 h => ?_)
      refine jr_goto C 39 dX0_better_34 (by decide) ?_
      exact jr_sub [] rfl (wk_X0_better_39 C  h)
theorem m_X0_better {l : Launch} (hl : l.stackTraces = false) {G : jG} {K : jS → Int32 → Prop} {S : jS} {x0 : Nat} {x1 : Int32} {x2 : Int32} (h : wp_X0_better S x0 x1 x2 K) : jMet l G d_X0_better yX0_better (ws_ yX0_better cX0_better 3 (some .int)) [.ref x0, .int x1, .int x2] S tvi K :=
  jMet.of hl rfl (by decide) (Nat.le_of_ble_eq_true rfl) (fun X C => jr_sub [0, 1, 2] rfl (wk_X0_better_0 C h))
theorem wk_X0_boiled_10 {X : jX} {G : jG} {K : jS → Int32 → Prop} (C : jC (X, G, 3, jA X G tvi K) d_X0_boiled cX0_boiled "Samovar" (some .int) yX0_boiled) {S : jS} {x0 : Nat} {x1 : Int32} {x2 : Int32} {Kc4 : jS × Int32 × Int32 → Prop} (hc4 : ∀ z : jS × Int32 × Int32, Kc4 z → jJ (X, G, 3, jA X G tvi K) z.1 [(0, .ref x0), (1, .int z.2.1), (2, .int z.2.2)] 4 []) (h : wp_X0_boiled_10 S x0 x1 x2 Kc4 K) : jJ (X, G, 3, jA X G tvi K) S [(0, .ref x0), (1, .int x1), (2, .int x2)] 10 [] := by
  unfold wp_X0_boiled_10 at h
  refine jr_iload_n C 11 rfl dX0_boiled_10 rfl 1 rfl ?_
  refine jr_aload_n C 12 rfl dX0_boiled_11 rfl 0 rfl ?_
  refine jr_getr C 15 rfl fo_0_14 q242 dX0_boiled_12 h (fun v1 h => ?_)
  refine jr_iload_n C 16 rfl dX0_boiled_15 rfl 2 rfl ?_
  refine jr_aaldn C 17 rfl (t := 6) rfl rfl dX0_boiled_16 h (fun v2 h => ?_)
  refine jr_iconst (v := 4) C 18 rfl dX0_boiled_17 (by decide) ?_
  refine jr_iald C 19 rfl dX0_boiled_18 h (fun v3 h => ?_)
  refine jr_iadd C 20 rfl dX0_boiled_19 ?_
  refine jr_istore_n (lv' := [(1, .int (x1 + v3)), (0, .ref x0), (2, .int x2)]) C 21 rfl dX0_boiled_20 rfl (Nat.le_of_ble_eq_true rfl) rfl ?_
  refine jr_iinc (v := (x2 + 1)) (lv' := [(2, .int (x2 + 1)), (1, .int (x1 + v3)), (0, .ref x0)]) C 24 rfl dX0_boiled_21 2 rfl rfl (Nat.le_of_ble_eq_true rfl) rfl ?_
  refine jr_goto C 4 dX0_boiled_24 (by decide) ?_
  exact jr_sub [2, 1, 0] rfl (hc4 _ h)
theorem wk_X0_boiled_27 {X : jX} {G : jG} {K : jS → Int32 → Prop} (C : jC (X, G, 3, jA X G tvi K) d_X0_boiled cX0_boiled "Samovar" (some .int) yX0_boiled) {S : jS} {x1 : Int32}  (h : wp_X0_boiled_27 S x1 K) : jJ (X, G, 3, jA X G tvi K) S [(1, .int x1)] 27 [] := by
  unfold wp_X0_boiled_27 at h
  refine jr_iload_n C 28 rfl dX0_boiled_27 rfl 0 rfl ?_
  exact jr_ireturn C dX0_boiled_28 h
theorem wk_X0_boiled_4 {X : jX} {G : jG} {K : jS → Int32 → Prop} (C : jC (X, G, 3, jA X G tvi K) d_X0_boiled cX0_boiled "Samovar" (some .int) yX0_boiled) {S : jS} {x0 : Nat} {x1 : Int32} {x2 : Int32} {Kc4 : jS × Int32 × Int32 → Prop} (hc4 : ∀ z : jS × Int32 × Int32, Kc4 z → jJ (X, G, 3, jA X G tvi K) z.1 [(0, .ref x0), (1, .int z.2.1), (2, .int z.2.2)] 4 []) (h : wp_X0_boiled_4 S x0 x1 x2 Kc4 K) : jJ (X, G, 3, jA X G tvi K) S [(0, .ref x0), (1, .int x1), (2, .int x2)] 4 [] := by
  unfold wp_X0_boiled_4 at h
  refine jr_iload_n C 5 rfl dX0_boiled_4 rfl 2 rfl ?_
  refine jr_bipush (v := 24) C 7 rfl dX0_boiled_5 (by decide) ?_
  refine jr_icmp_ge C 27 10 rfl dX0_boiled_7 (by decide) (fun c1 => ?_) (fun c1 => ?_)
  · have h := h.1 c1
    exact jr_sub [1] rfl (wk_X0_boiled_27 C  h)
  · have h := h.2 c1
    exact (wk_X0_boiled_10 C hc4 h)
theorem wk_X0_boiled_4_L {X : jX} {G : jG} {K : jS → Int32 → Prop} (C : jC (X, G, 3, jA X G tvi K) d_X0_boiled cX0_boiled "Samovar" (some .int) yX0_boiled) {x0 : Nat}  : ∀ (n : Nat) (z : jS × Int32 × Int32), jlp n (wp_X0_boiled_4_L x0 K) z → jJ (X, G, 3, jA X G tvi K) z.1 [(0, .ref x0), (1, .int z.2.1), (2, .int z.2.2)] 4 [] := by
  intro n
  induction n with
  | zero => intro z h; exact h.elim
  | succ n ih => intro z h; exact wk_X0_boiled_4 C ih h
theorem wk_X0_boiled_0 {X : jX} {G : jG} {K : jS → Int32 → Prop} (C : jC (X, G, 3, jA X G tvi K) d_X0_boiled cX0_boiled "Samovar" (some .int) yX0_boiled) {S : jS} {x0 : Nat}  (h : wp_X0_boiled S x0 K) : jJ (X, G, 3, jA X G tvi K) S [(0, .ref x0)] 0 [] := by
  unfold wp_X0_boiled at h
  refine jr_iconst (v := 0) C 1 rfl dX0_boiled_0 (by decide) ?_
  refine jr_istore_n (lv' := [(1, .int 0), (0, .ref x0)]) C 2 rfl dX0_boiled_1 rfl (Nat.le_of_ble_eq_true rfl) rfl ?_
  refine jr_iconst (v := 0) C 3 rfl dX0_boiled_2 (by decide) ?_
  refine jr_istore_n (lv' := [(2, .int 0), (1, .int 0), (0, .ref x0)]) C 4 rfl dX0_boiled_3 rfl (Nat.le_of_ble_eq_true rfl) rfl ?_
  obtain ⟨n, h⟩ := h
  exact jr_sub [2, 1, 0] rfl (wk_X0_boiled_4_L C  n _ h)
theorem m_X0_boiled {l : Launch} (hl : l.stackTraces = false) {G : jG} {K : jS → Int32 → Prop} {S : jS} {x0 : Nat} (h : wp_X0_boiled S x0 K) : jMet l G d_X0_boiled yX0_boiled (ws_ yX0_boiled cX0_boiled 3 (some .int)) [.ref x0] S tvi K :=
  jMet.of hl rfl (by decide) (Nat.le_of_ble_eq_true rfl) (fun X C => jr_sub [0] rfl (wk_X0_boiled_0 C h))
theorem wk_X0_part_10 {X : jX} {G : jG} {K : jS → Int64 → Prop} (C : jC (X, G, 5, jA X G tvl K) d_X0_part cX0_part "Samovar" (some .long) yX0_part) {S : jS} {t0 : Int64} {x0 : Int64} {x2 : Int64}  (h : wp_X0_part_10 S t0 x0 x2 K) : jJ (X, G, 5, jA X G tvl K) S [(0, .long x0), (2, .long x2)] 10 [.long t0] := by
  unfold wp_X0_part_10 at h
  refine jr_lload_n C 11 rfl dX0_part_10 rfl 0 rfl ?_
  refine jr_lload_n C 12 rfl dX0_part_11 rfl 1 rfl ?_
  refine jr_callSl (As := [.long x0, .long x2]) (st := [.long t0]) C 15 rfl (m_X0_divisor 100 C.2.2.2.2.2.2.2.2.2.2.2.2.2.2.2 h) rfl q1115 q1116 q94 q1117 (by decide) (by decide) nd_X0_divisor (Nat.le_of_ble_eq_true rfl) dX0_part_12 (fun S1 r2 h => ?_)
  obtain ⟨hz, h⟩ := h
  refine jr_ldiv C 16 rfl dX0_part_15 hz ?_
  exact jr_lreturn C dX0_part_16 h
theorem wk_X0_part_0 {X : jX} {G : jG} {K : jS → Int64 → Prop} (C : jC (X, G, 5, jA X G tvl K) d_X0_part cX0_part "Samovar" (some .long) yX0_part) {S : jS} {x0 : Int64} {x2 : Int64} {x4 : Int32}  (h : wp_X0_part S x0 x2 x4 K) : jJ (X, G, 5, jA X G tvl K) S [(0, .long x0), (2, .long x2), (4, .int x4)] 0 [] := by
  unfold wp_X0_part at h
  refine jr_iload C 2 rfl dX0_part_0 2 rfl ?_
  refine jr_if_ne C 9 5 rfl dX0_part_2 (by decide) (fun c1 => ?_) (fun c1 => ?_)
  · have h := h.1 c1
    refine jr_lload_n C 6 rfl dX0_part_5 rfl 0 rfl ?_
    refine jr_goto C 10 dX0_part_6 (by decide) ?_
    exact jr_sub [0, 1] rfl (wk_X0_part_10 C  h)
  · have h := h.2 c1
    refine jr_lload_n C 10 rfl dX0_part_9 rfl 1 rfl ?_
    exact jr_sub [0, 1] rfl (wk_X0_part_10 C  h)
theorem m_X0_part {l : Launch} (hl : l.stackTraces = false) {G : jG} {K : jS → Int64 → Prop} {S : jS} {x0 : Int64} {x2 : Int64} {x4 : Int32} (h : wp_X0_part S x0 x2 x4 K) : jMet l G d_X0_part yX0_part (ws_ yX0_part cX0_part 5 (some .long)) [.long x0, .long x2, .int x4] S tvl K :=
  jMet.of hl rfl (by decide) (Nat.le_of_ble_eq_true rfl) (fun X C => jr_sub [0, 1, 2] rfl (wk_X0_part_0 C h))
theorem wk_X0_chanceOf_90 {X : jX} {G : jG} {K : jS → Int64 → Prop} (C : jC (X, G, 11, jA X G tvl K) d_X0_chanceOf cX0_chanceOf "Samovar" (some .long) yX0_chanceOf) {S : jS} {t0 : Int64} {t1 : Int64} {x0 : Nat} {x1 : Int32} {x2 : Int32} {x3 : Int32} {x4 : Int32} {x5 : Int64} {x9 : Int32} {Kc17 : jS × Int64 → Prop} (hc17 : ∀ z : jS × Int64, Kc17 z → jJ (X, G, 11, jA X G tvl K) z.1 [(0, .ref x0), (1, .int x1), (2, .int x2), (3, .int x3), (4, .int x4), (5, .long z.2)] 17 []) {Kc59 : jS × Int64 × Int32 → Prop} (hc59 : ∀ z : jS × Int64 × Int32, Kc59 z → jJ (X, G, 11, jA X G tvl K) z.1 [(0, .ref x0), (1, .int x1), (2, .int x2), (3, .int x3), (4, .int x4), (5, .long x5), (7, .long z.2.1), (9, .int z.2.2)] 59 []) (h : wp_X0_chanceOf_90 S t0 t1 x0 x1 x2 x3 x4 x5 x9 Kc17 Kc59 K) : jJ (X, G, 11, jA X G tvl K) S [(0, .ref x0), (1, .int x1), (2, .int x2), (3, .int x3), (4, .int x4), (5, .long x5), (9, .int x9)] 90 [.long t1, .long t0] := by
  unfold wp_X0_chanceOf_90 at h
  refine jr_lmul C 91 rfl dX0_chanceOf_90 ?_
  refine jr_lstore (lv' := [(7, .long (t0 * t1)), (0, .ref x0), (1, .int x1), (2, .int x2), (3, .int x3), (4, .int x4), (5, .long x5), (9, .int x9)]) C 93 rfl dX0_chanceOf_91 (Nat.le_of_ble_eq_true rfl) rfl ?_
  refine jr_iinc (v := (x9 + 1)) (lv' := [(9, .int (x9 + 1)), (7, .long (t0 * t1)), (0, .ref x0), (1, .int x1), (2, .int x2), (3, .int x3), (4, .int x4), (5, .long x5)]) C 96 rfl dX0_chanceOf_93 7 rfl rfl (Nat.le_of_ble_eq_true rfl) rfl ?_
  refine jr_goto C 59 dX0_chanceOf_96 (by decide) ?_
  exact jr_sub [2, 3, 4, 5, 6, 7, 1, 0] rfl (hc59 _ h)
theorem wk_X0_chanceOf_106 {X : jX} {G : jG} {K : jS → Int64 → Prop} (C : jC (X, G, 11, jA X G tvl K) d_X0_chanceOf cX0_chanceOf "Samovar" (some .long) yX0_chanceOf) {S : jS} {x0 : Nat} {x1 : Int32} {x2 : Int32} {x3 : Int32} {x4 : Int32} {x5 : Int64} {Kc17 : jS × Int64 → Prop} (hc17 : ∀ z : jS × Int64, Kc17 z → jJ (X, G, 11, jA X G tvl K) z.1 [(0, .ref x0), (1, .int x1), (2, .int x2), (3, .int x3), (4, .int x4), (5, .long z.2)] 17 []) (h : wp_X0_chanceOf_106 S x0 x1 x2 x3 x4 x5 Kc17 K) : jJ (X, G, 11, jA X G tvl K) S [(0, .ref x0), (1, .int x1), (2, .int x2), (3, .int x3), (4, .int x4), (5, .long x5)] 106 [] := by
  unfold wp_X0_chanceOf_106 at h
  refine jr_aload_n C 107 rfl dX0_chanceOf_106 rfl 0 rfl ?_
  refine jr_dup C 108 rfl dX0_chanceOf_107 rfl ?_
  refine jr_geti C 111 rfl fo_0_17 q245 dX0_chanceOf_108 h (fun v1 h => ?_)
  refine jr_iconst (v := 1) C 112 rfl dX0_chanceOf_111 (by decide) ?_
  refine jr_iadd C 113 rfl dX0_chanceOf_112 ?_
  refine jr_putv C 116 rfl fo_0_17 (by decide) q245 dX0_chanceOf_113 rfl rfl h (fun S2 h => ?_)
  refine jr_goto C 17 dX0_chanceOf_116 (by decide) ?_
  exact (hc17 _ h)
theorem wk_X0_chanceOf_59 {X : jX} {G : jG} {K : jS → Int64 → Prop} (C : jC (X, G, 11, jA X G tvl K) d_X0_chanceOf cX0_chanceOf "Samovar" (some .long) yX0_chanceOf) {S : jS} {x0 : Nat} {x1 : Int32} {x2 : Int32} {x3 : Int32} {x4 : Int32} {x5 : Int64} {x7 : Int64} {x9 : Int32} {Kc17 : jS × Int64 → Prop} (hc17 : ∀ z : jS × Int64, Kc17 z → jJ (X, G, 11, jA X G tvl K) z.1 [(0, .ref x0), (1, .int x1), (2, .int x2), (3, .int x3), (4, .int x4), (5, .long z.2)] 17 []) {Kc59 : jS × Int64 × Int32 → Prop} (hc59 : ∀ z : jS × Int64 × Int32, Kc59 z → jJ (X, G, 11, jA X G tvl K) z.1 [(0, .ref x0), (1, .int x1), (2, .int x2), (3, .int x3), (4, .int x4), (5, .long x5), (7, .long z.2.1), (9, .int z.2.2)] 59 []) (h : wp_X0_chanceOf_59 S x0 x1 x2 x3 x4 x5 x7 x9 Kc17 Kc59 K) : jJ (X, G, 11, jA X G tvl K) S [(0, .ref x0), (1, .int x1), (2, .int x2), (3, .int x3), (4, .int x4), (5, .long x5), (7, .long x7), (9, .int x9)] 59 [] := by
  unfold wp_X0_chanceOf_59 at h
  refine jr_iload C 61 rfl dX0_chanceOf_59 7 rfl ?_
  refine jr_iload C 63 rfl dX0_chanceOf_61 4 rfl ?_
  refine jr_icmp_ge C 99 66 rfl dX0_chanceOf_63 (by decide) (fun c5 => ?_) (fun c5 => ?_)
  · have h := h.1 c5
    refine jr_lload C 101 rfl dX0_chanceOf_99 5 rfl ?_
    refine jr_lload C 103 rfl dX0_chanceOf_101 6 rfl ?_
    refine jr_ladd C 104 rfl dX0_chanceOf_103 ?_
    refine jr_lstore (lv' := [(5, .long (x5 + x7)), (0, .ref x0), (1, .int x1), (2, .int x2), (3, .int x3), (4, .int x4), (7, .long x7), (9, .int x9)]) C 106 rfl dX0_chanceOf_104 (Nat.le_of_ble_eq_true rfl) rfl ?_
    exact jr_sub [1, 2, 3, 4, 5, 0] rfl (wk_X0_chanceOf_106 C hc17 h)
  · have h := h.2 c5
    refine jr_lload C 68 rfl dX0_chanceOf_66 6 rfl ?_
    refine jr_aload_n C 69 rfl dX0_chanceOf_68 rfl 0 rfl ?_
    refine jr_geti C 72 rfl fo_0_17 q245 dX0_chanceOf_69 h (fun v1 h => ?_)
    refine jr_iload C 74 rfl dX0_chanceOf_72 7 rfl ?_
    refine jr_callSi (As := [.int v1, .int x9]) (st := [.long x7]) C 77 rfl (m_X0_isIn C.2.2.2.2.2.2.2.2.2.2.2.2.2.2.2 h) rfl q849 q850 q94 q851 (by decide) (by decide) nd_X0_isIn (Nat.le_of_ble_eq_true rfl) dX0_chanceOf_74 (fun S2 r3 h => ?_)
    refine jr_if_eq C 88 80 rfl dX0_chanceOf_77 (by decide) (fun c4 => ?_) (fun c4 => ?_)
    · have h := h.1 c4
      refine jr_iload_n C 89 rfl dX0_chanceOf_88 rfl 1 rfl ?_
      refine jr_i2l C 90 rfl dX0_chanceOf_89 ?_
      exact jr_sub [0, 1, 2, 3, 4, 5, 7] rfl (wk_X0_chanceOf_90 C hc17 hc59 h)
    · have h := h.2 c4
      refine jr_bipush (v := 16) C 82 rfl dX0_chanceOf_80 (by decide) ?_
      refine jr_iload_n C 83 rfl dX0_chanceOf_82 rfl 1 rfl ?_
      refine jr_isub C 84 rfl dX0_chanceOf_83 ?_
      refine jr_i2l C 85 rfl dX0_chanceOf_84 ?_
      refine jr_goto C 90 dX0_chanceOf_85 (by decide) ?_
      exact jr_sub [0, 1, 2, 3, 4, 5, 7] rfl (wk_X0_chanceOf_90 C hc17 hc59 h)
theorem wk_X0_chanceOf_59_L {X : jX} {G : jG} {K : jS → Int64 → Prop} (C : jC (X, G, 11, jA X G tvl K) d_X0_chanceOf cX0_chanceOf "Samovar" (some .long) yX0_chanceOf) {x0 : Nat} {x1 : Int32} {x2 : Int32} {x3 : Int32} {x4 : Int32} {x5 : Int64} {Kc17 : jS × Int64 → Prop} (hc17 : ∀ z : jS × Int64, Kc17 z → jJ (X, G, 11, jA X G tvl K) z.1 [(0, .ref x0), (1, .int x1), (2, .int x2), (3, .int x3), (4, .int x4), (5, .long z.2)] 17 []) : ∀ (n : Nat) (z : jS × Int64 × Int32), jlp n (wp_X0_chanceOf_59_L x0 x1 x2 x3 x4 x5 Kc17 K) z → jJ (X, G, 11, jA X G tvl K) z.1 [(0, .ref x0), (1, .int x1), (2, .int x2), (3, .int x3), (4, .int x4), (5, .long x5), (7, .long z.2.1), (9, .int z.2.2)] 59 [] := by
  intro n
  induction n with
  | zero => intro z h; exact h.elim
  | succ n ih => intro z h; exact wk_X0_chanceOf_59 C hc17 ih h
theorem wk_X0_chanceOf_17 {X : jX} {G : jG} {K : jS → Int64 → Prop} (C : jC (X, G, 11, jA X G tvl K) d_X0_chanceOf cX0_chanceOf "Samovar" (some .long) yX0_chanceOf) {S : jS} {x0 : Nat} {x1 : Int32} {x2 : Int32} {x3 : Int32} {x4 : Int32} {x5 : Int64} {Kc17 : jS × Int64 → Prop} (hc17 : ∀ z : jS × Int64, Kc17 z → jJ (X, G, 11, jA X G tvl K) z.1 [(0, .ref x0), (1, .int x1), (2, .int x2), (3, .int x3), (4, .int x4), (5, .long z.2)] 17 []) (h : wp_X0_chanceOf_17 S x0 x1 x2 x3 x4 x5 Kc17 K) : jJ (X, G, 11, jA X G tvl K) S [(0, .ref x0), (1, .int x1), (2, .int x2), (3, .int x3), (4, .int x4), (5, .long x5)] 17 [] := by
  unfold wp_X0_chanceOf_17 at h
  refine jr_aload_n C 18 rfl dX0_chanceOf_17 rfl 0 rfl ?_
  refine jr_geti C 21 rfl fo_0_17 q245 dX0_chanceOf_18 h (fun v1 h => ?_)
  refine jr_iconst (v := 1) C 22 rfl dX0_chanceOf_21 (by decide) ?_
  refine jr_iload C 24 rfl dX0_chanceOf_22 4 rfl ?_
  refine jr_ishl C 25 rfl dX0_chanceOf_24 ?_
  refine jr_icmp_ge C 119 28 rfl dX0_chanceOf_25 (by decide) (fun c11 => ?_) (fun c11 => ?_)
  · have h := h.1 c11
    refine jr_aload_n C 120 rfl dX0_chanceOf_119 rfl 0 rfl ?_
    refine jr_iconst (v := 0) C 121 rfl dX0_chanceOf_120 (by decide) ?_
    refine jr_putv C 124 rfl fo_0_17 (by decide) q245 dX0_chanceOf_121 rfl rfl h (fun S2 h => ?_)
    refine jr_goto C 137 dX0_chanceOf_124 (by decide) ?_
    refine jr_lload C 139 rfl dX0_chanceOf_137 5 rfl ?_
    refine jr_lconst (v := 1) C 140 rfl dX0_chanceOf_139 (by decide) ?_
    refine jr_iconst (v := 4) C 141 rfl dX0_chanceOf_140 (by decide) ?_
    refine jr_iload C 143 rfl dX0_chanceOf_141 4 rfl ?_
    refine jr_imul C 144 rfl dX0_chanceOf_143 ?_
    refine jr_lshl C 145 rfl dX0_chanceOf_144 ?_
    refine jr_iload_n C 146 rfl dX0_chanceOf_145 rfl 3 rfl ?_
    refine jr_callSl (As := [.long x5, .long (1 <<< (((4 * x4) : Int32).toInt64 &&& 63)), .int x3]) (st := []) C 149 rfl (m_X0_part C.2.2.2.2.2.2.2.2.2.2.2.2.2.2.2 h) rfl q1112 q1113 q94 q1114 (by decide) (by decide) nd_X0_part (Nat.le_of_ble_eq_true rfl) dX0_chanceOf_146 (fun S3 r4 h => ?_)
    exact jr_lreturn C dX0_chanceOf_149 h
  · have h := h.2 c11
    refine jr_aload_n C 29 rfl dX0_chanceOf_28 rfl 0 rfl ?_
    obtain ⟨⟨V, hb⟩, h⟩ := h
    refine jr_callVv (r0 := (RX0, TX0, 24)) (As := []) (st := []) C 32 rfl (m_X0_find C.2.2.2.2.2.2.2.2.2.2.2.2.2.2.2 h) rfl hb rfl q831 q833 qs10 q94 q834 (by decide) (by decide) ndV_X0_find (Nat.le_of_ble_eq_true rfl) dX0_chanceOf_29 (fun S5 _ h => ?_)
    refine jr_aload_n C 33 rfl dX0_chanceOf_32 rfl 0 rfl ?_
    refine jr_getr C 36 rfl fo_0_4 q232 dX0_chanceOf_33 h (fun v6 h => ?_)
    refine jr_iload_n C 37 rfl dX0_chanceOf_36 rfl 2 rfl ?_
    obtain ⟨⟨V, hb⟩, h⟩ := h
    refine jr_callVr (r0 := (RJ2, TJ2, 3)) (As := [.int x2]) (st := []) C 40 rfl (m_J2_get C.2.2.2.2.2.2.2.2.2.2.2.2.2.2.2 h) rfl hb rfl q702 q703 q704 q99 q705 (by decide) (by decide) ndV_J2_get (Nat.le_of_ble_eq_true rfl) dX0_chanceOf_37 (fun S7 r8 h => ?_)
    obtain ⟨hz, h⟩ := h
    refine jr_cast C 43 rfl (cs := [4]) can_Samovar_Guest (by decide) q213 dX0_chanceOf_40 hz ?_
    refine jr_getiN C 46 rfl fo_4_3 (jx_g q570 rfl) dX0_chanceOf_43 h (fun v9 h => ?_)
    refine jr_iconst (v := 3) C 47 rfl dX0_chanceOf_46 (by decide) ?_
    refine jr_icmp_eq C 53 50 rfl dX0_chanceOf_47 (by decide) (fun c10 => ?_) (fun c10 => ?_)
    · have h := h.1 c10
      refine jr_lconst (v := 1) C 54 rfl dX0_chanceOf_53 (by decide) ?_
      refine jr_lstore (lv' := [(7, .long 1), (0, .ref x0), (1, .int x1), (2, .int x2), (3, .int x3), (4, .int x4), (5, .long x5)]) C 56 rfl dX0_chanceOf_54 (Nat.le_of_ble_eq_true rfl) rfl ?_
      refine jr_iconst (v := 0) C 57 rfl dX0_chanceOf_56 (by decide) ?_
      refine jr_istore (lv' := [(9, .int 0), (7, .long 1), (0, .ref x0), (1, .int x1), (2, .int x2), (3, .int x3), (4, .int x4), (5, .long x5)]) C 59 rfl dX0_chanceOf_57 (Nat.le_of_ble_eq_true rfl) rfl ?_
      obtain ⟨n, h⟩ := h
      exact jr_sub [2, 3, 4, 5, 6, 7, 1, 0] rfl (wk_X0_chanceOf_59_L C hc17 n _ h)
    · have h := h.2 c10
      refine jr_goto C 106 dX0_chanceOf_50 (by decide) ?_
      exact (wk_X0_chanceOf_106 C hc17 h)
theorem wk_X0_chanceOf_17_L {X : jX} {G : jG} {K : jS → Int64 → Prop} (C : jC (X, G, 11, jA X G tvl K) d_X0_chanceOf cX0_chanceOf "Samovar" (some .long) yX0_chanceOf) {x0 : Nat} {x1 : Int32} {x2 : Int32} {x3 : Int32} {x4 : Int32}  : ∀ (n : Nat) (z : jS × Int64), jlp n (wp_X0_chanceOf_17_L x0 x1 x2 x3 x4 K) z → jJ (X, G, 11, jA X G tvl K) z.1 [(0, .ref x0), (1, .int x1), (2, .int x2), (3, .int x3), (4, .int x4), (5, .long z.2)] 17 [] := by
  intro n
  induction n with
  | zero => intro z h; exact h.elim
  | succ n ih => intro z h; exact wk_X0_chanceOf_17 C ih h
theorem wk_X0_chanceOf_0 {X : jX} {G : jG} {K : jS → Int64 → Prop} (C : jC (X, G, 11, jA X G tvl K) d_X0_chanceOf cX0_chanceOf "Samovar" (some .long) yX0_chanceOf) {S : jS} {x0 : Nat} {x1 : Int32} {x2 : Int32} {x3 : Int32}  (h : wp_X0_chanceOf S x0 x1 x2 x3 K) : jJ (X, G, 11, jA X G tvl K) S [(0, .ref x0), (1, .int x1), (2, .int x2), (3, .int x3)] 0 [] := by
  unfold wp_X0_chanceOf at h
  refine jr_aload_n C 1 rfl dX0_chanceOf_0 rfl 0 rfl ?_
  refine jr_getr C 4 rfl fo_0_6 q234 dX0_chanceOf_1 h (fun v1 h => ?_)
  obtain ⟨⟨V, hb⟩, h⟩ := h
  refine jr_callVi (r0 := (RJ2, TJ2, 3)) (As := []) (st := []) C 7 rfl (m_J2_size C.2.2.2.2.2.2.2.2.2.2.2.2.2.2.2 h) rfl hb rfl q700 q378 q379 q99 q380 (by decide) (by decide) ndV_J2_size (Nat.le_of_ble_eq_true rfl) dX0_chanceOf_4 (fun S2 r3 h => ?_)
  refine jr_istore (lv' := [(4, .int r3), (0, .ref x0), (1, .int x1), (2, .int x2), (3, .int x3)]) C 9 rfl dX0_chanceOf_7 (Nat.le_of_ble_eq_true rfl) rfl ?_
  refine jr_lconst (v := 0) C 10 rfl dX0_chanceOf_9 (by decide) ?_
  refine jr_lstore (lv' := [(5, .long 0), (4, .int r3), (0, .ref x0), (1, .int x1), (2, .int x2), (3, .int x3)]) C 12 rfl dX0_chanceOf_10 (Nat.le_of_ble_eq_true rfl) rfl ?_
  refine jr_aload_n C 13 rfl dX0_chanceOf_12 rfl 2 rfl ?_
  refine jr_iconst (v := 0) C 14 rfl dX0_chanceOf_13 (by decide) ?_
  refine jr_putv C 17 rfl fo_0_17 (by decide) q245 dX0_chanceOf_14 rfl rfl h (fun S4 h => ?_)
  obtain ⟨n, h⟩ := h
  exact jr_sub [2, 3, 4, 5, 1, 0] rfl (wk_X0_chanceOf_17_L C  n _ h)
theorem m_X0_chanceOf {l : Launch} (hl : l.stackTraces = false) {G : jG} {K : jS → Int64 → Prop} {S : jS} {x0 : Nat} {x1 : Int32} {x2 : Int32} {x3 : Int32} (h : wp_X0_chanceOf S x0 x1 x2 x3 K) : jMet l G d_X0_chanceOf yX0_chanceOf (wsW_ yX0_chanceOf cX0_chanceOf 11 (some .long) [((12), (119), (127), (0)), ((127), (129), (127), (0))]) [.ref x0, .int x1, .int x2, .int x3] S tvl K :=
  jMet.ofH hl rfl (by decide) (Nat.le_of_ble_eq_true rfl) (fun X C => jr_sub [0, 1, 2, 3] rfl (wk_X0_chanceOf_0 C h))
theorem wk_X0_people_0 {X : jX} {G : jG} {K : jS → Int32 → Prop} (C : jC (X, G, 1, jA X G tvi K) d_X0_people cX0_people "Samovar" (some .int) yX0_people) {S : jS} {x0 : Nat}  (h : wp_X0_people S x0 K) : jJ (X, G, 1, jA X G tvi K) S [(0, .ref x0)] 0 [] := by
  unfold wp_X0_people at h
  refine jr_aload_n C 1 rfl dX0_people_0 rfl 0 rfl ?_
  refine jr_getr C 4 rfl fo_0_2 q230 dX0_people_1 h (fun v1 h => ?_)
  refine dr_Company_read_2 (As := []) (st := []) C 7 rfl h rfl q748 (by decide) (Nat.le_of_ble_eq_true rfl) dX0_people_4 (fun S2 r3 h => ?_)
  refine jr_pop C 8 rfl dX0_people_7 rfl ?_
  refine jr_aload_n C 9 rfl dX0_people_8 rfl 0 rfl ?_
  refine jr_getr C 12 rfl fo_0_4 q232 dX0_people_9 h (fun v4 h => ?_)
  obtain ⟨⟨V, hb⟩, h⟩ := h
  refine jr_callVi (r0 := (RJ2, TJ2, 3)) (As := []) (st := []) C 15 rfl (m_J2_size C.2.2.2.2.2.2.2.2.2.2.2.2.2.2.2 h) rfl hb rfl q700 q378 q379 q99 q380 (by decide) (by decide) ndV_J2_size (Nat.le_of_ble_eq_true rfl) dX0_people_12 (fun S5 r6 h => ?_)
  exact jr_ireturn C dX0_people_15 h
theorem m_X0_people {l : Launch} (hl : l.stackTraces = false) {G : jG} {K : jS → Int32 → Prop} {S : jS} {x0 : Nat} (h : wp_X0_people S x0 K) : jMet l G d_X0_people yX0_people (ws_ yX0_people cX0_people 1 (some .int)) [.ref x0] S tvi K :=
  jMet.of hl rfl (by decide) (Nat.le_of_ble_eq_true rfl) (fun X C => jr_sub [0] rfl (wk_X0_people_0 C h))
theorem wk_X0_isGuest_0 {X : jX} {G : jG} {K : jS → Int32 → Prop} (C : jC (X, G, 2, jA X G tvi K) d_X0_isGuest cX0_isGuest "Samovar" (some .boolean) yX0_isGuest) {S : jS} {x0 : Nat} {x1 : Int32}  (h : wp_X0_isGuest S x0 x1 K) : jJ (X, G, 2, jA X G tvi K) S [(0, .ref x0), (1, .int x1)] 0 [] := by
  unfold wp_X0_isGuest at h
  refine jr_iload_n C 1 rfl dX0_isGuest_0 rfl 1 rfl ?_
  refine jr_i2l C 2 rfl dX0_isGuest_1 ?_
  refine jr_lconst (v := 0) C 3 rfl dX0_isGuest_2 (by decide) ?_
  refine jr_aload_n C 4 rfl dX0_isGuest_3 rfl 0 rfl ?_
  obtain ⟨⟨V, hb⟩, h⟩ := h
  refine jr_callVi (r0 := (RX0, TX0, 24)) (As := []) (st := [.long 0, .long ((x1 : Int32).toInt64)]) C 7 rfl (m_X0_people C.2.2.2.2.2.2.2.2.2.2.2.2.2.2.2 h) rfl hb rfl q744 q746 qs7 q94 q747 (by decide) (by decide) ndV_X0_people (Nat.le_of_ble_eq_true rfl) dX0_isGuest_4 (fun S1 r2 h => ?_)
  refine jr_iconst (v := 1) C 8 rfl dX0_isGuest_7 (by decide) ?_
  refine jr_isub C 9 rfl dX0_isGuest_8 ?_
  refine jr_i2l C 10 rfl dX0_isGuest_9 ?_
  refine jr_callSi (As := [.long ((x1 : Int32).toInt64), .long 0, .long (((r2 - 1) : Int32).toInt64)]) (st := []) C 13 rfl (m_X0_in C.2.2.2.2.2.2.2.2.2.2.2.2.2.2.2 h) rfl q308 q309 q94 q310 (by decide) (by decide) nd_X0_in (Nat.le_of_ble_eq_true rfl) dX0_isGuest_10 (fun S3 r4 h => ?_)
  exact jr_zreturn C dX0_isGuest_13 h
theorem m_X0_isGuest {l : Launch} (hl : l.stackTraces = false) {G : jG} {K : jS → Int32 → Prop} {S : jS} {x0 : Nat} {x1 : Int32} (h : wp_X0_isGuest S x0 x1 K) : jMet l G d_X0_isGuest yX0_isGuest (ws_ yX0_isGuest cX0_isGuest 2 (some .boolean)) [.ref x0, .int x1] S tvi K :=
  jMet.of hl rfl (by decide) (Nat.le_of_ble_eq_true rfl) (fun X C => jr_sub [0, 1] rfl (wk_X0_isGuest_0 C h))
theorem wk_X0_no_0 {X : jX} {G : jG} {K : jS → Int64 → Prop} (C : jC (X, G, 1, jA X G tvl K) d_X0_no cX0_no "Samovar" (some .long) yX0_no) {S : jS} {x0 : Int32}  (h : wp_X0_no S x0 K) : jJ (X, G, 1, jA X G tvl K) S [(0, .int x0)] 0 [] := by
  unfold wp_X0_no at h
  refine jr_ldc2 (v := (-9223372036854775808)) C 3 rfl dX0_no_0 q1121 ?_
  refine jr_iload_n C 4 rfl dX0_no_3 rfl 0 rfl ?_
  refine jr_i2l C 5 rfl dX0_no_4 ?_
  refine jr_lsub C 6 rfl dX0_no_5 ?_
  exact jr_lreturn C dX0_no_6 h
theorem m_X0_no {l : Launch} (hl : l.stackTraces = false) {G : jG} {K : jS → Int64 → Prop} {S : jS} {x0 : Int32} (h : wp_X0_no S x0 K) : jMet l G d_X0_no yX0_no (ws_ yX0_no cX0_no 1 (some .long)) [.int x0] S tvl K :=
  jMet.of hl rfl (by decide) (Nat.le_of_ble_eq_true rfl) (fun X C => jr_sub [0] rfl (wk_X0_no_0 C h))
theorem wk_X0_chance_42 {X : jX} {G : jG} {K : jS → Int64 → Prop} (C : jC (X, G, 4, jA X G tvl K) d_X0_chance cX0_chance "Samovar" (some .long) yX0_chance) {S : jS} {t0 : Int64}  (h : wp_X0_chance_42 S t0 K) : jJ (X, G, 4, jA X G tvl K) S [] 42 [.long t0] := by
  unfold wp_X0_chance_42 at h
  exact jr_lreturn C dX0_chance_42 h
theorem wk_X0_chance_37 {X : jX} {G : jG} {K : jS → Int64 → Prop} (C : jC (X, G, 4, jA X G tvl K) d_X0_chance cX0_chance "Samovar" (some .long) yX0_chance) {S : jS}   (h : wp_X0_chance_37 S K) : jJ (X, G, 4, jA X G tvl K) S [] 37 [] := by
  unfold wp_X0_chance_37 at h
  refine jr_bipush (v := (-2)) C 39 rfl dX0_chance_37 (by decide) ?_
  refine jr_callSl (As := [.int (-2)]) (st := []) C 42 rfl (m_X0_no C.2.2.2.2.2.2.2.2.2.2.2.2.2.2.2 h) rfl q1118 q1119 q94 q1120 (by decide) (by decide) nd_X0_no (Nat.le_of_ble_eq_true rfl) dX0_chance_39 (fun S1 r2 h => ?_)
  exact (wk_X0_chance_42 C  h)
theorem wk_X0_chance_0 {X : jX} {G : jG} {K : jS → Int64 → Prop} (C : jC (X, G, 4, jA X G tvl K) d_X0_chance cX0_chance "Samovar" (some .long) yX0_chance) {S : jS} {x0 : Nat} {x1 : Int32} {x2 : Int32} {x3 : Int32}  (h : wp_X0_chance S x0 x1 x2 x3 K) : jJ (X, G, 4, jA X G tvl K) S [(0, .ref x0), (1, .int x1), (2, .int x2), (3, .int x3)] 0 [] := by
  unfold wp_X0_chance at h
  refine jr_iload_n C 1 rfl dX0_chance_0 rfl 1 rfl ?_
  refine jr_i2l C 2 rfl dX0_chance_1 ?_
  refine jr_lconst (v := 0) C 3 rfl dX0_chance_2 (by decide) ?_
  refine jr_ldc2 (v := 16) C 6 rfl dX0_chance_3 q1107 ?_
  refine jr_callSi (As := [.long ((x1 : Int32).toInt64), .long 0, .long 16]) (st := []) C 9 rfl (m_X0_in C.2.2.2.2.2.2.2.2.2.2.2.2.2.2.2 h) rfl q308 q309 q94 q310 (by decide) (by decide) nd_X0_in (Nat.le_of_ble_eq_true rfl) dX0_chance_6 (fun S1 r2 h => ?_)
  refine jr_if_eq C 37 12 rfl dX0_chance_9 (by decide) (fun c11 => ?_) (fun c11 => ?_)
  · have h := h.1 c11
    exact jr_sub [] rfl (wk_X0_chance_37 C  h)
  · have h := h.2 c11
    refine jr_aload_n C 13 rfl dX0_chance_12 rfl 0 rfl ?_
    refine jr_iload_n C 14 rfl dX0_chance_13 rfl 2 rfl ?_
    obtain ⟨⟨V, hb⟩, h⟩ := h
    refine jr_callVi (r0 := (RX0, TX0, 24)) (As := [.int x2]) (st := []) C 17 rfl (m_X0_isGuest C.2.2.2.2.2.2.2.2.2.2.2.2.2.2.2 h) rfl hb rfl q740 q742 qs6 q94 q743 (by decide) (by decide) ndV_X0_isGuest (Nat.le_of_ble_eq_true rfl) dX0_chance_14 (fun S3 r4 h => ?_)
    refine jr_if_eq C 37 20 rfl dX0_chance_17 (by decide) (fun c10 => ?_) (fun c10 => ?_)
    · have h := h.1 c10
      exact jr_sub [] rfl (wk_X0_chance_37 C  h)
    · have h := h.2 c10
      refine jr_iload_n C 21 rfl dX0_chance_20 rfl 3 rfl ?_
      refine jr_callSi (As := [.int x3]) (st := []) C 24 rfl (m_X0_isTwo C.2.2.2.2.2.2.2.2.2.2.2.2.2.2.2 h) rfl q305 q306 q94 q307 (by decide) (by decide) nd_X0_isTwo (Nat.le_of_ble_eq_true rfl) dX0_chance_21 (fun S5 r6 h => ?_)
      refine jr_if_eq C 37 27 rfl dX0_chance_24 (by decide) (fun c9 => ?_) (fun c9 => ?_)
      · have h := h.1 c9
        exact jr_sub [] rfl (wk_X0_chance_37 C  h)
      · have h := h.2 c9
        refine jr_aload_n C 28 rfl dX0_chance_27 rfl 0 rfl ?_
        refine jr_iload_n C 29 rfl dX0_chance_28 rfl 1 rfl ?_
        refine jr_iload_n C 30 rfl dX0_chance_29 rfl 2 rfl ?_
        refine jr_iload_n C 31 rfl dX0_chance_30 rfl 3 rfl ?_
        obtain ⟨⟨V, hb⟩, h⟩ := h
        refine jr_callVWl (r0 := (RX0, TX0, 24)) (As := [.int x1, .int x2, .int x3]) (st := []) C 34 rfl (m_X0_chanceOf C.2.2.2.2.2.2.2.2.2.2.2.2.2.2.2 h) rfl hb rfl q1108 q1110 qs34 q94 q1111 (by decide) (by decide) ndV_X0_chanceOf (Nat.le_of_ble_eq_true rfl) dX0_chance_31 (fun S7 r8 h => ?_)
        refine jr_goto C 42 dX0_chance_34 (by decide) ?_
        exact jr_sub [] rfl (wk_X0_chance_42 C  h)
theorem m_X0_chance {l : Launch} (hl : l.stackTraces = false) {G : jG} {K : jS → Int64 → Prop} {S : jS} {x0 : Nat} {x1 : Int32} {x2 : Int32} {x3 : Int32} (h : wp_X0_chance S x0 x1 x2 x3 K) : jMet l G d_X0_chance yX0_chance (ws_ yX0_chance cX0_chance 4 (some .long)) [.ref x0, .int x1, .int x2, .int x3] S tvl K :=
  jMet.of hl rfl (by decide) (Nat.le_of_ble_eq_true rfl) (fun X C => jr_sub [0, 1, 2, 3] rfl (wk_X0_chance_0 C h))
theorem wk_X0_comeOf_53 {X : jX} {G : jG} {K : jS → Int32 → Prop} (C : jC (X, G, 7, jA X G tvi K) d_X0_comeOf cX0_comeOf "Samovar" (some .int) yX0_comeOf) {S : jS} {x0 : Nat} {x1 : Nat} {x2 : Int32} {x3 : Int32} {x4 : Int32} {x5 : Int32} {Kc16 : jS × Int32 × Int32 → Prop} (hc16 : ∀ z : jS × Int32 × Int32, Kc16 z → jJ (X, G, 7, jA X G tvi K) z.1 [(0, .ref x0), (1, .ref x1), (2, .int x2), (3, .int x3), (4, .int z.2.1), (5, .int z.2.2)] 16 []) (h : wp_X0_comeOf_53 S x0 x1 x2 x3 x4 x5 Kc16 K) : jJ (X, G, 7, jA X G tvi K) S [(0, .ref x0), (1, .ref x1), (2, .int x2), (3, .int x3), (4, .int x4), (5, .int x5)] 53 [] := by
  unfold wp_X0_comeOf_53 at h
  refine jr_aload_n C 54 rfl dX0_comeOf_53 rfl 1 rfl ?_
  refine jr_dup C 55 rfl dX0_comeOf_54 rfl ?_
  refine jr_getiN C 58 rfl fo_4_0 (jx_g q564 rfl) dX0_comeOf_55 h (fun v1 h => ?_)
  refine jr_iconst (v := 1) C 59 rfl dX0_comeOf_58 (by decide) ?_
  refine jr_iadd C 60 rfl dX0_comeOf_59 ?_
  refine jr_putvN C 63 rfl fo_4_0 (by decide) (jx_g q564 rfl) dX0_comeOf_60 rfl rfl h (fun S2 h => ?_)
  refine jr_goto C 16 dX0_comeOf_63 (by decide) ?_
  exact (hc16 _ h)
theorem wk_X0_comeOf_95 {X : jX} {G : jG} {K : jS → Int32 → Prop} (C : jC (X, G, 7, jA X G tvi K) d_X0_comeOf cX0_comeOf "Samovar" (some .int) yX0_comeOf) {S : jS} {t0 : Int32}  (h : wp_X0_comeOf_95 S t0 K) : jJ (X, G, 7, jA X G tvi K) S [] 95 [.int t0] := by
  unfold wp_X0_comeOf_95 at h
  exact jr_ireturn C dX0_comeOf_95 h
theorem wk_X0_comeOf_16 {X : jX} {G : jG} {K : jS → Int32 → Prop} (C : jC (X, G, 7, jA X G tvi K) d_X0_comeOf cX0_comeOf "Samovar" (some .int) yX0_comeOf) {S : jS} {x0 : Nat} {x1 : Nat} {x2 : Int32} {x3 : Int32} {x4 : Int32} {x5 : Int32} {Kc16 : jS × Int32 × Int32 → Prop} (hc16 : ∀ z : jS × Int32 × Int32, Kc16 z → jJ (X, G, 7, jA X G tvi K) z.1 [(0, .ref x0), (1, .ref x1), (2, .int x2), (3, .int x3), (4, .int z.2.1), (5, .int z.2.2)] 16 []) (h : wp_X0_comeOf_16 S x0 x1 x2 x3 x4 x5 Kc16 K) : jJ (X, G, 7, jA X G tvi K) S [(0, .ref x0), (1, .ref x1), (2, .int x2), (3, .int x3), (4, .int x4), (5, .int x5)] 16 [] := by
  unfold wp_X0_comeOf_16 at h
  refine jr_aload_n C 17 rfl dX0_comeOf_16 rfl 1 rfl ?_
  refine jr_getiN C 20 rfl fo_4_0 (jx_g q564 rfl) dX0_comeOf_17 h (fun v1 h => ?_)
  refine jr_bipush (v := 24) C 22 rfl dX0_comeOf_20 (by decide) ?_
  refine jr_icmp_ge C 66 25 rfl dX0_comeOf_22 (by decide) (fun c9 => ?_) (fun c9 => ?_)
  · have h := h.1 c9
    refine jr_aload_n C 67 rfl dX0_comeOf_66 rfl 1 rfl ?_
    refine jr_iload_n C 68 rfl dX0_comeOf_67 rfl 3 rfl ?_
    refine jr_putvN C 71 rfl fo_4_0 (by decide) (jx_g q564 rfl) dX0_comeOf_68 rfl rfl h (fun S2 h => ?_)
    refine jr_goto C 84 dX0_comeOf_71 (by decide) ?_
    refine jr_iload_n C 85 rfl dX0_comeOf_84 rfl 2 rfl ?_
    refine jr_if_ne C 93 88 rfl dX0_comeOf_85 (by decide) (fun c3 => ?_) (fun c3 => ?_)
    · have h := h.1 c3
      refine jr_iload C 90 rfl dX0_comeOf_88 4 rfl ?_
      refine jr_goto C 95 dX0_comeOf_90 (by decide) ?_
      exact jr_sub [] rfl (wk_X0_comeOf_95 C  h)
    · have h := h.2 c3
      refine jr_iload C 95 rfl dX0_comeOf_93 5 rfl ?_
      exact jr_sub [] rfl (wk_X0_comeOf_95 C  h)
  · have h := h.2 c9
    refine jr_aload_n C 26 rfl dX0_comeOf_25 rfl 0 rfl ?_
    obtain ⟨⟨V, hb⟩, h⟩ := h
    refine jr_callVv (r0 := (RX0, TX0, 24)) (As := []) (st := []) C 29 rfl (m_X0_find C.2.2.2.2.2.2.2.2.2.2.2.2.2.2.2 h) rfl hb rfl q831 q833 qs10 q94 q834 (by decide) (by decide) ndV_X0_find (Nat.le_of_ble_eq_true rfl) dX0_comeOf_26 (fun S4 _ h => ?_)
    refine jr_aload_n C 30 rfl dX0_comeOf_29 rfl 0 rfl ?_
    refine jr_geti C 33 rfl fo_0_11 q239 dX0_comeOf_30 h (fun v5 h => ?_)
    refine jr_iload C 35 rfl dX0_comeOf_33 5 rfl ?_
    refine jr_icmp_gt C 41 38 rfl dX0_comeOf_35 (by decide) (fun c8 => ?_) (fun c8 => ?_)
    · have h := h.1 c8
      refine jr_aload_n C 42 rfl dX0_comeOf_41 rfl 1 rfl ?_
      refine jr_getiN C 45 rfl fo_4_0 (jx_g q564 rfl) dX0_comeOf_42 h (fun v6 h => ?_)
      refine jr_istore (lv' := [(4, .int v6), (0, .ref x0), (1, .ref x1), (2, .int x2), (3, .int x3), (5, .int x5)]) C 47 rfl dX0_comeOf_45 (Nat.le_of_ble_eq_true rfl) rfl ?_
      refine jr_aload_n C 48 rfl dX0_comeOf_47 rfl 1 rfl ?_
      refine jr_geti C 51 rfl fo_0_11 q239 dX0_comeOf_48 h (fun v7 h => ?_)
      refine jr_istore (lv' := [(5, .int v7), (4, .int v6), (0, .ref x0), (1, .ref x1), (2, .int x2), (3, .int x3)]) C 53 rfl dX0_comeOf_51 (Nat.le_of_ble_eq_true rfl) rfl ?_
      exact jr_sub [2, 3, 4, 5, 1, 0] rfl (wk_X0_comeOf_53 C hc16 h)
    · have h := h.2 c8
      refine jr_goto C 53 dX0_comeOf_38 (by decide) ?_
      exact (wk_X0_comeOf_53 C hc16 h)
theorem wk_X0_comeOf_16_L {X : jX} {G : jG} {K : jS → Int32 → Prop} (C : jC (X, G, 7, jA X G tvi K) d_X0_comeOf cX0_comeOf "Samovar" (some .int) yX0_comeOf) {x0 : Nat} {x1 : Nat} {x2 : Int32} {x3 : Int32}  : ∀ (n : Nat) (z : jS × Int32 × Int32), jlp n (wp_X0_comeOf_16_L x0 x1 x2 x3 K) z → jJ (X, G, 7, jA X G tvi K) z.1 [(0, .ref x0), (1, .ref x1), (2, .int x2), (3, .int x3), (4, .int z.2.1), (5, .int z.2.2)] 16 [] := by
  intro n
  induction n with
  | zero => intro z h; exact h.elim
  | succ n ih => intro z h; exact wk_X0_comeOf_16 C ih h
theorem wk_X0_comeOf_0 {X : jX} {G : jG} {K : jS → Int32 → Prop} (C : jC (X, G, 7, jA X G tvi K) d_X0_comeOf cX0_comeOf "Samovar" (some .int) yX0_comeOf) {S : jS} {x0 : Nat} {x1 : Nat} {x2 : Int32}  (h : wp_X0_comeOf S x0 x1 x2 K) : jJ (X, G, 7, jA X G tvi K) S [(0, .ref x0), (1, .ref x1), (2, .int x2)] 0 [] := by
  unfold wp_X0_comeOf at h
  refine jr_aload_n C 1 rfl dX0_comeOf_0 rfl 1 rfl ?_
  refine jr_getiN C 4 rfl fo_4_0 (jx_g q564 rfl) dX0_comeOf_1 h (fun v1 h => ?_)
  refine jr_istore_n (lv' := [(3, .int v1), (0, .ref x0), (1, .ref x1), (2, .int x2)]) C 5 rfl dX0_comeOf_4 rfl (Nat.le_of_ble_eq_true rfl) rfl ?_
  refine jr_iconst (v := (-1)) C 6 rfl dX0_comeOf_5 (by decide) ?_
  refine jr_istore (lv' := [(4, .int (-1)), (3, .int v1), (0, .ref x0), (1, .ref x1), (2, .int x2)]) C 8 rfl dX0_comeOf_6 (Nat.le_of_ble_eq_true rfl) rfl ?_
  refine jr_iconst (v := (-1)) C 9 rfl dX0_comeOf_8 (by decide) ?_
  refine jr_istore (lv' := [(5, .int (-1)), (4, .int (-1)), (3, .int v1), (0, .ref x0), (1, .ref x1), (2, .int x2)]) C 11 rfl dX0_comeOf_9 (Nat.le_of_ble_eq_true rfl) rfl ?_
  refine jr_aload_n C 12 rfl dX0_comeOf_11 rfl 4 rfl ?_
  refine jr_iconst (v := 0) C 13 rfl dX0_comeOf_12 (by decide) ?_
  refine jr_putvN C 16 rfl fo_4_0 (by decide) (jx_g q564 rfl) dX0_comeOf_13 rfl rfl h (fun S2 h => ?_)
  obtain ⟨n, h⟩ := h
  exact jr_sub [3, 4, 5, 2, 1, 0] rfl (wk_X0_comeOf_16_L C  n _ h)
theorem m_X0_comeOf {l : Launch} (hl : l.stackTraces = false) {G : jG} {K : jS → Int32 → Prop} {S : jS} {x0 : Nat} {x1 : Nat} {x2 : Int32} (h : wp_X0_comeOf S x0 x1 x2 K) : jMet l G d_X0_comeOf yX0_comeOf (wsW_ yX0_comeOf cX0_comeOf 7 (some .int) [((11), (66), (74), (0)), ((74), (76), (74), (0))]) [.ref x0, .ref x1, .int x2] S tvi K :=
  jMet.ofH hl rfl (by decide) (Nat.le_of_ble_eq_true rfl) (fun X C => jr_sub [0, 1, 2] rfl (wk_X0_comeOf_0 C h))
theorem wk_X0_come_36 {X : jX} {G : jG} {K : jS → Int32 → Prop} (C : jC (X, G, 3, jA X G tvi K) d_X0_come cX0_come "Samovar" (some .int) yX0_come) {S : jS} {t0 : Int32}  (h : wp_X0_come_36 S t0 K) : jJ (X, G, 3, jA X G tvi K) S [] 36 [.int t0] := by
  unfold wp_X0_come_36 at h
  exact jr_ireturn C dX0_come_36 h
theorem wk_X0_come_34 {X : jX} {G : jG} {K : jS → Int32 → Prop} (C : jC (X, G, 3, jA X G tvi K) d_X0_come cX0_come "Samovar" (some .int) yX0_come) {S : jS}   (h : wp_X0_come_34 S K) : jJ (X, G, 3, jA X G tvi K) S [] 34 [] := by
  unfold wp_X0_come_34 at h
  refine jr_bipush (v := (-2)) C 36 rfl dX0_come_34 (by decide) ?_
  exact (wk_X0_come_36 C  h)
theorem wk_X0_come_0 {X : jX} {G : jG} {K : jS → Int32 → Prop} (C : jC (X, G, 3, jA X G tvi K) d_X0_come cX0_come "Samovar" (some .int) yX0_come) {S : jS} {x0 : Nat} {x1 : Int32} {x2 : Int32}  (h : wp_X0_come S x0 x1 x2 K) : jJ (X, G, 3, jA X G tvi K) S [(0, .ref x0), (1, .int x1), (2, .int x2)] 0 [] := by
  unfold wp_X0_come at h
  refine jr_aload_n C 1 rfl dX0_come_0 rfl 0 rfl ?_
  refine jr_iload_n C 2 rfl dX0_come_1 rfl 1 rfl ?_
  obtain ⟨⟨V, hb⟩, h⟩ := h
  refine jr_callVi (r0 := (RX0, TX0, 24)) (As := [.int x1]) (st := []) C 5 rfl (m_X0_isGuest C.2.2.2.2.2.2.2.2.2.2.2.2.2.2.2 h) rfl hb rfl q740 q742 qs6 q94 q743 (by decide) (by decide) ndV_X0_isGuest (Nat.le_of_ble_eq_true rfl) dX0_come_2 (fun S1 r2 h => ?_)
  refine jr_if_eq C 34 8 rfl dX0_come_5 (by decide) (fun c11 => ?_) (fun c11 => ?_)
  · have h := h.1 c11
    exact jr_sub [] rfl (wk_X0_come_34 C  h)
  · have h := h.2 c11
    refine jr_iload_n C 9 rfl dX0_come_8 rfl 2 rfl ?_
    refine jr_callSi (As := [.int x2]) (st := []) C 12 rfl (m_X0_isTwo C.2.2.2.2.2.2.2.2.2.2.2.2.2.2.2 h) rfl q305 q306 q94 q307 (by decide) (by decide) nd_X0_isTwo (Nat.le_of_ble_eq_true rfl) dX0_come_9 (fun S3 r4 h => ?_)
    refine jr_if_eq C 34 15 rfl dX0_come_12 (by decide) (fun c10 => ?_) (fun c10 => ?_)
    · have h := h.1 c10
      exact jr_sub [] rfl (wk_X0_come_34 C  h)
    · have h := h.2 c10
      refine jr_aload_n C 16 rfl dX0_come_15 rfl 0 rfl ?_
      refine jr_aload_n C 17 rfl dX0_come_16 rfl 0 rfl ?_
      refine jr_getr C 20 rfl fo_0_4 q232 dX0_come_17 h (fun v5 h => ?_)
      refine jr_iload_n C 21 rfl dX0_come_20 rfl 1 rfl ?_
      obtain ⟨⟨V, hb⟩, h⟩ := h
      refine jr_callVr (r0 := (RJ2, TJ2, 3)) (As := [.int x1]) (st := [.ref x0]) C 24 rfl (m_J2_get C.2.2.2.2.2.2.2.2.2.2.2.2.2.2.2 h) rfl hb rfl q702 q703 q704 q99 q705 (by decide) (by decide) ndV_J2_get (Nat.le_of_ble_eq_true rfl) dX0_come_21 (fun S6 r7 h => ?_)
      obtain ⟨hz, h⟩ := h
      refine jr_cast C 27 rfl (cs := [4]) can_Samovar_Guest (by decide) q213 dX0_come_24 hz ?_
      refine jr_iload_n C 28 rfl dX0_come_27 rfl 2 rfl ?_
      obtain ⟨⟨V, hb⟩, h⟩ := h
      refine jr_callVWi (r0 := (RX0, TX0, 24)) (As := [.ref r7, .int x2]) (st := []) C 31 rfl (m_X0_comeOf C.2.2.2.2.2.2.2.2.2.2.2.2.2.2.2 h) rfl hb rfl q1038 q1040 qs25 q94 q1041 (by decide) (by decide) ndV_X0_comeOf (Nat.le_of_ble_eq_true rfl) dX0_come_28 (fun S8 r9 h => ?_)
      refine jr_goto C 36 dX0_come_31 (by decide) ?_
      exact jr_sub [] rfl (wk_X0_come_36 C  h)
theorem m_X0_come {l : Launch} (hl : l.stackTraces = false) {G : jG} {K : jS → Int32 → Prop} {S : jS} {x0 : Nat} {x1 : Int32} {x2 : Int32} (h : wp_X0_come S x0 x1 x2 K) : jMet l G d_X0_come yX0_come (ws_ yX0_come cX0_come 3 (some .int)) [.ref x0, .int x1, .int x2] S tvi K :=
  jMet.of hl rfl (by decide) (Nat.le_of_ble_eq_true rfl) (fun X C => jr_sub [0, 1, 2] rfl (wk_X0_come_0 C h))
theorem wk_X0_isSheet_0 {X : jX} {G : jG} {K : jS → Int32 → Prop} (C : jC (X, G, 1, jA X G tvi K) d_X0_isSheet cX0_isSheet "Samovar" (some .boolean) yX0_isSheet) {S : jS} {x0 : Int32}  (h : wp_X0_isSheet S x0 K) : jJ (X, G, 1, jA X G tvi K) S [(0, .int x0)] 0 [] := by
  unfold wp_X0_isSheet at h
  refine jr_iload_n C 1 rfl dX0_isSheet_0 rfl 0 rfl ?_
  refine jr_i2l C 2 rfl dX0_isSheet_1 ?_
  refine jr_lconst (v := 0) C 3 rfl dX0_isSheet_2 (by decide) ?_
  refine jr_ldc2 (v := 3) C 6 rfl dX0_isSheet_3 q805 ?_
  refine jr_callSi (As := [.long ((x0 : Int32).toInt64), .long 0, .long 3]) (st := []) C 9 rfl (m_X0_in C.2.2.2.2.2.2.2.2.2.2.2.2.2.2.2 h) rfl q308 q309 q94 q310 (by decide) (by decide) nd_X0_in (Nat.le_of_ble_eq_true rfl) dX0_isSheet_6 (fun S1 r2 h => ?_)
  exact jr_zreturn C dX0_isSheet_9 h
theorem m_X0_isSheet {l : Launch} (hl : l.stackTraces = false) {G : jG} {K : jS → Int32 → Prop} {S : jS} {x0 : Int32} (h : wp_X0_isSheet S x0 K) : jMet l G d_X0_isSheet yX0_isSheet (ws_ yX0_isSheet cX0_isSheet 1 (some .boolean)) [.int x0] S tvi K :=
  jMet.of hl rfl (by decide) (Nat.le_of_ble_eq_true rfl) (fun X C => jr_sub [0] rfl (wk_X0_isSheet_0 C h))
theorem wk_X0_met_0 {X : jX} {G : jG} {K : jS → Int32 → Prop} (C : jC (X, G, 2, jA X G tvi K) d_X0_met cX0_met "Samovar" (some .int) yX0_met) {S : jS} {x0 : Nat} {x1 : Int32}  (h : wp_X0_met S x0 x1 K) : jJ (X, G, 2, jA X G tvi K) S [(0, .ref x0), (1, .int x1)] 0 [] := by
  unfold wp_X0_met at h
  refine jr_aload_n C 1 rfl dX0_met_0 rfl 0 rfl ?_
  refine jr_iload_n C 2 rfl dX0_met_1 rfl 1 rfl ?_
  refine jr_putv C 5 rfl fo_0_0 (by decide) q228 dX0_met_2 rfl rfl h (fun S1 h => ?_)
  refine jr_bipush (v := (-10)) C 7 rfl dX0_met_5 (by decide) ?_
  refine jr_iload_n C 8 rfl dX0_met_7 rfl 1 rfl ?_
  refine jr_isub C 9 rfl dX0_met_8 ?_
  exact jr_ireturn C dX0_met_9 h
theorem m_X0_met {l : Launch} (hl : l.stackTraces = false) {G : jG} {K : jS → Int32 → Prop} {S : jS} {x0 : Nat} {x1 : Int32} (h : wp_X0_met S x0 x1 K) : jMet l G d_X0_met yX0_met (ws_ yX0_met cX0_met 2 (some .int)) [.ref x0, .int x1] S tvi K :=
  jMet.of hl rfl (by decide) (Nat.le_of_ble_eq_true rfl) (fun X C => jr_sub [0, 1] rfl (wk_X0_met_0 C h))
theorem wk_X0_copy_14 {X : jX} {G : jG} {K : jS → Int32 → Prop} (C : jC (X, G, 7, jA X G tvi K) d_X0_copy cX0_copy "Samovar" (some .int) yX0_copy) (hT : (zc (X, G, 7, jA X G tvi K)).exceptionTable.toList = tableOf [((74), (101), (102), (428))]) {S : jS}   (h : wp_X0_copy_14 S K) : jJ (X, G, 7, jA X G tvi K) S [] 14 [] := by
  unfold wp_X0_copy_14 at h
  refine jr_bipush (v := (-2)) C 16 rfl dX0_copy_14 (by decide) ?_
  exact jr_ireturn C dX0_copy_16 h
theorem wk_X0_copy_41 {X : jX} {G : jG} {K : jS → Int32 → Prop} (C : jC (X, G, 7, jA X G tvi K) d_X0_copy cX0_copy "Samovar" (some .int) yX0_copy) (hT : (zc (X, G, 7, jA X G tvi K)).exceptionTable.toList = tableOf [((74), (101), (102), (428))]) {S : jS} {x0 : Nat}  (h : wp_X0_copy_41 S x0 K) : jJ (X, G, 7, jA X G tvi K) S [(0, .ref x0)] 41 [] := by
  unfold wp_X0_copy_41 at h
  refine jr_aload_n C 42 rfl dX0_copy_41 rfl 0 rfl ?_
  refine jr_iconst (v := 1) C 43 rfl dX0_copy_42 (by decide) ?_
  obtain ⟨⟨V, hb⟩, h⟩ := h
  refine jr_callVi (r0 := (RX0, TX0, 24)) (As := [.int 1]) (st := []) C 46 rfl (m_X0_met C.2.2.2.2.2.2.2.2.2.2.2.2.2.2.2 h) rfl hb rfl q806 q808 qs9 q94 q809 (by decide) (by decide) ndV_X0_met (Nat.le_of_ble_eq_true rfl) dX0_copy_43 (fun S1 r2 h => ?_)
  exact jr_ireturn C dX0_copy_46 h
theorem wk_X0_copy_102 {X : jX} {G : jG} {K : jS → Int32 → Prop} (C : jC (X, G, 7, jA X G tvi K) d_X0_copy cX0_copy "Samovar" (some .int) yX0_copy) (hT : (zc (X, G, 7, jA X G tvi K)).exceptionTable.toList = tableOf [((74), (101), (102), (428))]) {S : jS} {t0 : Nat} {x0 : Nat}  (h : wp_X0_copy_102 S t0 x0 K) : jJ (X, G, 7, jA X G tvi K) S [(0, .ref x0)] 102 [.ref t0] := by
  unfold wp_X0_copy_102 at h
  refine jr_astore (lv' := [(6, .ref t0), (0, .ref x0)]) C 104 rfl dX0_copy_102 (Nat.le_of_ble_eq_true rfl) rfl ?_
  refine jr_aload_n C 105 rfl dX0_copy_104 rfl 1 rfl ?_
  refine jr_iconst (v := 2) C 106 rfl dX0_copy_105 (by decide) ?_
  obtain ⟨⟨V, hb⟩, h⟩ := h
  refine jr_callVi (r0 := (RX0, TX0, 24)) (As := [.int 2]) (st := []) C 109 rfl (m_X0_met C.2.2.2.2.2.2.2.2.2.2.2.2.2.2.2 h) rfl hb rfl q806 q808 qs9 q94 q809 (by decide) (by decide) ndV_X0_met (Nat.le_of_ble_eq_true rfl) dX0_copy_106 (fun S1 r2 h => ?_)
  exact jr_ireturn C dX0_copy_109 h
theorem wk_X0_copy_0 {X : jX} {G : jG} {K : jS → Int32 → Prop} (C : jC (X, G, 7, jA X G tvi K) d_X0_copy cX0_copy "Samovar" (some .int) yX0_copy) (hT : (zc (X, G, 7, jA X G tvi K)).exceptionTable.toList = tableOf [((74), (101), (102), (428))]) {S : jS} {x0 : Nat} {x1 : Int32} {x2 : Int32} {x3 : Int32} {x4 : Int32} {x5 : Int32}  (h : wp_X0_copy S x0 x1 x2 x3 x4 x5 K) : jJ (X, G, 7, jA X G tvi K) S [(0, .ref x0), (1, .int x1), (2, .int x2), (3, .int x3), (4, .int x4), (5, .int x5)] 0 [] := by
  unfold wp_X0_copy at h
  refine jr_iload_n C 1 rfl dX0_copy_0 rfl 1 rfl ?_
  refine jr_callSi (As := [.int x1]) (st := []) C 4 rfl (m_X0_isSheet C.2.2.2.2.2.2.2.2.2.2.2.2.2.2.2 h) rfl q802 q803 q94 q804 (by decide) (by decide) nd_X0_isSheet (Nat.le_of_ble_eq_true rfl) dX0_copy_1 (fun S1 r2 h => ?_)
  refine jr_if_eq C 14 7 rfl dX0_copy_4 (by decide) (fun c35 => ?_) (fun c35 => ?_)
  · have h := h.1 c35
    exact jr_sub [] rfl (wk_X0_copy_14 C hT  h)
  · have h := h.2 c35
    refine jr_iload_n C 8 rfl dX0_copy_7 rfl 3 rfl ?_
    refine jr_callSi (As := [.int x3]) (st := []) C 11 rfl (m_X0_isSheet C.2.2.2.2.2.2.2.2.2.2.2.2.2.2.2 h) rfl q802 q803 q94 q804 (by decide) (by decide) nd_X0_isSheet (Nat.le_of_ble_eq_true rfl) dX0_copy_8 (fun S3 r4 h => ?_)
    refine jr_if_ne C 17 14 rfl dX0_copy_11 (by decide) (fun c34 => ?_) (fun c34 => ?_)
    · have h := h.1 c34
      exact jr_sub [] rfl (wk_X0_copy_14 C hT  h)
    · have h := h.2 c34
      refine jr_aload_n C 18 rfl dX0_copy_17 rfl 0 rfl ?_
      refine jr_getr C 21 rfl fo_0_23 q251 dX0_copy_18 h (fun v5 h => ?_)
      refine jr_iload_n C 22 rfl dX0_copy_21 rfl 1 rfl ?_
      refine jr_aaldn C 23 rfl (t := 9) rfl rfl dX0_copy_22 h (fun v6 h => ?_)
      refine jr_getoN C 26 rfl fo_6_0 (jx_g q223 rfl) dX0_copy_23 h (fun v7 h => ?_)
      refine jr_ifnull (x := v7) C 41 29 rfl dX0_copy_26 (by decide) (fun c33 => ?_) (fun c33 => ?_)
      · have h := h.1 c33
        exact jr_sub [0] rfl (wk_X0_copy_41 C hT  h)
      · obtain ⟨a8, c33⟩ := Option.ne_none_iff_exists'.mp c33
        replace h := h.2 a8 c33
        subst c33
        refine jr_aload_n C 30 rfl dX0_copy_29 rfl 0 rfl ?_
        refine jr_getr C 33 rfl fo_0_23 q251 dX0_copy_30 h (fun v9 h => ?_)
        refine jr_iload_n C 34 rfl dX0_copy_33 rfl 3 rfl ?_
        refine jr_aaldn C 35 rfl (t := 9) rfl rfl dX0_copy_34 h (fun v10 h => ?_)
        refine jr_getoN C 38 rfl fo_6_0 (jx_g q223 rfl) dX0_copy_35 h (fun v11 h => ?_)
        refine jr_ifnonnull (x := v11) C 47 41 rfl dX0_copy_38 (by decide) (fun c32 => ?_) (fun c32 => ?_)
        · have h := h.1 c32
          exact jr_sub [0] rfl (wk_X0_copy_41 C hT  h)
        · obtain ⟨a12, c32⟩ := Option.ne_none_iff_exists'.mp c32
          replace h := h.2 a12 c32
          subst c32
          refine jr_aload_n C 48 rfl dX0_copy_47 rfl 0 rfl ?_
          refine jr_getr C 51 rfl fo_0_23 q251 dX0_copy_48 h (fun v13 h => ?_)
          refine jr_iload_n C 52 rfl dX0_copy_51 rfl 1 rfl ?_
          refine jr_aaldn C 53 rfl (t := 9) rfl rfl dX0_copy_52 h (fun v14 h => ?_)
          obtain ⟨⟨V, hb⟩, h⟩ := h
          refine jr_callVi (r0 := (RX4, TX4, 1)) (As := []) (st := []) C 56 rfl (m_X4_type C.2.2.2.2.2.2.2.2.2.2.2.2.2.2.2 h) rfl hb rfl q821 q815 q816 q101 q817 (by decide) (by decide) ndV_X4_type (Nat.le_of_ble_eq_true rfl) dX0_copy_53 (fun S15 r16 h => ?_)
          refine jr_aload_n C 57 rfl dX0_copy_56 rfl 0 rfl ?_
          refine jr_getr C 60 rfl fo_0_23 q251 dX0_copy_57 h (fun v17 h => ?_)
          refine jr_iload_n C 61 rfl dX0_copy_60 rfl 3 rfl ?_
          refine jr_aaldn C 62 rfl (t := 9) rfl rfl dX0_copy_61 h (fun v18 h => ?_)
          obtain ⟨⟨V, hb⟩, h⟩ := h
          refine jr_callVi (r0 := (RX4, TX4, 1)) (As := []) (st := [.int r16]) C 65 rfl (m_X4_type C.2.2.2.2.2.2.2.2.2.2.2.2.2.2.2 h) rfl hb rfl q821 q815 q816 q101 q817 (by decide) (by decide) ndV_X4_type (Nat.le_of_ble_eq_true rfl) dX0_copy_62 (fun S19 r20 h => ?_)
          refine jr_icmp_eq C 74 68 rfl dX0_copy_65 (by decide) (fun c31 => ?_) (fun c31 => ?_)
          · have h := h.1 c31
            refine jr_aload_n C 75 rfl dX0_copy_74 rfl 0 rfl ?_
            refine jr_getr C 78 rfl fo_0_23 q251 dX0_copy_75 h (fun v21 h => ?_)
            refine jr_iload_n C 79 rfl dX0_copy_78 rfl 1 rfl ?_
            refine jr_aaldn C 80 rfl (t := 9) rfl rfl dX0_copy_79 h (fun v22 h => ?_)
            refine jr_getrN C 83 rfl fo_6_0 (jx_g q223 rfl) dX0_copy_80 h (fun v23 h => ?_)
            refine jr_iload_n C 84 rfl dX0_copy_83 rfl 2 rfl ?_
            refine jr_aload_n C 85 rfl dX0_copy_84 rfl 0 rfl ?_
            refine jr_getr C 88 rfl fo_0_23 q251 dX0_copy_85 h (fun v24 h => ?_)
            refine jr_iload_n C 89 rfl dX0_copy_88 rfl 3 rfl ?_
            refine jr_aaldn C 90 rfl (t := 9) rfl rfl dX0_copy_89 h (fun v25 h => ?_)
            refine jr_getrN C 93 rfl fo_6_0 (jx_g q223 rfl) dX0_copy_90 h (fun v26 h => ?_)
            refine jr_iload C 95 rfl dX0_copy_93 4 rfl ?_
            refine jr_iload C 97 rfl dX0_copy_95 5 rfl ?_
            refine jr_copyX (st := []) C 100 rfl q1238 dX0_copy_97 (by decide) (Nat.le_of_ble_eq_true rfl) h (fun S28 h => ?_) (fun q27 h => jx_catch C (e := 2) rfl [] ⟨74, 101, 102, 428⟩ [] hT (fun z hz => by cases hz) (by decide) (by decide) q1237 (jx_g q1847 rfl) (jr_sub [0] rfl (wk_X0_copy_102 C hT  h)))
            refine jr_iconst (v := 1) C 101 rfl dX0_copy_100 (by decide) ?_
            exact jr_ireturn C dX0_copy_101 h
          · have h := h.2 c31
            refine jr_aload_n C 69 rfl dX0_copy_68 rfl 0 rfl ?_
            refine jr_iconst (v := 4) C 70 rfl dX0_copy_69 (by decide) ?_
            obtain ⟨⟨V, hb⟩, h⟩ := h
            refine jr_callVi (r0 := (RX0, TX0, 24)) (As := [.int 4]) (st := []) C 73 rfl (m_X0_met C.2.2.2.2.2.2.2.2.2.2.2.2.2.2.2 h) rfl hb rfl q806 q808 qs9 q94 q809 (by decide) (by decide) ndV_X0_met (Nat.le_of_ble_eq_true rfl) dX0_copy_70 (fun S29 r30 h => ?_)
            exact jr_ireturn C dX0_copy_73 h
theorem m_X0_copy {l : Launch} (hl : l.stackTraces = false) {G : jG} {K : jS → Int32 → Prop} {S : jS} {x0 : Nat} {x1 : Int32} {x2 : Int32} {x3 : Int32} {x4 : Int32} {x5 : Int32} (h : wp_X0_copy S x0 x1 x2 x3 x4 x5 K) : jMet l G d_X0_copy yX0_copy (wsW_ yX0_copy cX0_copy 7 (some .int) [((74), (101), (102), (428))]) [.ref x0, .int x1, .int x2, .int x3, .int x4, .int x5] S tvi K :=
  jMet.ofHT hl rfl (by decide) (Nat.le_of_ble_eq_true rfl) (fun X C hT => jr_sub [0, 1, 2, 3, 4, 5] rfl (wk_X0_copy_0 C hT h))
theorem ndD_Woodpile_length_1 : ("Samovar$Text" : String) ≠ "java/lang/invoke/MethodHandle" ∧ ("Samovar$Text" : String) ≠ "java/lang/invoke/VarHandle" ∧ (parseMethodDescriptor "()I").map (fun d => d.parameters.length) = some 0 := by decide +kernel
theorem dr_Woodpile_length_1 {Z : jZ} {d : Nat} {cc : ByteArray} {own : String} {ret : Option FieldType} {y : MethodName} {pc : Nat} {S : jS} {lv : List (Nat × Value)} {st As : List Value} (C : jC Z d cc own ret y) (pc' : Nat) (hp : pc + 3 = pc') {a : Nat}  {K : jS → Int32 → Prop} {stk : List Value} (h : wpD_Woodpile_length_1 S a  K) (hstk : [].reverse ++ .ref a :: st = stk) {index : Nat} (q1 : Cond.methodLink own index (⟨"Samovar$Woodpile", "length", "()I"⟩ : MethodName) ∈ lw_all) (hd : d_D_Woodpile_length_1 + 1 ≤ d) (hst : (st.map fun v => v.category).sum ≤ 8) (hdg : decode cc pc = .ok (.invokevirtual index, 3)) (kk : ∀ (S1 : jS) (r : Int32), K S1 r → jJ Z S1 lv pc' (.int r :: st)) : jJ Z S lv pc stk := by
  unfold wpD_Woodpile_length_1 at h
  obtain ⟨⟨V, hb⟩, h⟩ := h
  exact jr_callUi (As := []) (r0 := (RX2, TX2, 6)) (owner := "Samovar$Text") C pc' hp (m_X1_length C.2.2.2.2.2.2.2.2.2.2.2.2.2.2.2 h) hstk hb rfl (va_Decl.abs (C.2.2.2.2.2.2.2.1.2.2.2.1 _ (jx_g q1249 rfl))) q1 q1248 (C.2.2.2.2.1 _ q1250) q1251 q95 q1252 (Nat.le_trans (Nat.le_of_ble_eq_true rfl) hd) (by decide) ndD_Woodpile_length_1 hst hdg kk
theorem ndD_Company_length_2 : ("Samovar$Text" : String) ≠ "java/lang/invoke/MethodHandle" ∧ ("Samovar$Text" : String) ≠ "java/lang/invoke/VarHandle" ∧ (parseMethodDescriptor "()I").map (fun d => d.parameters.length) = some 0 := by decide +kernel
theorem dr_Company_length_2 {Z : jZ} {d : Nat} {cc : ByteArray} {own : String} {ret : Option FieldType} {y : MethodName} {pc : Nat} {S : jS} {lv : List (Nat × Value)} {st As : List Value} (C : jC Z d cc own ret y) (pc' : Nat) (hp : pc + 3 = pc') {a : Nat}  {K : jS → Int32 → Prop} {stk : List Value} (h : wpD_Company_length_2 S a  K) (hstk : [].reverse ++ .ref a :: st = stk) {index : Nat} (q1 : Cond.methodLink own index (⟨"Samovar$Company", "length", "()I"⟩ : MethodName) ∈ lw_all) (hd : d_D_Company_length_2 + 1 ≤ d) (hst : (st.map fun v => v.category).sum ≤ 8) (hdg : decode cc pc = .ok (.invokevirtual index, 3)) (kk : ∀ (S1 : jS) (r : Int32), K S1 r → jJ Z S1 lv pc' (.int r :: st)) : jJ Z S lv pc stk := by
  unfold wpD_Company_length_2 at h
  obtain ⟨⟨V, hb⟩, h⟩ := h
  exact jr_callUi (As := []) (r0 := (RX3, TX3, 6)) (owner := "Samovar$Text") C pc' hp (m_X1_length C.2.2.2.2.2.2.2.2.2.2.2.2.2.2.2 h) hstk hb rfl (va_Decl.abs (C.2.2.2.2.2.2.2.1.2.2.2.1 _ (jx_g q1249 rfl))) q1 q1254 (C.2.2.2.2.1 _ q1255) q1251 q95 q1252 (Nat.le_trans (Nat.le_of_ble_eq_true rfl) hd) (by decide) ndD_Company_length_2 hst hdg kk
theorem wk_X0_count_95 {X : jX} {G : jG} {K : jS → Int32 → Prop} (C : jC (X, G, 2, jA X G tvi K) d_X0_count cX0_count "Samovar" (some .int) yX0_count) {S : jS} {x0 : Nat} {x1 : Int32}  (h : wp_X0_count_95 S x0 x1 K) : jJ (X, G, 2, jA X G tvi K) S [(0, .ref x0), (1, .int x1)] 95 [] := by
  unfold wp_X0_count_95 at h
  refine jr_aload_n C 96 rfl dX0_count_95 rfl 0 rfl ?_
  refine jr_getr C 99 rfl fo_0_5 q233 dX0_count_96 h (fun v1 h => ?_)
  refine jr_iload_n C 100 rfl dX0_count_99 rfl 1 rfl ?_
  refine jr_iconst (v := 5) C 101 rfl dX0_count_100 (by decide) ?_
  refine jr_isub C 102 rfl dX0_count_101 ?_
  refine jr_iald C 103 rfl dX0_count_102 h (fun v2 h => ?_)
  exact jr_ireturn C dX0_count_103 h
theorem wk_X0_count_0 {X : jX} {G : jG} {K : jS → Int32 → Prop} (C : jC (X, G, 2, jA X G tvi K) d_X0_count cX0_count "Samovar" (some .int) yX0_count) {S : jS} {x0 : Nat} {x1 : Int32}  (h : wp_X0_count S x0 x1 K) : jJ (X, G, 2, jA X G tvi K) S [(0, .ref x0), (1, .int x1)] 0 [] := by
  unfold wp_X0_count at h
  refine jr_aload_n C 1 rfl dX0_count_0 rfl 0 rfl ?_
  obtain ⟨⟨V, hb⟩, h⟩ := h
  refine jr_callVv (r0 := (RX0, TX0, 24)) (As := []) (st := []) C 4 rfl (m_X0_find C.2.2.2.2.2.2.2.2.2.2.2.2.2.2.2 h) rfl hb rfl q831 q833 qs10 q94 q834 (by decide) (by decide) ndV_X0_find (Nat.le_of_ble_eq_true rfl) dX0_count_1 (fun S1 _ h => ?_)
  refine jr_iload_n C 5 rfl dX0_count_4 rfl 1 rfl ?_
  by_cases c2 : x1 = 0
  · have h := h.1 c2
    refine jr_tswIn (k0 := 0) C 56 dX0_count_5 c2 (by decide) (by decide) (show _ = some 51 by decide) (by decide) ?_
    refine jr_aload_n C 57 rfl dX0_count_56 rfl 0 rfl ?_
    obtain ⟨⟨V, hb⟩, h⟩ := h
    refine jr_callVi (r0 := (RX0, TX0, 24)) (As := []) (st := []) C 60 rfl (m_X0_pieces C.2.2.2.2.2.2.2.2.2.2.2.2.2.2.2 h) rfl hb rfl q692 q694 qs5 q94 q695 (by decide) (by decide) ndV_X0_pieces (Nat.le_of_ble_eq_true rfl) dX0_count_57 (fun S3 r4 h => ?_)
    exact jr_ireturn C dX0_count_60 h
  have h := h.2 c2
  by_cases c5 : x1 = 1
  · have h := h.1 c5
    refine jr_tswIn (k0 := 1) C 61 dX0_count_5 c5 (by decide) (by decide) (show _ = some 56 by decide) (by decide) ?_
    refine jr_aload_n C 62 rfl dX0_count_61 rfl 0 rfl ?_
    obtain ⟨⟨V, hb⟩, h⟩ := h
    refine jr_callVi (r0 := (RX0, TX0, 24)) (As := []) (st := []) C 65 rfl (m_X0_people C.2.2.2.2.2.2.2.2.2.2.2.2.2.2.2 h) rfl hb rfl q744 q746 qs7 q94 q747 (by decide) (by decide) ndV_X0_people (Nat.le_of_ble_eq_true rfl) dX0_count_62 (fun S6 r7 h => ?_)
    exact jr_ireturn C dX0_count_65 h
  have h := h.2 c5
  by_cases c8 : x1 = 2
  · have h := h.1 c8
    refine jr_tswIn (k0 := 2) C 66 dX0_count_5 c8 (by decide) (by decide) (show _ = some 61 by decide) (by decide) ?_
    refine jr_aload_n C 67 rfl dX0_count_66 rfl 0 rfl ?_
    refine jr_getr C 70 rfl fo_0_1 q229 dX0_count_67 h (fun v9 h => ?_)
    refine dr_Woodpile_length_1 (As := []) (st := []) C 73 rfl h rfl q1247 (by decide) (Nat.le_of_ble_eq_true rfl) dX0_count_70 (fun S10 r11 h => ?_)
    refine jr_aload_n C 74 rfl dX0_count_73 rfl 0 rfl ?_
    refine jr_getr C 77 rfl fo_0_2 q230 dX0_count_74 h (fun v12 h => ?_)
    refine dr_Company_length_2 (As := []) (st := [.int r11]) C 80 rfl h rfl q1253 (by decide) (Nat.le_of_ble_eq_true rfl) dX0_count_77 (fun S13 r14 h => ?_)
    refine jr_iadd C 81 rfl dX0_count_80 ?_
    exact jr_ireturn C dX0_count_81 h
  have h := h.2 c8
  by_cases c15 : x1 = 3
  · have h := h.1 c15
    refine jr_tswIn (k0 := 3) C 82 dX0_count_5 c15 (by decide) (by decide) (show _ = some 77 by decide) (by decide) ?_
    refine jr_aload_n C 83 rfl dX0_count_82 rfl 0 rfl ?_
    refine jr_getr C 86 rfl fo_0_6 q234 dX0_count_83 h (fun v16 h => ?_)
    obtain ⟨⟨V, hb⟩, h⟩ := h
    refine jr_callVi (r0 := (RJ2, TJ2, 3)) (As := []) (st := []) C 89 rfl (m_J2_size C.2.2.2.2.2.2.2.2.2.2.2.2.2.2.2 h) rfl hb rfl q700 q378 q379 q99 q380 (by decide) (by decide) ndV_J2_size (Nat.le_of_ble_eq_true rfl) dX0_count_86 (fun S17 r18 h => ?_)
    exact jr_ireturn C dX0_count_89 h
  have h := h.2 c15
  by_cases c19 : x1 = 4
  · have h := h.1 c19
    refine jr_tswIn (k0 := 4) C 90 dX0_count_5 c19 (by decide) (by decide) (show _ = some 85 by decide) (by decide) ?_
    refine jr_aload_n C 91 rfl dX0_count_90 rfl 0 rfl ?_
    refine jr_geti C 94 rfl fo_0_11 q239 dX0_count_91 h (fun v20 h => ?_)
    exact jr_ireturn C dX0_count_94 h
  have h := h.2 c19
  by_cases c21 : x1 = 5
  · have h := h.1 c21
    refine jr_tswIn (k0 := 5) C 95 dX0_count_5 c21 (by decide) (by decide) (show _ = some 90 by decide) (by decide) ?_
    exact (wk_X0_count_95 C  h)
  have h := h.2 c21
  by_cases c22 : x1 = 6
  · have h := h.1 c22
    refine jr_tswIn (k0 := 6) C 95 dX0_count_5 c22 (by decide) (by decide) (show _ = some 90 by decide) (by decide) ?_
    exact (wk_X0_count_95 C  h)
  have h := h.2 c22
  by_cases c23 : x1 = 7
  · have h := h.1 c23
    refine jr_tswIn (k0 := 7) C 104 dX0_count_5 c23 (by decide) (by decide) (show _ = some 99 by decide) (by decide) ?_
    refine jr_aload_n C 105 rfl dX0_count_104 rfl 0 rfl ?_
    refine jr_getr C 108 rfl fo_0_18 q246 dX0_count_105 h (fun v24 h => ?_)
    obtain ⟨⟨V, hb⟩, h⟩ := h
    refine jr_callVi (r0 := (RJ2, TJ2, 3)) (As := []) (st := []) C 111 rfl (m_J2_size C.2.2.2.2.2.2.2.2.2.2.2.2.2.2.2 h) rfl hb rfl q700 q378 q379 q99 q380 (by decide) (by decide) ndV_J2_size (Nat.le_of_ble_eq_true rfl) dX0_count_108 (fun S25 r26 h => ?_)
    exact jr_ireturn C dX0_count_111 h
  have h := h.2 c23
  by_cases c27 : x1 = 8
  · have h := h.1 c27
    refine jr_tswIn (k0 := 8) C 112 dX0_count_5 c27 (by decide) (by decide) (show _ = some 107 by decide) (by decide) ?_
    refine jr_aload_n C 113 rfl dX0_count_112 rfl 0 rfl ?_
    refine jr_geti C 116 rfl fo_0_0 q228 dX0_count_113 h (fun v28 h => ?_)
    exact jr_ireturn C dX0_count_116 h
  have h := h.2 c27
  refine jr_tswOut C 117 dX0_count_5 (by have e0 := lv_neT c2 (show (0 : Int32).toInt = 0 by decide); have e1 := lv_neT c5 (show (1 : Int32).toInt = 1 by decide); have e2 := lv_neT c8 (show (2 : Int32).toInt = 2 by decide); have e3 := lv_neT c15 (show (3 : Int32).toInt = 3 by decide); have e4 := lv_neT c19 (show (4 : Int32).toInt = 4 by decide); have e5 := lv_neT c21 (show (5 : Int32).toInt = 5 by decide); have e6 := lv_neT c22 (show (6 : Int32).toInt = 6 by decide); have e7 := lv_neT c23 (show (7 : Int32).toInt = 7 by decide); have e8 := lv_neT c27 (show (8 : Int32).toInt = 8 by decide); omega) (by decide) ?_
  refine jr_bipush (v := (-2)) C 119 rfl dX0_count_117 (by decide) ?_
  exact jr_ireturn C dX0_count_119 h
theorem m_X0_count {l : Launch} (hl : l.stackTraces = false) {G : jG} {K : jS → Int32 → Prop} {S : jS} {x0 : Nat} {x1 : Int32} (h : wp_X0_count S x0 x1 K) : jMet l G d_X0_count yX0_count (ws_ yX0_count cX0_count 2 (some .int)) [.ref x0, .int x1] S tvi K :=
  jMet.of hl rfl (by decide) (Nat.le_of_ble_eq_true rfl) (fun X C => jr_sub [0, 1] rfl (wk_X0_count_0 C h))
theorem wk_X0_manyNow_39 {X : jX} {G : jG} {K : jS → Int32 → Prop} (C : jC (X, G, 4, jA X G tvi K) d_X0_manyNow cX0_manyNow "Samovar" (some .int) yX0_manyNow) {S : jS} {t0 : Int32} {t1 : Int32} {x0 : Nat} {x1 : Int32} {x3 : Int32} {Kc4 : jS × Int32 × Int32 → Prop} (hc4 : ∀ z : jS × Int32 × Int32, Kc4 z → jJ (X, G, 4, jA X G tvi K) z.1 [(0, .ref x0), (1, .int x1), (2, .int z.2.1), (3, .int z.2.2)] 4 []) (h : wp_X0_manyNow_39 S t0 t1 x0 x1 x3 Kc4 K) : jJ (X, G, 4, jA X G tvi K) S [(0, .ref x0), (1, .int x1), (3, .int x3)] 39 [.int t1, .int t0] := by
  unfold wp_X0_manyNow_39 at h
  refine jr_iadd C 40 rfl dX0_manyNow_39 ?_
  refine jr_istore_n (lv' := [(2, .int (t0 + t1)), (0, .ref x0), (1, .int x1), (3, .int x3)]) C 41 rfl dX0_manyNow_40 rfl (Nat.le_of_ble_eq_true rfl) rfl ?_
  refine jr_iinc (v := (x3 + 1)) (lv' := [(3, .int (x3 + 1)), (2, .int (t0 + t1)), (0, .ref x0), (1, .int x1)]) C 44 rfl dX0_manyNow_41 3 rfl rfl (Nat.le_of_ble_eq_true rfl) rfl ?_
  refine jr_goto C 4 dX0_manyNow_44 (by decide) ?_
  exact jr_sub [2, 3, 1, 0] rfl (hc4 _ h)
theorem wk_X0_manyNow_4 {X : jX} {G : jG} {K : jS → Int32 → Prop} (C : jC (X, G, 4, jA X G tvi K) d_X0_manyNow cX0_manyNow "Samovar" (some .int) yX0_manyNow) {S : jS} {x0 : Nat} {x1 : Int32} {x2 : Int32} {x3 : Int32} {Kc4 : jS × Int32 × Int32 → Prop} (hc4 : ∀ z : jS × Int32 × Int32, Kc4 z → jJ (X, G, 4, jA X G tvi K) z.1 [(0, .ref x0), (1, .int x1), (2, .int z.2.1), (3, .int z.2.2)] 4 []) (h : wp_X0_manyNow_4 S x0 x1 x2 x3 Kc4 K) : jJ (X, G, 4, jA X G tvi K) S [(0, .ref x0), (1, .int x1), (2, .int x2), (3, .int x3)] 4 [] := by
  unfold wp_X0_manyNow_4 at h
  refine jr_iload_n C 5 rfl dX0_manyNow_4 rfl 3 rfl ?_
  refine jr_aload_n C 6 rfl dX0_manyNow_5 rfl 0 rfl ?_
  refine jr_getr C 9 rfl fo_0_4 q232 dX0_manyNow_6 h (fun v1 h => ?_)
  obtain ⟨⟨V, hb⟩, h⟩ := h
  refine jr_callVi (r0 := (RJ2, TJ2, 3)) (As := []) (st := [.int x3]) C 12 rfl (m_J2_size C.2.2.2.2.2.2.2.2.2.2.2.2.2.2.2 h) rfl hb rfl q700 q378 q379 q99 q380 (by decide) (by decide) ndV_J2_size (Nat.le_of_ble_eq_true rfl) dX0_manyNow_9 (fun S2 r3 h => ?_)
  refine jr_icmp_ge C 47 15 rfl dX0_manyNow_12 (by decide) (fun c9 => ?_) (fun c9 => ?_)
  · have h := h.1 c9
    refine jr_iload_n C 48 rfl dX0_manyNow_47 rfl 2 rfl ?_
    exact jr_ireturn C dX0_manyNow_48 h
  · have h := h.2 c9
    refine jr_iload_n C 16 rfl dX0_manyNow_15 rfl 2 rfl ?_
    refine jr_aload_n C 17 rfl dX0_manyNow_16 rfl 0 rfl ?_
    refine jr_getr C 20 rfl fo_0_4 q232 dX0_manyNow_17 h (fun v4 h => ?_)
    refine jr_iload_n C 21 rfl dX0_manyNow_20 rfl 3 rfl ?_
    obtain ⟨⟨V, hb⟩, h⟩ := h
    refine jr_callVr (r0 := (RJ2, TJ2, 3)) (As := [.int x3]) (st := [.int x2]) C 24 rfl (m_J2_get C.2.2.2.2.2.2.2.2.2.2.2.2.2.2.2 h) rfl hb rfl q702 q703 q704 q99 q705 (by decide) (by decide) ndV_J2_get (Nat.le_of_ble_eq_true rfl) dX0_manyNow_21 (fun S5 r6 h => ?_)
    obtain ⟨hz, h⟩ := h
    refine jr_cast C 27 rfl (cs := [4]) can_Samovar_Guest (by decide) q213 dX0_manyNow_24 hz ?_
    refine jr_getiN C 30 rfl fo_4_3 (jx_g q570 rfl) dX0_manyNow_27 h (fun v7 h => ?_)
    refine jr_iload_n C 31 rfl dX0_manyNow_30 rfl 1 rfl ?_
    refine jr_icmp_ne C 38 34 rfl dX0_manyNow_31 (by decide) (fun c8 => ?_) (fun c8 => ?_)
    · have h := h.1 c8
      refine jr_iconst (v := 1) C 35 rfl dX0_manyNow_34 (by decide) ?_
      refine jr_goto C 39 dX0_manyNow_35 (by decide) ?_
      exact jr_sub [0, 1, 3] rfl (wk_X0_manyNow_39 C hc4 h)
    · have h := h.2 c8
      refine jr_iconst (v := 0) C 39 rfl dX0_manyNow_38 (by decide) ?_
      exact jr_sub [0, 1, 3] rfl (wk_X0_manyNow_39 C hc4 h)
theorem wk_X0_manyNow_4_L {X : jX} {G : jG} {K : jS → Int32 → Prop} (C : jC (X, G, 4, jA X G tvi K) d_X0_manyNow cX0_manyNow "Samovar" (some .int) yX0_manyNow) {x0 : Nat} {x1 : Int32}  : ∀ (n : Nat) (z : jS × Int32 × Int32), jlp n (wp_X0_manyNow_4_L x0 x1 K) z → jJ (X, G, 4, jA X G tvi K) z.1 [(0, .ref x0), (1, .int x1), (2, .int z.2.1), (3, .int z.2.2)] 4 [] := by
  intro n
  induction n with
  | zero => intro z h; exact h.elim
  | succ n ih => intro z h; exact wk_X0_manyNow_4 C ih h
theorem wk_X0_manyNow_0 {X : jX} {G : jG} {K : jS → Int32 → Prop} (C : jC (X, G, 4, jA X G tvi K) d_X0_manyNow cX0_manyNow "Samovar" (some .int) yX0_manyNow) {S : jS} {x0 : Nat} {x1 : Int32}  (h : wp_X0_manyNow S x0 x1 K) : jJ (X, G, 4, jA X G tvi K) S [(0, .ref x0), (1, .int x1)] 0 [] := by
  unfold wp_X0_manyNow at h
  refine jr_iconst (v := 0) C 1 rfl dX0_manyNow_0 (by decide) ?_
  refine jr_istore_n (lv' := [(2, .int 0), (0, .ref x0), (1, .int x1)]) C 2 rfl dX0_manyNow_1 rfl (Nat.le_of_ble_eq_true rfl) rfl ?_
  refine jr_iconst (v := 0) C 3 rfl dX0_manyNow_2 (by decide) ?_
  refine jr_istore_n (lv' := [(3, .int 0), (2, .int 0), (0, .ref x0), (1, .int x1)]) C 4 rfl dX0_manyNow_3 rfl (Nat.le_of_ble_eq_true rfl) rfl ?_
  obtain ⟨n, h⟩ := h
  exact jr_sub [2, 3, 1, 0] rfl (wk_X0_manyNow_4_L C  n _ h)
theorem m_X0_manyNow {l : Launch} (hl : l.stackTraces = false) {G : jG} {K : jS → Int32 → Prop} {S : jS} {x0 : Nat} {x1 : Int32} (h : wp_X0_manyNow S x0 x1 K) : jMet l G d_X0_manyNow yX0_manyNow (ws_ yX0_manyNow cX0_manyNow 4 (some .int)) [.ref x0, .int x1] S tvi K :=
  jMet.of hl rfl (by decide) (Nat.le_of_ble_eq_true rfl) (fun X C => jr_sub [0, 1] rfl (wk_X0_manyNow_0 C h))
theorem wk_X0_lot_0 {X : jX} {G : jG} {K : jS → Int32 → Prop} (C : jC (X, G, 2, jA X G tvi K) d_X0_lot cX0_lot "Samovar" (some .int) yX0_lot) {S : jS} {x0 : Nat} {x1 : Int32}  (h : wp_X0_lot S x0 x1 K) : jJ (X, G, 2, jA X G tvi K) S [(0, .ref x0), (1, .int x1)] 0 [] := by
  unfold wp_X0_lot at h
  refine jr_aload_n C 1 rfl dX0_lot_0 rfl 0 rfl ?_
  refine jr_ldcw (v := 1103515245) C 4 rfl dX0_lot_1 q1141 ?_
  refine jr_aload_n C 5 rfl dX0_lot_4 rfl 0 rfl ?_
  refine jr_geti C 8 rfl fo_0_20 q248 dX0_lot_5 h (fun v1 h => ?_)
  refine jr_imul C 9 rfl dX0_lot_8 ?_
  refine jr_sipush (v := 12345) C 12 rfl dX0_lot_9 (by decide) ?_
  refine jr_iadd C 13 rfl dX0_lot_12 ?_
  refine jr_putv C 16 rfl fo_0_20 (by decide) q248 dX0_lot_13 rfl rfl h (fun S2 h => ?_)
  refine jr_aload_n C 17 rfl dX0_lot_16 rfl 0 rfl ?_
  refine jr_geti C 20 rfl fo_0_20 q248 dX0_lot_17 h (fun v3 h => ?_)
  refine jr_bipush (v := 16) C 22 rfl dX0_lot_20 (by decide) ?_
  refine jr_iushr C 23 rfl dX0_lot_22 ?_
  refine jr_iload_n C 24 rfl dX0_lot_23 rfl 1 rfl ?_
  obtain ⟨hz, h⟩ := h
  refine jr_irem C 25 rfl dX0_lot_24 hz ?_
  exact jr_ireturn C dX0_lot_25 h
theorem m_X0_lot {l : Launch} (hl : l.stackTraces = false) {G : jG} {K : jS → Int32 → Prop} {S : jS} {x0 : Nat} {x1 : Int32} (h : wp_X0_lot S x0 x1 K) : jMet l G d_X0_lot yX0_lot (ws_ yX0_lot cX0_lot 2 (some .int)) [.ref x0, .int x1] S tvi K :=
  jMet.of hl rfl (by decide) (Nat.le_of_ble_eq_true rfl) (fun X C => jr_sub [0, 1] rfl (wk_X0_lot_0 C h))
theorem wk_X0_stranger_29 {X : jX} {G : jG} {K : jS → Nat → Prop} (C : jC (X, G, 3, jA X G tvr K) d_X0_stranger cX0_stranger "Samovar" (some (.object "Samovar$Guest")) yX0_stranger) {S : jS} {x0 : Nat} {x1 : Int32}  (h : wp_X0_stranger_29 S x0 x1 K) : jJ (X, G, 3, jA X G tvr K) S [(0, .ref x0), (1, .int x1)] 29 [] := by
  unfold wp_X0_stranger_29 at h
  refine jr_aload_n C 30 rfl dX0_stranger_29 rfl 0 rfl ?_
  refine jr_getr C 33 rfl fo_0_22 q250 dX0_stranger_30 h (fun v1 h => ?_)
  refine jr_iload_n C 34 rfl dX0_stranger_33 rfl 1 rfl ?_
  refine jr_aaldn C 35 rfl (t := 8) rfl rfl dX0_stranger_34 h (fun v2 h => ?_)
  refine jr_astore_n (lv' := [(2, .ref v2), (0, .ref x0), (1, .int x1)]) C 36 rfl dX0_stranger_35 rfl (Nat.le_of_ble_eq_true rfl) rfl ?_
  refine jr_aload_n C 37 rfl dX0_stranger_36 rfl 0 rfl ?_
  refine jr_aload_n C 38 rfl dX0_stranger_37 rfl 1 rfl ?_
  refine jr_bipush (v := 24) C 40 rfl dX0_stranger_38 (by decide) ?_
  obtain ⟨⟨V, hb⟩, h⟩ := h
  refine jr_callVi (r0 := (RX0, TX0, 24)) (As := [.int 24]) (st := [.ref v2]) C 43 rfl (m_X0_lot C.2.2.2.2.2.2.2.2.2.2.2.2.2.2.2 h) rfl hb rfl q1137 q1139 qs37 q94 q1140 (by decide) (by decide) ndV_X0_lot (Nat.le_of_ble_eq_true rfl) dX0_stranger_40 (fun S3 r4 h => ?_)
  refine jr_putvN C 46 rfl fo_4_0 (by decide) (jx_g q564 rfl) dX0_stranger_43 rfl rfl h (fun S5 h => ?_)
  refine jr_aload_n C 47 rfl dX0_stranger_46 rfl 0 rfl ?_
  refine jr_gets C 50 rfl (i := 1) rfl q1135 dX0_stranger_47 h (fun v6 h => ?_)
  refine jr_aload_n C 51 rfl dX0_stranger_50 rfl 1 rfl ?_
  refine jr_iconst (v := 2) C 52 rfl dX0_stranger_51 (by decide) ?_
  obtain ⟨⟨V, hb⟩, h⟩ := h
  refine jr_callVi (r0 := (RX0, TX0, 24)) (As := [.int 2]) (st := [.ref v6, .ref v2]) C 55 rfl (m_X0_lot C.2.2.2.2.2.2.2.2.2.2.2.2.2.2.2 h) rfl hb rfl q1137 q1139 qs37 q94 q1140 (by decide) (by decide) ndV_X0_lot (Nat.le_of_ble_eq_true rfl) dX0_stranger_52 (fun S7 r8 h => ?_)
  refine jr_aaldn C 56 rfl (t := 11) rfl rfl dX0_stranger_55 h (fun v9 h => ?_)
  refine jr_putvN C 59 rfl fo_4_1 (by decide) (jx_g q566 rfl) dX0_stranger_56 rfl rfl h (fun S10 h => ?_)
  refine jr_aload_n C 60 rfl dX0_stranger_59 rfl 0 rfl ?_
  refine jr_iconst (v := 1) C 61 rfl dX0_stranger_60 (by decide) ?_
  refine jr_aload_n C 62 rfl dX0_stranger_61 rfl 1 rfl ?_
  refine jr_iconst (v := 4) C 63 rfl dX0_stranger_62 (by decide) ?_
  obtain ⟨⟨V, hb⟩, h⟩ := h
  refine jr_callVi (r0 := (RX0, TX0, 24)) (As := [.int 4]) (st := [.int 1, .ref v2]) C 66 rfl (m_X0_lot C.2.2.2.2.2.2.2.2.2.2.2.2.2.2.2 h) rfl hb rfl q1137 q1139 qs37 q94 q1140 (by decide) (by decide) ndV_X0_lot (Nat.le_of_ble_eq_true rfl) dX0_stranger_63 (fun S11 r12 h => ?_)
  refine jr_iadd C 67 rfl dX0_stranger_66 ?_
  refine jr_putvN C 70 rfl fo_4_2 (by decide) (jx_g q568 rfl) dX0_stranger_67 rfl rfl h (fun S13 h => ?_)
  refine jr_aload_n C 71 rfl dX0_stranger_70 rfl 0 rfl ?_
  exact jr_areturn (Or.inl ⟨_, rfl⟩) C dX0_stranger_71 h
theorem wk_X0_stranger_0 {X : jX} {G : jG} {K : jS → Nat → Prop} (C : jC (X, G, 3, jA X G tvr K) d_X0_stranger cX0_stranger "Samovar" (some (.object "Samovar$Guest")) yX0_stranger) {S : jS} {x0 : Nat} {x1 : Int32}  (h : wp_X0_stranger S x0 x1 K) : jJ (X, G, 3, jA X G tvr K) S [(0, .ref x0), (1, .int x1)] 0 [] := by
  unfold wp_X0_stranger at h
  refine jr_aload_n C 1 rfl dX0_stranger_0 rfl 0 rfl ?_
  refine jr_getr C 4 rfl fo_0_22 q250 dX0_stranger_1 h (fun v1 h => ?_)
  refine jr_iload_n C 5 rfl dX0_stranger_4 rfl 1 rfl ?_
  refine jr_aald C 6 rfl (t := 8) rfl rfl dX0_stranger_5 h (fun v2 h => ?_)
  refine jr_ifnonnull (x := v2) C 29 9 rfl dX0_stranger_6 (by decide) (fun c11 => ?_) (fun c11 => ?_)
  · have h := h.1 c11
    refine jr_aload_n C 10 rfl dX0_stranger_9 rfl 0 rfl ?_
    refine jr_getr C 13 rfl fo_0_22 q250 dX0_stranger_10 h (fun v3 h => ?_)
    refine jr_iload_n C 14 rfl dX0_stranger_13 rfl 1 rfl ?_
    refine jr_new C 17 rfl (c := 4) (by decide) rfl in_X7 tyX7_ok q213 q557 q112 dX0_stranger_14 h (fun S4 a5 h => ?_)
    refine jr_dup C 18 rfl dX0_stranger_17 rfl ?_
    refine jr_iconst (v := 0) C 19 rfl dX0_stranger_18 (by decide) ?_
    refine jr_gets C 22 rfl (i := 1) rfl q1135 dX0_stranger_19 h (fun v6 h => ?_)
    refine jr_iconst (v := 0) C 23 rfl dX0_stranger_22 (by decide) ?_
    refine jr_aaldn C 24 rfl (t := 11) rfl rfl dX0_stranger_23 h (fun v7 h => ?_)
    refine jr_iconst (v := 1) C 25 rfl dX0_stranger_24 (by decide) ?_
    refine jr_callIv (As := [.int 0, .ref v7, .int 1]) (st := [.ref a5, .int x1, .ref v3]) C 28 rfl (m_X7_init C.2.2.2.2.2.2.2.2.2.2.2.2.2.2.2 h) rfl rfl q1136 q560 q112 q561 (by decide) (by decide) nd_X7_init (Nat.le_of_ble_eq_true rfl) dX0_stranger_25 (fun S8 _ h => ?_)
    refine jr_aast C 29 rfl (t := 8) rfl (by decide) can_8 canI_8 dX0_stranger_28 h (fun S9 h => ?_)
    exact (wk_X0_stranger_29 C  h)
  · obtain ⟨a10, c11⟩ := Option.ne_none_iff_exists'.mp c11
    replace h := h.2 a10 c11
    subst c11
    exact (wk_X0_stranger_29 C  h)
theorem m_X0_stranger {l : Launch} (hl : l.stackTraces = false) {G : jG} {K : jS → Nat → Prop} {S : jS} {x0 : Nat} {x1 : Int32} (h : wp_X0_stranger S x0 x1 K) : jMet l G d_X0_stranger yX0_stranger (ws_ yX0_stranger cX0_stranger 3 (some (.object "Samovar$Guest"))) [.ref x0, .int x1] S tvr K :=
  jMet.of hl rfl (by decide) (Nat.le_of_ble_eq_true rfl) (fun X C => jr_sub [0, 1] rfl (wk_X0_stranger_0 C h))
theorem wk_X0_eveningsOf_34 {X : jX} {G : jG} {K : jS → Int32 → Prop} (C : jC (X, G, 6, jA X G tvi K) d_X0_eveningsOf cX0_eveningsOf "Samovar" (some .int) yX0_eveningsOf) {S : jS} {t0 : Int32} {x0 : Nat} {x2 : Int32} {x3 : Int32} {x4 : Int32} {Kc15 : jS × Int32 → Prop} (hc15 : ∀ z : jS × Int32, Kc15 z → jJ (X, G, 6, jA X G tvi K) z.1 [(0, .ref x0), (2, .int x2), (3, .int x3), (4, .int z.2)] 15 []) (h : wp_X0_eveningsOf_34 S t0 x0 x2 x3 x4 Kc15 K) : jJ (X, G, 6, jA X G tvi K) S [(0, .ref x0), (2, .int x2), (3, .int x3), (4, .int x4)] 34 [.int t0] := by
  unfold wp_X0_eveningsOf_34 at h
  refine jr_pop C 35 rfl dX0_eveningsOf_34 rfl ?_
  refine jr_iinc (v := (x4 + 1)) (lv' := [(4, .int (x4 + 1)), (0, .ref x0), (2, .int x2), (3, .int x3)]) C 38 rfl dX0_eveningsOf_35 3 rfl rfl (Nat.le_of_ble_eq_true rfl) rfl ?_
  refine jr_goto C 15 dX0_eveningsOf_38 (by decide) ?_
  exact jr_sub [1, 2, 3, 0] rfl (hc15 _ h)
theorem wk_X0_eveningsOf_69 {X : jX} {G : jG} {K : jS → Int32 → Prop} (C : jC (X, G, 6, jA X G tvi K) d_X0_eveningsOf cX0_eveningsOf "Samovar" (some .int) yX0_eveningsOf) {S : jS} {t0 : Int32} {x0 : Nat}  (h : wp_X0_eveningsOf_69 S t0 x0 K) : jJ (X, G, 6, jA X G tvi K) S [(0, .ref x0)] 69 [.int t0] := by
  unfold wp_X0_eveningsOf_69 at h
  refine jr_istore (lv' := [(4, .int t0), (0, .ref x0)]) C 71 rfl dX0_eveningsOf_69 (Nat.le_of_ble_eq_true rfl) rfl ?_
  refine jr_aload_n C 72 rfl dX0_eveningsOf_71 rfl 1 rfl ?_
  refine jr_aload_n C 73 rfl dX0_eveningsOf_72 rfl 1 rfl ?_
  refine jr_getr C 76 rfl fo_0_2 q230 dX0_eveningsOf_73 h (fun v1 h => ?_)
  refine jr_getr C 79 rfl fo_2_5 q196 dX0_eveningsOf_76 h (fun v2 h => ?_)
  refine jr_putv C 82 rfl fo_0_4 (by decide) q232 dX0_eveningsOf_79 rfl rfl h (fun S3 h => ?_)
  refine jr_iload C 84 rfl dX0_eveningsOf_82 0 rfl ?_
  exact jr_ireturn C dX0_eveningsOf_84 h
theorem wk_X0_eveningsOf_53 {X : jX} {G : jG} {K : jS → Int32 → Prop} (C : jC (X, G, 6, jA X G tvi K) d_X0_eveningsOf cX0_eveningsOf "Samovar" (some .int) yX0_eveningsOf) {S : jS} {x0 : Nat} {x3 : Int32}  (h : wp_X0_eveningsOf_53 S x0 x3 K) : jJ (X, G, 6, jA X G tvi K) S [(0, .ref x0), (3, .int x3)] 53 [] := by
  unfold wp_X0_eveningsOf_53 at h
  refine jr_iload_n C 54 rfl dX0_eveningsOf_53 rfl 1 rfl ?_
  refine jr_if_ne C 64 57 rfl dX0_eveningsOf_54 (by decide) (fun c4 => ?_) (fun c4 => ?_)
  · have h := h.1 c4
    refine jr_aload_n C 58 rfl dX0_eveningsOf_57 rfl 0 rfl ?_
    refine jr_geti C 61 rfl fo_0_11 q239 dX0_eveningsOf_58 h (fun v1 h => ?_)
    refine jr_goto C 69 dX0_eveningsOf_61 (by decide) ?_
    exact jr_sub [0] rfl (wk_X0_eveningsOf_69 C  h)
  · have h := h.2 c4
    refine jr_aload_n C 65 rfl dX0_eveningsOf_64 rfl 0 rfl ?_
    refine jr_iconst (v := 4) C 66 rfl dX0_eveningsOf_65 (by decide) ?_
    obtain ⟨⟨V, hb⟩, h⟩ := h
    refine jr_callVi (r0 := (RX0, TX0, 24)) (As := [.int 4]) (st := []) C 69 rfl (m_X0_manyNow C.2.2.2.2.2.2.2.2.2.2.2.2.2.2.2 h) rfl hb rfl q981 q983 qs18 q94 q984 (by decide) (by decide) ndV_X0_manyNow (Nat.le_of_ble_eq_true rfl) dX0_eveningsOf_66 (fun S2 r3 h => ?_)
    exact jr_sub [0] rfl (wk_X0_eveningsOf_69 C  h)
theorem wk_X0_eveningsOf_15 {X : jX} {G : jG} {K : jS → Int32 → Prop} (C : jC (X, G, 6, jA X G tvi K) d_X0_eveningsOf cX0_eveningsOf "Samovar" (some .int) yX0_eveningsOf) {S : jS} {x0 : Nat} {x2 : Int32} {x3 : Int32} {x4 : Int32} {Kc15 : jS × Int32 → Prop} (hc15 : ∀ z : jS × Int32, Kc15 z → jJ (X, G, 6, jA X G tvi K) z.1 [(0, .ref x0), (2, .int x2), (3, .int x3), (4, .int z.2)] 15 []) (h : wp_X0_eveningsOf_15 S x0 x2 x3 x4 Kc15 K) : jJ (X, G, 6, jA X G tvi K) S [(0, .ref x0), (2, .int x2), (3, .int x3), (4, .int x4)] 15 [] := by
  unfold wp_X0_eveningsOf_15 at h
  refine jr_iload C 17 rfl dX0_eveningsOf_15 3 rfl ?_
  refine jr_iload_n C 18 rfl dX0_eveningsOf_17 rfl 1 rfl ?_
  refine jr_icmp_ge C 41 21 rfl dX0_eveningsOf_18 (by decide) (fun c9 => ?_) (fun c9 => ?_)
  · have h := h.1 c9
    refine jr_aload_n C 42 rfl dX0_eveningsOf_41 rfl 0 rfl ?_
    refine jr_aload_n C 43 rfl dX0_eveningsOf_42 rfl 0 rfl ?_
    refine jr_getr C 46 rfl fo_0_21 q249 dX0_eveningsOf_43 h (fun v1 h => ?_)
    refine jr_putv C 49 rfl fo_0_4 (by decide) q232 dX0_eveningsOf_46 rfl rfl h (fun S2 h => ?_)
    refine jr_aload_n C 50 rfl dX0_eveningsOf_49 rfl 0 rfl ?_
    obtain ⟨⟨V, hb⟩, h⟩ := h
    refine jr_callVv (r0 := (RX0, TX0, 24)) (As := []) (st := []) C 53 rfl (m_X0_find C.2.2.2.2.2.2.2.2.2.2.2.2.2.2.2 h) rfl hb rfl q831 q833 qs10 q94 q834 (by decide) (by decide) ndV_X0_find (Nat.le_of_ble_eq_true rfl) dX0_eveningsOf_50 (fun S3 _ h => ?_)
    exact jr_sub [0, 2] rfl (wk_X0_eveningsOf_53 C  h)
  · have h := h.2 c9
    refine jr_aload_n C 22 rfl dX0_eveningsOf_21 rfl 0 rfl ?_
    refine jr_getr C 25 rfl fo_0_21 q249 dX0_eveningsOf_22 h (fun v4 h => ?_)
    refine jr_aload_n C 26 rfl dX0_eveningsOf_25 rfl 0 rfl ?_
    refine jr_iload C 28 rfl dX0_eveningsOf_26 3 rfl ?_
    obtain ⟨⟨V, hb⟩, h⟩ := h
    refine jr_callVr (r0 := (RX0, TX0, 24)) (As := [.int x4]) (st := [.ref v4]) C 31 rfl (m_X0_stranger C.2.2.2.2.2.2.2.2.2.2.2.2.2.2.2 h) rfl hb rfl q1131 q1133 qs36 q94 q1134 (by decide) (by decide) ndV_X0_stranger (Nat.le_of_ble_eq_true rfl) dX0_eveningsOf_28 (fun S5 r6 h => ?_)
    obtain ⟨⟨V, hb⟩, h⟩ := h
    refine jr_callVi (r0 := (RJ2, TJ2, 3)) (As := [.ref r6]) (st := []) C 34 rfl (m_J2_add C.2.2.2.2.2.2.2.2.2.2.2.2.2.2.2 h) rfl hb rfl q780 q596 q597 q99 q598 (by decide) (by decide) ndV_J2_add (Nat.le_of_ble_eq_true rfl) dX0_eveningsOf_31 (fun S7 r8 h => ?_)
    exact (wk_X0_eveningsOf_34 C hc15 h)
theorem wk_X0_eveningsOf_15_L {X : jX} {G : jG} {K : jS → Int32 → Prop} (C : jC (X, G, 6, jA X G tvi K) d_X0_eveningsOf cX0_eveningsOf "Samovar" (some .int) yX0_eveningsOf) {x0 : Nat} {x2 : Int32} {x3 : Int32}  : ∀ (n : Nat) (z : jS × Int32), jlp n (wp_X0_eveningsOf_15_L x0 x2 x3 K) z → jJ (X, G, 6, jA X G tvi K) z.1 [(0, .ref x0), (2, .int x2), (3, .int x3), (4, .int z.2)] 15 [] := by
  intro n
  induction n with
  | zero => intro z h; exact h.elim
  | succ n ih => intro z h; exact wk_X0_eveningsOf_15 C ih h
theorem wk_X0_eveningsOf_0 {X : jX} {G : jG} {K : jS → Int32 → Prop} (C : jC (X, G, 6, jA X G tvi K) d_X0_eveningsOf cX0_eveningsOf "Samovar" (some .int) yX0_eveningsOf) {S : jS} {x0 : Nat} {x1 : Int32} {x2 : Int32} {x3 : Int32}  (h : wp_X0_eveningsOf S x0 x1 x2 x3 K) : jJ (X, G, 6, jA X G tvi K) S [(0, .ref x0), (1, .int x1), (2, .int x2), (3, .int x3)] 0 [] := by
  unfold wp_X0_eveningsOf at h
  refine jr_aload_n C 1 rfl dX0_eveningsOf_0 rfl 0 rfl ?_
  refine jr_getr C 4 rfl fo_0_21 q249 dX0_eveningsOf_1 h (fun v1 h => ?_)
  obtain ⟨⟨V, hb⟩, h⟩ := h
  refine jr_callVv (r0 := (RJ2, TJ2, 3)) (As := []) (st := []) C 7 rfl (m_J2_clear C.2.2.2.2.2.2.2.2.2.2.2.2.2.2.2 h) rfl hb rfl q839 q360 q361 q99 q362 (by decide) (by decide) ndV_J2_clear (Nat.le_of_ble_eq_true rfl) dX0_eveningsOf_4 (fun S2 _ h => ?_)
  refine jr_aload_n C 8 rfl dX0_eveningsOf_7 rfl 0 rfl ?_
  refine jr_iload_n C 9 rfl dX0_eveningsOf_8 rfl 1 rfl ?_
  refine jr_putv C 12 rfl fo_0_20 (by decide) q248 dX0_eveningsOf_9 rfl rfl h (fun S3 h => ?_)
  refine jr_iconst (v := 0) C 13 rfl dX0_eveningsOf_12 (by decide) ?_
  refine jr_istore (lv' := [(4, .int 0), (0, .ref x0), (1, .int x1), (2, .int x2), (3, .int x3)]) C 15 rfl dX0_eveningsOf_13 (Nat.le_of_ble_eq_true rfl) rfl ?_
  obtain ⟨n, h⟩ := h
  exact jr_sub [1, 3, 4, 0] rfl (wk_X0_eveningsOf_15_L C  n _ h)
theorem m_X0_eveningsOf {l : Launch} (hl : l.stackTraces = false) {G : jG} {K : jS → Int32 → Prop} {S : jS} {x0 : Nat} {x1 : Int32} {x2 : Int32} {x3 : Int32} (h : wp_X0_eveningsOf S x0 x1 x2 x3 K) : jMet l G d_X0_eveningsOf yX0_eveningsOf (wsW_ yX0_eveningsOf cX0_eveningsOf 6 (some .int) [((49), (71), (85), (0)), ((85), (87), (85), (0))]) [.ref x0, .int x1, .int x2, .int x3] S tvi K :=
  jMet.ofH hl rfl (by decide) (Nat.le_of_ble_eq_true rfl) (fun X C => jr_sub [0, 1, 2, 3] rfl (wk_X0_eveningsOf_0 C h))
theorem wk_X0_fillBy_55 {X : jX} {G : jG} {K : jS → Int32 → Prop} (C : jC (X, G, 7, jA X G tvi K) d_X0_fillBy cX0_fillBy "Samovar" (some .int) yX0_fillBy) {S : jS} {x0 : Nat} {x1 : Int32} {x2 : Int32} {x3 : Int32} {x4 : Int32} {x5 : Int32} {Kc15 : jS × Int32 × Int32 × Int32 → Prop} (hc15 : ∀ z : jS × Int32 × Int32 × Int32, Kc15 z → jJ (X, G, 7, jA X G tvi K) z.1 [(0, .ref x0), (1, .int x1), (2, .int x2), (3, .int z.2.1), (4, .int z.2.2.1), (5, .int z.2.2.2)] 15 []) (h : wp_X0_fillBy_55 S x0 x1 x2 x3 x4 x5 Kc15 K) : jJ (X, G, 7, jA X G tvi K) S [(0, .ref x0), (1, .int x1), (2, .int x2), (3, .int x3), (4, .int x4), (5, .int x5)] 55 [] := by
  unfold wp_X0_fillBy_55 at h
  refine jr_iinc (v := (x5 + 1)) (lv' := [(5, .int (x5 + 1)), (0, .ref x0), (1, .int x1), (2, .int x2), (3, .int x3), (4, .int x4)]) C 58 rfl dX0_fillBy_55 5 rfl rfl (Nat.le_of_ble_eq_true rfl) rfl ?_
  refine jr_goto C 15 dX0_fillBy_58 (by decide) ?_
  exact jr_sub [1, 2, 3, 4, 5, 0] rfl (hc15 _ h)
theorem wk_X0_fillBy_93 {X : jX} {G : jG} {K : jS → Int32 → Prop} (C : jC (X, G, 7, jA X G tvi K) d_X0_fillBy cX0_fillBy "Samovar" (some .int) yX0_fillBy) {S : jS} {t0 : Int32}  (h : wp_X0_fillBy_93 S t0 K) : jJ (X, G, 7, jA X G tvi K) S [] 93 [.int t0] := by
  unfold wp_X0_fillBy_93 at h
  exact jr_ireturn C dX0_fillBy_93 h
theorem wk_X0_fillBy_15 {X : jX} {G : jG} {K : jS → Int32 → Prop} (C : jC (X, G, 7, jA X G tvi K) d_X0_fillBy cX0_fillBy "Samovar" (some .int) yX0_fillBy) {S : jS} {x0 : Nat} {x1 : Int32} {x2 : Int32} {x3 : Int32} {x4 : Int32} {x5 : Int32} {Kc15 : jS × Int32 × Int32 × Int32 → Prop} (hc15 : ∀ z : jS × Int32 × Int32 × Int32, Kc15 z → jJ (X, G, 7, jA X G tvi K) z.1 [(0, .ref x0), (1, .int x1), (2, .int x2), (3, .int z.2.1), (4, .int z.2.2.1), (5, .int z.2.2.2)] 15 []) (h : wp_X0_fillBy_15 S x0 x1 x2 x3 x4 x5 Kc15 K) : jJ (X, G, 7, jA X G tvi K) S [(0, .ref x0), (1, .int x1), (2, .int x2), (3, .int x3), (4, .int x4), (5, .int x5)] 15 [] := by
  unfold wp_X0_fillBy_15 at h
  refine jr_iload C 17 rfl dX0_fillBy_15 5 rfl ?_
  refine jr_bipush (v := 30) C 19 rfl dX0_fillBy_17 (by decide) ?_
  refine jr_icmp_gt C 61 22 rfl dX0_fillBy_19 (by decide) (fun c10 => ?_) (fun c10 => ?_)
  · have h := h.1 c10
    refine jr_aload_n C 62 rfl dX0_fillBy_61 rfl 0 rfl ?_
    refine jr_getr C 65 rfl fo_0_5 q233 dX0_fillBy_62 h (fun v1 h => ?_)
    refine jr_iconst (v := 0) C 66 rfl dX0_fillBy_65 (by decide) ?_
    refine jr_iload_n C 67 rfl dX0_fillBy_66 rfl 2 rfl ?_
    refine jr_iast C 68 rfl dX0_fillBy_67 h (fun S2 h => ?_)
    refine jr_goto C 83 dX0_fillBy_68 (by decide) ?_
    refine jr_iload_n C 84 rfl dX0_fillBy_83 rfl 1 rfl ?_
    refine jr_if_ne C 91 87 rfl dX0_fillBy_84 (by decide) (fun c3 => ?_) (fun c3 => ?_)
    · have h := h.1 c3
      refine jr_iload_n C 88 rfl dX0_fillBy_87 rfl 3 rfl ?_
      refine jr_goto C 93 dX0_fillBy_88 (by decide) ?_
      exact jr_sub [] rfl (wk_X0_fillBy_93 C  h)
    · have h := h.2 c3
      refine jr_iload C 93 rfl dX0_fillBy_91 4 rfl ?_
      exact jr_sub [] rfl (wk_X0_fillBy_93 C  h)
  · have h := h.2 c10
    refine jr_aload_n C 23 rfl dX0_fillBy_22 rfl 0 rfl ?_
    refine jr_getr C 26 rfl fo_0_5 q233 dX0_fillBy_23 h (fun v4 h => ?_)
    refine jr_iconst (v := 0) C 27 rfl dX0_fillBy_26 (by decide) ?_
    refine jr_iload C 29 rfl dX0_fillBy_27 5 rfl ?_
    refine jr_iast C 30 rfl dX0_fillBy_29 h (fun S5 h => ?_)
    refine jr_aload_n C 31 rfl dX0_fillBy_30 rfl 0 rfl ?_
    obtain ⟨⟨V, hb⟩, h⟩ := h
    refine jr_callVv (r0 := (RX0, TX0, 24)) (As := []) (st := []) C 34 rfl (m_X0_find C.2.2.2.2.2.2.2.2.2.2.2.2.2.2.2 h) rfl hb rfl q831 q833 qs10 q94 q834 (by decide) (by decide) ndV_X0_find (Nat.le_of_ble_eq_true rfl) dX0_fillBy_31 (fun S6 _ h => ?_)
    refine jr_aload_n C 35 rfl dX0_fillBy_34 rfl 0 rfl ?_
    refine jr_geti C 38 rfl fo_0_11 q239 dX0_fillBy_35 h (fun v7 h => ?_)
    refine jr_iload C 40 rfl dX0_fillBy_38 4 rfl ?_
    refine jr_icmp_gt C 46 43 rfl dX0_fillBy_40 (by decide) (fun c9 => ?_) (fun c9 => ?_)
    · have h := h.1 c9
      refine jr_iload C 48 rfl dX0_fillBy_46 5 rfl ?_
      refine jr_istore_n (lv' := [(3, .int x5), (0, .ref x0), (1, .int x1), (2, .int x2), (4, .int x4), (5, .int x5)]) C 49 rfl dX0_fillBy_48 rfl (Nat.le_of_ble_eq_true rfl) rfl ?_
      refine jr_aload_n C 50 rfl dX0_fillBy_49 rfl 1 rfl ?_
      refine jr_geti C 53 rfl fo_0_11 q239 dX0_fillBy_50 h (fun v8 h => ?_)
      refine jr_istore (lv' := [(4, .int v8), (3, .int x5), (0, .ref x0), (1, .int x1), (2, .int x2), (5, .int x5)]) C 55 rfl dX0_fillBy_53 (Nat.le_of_ble_eq_true rfl) rfl ?_
      exact jr_sub [2, 3, 4, 1, 0, 5] rfl (wk_X0_fillBy_55 C hc15 h)
    · have h := h.2 c9
      refine jr_goto C 55 dX0_fillBy_43 (by decide) ?_
      exact (wk_X0_fillBy_55 C hc15 h)
theorem wk_X0_fillBy_15_L {X : jX} {G : jG} {K : jS → Int32 → Prop} (C : jC (X, G, 7, jA X G tvi K) d_X0_fillBy cX0_fillBy "Samovar" (some .int) yX0_fillBy) {x0 : Nat} {x1 : Int32} {x2 : Int32}  : ∀ (n : Nat) (z : jS × Int32 × Int32 × Int32), jlp n (wp_X0_fillBy_15_L x0 x1 x2 K) z → jJ (X, G, 7, jA X G tvi K) z.1 [(0, .ref x0), (1, .int x1), (2, .int x2), (3, .int z.2.1), (4, .int z.2.2.1), (5, .int z.2.2.2)] 15 [] := by
  intro n
  induction n with
  | zero => intro z h; exact h.elim
  | succ n ih => intro z h; exact wk_X0_fillBy_15 C ih h
theorem wk_X0_fillBy_0 {X : jX} {G : jG} {K : jS → Int32 → Prop} (C : jC (X, G, 7, jA X G tvi K) d_X0_fillBy cX0_fillBy "Samovar" (some .int) yX0_fillBy) {S : jS} {x0 : Nat} {x1 : Int32}  (h : wp_X0_fillBy S x0 x1 K) : jJ (X, G, 7, jA X G tvi K) S [(0, .ref x0), (1, .int x1)] 0 [] := by
  unfold wp_X0_fillBy at h
  refine jr_aload_n C 1 rfl dX0_fillBy_0 rfl 0 rfl ?_
  refine jr_getr C 4 rfl fo_0_5 q233 dX0_fillBy_1 h (fun v1 h => ?_)
  refine jr_iconst (v := 0) C 5 rfl dX0_fillBy_4 (by decide) ?_
  refine jr_iald C 6 rfl dX0_fillBy_5 h (fun v2 h => ?_)
  refine jr_istore_n (lv' := [(2, .int v2), (0, .ref x0), (1, .int x1)]) C 7 rfl dX0_fillBy_6 rfl (Nat.le_of_ble_eq_true rfl) rfl ?_
  refine jr_iconst (v := (-1)) C 8 rfl dX0_fillBy_7 (by decide) ?_
  refine jr_istore_n (lv' := [(3, .int (-1)), (2, .int v2), (0, .ref x0), (1, .int x1)]) C 9 rfl dX0_fillBy_8 rfl (Nat.le_of_ble_eq_true rfl) rfl ?_
  refine jr_iconst (v := (-1)) C 10 rfl dX0_fillBy_9 (by decide) ?_
  refine jr_istore (lv' := [(4, .int (-1)), (3, .int (-1)), (2, .int v2), (0, .ref x0), (1, .int x1)]) C 12 rfl dX0_fillBy_10 (Nat.le_of_ble_eq_true rfl) rfl ?_
  refine jr_iconst (v := 0) C 13 rfl dX0_fillBy_12 (by decide) ?_
  refine jr_istore (lv' := [(5, .int 0), (4, .int (-1)), (3, .int (-1)), (2, .int v2), (0, .ref x0), (1, .int x1)]) C 15 rfl dX0_fillBy_13 (Nat.le_of_ble_eq_true rfl) rfl ?_
  obtain ⟨n, h⟩ := h
  exact jr_sub [4, 5, 3, 2, 1, 0] rfl (wk_X0_fillBy_15_L C  n _ h)
theorem m_X0_fillBy {l : Launch} (hl : l.stackTraces = false) {G : jG} {K : jS → Int32 → Prop} {S : jS} {x0 : Nat} {x1 : Int32} (h : wp_X0_fillBy S x0 x1 K) : jMet l G d_X0_fillBy yX0_fillBy (wsW_ yX0_fillBy cX0_fillBy 7 (some .int) [((12), (61), (71), (0)), ((71), (73), (71), (0))]) [.ref x0, .int x1] S tvi K :=
  jMet.ofH hl rfl (by decide) (Nat.le_of_ble_eq_true rfl) (fun X C => jr_sub [0, 1] rfl (wk_X0_fillBy_0 C h))
theorem wk_X0_firstNow_26 {X : jX} {G : jG} {K : jS → Int32 → Prop} (C : jC (X, G, 3, jA X G tvi K) d_X0_firstNow cX0_firstNow "Samovar" (some .int) yX0_firstNow) {S : jS} {t0 : Int32} {x0 : Nat} {x2 : Int32} {Kc5 : jS × Int32 × Int32 → Prop} (hc5 : ∀ z : jS × Int32 × Int32, Kc5 z → jJ (X, G, 3, jA X G tvi K) z.1 [(0, .ref x0), (1, .int z.2.1), (2, .int z.2.2)] 5 []) (h : wp_X0_firstNow_26 S t0 x0 x2 Kc5 K) : jJ (X, G, 3, jA X G tvi K) S [(0, .ref x0), (2, .int x2)] 26 [.int t0] := by
  unfold wp_X0_firstNow_26 at h
  refine jr_istore_n (lv' := [(1, .int t0), (0, .ref x0), (2, .int x2)]) C 27 rfl dX0_firstNow_26 rfl (Nat.le_of_ble_eq_true rfl) rfl ?_
  refine jr_iinc (v := (x2 + (-1))) (lv' := [(2, .int (x2 + (-1))), (1, .int t0), (0, .ref x0)]) C 30 rfl dX0_firstNow_27 2 rfl rfl (Nat.le_of_ble_eq_true rfl) rfl ?_
  refine jr_goto C 5 dX0_firstNow_30 (by decide) ?_
  exact jr_sub [2, 1, 0] rfl (hc5 _ h)
theorem wk_X0_firstNow_5 {X : jX} {G : jG} {K : jS → Int32 → Prop} (C : jC (X, G, 3, jA X G tvi K) d_X0_firstNow cX0_firstNow "Samovar" (some .int) yX0_firstNow) {S : jS} {x0 : Nat} {x1 : Int32} {x2 : Int32} {Kc5 : jS × Int32 × Int32 → Prop} (hc5 : ∀ z : jS × Int32 × Int32, Kc5 z → jJ (X, G, 3, jA X G tvi K) z.1 [(0, .ref x0), (1, .int z.2.1), (2, .int z.2.2)] 5 []) (h : wp_X0_firstNow_5 S x0 x1 x2 Kc5 K) : jJ (X, G, 3, jA X G tvi K) S [(0, .ref x0), (1, .int x1), (2, .int x2)] 5 [] := by
  unfold wp_X0_firstNow_5 at h
  refine jr_iload_n C 6 rfl dX0_firstNow_5 rfl 2 rfl ?_
  refine jr_if_lt C 33 9 rfl dX0_firstNow_6 (by decide) (fun c5 => ?_) (fun c5 => ?_)
  · have h := h.1 c5
    refine jr_iload_n C 34 rfl dX0_firstNow_33 rfl 1 rfl ?_
    exact jr_ireturn C dX0_firstNow_34 h
  · have h := h.2 c5
    refine jr_aload_n C 10 rfl dX0_firstNow_9 rfl 0 rfl ?_
    refine jr_getr C 13 rfl fo_0_14 q242 dX0_firstNow_10 h (fun v1 h => ?_)
    refine jr_iload_n C 14 rfl dX0_firstNow_13 rfl 2 rfl ?_
    refine jr_aaldn C 15 rfl (t := 6) rfl rfl dX0_firstNow_14 h (fun v2 h => ?_)
    refine jr_iconst (v := 4) C 16 rfl dX0_firstNow_15 (by decide) ?_
    refine jr_iald C 17 rfl dX0_firstNow_16 h (fun v3 h => ?_)
    refine jr_iconst (v := 1) C 18 rfl dX0_firstNow_17 (by decide) ?_
    refine jr_icmp_ne C 25 21 rfl dX0_firstNow_18 (by decide) (fun c4 => ?_) (fun c4 => ?_)
    · have h := h.1 c4
      refine jr_iload_n C 22 rfl dX0_firstNow_21 rfl 2 rfl ?_
      refine jr_goto C 26 dX0_firstNow_22 (by decide) ?_
      exact jr_sub [0, 2] rfl (wk_X0_firstNow_26 C hc5 h)
    · have h := h.2 c4
      refine jr_iload_n C 26 rfl dX0_firstNow_25 rfl 1 rfl ?_
      exact jr_sub [0, 2] rfl (wk_X0_firstNow_26 C hc5 h)
theorem wk_X0_firstNow_5_L {X : jX} {G : jG} {K : jS → Int32 → Prop} (C : jC (X, G, 3, jA X G tvi K) d_X0_firstNow cX0_firstNow "Samovar" (some .int) yX0_firstNow) {x0 : Nat}  : ∀ (n : Nat) (z : jS × Int32 × Int32), jlp n (wp_X0_firstNow_5_L x0 K) z → jJ (X, G, 3, jA X G tvi K) z.1 [(0, .ref x0), (1, .int z.2.1), (2, .int z.2.2)] 5 [] := by
  intro n
  induction n with
  | zero => intro z h; exact h.elim
  | succ n ih => intro z h; exact wk_X0_firstNow_5 C ih h
theorem wk_X0_firstNow_0 {X : jX} {G : jG} {K : jS → Int32 → Prop} (C : jC (X, G, 3, jA X G tvi K) d_X0_firstNow cX0_firstNow "Samovar" (some .int) yX0_firstNow) {S : jS} {x0 : Nat}  (h : wp_X0_firstNow S x0 K) : jJ (X, G, 3, jA X G tvi K) S [(0, .ref x0)] 0 [] := by
  unfold wp_X0_firstNow at h
  refine jr_iconst (v := (-1)) C 1 rfl dX0_firstNow_0 (by decide) ?_
  refine jr_istore_n (lv' := [(1, .int (-1)), (0, .ref x0)]) C 2 rfl dX0_firstNow_1 rfl (Nat.le_of_ble_eq_true rfl) rfl ?_
  refine jr_bipush (v := 23) C 4 rfl dX0_firstNow_2 (by decide) ?_
  refine jr_istore_n (lv' := [(2, .int 23), (1, .int (-1)), (0, .ref x0)]) C 5 rfl dX0_firstNow_4 rfl (Nat.le_of_ble_eq_true rfl) rfl ?_
  obtain ⟨n, h⟩ := h
  exact jr_sub [2, 1, 0] rfl (wk_X0_firstNow_5_L C  n _ h)
theorem m_X0_firstNow {l : Launch} (hl : l.stackTraces = false) {G : jG} {K : jS → Int32 → Prop} {S : jS} {x0 : Nat} (h : wp_X0_firstNow S x0 K) : jMet l G d_X0_firstNow yX0_firstNow (ws_ yX0_firstNow cX0_firstNow 3 (some .int)) [.ref x0] S tvi K :=
  jMet.of hl rfl (by decide) (Nat.le_of_ble_eq_true rfl) (fun X C => jr_sub [0] rfl (wk_X0_firstNow_0 C h))
theorem wk_X0_hottestBy_34 {X : jX} {G : jG} {K : jS → Int32 → Prop} (C : jC (X, G, 4, jA X G tvi K) d_X0_hottestBy cX0_hottestBy "Samovar" (some .int) yX0_hottestBy) {S : jS} {t0 : Int32} {x0 : Nat} {x1 : Int32} {x3 : Int32} {Kc4 : jS × Int32 × Int32 → Prop} (hc4 : ∀ z : jS × Int32 × Int32, Kc4 z → jJ (X, G, 4, jA X G tvi K) z.1 [(0, .ref x0), (1, .int x1), (2, .int z.2.1), (3, .int z.2.2)] 4 []) (h : wp_X0_hottestBy_34 S t0 x0 x1 x3 Kc4 K) : jJ (X, G, 4, jA X G tvi K) S [(0, .ref x0), (1, .int x1), (3, .int x3)] 34 [.int t0] := by
  unfold wp_X0_hottestBy_34 at h
  refine jr_istore_n (lv' := [(2, .int t0), (0, .ref x0), (1, .int x1), (3, .int x3)]) C 35 rfl dX0_hottestBy_34 rfl (Nat.le_of_ble_eq_true rfl) rfl ?_
  refine jr_iinc (v := (x3 + 1)) (lv' := [(3, .int (x3 + 1)), (2, .int t0), (0, .ref x0), (1, .int x1)]) C 38 rfl dX0_hottestBy_35 3 rfl rfl (Nat.le_of_ble_eq_true rfl) rfl ?_
  refine jr_goto C 4 dX0_hottestBy_38 (by decide) ?_
  exact jr_sub [2, 3, 1, 0] rfl (hc4 _ h)
theorem wk_X0_hottestBy_57 {X : jX} {G : jG} {K : jS → Int32 → Prop} (C : jC (X, G, 4, jA X G tvi K) d_X0_hottestBy cX0_hottestBy "Samovar" (some .int) yX0_hottestBy) {S : jS} {t0 : Int32}  (h : wp_X0_hottestBy_57 S t0 K) : jJ (X, G, 4, jA X G tvi K) S [] 57 [.int t0] := by
  unfold wp_X0_hottestBy_57 at h
  exact jr_ireturn C dX0_hottestBy_57 h
theorem wk_X0_hottestBy_4 {X : jX} {G : jG} {K : jS → Int32 → Prop} (C : jC (X, G, 4, jA X G tvi K) d_X0_hottestBy cX0_hottestBy "Samovar" (some .int) yX0_hottestBy) {S : jS} {x0 : Nat} {x1 : Int32} {x2 : Int32} {x3 : Int32} {Kc4 : jS × Int32 × Int32 → Prop} (hc4 : ∀ z : jS × Int32 × Int32, Kc4 z → jJ (X, G, 4, jA X G tvi K) z.1 [(0, .ref x0), (1, .int x1), (2, .int z.2.1), (3, .int z.2.2)] 4 []) (h : wp_X0_hottestBy_4 S x0 x1 x2 x3 Kc4 K) : jJ (X, G, 4, jA X G tvi K) S [(0, .ref x0), (1, .int x1), (2, .int x2), (3, .int x3)] 4 [] := by
  unfold wp_X0_hottestBy_4 at h
  refine jr_iload_n C 5 rfl dX0_hottestBy_4 rfl 3 rfl ?_
  refine jr_bipush (v := 24) C 7 rfl dX0_hottestBy_5 (by decide) ?_
  refine jr_icmp_ge C 41 10 rfl dX0_hottestBy_7 (by decide) (fun c12 => ?_) (fun c12 => ?_)
  · have h := h.1 c12
    refine jr_iload_n C 42 rfl dX0_hottestBy_41 rfl 1 rfl ?_
    refine jr_if_ne C 49 45 rfl dX0_hottestBy_42 (by decide) (fun c4 => ?_) (fun c4 => ?_)
    · have h := h.1 c4
      refine jr_iload_n C 46 rfl dX0_hottestBy_45 rfl 2 rfl ?_
      refine jr_goto C 57 dX0_hottestBy_46 (by decide) ?_
      exact jr_sub [] rfl (wk_X0_hottestBy_57 C  h)
    · have h := h.2 c4
      refine jr_aload_n C 50 rfl dX0_hottestBy_49 rfl 0 rfl ?_
      refine jr_getr C 53 rfl fo_0_14 q242 dX0_hottestBy_50 h (fun v1 h => ?_)
      refine jr_iload_n C 54 rfl dX0_hottestBy_53 rfl 2 rfl ?_
      refine jr_aaldn C 55 rfl (t := 6) rfl rfl dX0_hottestBy_54 h (fun v2 h => ?_)
      refine jr_iconst (v := 0) C 56 rfl dX0_hottestBy_55 (by decide) ?_
      refine jr_iald C 57 rfl dX0_hottestBy_56 h (fun v3 h => ?_)
      exact jr_sub [] rfl (wk_X0_hottestBy_57 C  h)
  · have h := h.2 c12
    refine jr_aload_n C 11 rfl dX0_hottestBy_10 rfl 0 rfl ?_
    refine jr_getr C 14 rfl fo_0_14 q242 dX0_hottestBy_11 h (fun v5 h => ?_)
    refine jr_iload_n C 15 rfl dX0_hottestBy_14 rfl 3 rfl ?_
    refine jr_aaldn C 16 rfl (t := 6) rfl rfl dX0_hottestBy_15 h (fun v6 h => ?_)
    refine jr_iconst (v := 0) C 17 rfl dX0_hottestBy_16 (by decide) ?_
    refine jr_iald C 18 rfl dX0_hottestBy_17 h (fun v7 h => ?_)
    refine jr_aload_n C 19 rfl dX0_hottestBy_18 rfl 0 rfl ?_
    refine jr_getr C 22 rfl fo_0_14 q242 dX0_hottestBy_19 h (fun v8 h => ?_)
    refine jr_iload_n C 23 rfl dX0_hottestBy_22 rfl 2 rfl ?_
    refine jr_aaldn C 24 rfl (t := 6) rfl rfl dX0_hottestBy_23 h (fun v9 h => ?_)
    refine jr_iconst (v := 0) C 25 rfl dX0_hottestBy_24 (by decide) ?_
    refine jr_iald C 26 rfl dX0_hottestBy_25 h (fun v10 h => ?_)
    refine jr_icmp_le C 33 29 rfl dX0_hottestBy_26 (by decide) (fun c11 => ?_) (fun c11 => ?_)
    · have h := h.1 c11
      refine jr_iload_n C 34 rfl dX0_hottestBy_33 rfl 2 rfl ?_
      exact jr_sub [0, 1, 3] rfl (wk_X0_hottestBy_34 C hc4 h)
    · have h := h.2 c11
      refine jr_iload_n C 30 rfl dX0_hottestBy_29 rfl 3 rfl ?_
      refine jr_goto C 34 dX0_hottestBy_30 (by decide) ?_
      exact jr_sub [0, 1, 3] rfl (wk_X0_hottestBy_34 C hc4 h)
theorem wk_X0_hottestBy_4_L {X : jX} {G : jG} {K : jS → Int32 → Prop} (C : jC (X, G, 4, jA X G tvi K) d_X0_hottestBy cX0_hottestBy "Samovar" (some .int) yX0_hottestBy) {x0 : Nat} {x1 : Int32}  : ∀ (n : Nat) (z : jS × Int32 × Int32), jlp n (wp_X0_hottestBy_4_L x0 x1 K) z → jJ (X, G, 4, jA X G tvi K) z.1 [(0, .ref x0), (1, .int x1), (2, .int z.2.1), (3, .int z.2.2)] 4 [] := by
  intro n
  induction n with
  | zero => intro z h; exact h.elim
  | succ n ih => intro z h; exact wk_X0_hottestBy_4 C ih h
theorem wk_X0_hottestBy_0 {X : jX} {G : jG} {K : jS → Int32 → Prop} (C : jC (X, G, 4, jA X G tvi K) d_X0_hottestBy cX0_hottestBy "Samovar" (some .int) yX0_hottestBy) {S : jS} {x0 : Nat} {x1 : Int32}  (h : wp_X0_hottestBy S x0 x1 K) : jJ (X, G, 4, jA X G tvi K) S [(0, .ref x0), (1, .int x1)] 0 [] := by
  unfold wp_X0_hottestBy at h
  refine jr_iconst (v := 0) C 1 rfl dX0_hottestBy_0 (by decide) ?_
  refine jr_istore_n (lv' := [(2, .int 0), (0, .ref x0), (1, .int x1)]) C 2 rfl dX0_hottestBy_1 rfl (Nat.le_of_ble_eq_true rfl) rfl ?_
  refine jr_iconst (v := 1) C 3 rfl dX0_hottestBy_2 (by decide) ?_
  refine jr_istore_n (lv' := [(3, .int 1), (2, .int 0), (0, .ref x0), (1, .int x1)]) C 4 rfl dX0_hottestBy_3 rfl (Nat.le_of_ble_eq_true rfl) rfl ?_
  obtain ⟨n, h⟩ := h
  exact jr_sub [2, 3, 1, 0] rfl (wk_X0_hottestBy_4_L C  n _ h)
theorem m_X0_hottestBy {l : Launch} (hl : l.stackTraces = false) {G : jG} {K : jS → Int32 → Prop} {S : jS} {x0 : Nat} {x1 : Int32} (h : wp_X0_hottestBy S x0 x1 K) : jMet l G d_X0_hottestBy yX0_hottestBy (ws_ yX0_hottestBy cX0_hottestBy 4 (some .int)) [.ref x0, .int x1] S tvi K :=
  jMet.of hl rfl (by decide) (Nat.le_of_ble_eq_true rfl) (fun X C => jr_sub [0, 1] rfl (wk_X0_hottestBy_0 C h))
theorem wk_X0_neverNow_37 {X : jX} {G : jG} {K : jS → Int32 → Prop} (C : jC (X, G, 4, jA X G tvi K) d_X0_neverNow cX0_neverNow "Samovar" (some .int) yX0_neverNow) {S : jS} {t0 : Int32} {t1 : Int32} {x0 : Nat} {x2 : Int32} {Kc4 : jS × Int32 × Int32 → Prop} (hc4 : ∀ z : jS × Int32 × Int32, Kc4 z → jJ (X, G, 4, jA X G tvi K) z.1 [(0, .ref x0), (1, .int z.2.1), (2, .int z.2.2)] 4 []) (h : wp_X0_neverNow_37 S t0 t1 x0 x2 Kc4 K) : jJ (X, G, 4, jA X G tvi K) S [(0, .ref x0), (2, .int x2)] 37 [.int t1, .int t0] := by
  unfold wp_X0_neverNow_37 at h
  refine jr_ior C 38 rfl dX0_neverNow_37 ?_
  refine jr_istore_n (lv' := [(1, .int (t0 ||| t1)), (0, .ref x0), (2, .int x2)]) C 39 rfl dX0_neverNow_38 rfl (Nat.le_of_ble_eq_true rfl) rfl ?_
  refine jr_iinc (v := (x2 + 1)) (lv' := [(2, .int (x2 + 1)), (1, .int (t0 ||| t1)), (0, .ref x0)]) C 42 rfl dX0_neverNow_39 2 rfl rfl (Nat.le_of_ble_eq_true rfl) rfl ?_
  refine jr_goto C 4 dX0_neverNow_42 (by decide) ?_
  exact jr_sub [2, 1, 0] rfl (hc4 _ h)
theorem wk_X0_neverNow_4 {X : jX} {G : jG} {K : jS → Int32 → Prop} (C : jC (X, G, 4, jA X G tvi K) d_X0_neverNow cX0_neverNow "Samovar" (some .int) yX0_neverNow) {S : jS} {x0 : Nat} {x1 : Int32} {x2 : Int32} {Kc4 : jS × Int32 × Int32 → Prop} (hc4 : ∀ z : jS × Int32 × Int32, Kc4 z → jJ (X, G, 4, jA X G tvi K) z.1 [(0, .ref x0), (1, .int z.2.1), (2, .int z.2.2)] 4 []) (h : wp_X0_neverNow_4 S x0 x1 x2 Kc4 K) : jJ (X, G, 4, jA X G tvi K) S [(0, .ref x0), (1, .int x1), (2, .int x2)] 4 [] := by
  unfold wp_X0_neverNow_4 at h
  refine jr_iload_n C 5 rfl dX0_neverNow_4 rfl 2 rfl ?_
  refine jr_aload_n C 6 rfl dX0_neverNow_5 rfl 0 rfl ?_
  refine jr_getr C 9 rfl fo_0_6 q234 dX0_neverNow_6 h (fun v1 h => ?_)
  obtain ⟨⟨V, hb⟩, h⟩ := h
  refine jr_callVi (r0 := (RJ2, TJ2, 3)) (As := []) (st := [.int x2]) C 12 rfl (m_J2_size C.2.2.2.2.2.2.2.2.2.2.2.2.2.2.2 h) rfl hb rfl q700 q378 q379 q99 q380 (by decide) (by decide) ndV_J2_size (Nat.le_of_ble_eq_true rfl) dX0_neverNow_9 (fun S2 r3 h => ?_)
  refine jr_icmp_ge C 45 15 rfl dX0_neverNow_12 (by decide) (fun c9 => ?_) (fun c9 => ?_)
  · have h := h.1 c9
    refine jr_aload_n C 46 rfl dX0_neverNow_45 rfl 0 rfl ?_
    refine jr_iconst (v := 0) C 47 rfl dX0_neverNow_46 (by decide) ?_
    refine jr_putv C 50 rfl fo_0_17 (by decide) q245 dX0_neverNow_47 rfl rfl h (fun S4 h => ?_)
    refine jr_goto C 61 dX0_neverNow_50 (by decide) ?_
    refine jr_iload_n C 62 rfl dX0_neverNow_61 rfl 1 rfl ?_
    exact jr_ireturn C dX0_neverNow_62 h
  · have h := h.2 c9
    refine jr_aload_n C 16 rfl dX0_neverNow_15 rfl 0 rfl ?_
    refine jr_iconst (v := 1) C 17 rfl dX0_neverNow_16 (by decide) ?_
    refine jr_iload_n C 18 rfl dX0_neverNow_17 rfl 2 rfl ?_
    refine jr_ishl C 19 rfl dX0_neverNow_18 ?_
    refine jr_putv C 22 rfl fo_0_17 (by decide) q245 dX0_neverNow_19 rfl rfl h (fun S5 h => ?_)
    refine jr_iload_n C 23 rfl dX0_neverNow_22 rfl 1 rfl ?_
    refine jr_aload_n C 24 rfl dX0_neverNow_23 rfl 0 rfl ?_
    obtain ⟨⟨V, hb⟩, h⟩ := h
    refine jr_callVi (r0 := (RX0, TX0, 24)) (As := []) (st := [.int x1]) C 27 rfl (m_X0_isSeen C.2.2.2.2.2.2.2.2.2.2.2.2.2.2.2 h) rfl hb rfl q1071 q1073 qs29 q94 q1074 (by decide) (by decide) ndV_X0_isSeen (Nat.le_of_ble_eq_true rfl) dX0_neverNow_24 (fun S6 r7 h => ?_)
    refine jr_if_eq C 36 30 rfl dX0_neverNow_27 (by decide) (fun c8 => ?_) (fun c8 => ?_)
    · have h := h.1 c8
      refine jr_iconst (v := 0) C 37 rfl dX0_neverNow_36 (by decide) ?_
      exact jr_sub [0, 2] rfl (wk_X0_neverNow_37 C hc4 h)
    · have h := h.2 c8
      refine jr_iconst (v := 1) C 31 rfl dX0_neverNow_30 (by decide) ?_
      refine jr_iload_n C 32 rfl dX0_neverNow_31 rfl 2 rfl ?_
      refine jr_ishl C 33 rfl dX0_neverNow_32 ?_
      refine jr_goto C 37 dX0_neverNow_33 (by decide) ?_
      exact jr_sub [0, 2] rfl (wk_X0_neverNow_37 C hc4 h)
theorem wk_X0_neverNow_4_L {X : jX} {G : jG} {K : jS → Int32 → Prop} (C : jC (X, G, 4, jA X G tvi K) d_X0_neverNow cX0_neverNow "Samovar" (some .int) yX0_neverNow) {x0 : Nat}  : ∀ (n : Nat) (z : jS × Int32 × Int32), jlp n (wp_X0_neverNow_4_L x0 K) z → jJ (X, G, 4, jA X G tvi K) z.1 [(0, .ref x0), (1, .int z.2.1), (2, .int z.2.2)] 4 [] := by
  intro n
  induction n with
  | zero => intro z h; exact h.elim
  | succ n ih => intro z h; exact wk_X0_neverNow_4 C ih h
theorem wk_X0_neverNow_0 {X : jX} {G : jG} {K : jS → Int32 → Prop} (C : jC (X, G, 4, jA X G tvi K) d_X0_neverNow cX0_neverNow "Samovar" (some .int) yX0_neverNow) {S : jS} {x0 : Nat}  (h : wp_X0_neverNow S x0 K) : jJ (X, G, 4, jA X G tvi K) S [(0, .ref x0)] 0 [] := by
  unfold wp_X0_neverNow at h
  refine jr_iconst (v := 0) C 1 rfl dX0_neverNow_0 (by decide) ?_
  refine jr_istore_n (lv' := [(1, .int 0), (0, .ref x0)]) C 2 rfl dX0_neverNow_1 rfl (Nat.le_of_ble_eq_true rfl) rfl ?_
  refine jr_iconst (v := 0) C 3 rfl dX0_neverNow_2 (by decide) ?_
  refine jr_istore_n (lv' := [(2, .int 0), (1, .int 0), (0, .ref x0)]) C 4 rfl dX0_neverNow_3 rfl (Nat.le_of_ble_eq_true rfl) rfl ?_
  obtain ⟨n, h⟩ := h
  exact jr_sub [2, 1, 0] rfl (wk_X0_neverNow_4_L C  n _ h)
theorem m_X0_neverNow {l : Launch} (hl : l.stackTraces = false) {G : jG} {K : jS → Int32 → Prop} {S : jS} {x0 : Nat} (h : wp_X0_neverNow S x0 K) : jMet l G d_X0_neverNow yX0_neverNow (wsW_ yX0_neverNow cX0_neverNow 4 (some .int) [((2), (45), (53), (0))]) [.ref x0] S tvi K :=
  jMet.ofH hl rfl (by decide) (Nat.le_of_ble_eq_true rfl) (fun X C => jr_sub [0] rfl (wk_X0_neverNow_0 C h))
theorem wk_X0_isSpared_22 {X : jX} {G : jG} {K : jS → Int32 → Prop} (C : jC (X, G, 4, jA X G tvi K) d_X0_isSpared cX0_isSpared "Samovar" (some .boolean) yX0_isSpared) {S : jS} {t0 : Int32} {x0 : Nat}  (h : wp_X0_isSpared_22 S t0 x0 K) : jJ (X, G, 4, jA X G tvi K) S [(0, .ref x0)] 22 [.int t0] := by
  unfold wp_X0_isSpared_22 at h
  refine jr_istore_n (lv' := [(2, .int t0), (0, .ref x0)]) C 23 rfl dX0_isSpared_22 rfl (Nat.le_of_ble_eq_true rfl) rfl ?_
  refine jr_aload_n C 24 rfl dX0_isSpared_23 rfl 1 rfl ?_
  refine jr_iconst (v := 0) C 25 rfl dX0_isSpared_24 (by decide) ?_
  refine jr_putv C 28 rfl fo_0_17 (by decide) q245 dX0_isSpared_25 rfl rfl h (fun S1 h => ?_)
  refine jr_iload_n C 29 rfl dX0_isSpared_28 rfl 0 rfl ?_
  exact jr_zreturn C dX0_isSpared_29 h
theorem wk_X0_isSpared_0 {X : jX} {G : jG} {K : jS → Int32 → Prop} (C : jC (X, G, 4, jA X G tvi K) d_X0_isSpared cX0_isSpared "Samovar" (some .boolean) yX0_isSpared) {S : jS} {x0 : Nat} {x1 : Int32}  (h : wp_X0_isSpared S x0 x1 K) : jJ (X, G, 4, jA X G tvi K) S [(0, .ref x0), (1, .int x1)] 0 [] := by
  unfold wp_X0_isSpared at h
  refine jr_aload_n C 1 rfl dX0_isSpared_0 rfl 0 rfl ?_
  refine jr_iload_n C 2 rfl dX0_isSpared_1 rfl 1 rfl ?_
  refine jr_putv C 5 rfl fo_0_17 (by decide) q245 dX0_isSpared_2 rfl rfl h (fun S1 h => ?_)
  refine jr_aload_n C 6 rfl dX0_isSpared_5 rfl 0 rfl ?_
  obtain ⟨⟨V, hb⟩, h⟩ := h
  refine jr_callVv (r0 := (RX0, TX0, 24)) (As := []) (st := []) C 9 rfl (m_X0_find C.2.2.2.2.2.2.2.2.2.2.2.2.2.2.2 h) rfl hb rfl q831 q833 qs10 q94 q834 (by decide) (by decide) ndV_X0_find (Nat.le_of_ble_eq_true rfl) dX0_isSpared_6 (fun S2 _ h => ?_)
  refine jr_aload_n C 10 rfl dX0_isSpared_9 rfl 0 rfl ?_
  refine jr_iconst (v := 4) C 11 rfl dX0_isSpared_10 (by decide) ?_
  obtain ⟨⟨V, hb⟩, h⟩ := h
  refine jr_callVi (r0 := (RX0, TX0, 24)) (As := [.int 4]) (st := []) C 14 rfl (m_X0_manyNow C.2.2.2.2.2.2.2.2.2.2.2.2.2.2.2 h) rfl hb rfl q981 q983 qs18 q94 q984 (by decide) (by decide) ndV_X0_manyNow (Nat.le_of_ble_eq_true rfl) dX0_isSpared_11 (fun S3 r4 h => ?_)
  refine jr_if_ne C 21 17 rfl dX0_isSpared_14 (by decide) (fun c5 => ?_) (fun c5 => ?_)
  · have h := h.1 c5
    refine jr_iconst (v := 1) C 18 rfl dX0_isSpared_17 (by decide) ?_
    refine jr_goto C 22 dX0_isSpared_18 (by decide) ?_
    exact jr_sub [0] rfl (wk_X0_isSpared_22 C  h)
  · have h := h.2 c5
    refine jr_iconst (v := 0) C 22 rfl dX0_isSpared_21 (by decide) ?_
    exact jr_sub [0] rfl (wk_X0_isSpared_22 C  h)
theorem m_X0_isSpared {l : Launch} (hl : l.stackTraces = false) {G : jG} {K : jS → Int32 → Prop} {S : jS} {x0 : Nat} {x1 : Int32} (h : wp_X0_isSpared S x0 x1 K) : jMet l G d_X0_isSpared yX0_isSpared (wsW_ yX0_isSpared cX0_isSpared 4 (some .boolean) [((5), (23), (30), (0))]) [.ref x0, .int x1] S tvi K :=
  jMet.ofH hl rfl (by decide) (Nat.le_of_ble_eq_true rfl) (fun X C => jr_sub [0, 1] rfl (wk_X0_isSpared_0 C h))
theorem wk_X0_spareBy_18 {X : jX} {G : jG} {K : jS → Int32 → Prop} (C : jC (X, G, 5, jA X G tvi K) d_X0_spareBy cX0_spareBy "Samovar" (some .int) yX0_spareBy) {S : jS} {t0 : Int32}  (h : wp_X0_spareBy_18 S t0 K) : jJ (X, G, 5, jA X G tvi K) S [] 18 [.int t0] := by
  unfold wp_X0_spareBy_18 at h
  exact jr_ireturn C dX0_spareBy_18 h
theorem wk_X0_spareBy_62 {X : jX} {G : jG} {K : jS → Int32 → Prop} (C : jC (X, G, 5, jA X G tvi K) d_X0_spareBy cX0_spareBy "Samovar" (some .int) yX0_spareBy) {S : jS} {t0 : Int32}  (h : wp_X0_spareBy_62 S t0 K) : jJ (X, G, 5, jA X G tvi K) S [] 62 [.int t0] := by
  unfold wp_X0_spareBy_62 at h
  exact jr_ireturn C dX0_spareBy_62 h
theorem wk_X0_spareBy_49 {X : jX} {G : jG} {K : jS → Int32 → Prop} (C : jC (X, G, 5, jA X G tvi K) d_X0_spareBy cX0_spareBy "Samovar" (some .int) yX0_spareBy) {S : jS}   (h : wp_X0_spareBy_49 S K) : jJ (X, G, 5, jA X G tvi K) S [] 49 [] := by
  unfold wp_X0_spareBy_49 at h
  refine jr_iconst (v := 1) C 50 rfl dX0_spareBy_49 (by decide) ?_
  refine jr_goto C 62 dX0_spareBy_50 (by decide) ?_
  exact (wk_X0_spareBy_62 C  h)
theorem wk_X0_spareBy_53 {X : jX} {G : jG} {K : jS → Int32 → Prop} (C : jC (X, G, 5, jA X G tvi K) d_X0_spareBy cX0_spareBy "Samovar" (some .int) yX0_spareBy) {S : jS} {x1 : Int32} {x3 : Int32}  (h : wp_X0_spareBy_53 S x1 x3 K) : jJ (X, G, 5, jA X G tvi K) S [(1, .int x1), (3, .int x3)] 53 [] := by
  unfold wp_X0_spareBy_53 at h
  refine jr_iload_n C 54 rfl dX0_spareBy_53 rfl 0 rfl ?_
  refine jr_if_ne C 61 57 rfl dX0_spareBy_54 (by decide) (fun c1 => ?_) (fun c1 => ?_)
  · have h := h.1 c1
    refine jr_iload_n C 58 rfl dX0_spareBy_57 rfl 1 rfl ?_
    refine jr_goto C 62 dX0_spareBy_58 (by decide) ?_
    exact jr_sub [] rfl (wk_X0_spareBy_62 C  h)
  · have h := h.2 c1
    refine jr_iconst (v := (-1)) C 62 rfl dX0_spareBy_61 (by decide) ?_
    exact jr_sub [] rfl (wk_X0_spareBy_62 C  h)
theorem wk_X0_spareBy_121 {X : jX} {G : jG} {K : jS → Int32 → Prop} (C : jC (X, G, 5, jA X G tvi K) d_X0_spareBy cX0_spareBy "Samovar" (some .int) yX0_spareBy) {S : jS} {t0 : Int32}  (h : wp_X0_spareBy_121 S t0 K) : jJ (X, G, 5, jA X G tvi K) S [] 121 [.int t0] := by
  unfold wp_X0_spareBy_121 at h
  exact jr_ireturn C dX0_spareBy_121 h
theorem wk_X0_spareBy_104 {X : jX} {G : jG} {K : jS → Int32 → Prop} (C : jC (X, G, 5, jA X G tvi K) d_X0_spareBy cX0_spareBy "Samovar" (some .int) yX0_spareBy) {S : jS} {t0 : Int32} {t1 : Int32} {x1 : Int32} {x3 : Int32} {x4 : Int32}  (h : wp_X0_spareBy_104 S t0 t1 x1 x3 x4 K) : jJ (X, G, 5, jA X G tvi K) S [(1, .int x1), (3, .int x3), (4, .int x4)] 104 [.int t1, .int t0] := by
  unfold wp_X0_spareBy_104 at h
  refine jr_icmp_ne C 111 107 rfl dX0_spareBy_104 (by decide) (fun c2 => ?_) (fun c2 => ?_)
  · have h := h.1 c2
    refine jr_iconst (v := 2) C 108 rfl dX0_spareBy_107 (by decide) ?_
    refine jr_goto C 121 dX0_spareBy_108 (by decide) ?_
    exact jr_sub [] rfl (wk_X0_spareBy_121 C  h)
  · have h := h.2 c2
    refine jr_iload_n C 112 rfl dX0_spareBy_111 rfl 0 rfl ?_
    refine jr_if_ne C 119 115 rfl dX0_spareBy_112 (by decide) (fun c1 => ?_) (fun c1 => ?_)
    · have h := h.1 c1
      refine jr_iload_n C 116 rfl dX0_spareBy_115 rfl 1 rfl ?_
      refine jr_goto C 121 dX0_spareBy_116 (by decide) ?_
      exact jr_sub [] rfl (wk_X0_spareBy_121 C  h)
    · have h := h.2 c1
      refine jr_iload C 121 rfl dX0_spareBy_119 2 rfl ?_
      exact jr_sub [] rfl (wk_X0_spareBy_121 C  h)
theorem wk_X0_spareBy_81 {X : jX} {G : jG} {K : jS → Int32 → Prop} (C : jC (X, G, 5, jA X G tvi K) d_X0_spareBy cX0_spareBy "Samovar" (some .int) yX0_spareBy) {S : jS} {x0 : Nat} {x1 : Int32} {x2 : Int32} {x3 : Int32} {x4 : Int32} {Kc71 : jS × Int32 → Prop} (hc71 : ∀ z : jS × Int32, Kc71 z → jJ (X, G, 5, jA X G tvi K) z.1 [(0, .ref x0), (1, .int x1), (2, .int x2), (3, .int z.2)] 71 []) {Kc81 : jS × Int32 → Prop} (hc81 : ∀ z : jS × Int32, Kc81 z → jJ (X, G, 5, jA X G tvi K) z.1 [(0, .ref x0), (1, .int x1), (2, .int x2), (3, .int x3), (4, .int z.2)] 81 []) (h : wp_X0_spareBy_81 S x0 x1 x2 x3 x4 Kc71 Kc81 K) : jJ (X, G, 5, jA X G tvi K) S [(0, .ref x0), (1, .int x1), (2, .int x2), (3, .int x3), (4, .int x4)] 81 [] := by
  unfold wp_X0_spareBy_81 at h
  refine jr_iload C 83 rfl dX0_spareBy_81 4 rfl ?_
  refine jr_iload_n C 84 rfl dX0_spareBy_83 rfl 2 rfl ?_
  refine jr_icmp_ge C 128 87 rfl dX0_spareBy_84 (by decide) (fun c4 => ?_) (fun c4 => ?_)
  · have h := h.1 c4
    refine jr_iinc (v := (x3 + 1)) (lv' := [(3, .int (x3 + 1)), (0, .ref x0), (1, .int x1), (2, .int x2), (4, .int x4)]) C 131 rfl dX0_spareBy_128 3 rfl rfl (Nat.le_of_ble_eq_true rfl) rfl ?_
    refine jr_goto C 71 dX0_spareBy_131 (by decide) ?_
    exact jr_sub [1, 2, 3, 0] rfl (hc71 _ h)
  · have h := h.2 c4
    refine jr_aload_n C 88 rfl dX0_spareBy_87 rfl 0 rfl ?_
    refine jr_iconst (v := 1) C 89 rfl dX0_spareBy_88 (by decide) ?_
    refine jr_iload_n C 90 rfl dX0_spareBy_89 rfl 3 rfl ?_
    refine jr_ishl C 91 rfl dX0_spareBy_90 ?_
    refine jr_iconst (v := 1) C 92 rfl dX0_spareBy_91 (by decide) ?_
    refine jr_iload C 94 rfl dX0_spareBy_92 4 rfl ?_
    refine jr_ishl C 95 rfl dX0_spareBy_94 ?_
    refine jr_ior C 96 rfl dX0_spareBy_95 ?_
    obtain ⟨⟨V, hb⟩, h⟩ := h
    refine jr_callVWi (r0 := (RX0, TX0, 24)) (As := [.int ((1 <<< (x3 &&& 31)) ||| (1 <<< (x4 &&& 31)))]) (st := []) C 99 rfl (m_X0_isSpared C.2.2.2.2.2.2.2.2.2.2.2.2.2.2.2 h) rfl hb rfl q1051 q1053 qs27 q94 q1054 (by decide) (by decide) ndV_X0_isSpared (Nat.le_of_ble_eq_true rfl) dX0_spareBy_96 (fun S1 r2 h => ?_)
    refine jr_if_eq C 122 102 rfl dX0_spareBy_99 (by decide) (fun c3 => ?_) (fun c3 => ?_)
    · have h := h.1 c3
      refine jr_iinc (v := (x4 + 1)) (lv' := [(4, .int (x4 + 1)), (0, .ref x0), (1, .int x1), (2, .int x2), (3, .int x3)]) C 125 rfl dX0_spareBy_122 4 rfl rfl (Nat.le_of_ble_eq_true rfl) rfl ?_
      refine jr_goto C 81 dX0_spareBy_125 (by decide) ?_
      exact jr_sub [1, 2, 3, 4, 0] rfl (hc81 _ h)
    · have h := h.2 c3
      refine jr_iload_n C 103 rfl dX0_spareBy_102 rfl 1 rfl ?_
      refine jr_iconst (v := (-1)) C 104 rfl dX0_spareBy_103 (by decide) ?_
      exact jr_sub [1, 3, 4] rfl (wk_X0_spareBy_104 C  h)
theorem wk_X0_spareBy_81_L {X : jX} {G : jG} {K : jS → Int32 → Prop} (C : jC (X, G, 5, jA X G tvi K) d_X0_spareBy cX0_spareBy "Samovar" (some .int) yX0_spareBy) {x0 : Nat} {x1 : Int32} {x2 : Int32} {x3 : Int32} {Kc71 : jS × Int32 → Prop} (hc71 : ∀ z : jS × Int32, Kc71 z → jJ (X, G, 5, jA X G tvi K) z.1 [(0, .ref x0), (1, .int x1), (2, .int x2), (3, .int z.2)] 71 []) : ∀ (n : Nat) (z : jS × Int32), jlp n (wp_X0_spareBy_81_L x0 x1 x2 x3 Kc71 K) z → jJ (X, G, 5, jA X G tvi K) z.1 [(0, .ref x0), (1, .int x1), (2, .int x2), (3, .int x3), (4, .int z.2)] 81 [] := by
  intro n
  induction n with
  | zero => intro z h; exact h.elim
  | succ n ih => intro z h; exact wk_X0_spareBy_81 C hc71 ih h
theorem wk_X0_spareBy_71 {X : jX} {G : jG} {K : jS → Int32 → Prop} (C : jC (X, G, 5, jA X G tvi K) d_X0_spareBy cX0_spareBy "Samovar" (some .int) yX0_spareBy) {S : jS} {x0 : Nat} {x1 : Int32} {x2 : Int32} {x3 : Int32} {Kc71 : jS × Int32 → Prop} (hc71 : ∀ z : jS × Int32, Kc71 z → jJ (X, G, 5, jA X G tvi K) z.1 [(0, .ref x0), (1, .int x1), (2, .int x2), (3, .int z.2)] 71 []) (h : wp_X0_spareBy_71 S x0 x1 x2 x3 Kc71 K) : jJ (X, G, 5, jA X G tvi K) S [(0, .ref x0), (1, .int x1), (2, .int x2), (3, .int x3)] 71 [] := by
  unfold wp_X0_spareBy_71 at h
  refine jr_iload_n C 72 rfl dX0_spareBy_71 rfl 3 rfl ?_
  refine jr_iload_n C 73 rfl dX0_spareBy_72 rfl 2 rfl ?_
  refine jr_icmp_ge C 134 76 rfl dX0_spareBy_73 (by decide) (fun c1 => ?_) (fun c1 => ?_)
  · have h := h.1 c1
    refine jr_iconst (v := (-1)) C 135 rfl dX0_spareBy_134 (by decide) ?_
    exact jr_ireturn C dX0_spareBy_135 h
  · have h := h.2 c1
    refine jr_iload_n C 77 rfl dX0_spareBy_76 rfl 3 rfl ?_
    refine jr_iconst (v := 1) C 78 rfl dX0_spareBy_77 (by decide) ?_
    refine jr_iadd C 79 rfl dX0_spareBy_78 ?_
    refine jr_istore (lv' := [(4, .int (x3 + 1)), (0, .ref x0), (1, .int x1), (2, .int x2), (3, .int x3)]) C 81 rfl dX0_spareBy_79 (Nat.le_of_ble_eq_true rfl) rfl ?_
    obtain ⟨n, h⟩ := h
    exact jr_sub [1, 2, 3, 4, 0] rfl (wk_X0_spareBy_81_L C hc71 n _ h)
theorem wk_X0_spareBy_71_L {X : jX} {G : jG} {K : jS → Int32 → Prop} (C : jC (X, G, 5, jA X G tvi K) d_X0_spareBy cX0_spareBy "Samovar" (some .int) yX0_spareBy) {x0 : Nat} {x1 : Int32} {x2 : Int32}  : ∀ (n : Nat) (z : jS × Int32), jlp n (wp_X0_spareBy_71_L x0 x1 x2 K) z → jJ (X, G, 5, jA X G tvi K) z.1 [(0, .ref x0), (1, .int x1), (2, .int x2), (3, .int z.2)] 71 [] := by
  intro n
  induction n with
  | zero => intro z h; exact h.elim
  | succ n ih => intro z h; exact wk_X0_spareBy_71 C ih h
theorem wk_X0_spareBy_30 {X : jX} {G : jG} {K : jS → Int32 → Prop} (C : jC (X, G, 5, jA X G tvi K) d_X0_spareBy cX0_spareBy "Samovar" (some .int) yX0_spareBy) {S : jS} {t0 : Int32} {x0 : Nat} {x1 : Int32} {x2 : Int32} {x3 : Int32} {Kc29 : jS × Int32 → Prop} (hc29 : ∀ z : jS × Int32, Kc29 z → jJ (X, G, 5, jA X G tvi K) z.1 [(0, .ref x0), (1, .int x1), (2, .int x2), (3, .int z.2)] 29 []) (h : wp_X0_spareBy_30 S t0 x0 x1 x2 x3 Kc29 K) : jJ (X, G, 5, jA X G tvi K) S [(0, .ref x0), (1, .int x1), (2, .int x2), (3, .int x3)] 30 [.int t0] := by
  unfold wp_X0_spareBy_30 at h
  refine jr_iload_n C 31 rfl dX0_spareBy_30 rfl 2 rfl ?_
  refine jr_icmp_ge C 69 34 rfl dX0_spareBy_31 (by decide) (fun c5 => ?_) (fun c5 => ?_)
  · have h := h.1 c5
    refine jr_iconst (v := 0) C 70 rfl dX0_spareBy_69 (by decide) ?_
    refine jr_istore_n (lv' := [(3, .int 0), (0, .ref x0), (1, .int x1), (2, .int x2)]) C 71 rfl dX0_spareBy_70 rfl (Nat.le_of_ble_eq_true rfl) rfl ?_
    obtain ⟨n, h⟩ := h
    exact jr_sub [1, 2, 3, 0] rfl (wk_X0_spareBy_71_L C  n _ h)
  · have h := h.2 c5
    refine jr_aload_n C 35 rfl dX0_spareBy_34 rfl 0 rfl ?_
    refine jr_iconst (v := 1) C 36 rfl dX0_spareBy_35 (by decide) ?_
    refine jr_iload_n C 37 rfl dX0_spareBy_36 rfl 3 rfl ?_
    refine jr_ishl C 38 rfl dX0_spareBy_37 ?_
    obtain ⟨⟨V, hb⟩, h⟩ := h
    refine jr_callVWi (r0 := (RX0, TX0, 24)) (As := [.int (1 <<< (x3 &&& 31))]) (st := []) C 41 rfl (m_X0_isSpared C.2.2.2.2.2.2.2.2.2.2.2.2.2.2.2 h) rfl hb rfl q1051 q1053 qs27 q94 q1054 (by decide) (by decide) ndV_X0_isSpared (Nat.le_of_ble_eq_true rfl) dX0_spareBy_38 (fun S1 r2 h => ?_)
    refine jr_if_eq C 63 44 rfl dX0_spareBy_41 (by decide) (fun c4 => ?_) (fun c4 => ?_)
    · have h := h.1 c4
      refine jr_iinc (v := (x3 + 1)) (lv' := [(3, .int (x3 + 1)), (0, .ref x0), (1, .int x1), (2, .int x2)]) C 66 rfl dX0_spareBy_63 3 rfl rfl (Nat.le_of_ble_eq_true rfl) rfl ?_
      refine jr_goto C 29 dX0_spareBy_66 (by decide) ?_
      exact jr_sub [1, 2, 3, 0] rfl (hc29 _ h)
    · have h := h.2 c4
      refine jr_iload_n C 45 rfl dX0_spareBy_44 rfl 1 rfl ?_
      refine jr_iconst (v := (-1)) C 46 rfl dX0_spareBy_45 (by decide) ?_
      refine jr_icmp_ne C 53 49 rfl dX0_spareBy_46 (by decide) (fun c3 => ?_) (fun c3 => ?_)
      · have h := h.1 c3
        exact jr_sub [] rfl (wk_X0_spareBy_49 C  h)
      · have h := h.2 c3
        exact jr_sub [1, 3] rfl (wk_X0_spareBy_53 C  h)
theorem wk_X0_spareBy_29 {X : jX} {G : jG} {K : jS → Int32 → Prop} (C : jC (X, G, 5, jA X G tvi K) d_X0_spareBy cX0_spareBy "Samovar" (some .int) yX0_spareBy) {S : jS} {x0 : Nat} {x1 : Int32} {x2 : Int32} {x3 : Int32} {Kc29 : jS × Int32 → Prop} (hc29 : ∀ z : jS × Int32, Kc29 z → jJ (X, G, 5, jA X G tvi K) z.1 [(0, .ref x0), (1, .int x1), (2, .int x2), (3, .int z.2)] 29 []) (h : wp_X0_spareBy_29 S x0 x1 x2 x3 Kc29 K) : jJ (X, G, 5, jA X G tvi K) S [(0, .ref x0), (1, .int x1), (2, .int x2), (3, .int x3)] 29 [] := by
  unfold wp_X0_spareBy_29 at h
  refine jr_iload_n C 30 rfl dX0_spareBy_29 rfl 3 rfl ?_
  exact (wk_X0_spareBy_30 C hc29 h)
theorem wk_X0_spareBy_29_L {X : jX} {G : jG} {K : jS → Int32 → Prop} (C : jC (X, G, 5, jA X G tvi K) d_X0_spareBy cX0_spareBy "Samovar" (some .int) yX0_spareBy) {x0 : Nat} {x1 : Int32} {x2 : Int32}  : ∀ (n : Nat) (z : jS × Int32), jlp n (wp_X0_spareBy_29_L x0 x1 x2 K) z → jJ (X, G, 5, jA X G tvi K) z.1 [(0, .ref x0), (1, .int x1), (2, .int x2), (3, .int z.2)] 29 [] := by
  intro n
  induction n with
  | zero => intro z h; exact h.elim
  | succ n ih => intro z h; exact wk_X0_spareBy_29 C ih h
theorem wk_X0_spareBy_0 {X : jX} {G : jG} {K : jS → Int32 → Prop} (C : jC (X, G, 5, jA X G tvi K) d_X0_spareBy cX0_spareBy "Samovar" (some .int) yX0_spareBy) {S : jS} {x0 : Nat} {x1 : Int32}  (h : wp_X0_spareBy S x0 x1 K) : jJ (X, G, 5, jA X G tvi K) S [(0, .ref x0), (1, .int x1)] 0 [] := by
  unfold wp_X0_spareBy at h
  refine jr_aload_n C 1 rfl dX0_spareBy_0 rfl 0 rfl ?_
  refine jr_iconst (v := 0) C 2 rfl dX0_spareBy_1 (by decide) ?_
  obtain ⟨⟨V, hb⟩, h⟩ := h
  refine jr_callVWi (r0 := (RX0, TX0, 24)) (As := [.int 0]) (st := []) C 5 rfl (m_X0_isSpared C.2.2.2.2.2.2.2.2.2.2.2.2.2.2.2 h) rfl hb rfl q1051 q1053 qs27 q94 q1054 (by decide) (by decide) ndV_X0_isSpared (Nat.le_of_ble_eq_true rfl) dX0_spareBy_2 (fun S1 r2 h => ?_)
  refine jr_if_eq C 19 8 rfl dX0_spareBy_5 (by decide) (fun c7 => ?_) (fun c7 => ?_)
  · have h := h.1 c7
    refine jr_aload_n C 20 rfl dX0_spareBy_19 rfl 0 rfl ?_
    refine jr_getr C 23 rfl fo_0_6 q234 dX0_spareBy_20 h (fun v3 h => ?_)
    obtain ⟨⟨V, hb⟩, h⟩ := h
    refine jr_callVi (r0 := (RJ2, TJ2, 3)) (As := []) (st := []) C 26 rfl (m_J2_size C.2.2.2.2.2.2.2.2.2.2.2.2.2.2.2 h) rfl hb rfl q700 q378 q379 q99 q380 (by decide) (by decide) ndV_J2_size (Nat.le_of_ble_eq_true rfl) dX0_spareBy_23 (fun S4 r5 h => ?_)
    refine jr_istore_n (lv' := [(2, .int r5), (0, .ref x0), (1, .int x1)]) C 27 rfl dX0_spareBy_26 rfl (Nat.le_of_ble_eq_true rfl) rfl ?_
    refine jr_iconst (v := 0) C 28 rfl dX0_spareBy_27 (by decide) ?_
    refine jr_istore_n (lv' := [(3, .int 0), (2, .int r5), (0, .ref x0), (1, .int x1)]) C 29 rfl dX0_spareBy_28 rfl (Nat.le_of_ble_eq_true rfl) rfl ?_
    obtain ⟨n, h⟩ := h
    exact jr_sub [2, 3, 1, 0] rfl (wk_X0_spareBy_29_L C  n _ h)
  · have h := h.2 c7
    refine jr_iload_n C 9 rfl dX0_spareBy_8 rfl 1 rfl ?_
    refine jr_iconst (v := (-1)) C 10 rfl dX0_spareBy_9 (by decide) ?_
    refine jr_icmp_ne C 17 13 rfl dX0_spareBy_10 (by decide) (fun c6 => ?_) (fun c6 => ?_)
    · have h := h.1 c6
      refine jr_iconst (v := 0) C 14 rfl dX0_spareBy_13 (by decide) ?_
      refine jr_goto C 18 dX0_spareBy_14 (by decide) ?_
      exact jr_sub [] rfl (wk_X0_spareBy_18 C  h)
    · have h := h.2 c6
      refine jr_iconst (v := (-1)) C 18 rfl dX0_spareBy_17 (by decide) ?_
      exact jr_sub [] rfl (wk_X0_spareBy_18 C  h)
theorem m_X0_spareBy {l : Launch} (hl : l.stackTraces = false) {G : jG} {K : jS → Int32 → Prop} {S : jS} {x0 : Nat} {x1 : Int32} (h : wp_X0_spareBy S x0 x1 K) : jMet l G d_X0_spareBy yX0_spareBy (ws_ yX0_spareBy cX0_spareBy 5 (some .int)) [.ref x0, .int x1] S tvi K :=
  jMet.of hl rfl (by decide) (Nat.le_of_ble_eq_true rfl) (fun X C => jr_sub [0, 1] rfl (wk_X0_spareBy_0 C h))
theorem wk_X0_sumBy_0 {X : jX} {G : jG} {K : jS → Int32 → Prop} (C : jC (X, G, 2, jA X G tvi K) d_X0_sumBy cX0_sumBy "Samovar" (some .int) yX0_sumBy) {S : jS} {x0 : Nat} {x1 : Int32}  (h : wp_X0_sumBy S x0 x1 K) : jJ (X, G, 2, jA X G tvi K) S [(0, .ref x0), (1, .int x1)] 0 [] := by
  unfold wp_X0_sumBy at h
  refine jr_iload_n C 1 rfl dX0_sumBy_0 rfl 1 rfl ?_
  by_cases c1 : x1 = 0
  · have h := h.1 c1
    refine jr_tswIn (k0 := 0) C 32 dX0_sumBy_1 c1 (by decide) (by decide) (show _ = some 31 by decide) (by decide) ?_
    refine jr_aload_n C 33 rfl dX0_sumBy_32 rfl 0 rfl ?_
    refine jr_geti C 36 rfl fo_0_11 q239 dX0_sumBy_33 h (fun v2 h => ?_)
    exact jr_ireturn C dX0_sumBy_36 h
  have h := h.2 c1
  by_cases c3 : x1 = 1
  · have h := h.1 c3
    refine jr_tswIn (k0 := 1) C 37 dX0_sumBy_1 c3 (by decide) (by decide) (show _ = some 36 by decide) (by decide) ?_
    refine jr_aload_n C 38 rfl dX0_sumBy_37 rfl 0 rfl ?_
    refine jr_iconst (v := 3) C 39 rfl dX0_sumBy_38 (by decide) ?_
    obtain ⟨⟨V, hb⟩, h⟩ := h
    refine jr_callVi (r0 := (RX0, TX0, 24)) (As := [.int 3]) (st := []) C 42 rfl (m_X0_manyNow C.2.2.2.2.2.2.2.2.2.2.2.2.2.2.2 h) rfl hb rfl q981 q983 qs18 q94 q984 (by decide) (by decide) ndV_X0_manyNow (Nat.le_of_ble_eq_true rfl) dX0_sumBy_39 (fun S4 r5 h => ?_)
    exact jr_ireturn C dX0_sumBy_42 h
  have h := h.2 c3
  by_cases c6 : x1 = 2
  · have h := h.1 c6
    refine jr_tswIn (k0 := 2) C 43 dX0_sumBy_1 c6 (by decide) (by decide) (show _ = some 42 by decide) (by decide) ?_
    refine jr_aload_n C 44 rfl dX0_sumBy_43 rfl 0 rfl ?_
    refine jr_iconst (v := 4) C 45 rfl dX0_sumBy_44 (by decide) ?_
    obtain ⟨⟨V, hb⟩, h⟩ := h
    refine jr_callVi (r0 := (RX0, TX0, 24)) (As := [.int 4]) (st := []) C 48 rfl (m_X0_manyNow C.2.2.2.2.2.2.2.2.2.2.2.2.2.2.2 h) rfl hb rfl q981 q983 qs18 q94 q984 (by decide) (by decide) ndV_X0_manyNow (Nat.le_of_ble_eq_true rfl) dX0_sumBy_45 (fun S7 r8 h => ?_)
    exact jr_ireturn C dX0_sumBy_48 h
  have h := h.2 c6
  by_cases c9 : x1 = 3
  · have h := h.1 c9
    refine jr_tswIn (k0 := 3) C 49 dX0_sumBy_1 c9 (by decide) (by decide) (show _ = some 48 by decide) (by decide) ?_
    refine jr_aload_n C 50 rfl dX0_sumBy_49 rfl 0 rfl ?_
    refine jr_geti C 53 rfl fo_0_10 q238 dX0_sumBy_50 h (fun v10 h => ?_)
    exact jr_ireturn C dX0_sumBy_53 h
  have h := h.2 c9
  refine jr_tswOut C 54 dX0_sumBy_1 (by have e0 := lv_neT c1 (show (0 : Int32).toInt = 0 by decide); have e1 := lv_neT c3 (show (1 : Int32).toInt = 1 by decide); have e2 := lv_neT c6 (show (2 : Int32).toInt = 2 by decide); have e3 := lv_neT c9 (show (3 : Int32).toInt = 3 by decide); omega) (by decide) ?_
  refine jr_aload_n C 55 rfl dX0_sumBy_54 rfl 0 rfl ?_
  obtain ⟨⟨V, hb⟩, h⟩ := h
  refine jr_callVi (r0 := (RX0, TX0, 24)) (As := []) (st := []) C 58 rfl (m_X0_boiled C.2.2.2.2.2.2.2.2.2.2.2.2.2.2.2 h) rfl hb rfl q985 q987 qs19 q94 q988 (by decide) (by decide) ndV_X0_boiled (Nat.le_of_ble_eq_true rfl) dX0_sumBy_55 (fun S11 r12 h => ?_)
  exact jr_ireturn C dX0_sumBy_58 h
theorem m_X0_sumBy {l : Launch} (hl : l.stackTraces = false) {G : jG} {K : jS → Int32 → Prop} {S : jS} {x0 : Nat} {x1 : Int32} (h : wp_X0_sumBy S x0 x1 K) : jMet l G d_X0_sumBy yX0_sumBy (ws_ yX0_sumBy cX0_sumBy 2 (some .int)) [.ref x0, .int x1] S tvi K :=
  jMet.of hl rfl (by decide) (Nat.le_of_ble_eq_true rfl) (fun X C => jr_sub [0, 1] rfl (wk_X0_sumBy_0 C h))
theorem wk_X0_tellsGuest_29 {X : jX} {G : jG} {K : jS → Int64 → Prop} (C : jC (X, G, 8, jA X G tvl K) d_X0_tellsGuest cX0_tellsGuest "Samovar" (some .long) yX0_tellsGuest) {S : jS} {x0 : Nat} {x3 : Int32} {x4 : Nat} {x5 : Int64} {x7 : Int32} {Kc23 : jS × Int64 × Int32 → Prop} (hc23 : ∀ z : jS × Int64 × Int32, Kc23 z → jJ (X, G, 8, jA X G tvl K) z.1 [(0, .ref x0), (3, .int x3), (4, .ref x4), (5, .long z.2.1), (7, .int z.2.2)] 23 []) (h : wp_X0_tellsGuest_29 S x0 x3 x4 x5 x7 Kc23 K) : jJ (X, G, 8, jA X G tvl K) S [(0, .ref x0), (3, .int x3), (4, .ref x4), (5, .long x5), (7, .int x7)] 29 [] := by
  unfold wp_X0_tellsGuest_29 at h
  refine jr_ldc2 (v := 31) C 32 rfl dX0_tellsGuest_29 q1261 ?_
  refine jr_lload C 34 rfl dX0_tellsGuest_32 3 rfl ?_
  refine jr_lmul C 35 rfl dX0_tellsGuest_34 ?_
  refine jr_aload C 37 rfl dX0_tellsGuest_35 2 rfl ?_
  refine jr_iload C 39 rfl dX0_tellsGuest_37 4 rfl ?_
  obtain ⟨⟨V, hb⟩, h⟩ := h
  refine jr_callVi (r0 := (RX7, TX7, 8)) (As := [.int x7]) (st := [.long (31 * x5)]) C 42 rfl (m_X7_by C.2.2.2.2.2.2.2.2.2.2.2.2.2.2.2 h) rfl hb rfl q751 q752 q753 q112 q754 (by decide) (by decide) ndV_X7_by (Nat.le_of_ble_eq_true rfl) dX0_tellsGuest_39 (fun S1 r2 h => ?_)
  refine jr_i2l C 43 rfl dX0_tellsGuest_42 ?_
  refine jr_ladd C 44 rfl dX0_tellsGuest_43 ?_
  refine jr_lstore (lv' := [(5, .long ((31 * x5) + ((r2 : Int32).toInt64))), (0, .ref x0), (3, .int x3), (4, .ref x4), (7, .int x7)]) C 46 rfl dX0_tellsGuest_44 (Nat.le_of_ble_eq_true rfl) rfl ?_
  refine jr_iinc (v := (x7 + 1)) (lv' := [(7, .int (x7 + 1)), (5, .long ((31 * x5) + ((r2 : Int32).toInt64))), (0, .ref x0), (3, .int x3), (4, .ref x4)]) C 49 rfl dX0_tellsGuest_46 4 rfl rfl (Nat.le_of_ble_eq_true rfl) rfl ?_
  refine jr_goto C 23 dX0_tellsGuest_49 (by decide) ?_
  exact jr_sub [2, 3, 4, 1, 0] rfl (hc23 _ h)
theorem wk_X0_tellsGuest_68 {X : jX} {G : jG} {K : jS → Int64 → Prop} (C : jC (X, G, 8, jA X G tvl K) d_X0_tellsGuest cX0_tellsGuest "Samovar" (some .long) yX0_tellsGuest) {S : jS} {t0 : Int64} {t1 : Nat} {x0 : Nat} {x3 : Int32} {x4 : Nat} {x7 : Int32} {Kc55 : jS × Int64 × Int32 → Prop} (hc55 : ∀ z : jS × Int64 × Int32, Kc55 z → jJ (X, G, 8, jA X G tvl K) z.1 [(0, .ref x0), (3, .int x3), (4, .ref x4), (5, .long z.2.1), (7, .int z.2.2)] 55 []) (h : wp_X0_tellsGuest_68 S t0 t1 x0 x3 x4 x7 Kc55 K) : jJ (X, G, 8, jA X G tvl K) S [(0, .ref x0), (3, .int x3), (4, .ref x4), (7, .int x7)] 68 [.ref t1, .long t0] := by
  unfold wp_X0_tellsGuest_68 at h
  refine jr_getr C 71 rfl fo_0_16 q244 dX0_tellsGuest_68 h (fun v1 h => ?_)
  refine jr_iconst (v := 4) C 72 rfl dX0_tellsGuest_71 (by decide) ?_
  refine jr_aaldn C 73 rfl (t := 7) rfl rfl dX0_tellsGuest_72 h (fun v2 h => ?_)
  refine jr_iload_n C 74 rfl dX0_tellsGuest_73 rfl 1 rfl ?_
  refine jr_aaldn C 75 rfl (t := 6) rfl rfl dX0_tellsGuest_74 h (fun v3 h => ?_)
  refine jr_iload C 77 rfl dX0_tellsGuest_75 3 rfl ?_
  refine jr_iald C 78 rfl dX0_tellsGuest_77 h (fun v4 h => ?_)
  refine jr_i2l C 79 rfl dX0_tellsGuest_78 ?_
  refine jr_ladd C 80 rfl dX0_tellsGuest_79 ?_
  refine jr_lstore (lv' := [(5, .long (t0 + ((v4 : Int32).toInt64))), (0, .ref x0), (3, .int x3), (4, .ref x4), (7, .int x7)]) C 82 rfl dX0_tellsGuest_80 (Nat.le_of_ble_eq_true rfl) rfl ?_
  refine jr_iinc (v := (x7 + 1)) (lv' := [(7, .int (x7 + 1)), (5, .long (t0 + ((v4 : Int32).toInt64))), (0, .ref x0), (3, .int x3), (4, .ref x4)]) C 85 rfl dX0_tellsGuest_82 4 rfl rfl (Nat.le_of_ble_eq_true rfl) rfl ?_
  refine jr_goto C 55 dX0_tellsGuest_85 (by decide) ?_
  exact jr_sub [2, 3, 4, 1, 0] rfl (hc55 _ h)
theorem wk_X0_tellsGuest_104 {X : jX} {G : jG} {K : jS → Int64 → Prop} (C : jC (X, G, 8, jA X G tvl K) d_X0_tellsGuest cX0_tellsGuest "Samovar" (some .long) yX0_tellsGuest) {S : jS} {t0 : Int64} {t1 : Nat} {x0 : Nat} {x3 : Int32} {x4 : Nat} {x7 : Int32} {Kc91 : jS × Int64 × Int32 → Prop} (hc91 : ∀ z : jS × Int64 × Int32, Kc91 z → jJ (X, G, 8, jA X G tvl K) z.1 [(0, .ref x0), (3, .int x3), (4, .ref x4), (5, .long z.2.1), (7, .int z.2.2)] 91 []) (h : wp_X0_tellsGuest_104 S t0 t1 x0 x3 x4 x7 Kc91 K) : jJ (X, G, 8, jA X G tvl K) S [(0, .ref x0), (3, .int x3), (4, .ref x4), (7, .int x7)] 104 [.ref t1, .long t0] := by
  unfold wp_X0_tellsGuest_104 at h
  refine jr_getr C 107 rfl fo_0_16 q244 dX0_tellsGuest_104 h (fun v1 h => ?_)
  refine jr_bipush (v := 11) C 109 rfl dX0_tellsGuest_107 (by decide) ?_
  refine jr_aaldn C 110 rfl (t := 7) rfl rfl dX0_tellsGuest_109 h (fun v2 h => ?_)
  refine jr_iload_n C 111 rfl dX0_tellsGuest_110 rfl 1 rfl ?_
  refine jr_aaldn C 112 rfl (t := 6) rfl rfl dX0_tellsGuest_111 h (fun v3 h => ?_)
  refine jr_iload C 114 rfl dX0_tellsGuest_112 3 rfl ?_
  refine jr_iald C 115 rfl dX0_tellsGuest_114 h (fun v4 h => ?_)
  refine jr_i2l C 116 rfl dX0_tellsGuest_115 ?_
  refine jr_ladd C 117 rfl dX0_tellsGuest_116 ?_
  refine jr_lstore (lv' := [(5, .long (t0 + ((v4 : Int32).toInt64))), (0, .ref x0), (3, .int x3), (4, .ref x4), (7, .int x7)]) C 119 rfl dX0_tellsGuest_117 (Nat.le_of_ble_eq_true rfl) rfl ?_
  refine jr_iinc (v := (x7 + 1)) (lv' := [(7, .int (x7 + 1)), (5, .long (t0 + ((v4 : Int32).toInt64))), (0, .ref x0), (3, .int x3), (4, .ref x4)]) C 122 rfl dX0_tellsGuest_119 4 rfl rfl (Nat.le_of_ble_eq_true rfl) rfl ?_
  refine jr_goto C 91 dX0_tellsGuest_122 (by decide) ?_
  exact jr_sub [2, 3, 4, 1, 0] rfl (hc91 _ h)
theorem wk_X0_tellsGuest_141 {X : jX} {G : jG} {K : jS → Int64 → Prop} (C : jC (X, G, 8, jA X G tvl K) d_X0_tellsGuest cX0_tellsGuest "Samovar" (some .long) yX0_tellsGuest) {S : jS} {t0 : Int64} {t1 : Nat} {x0 : Nat} {x3 : Int32} {x4 : Nat} {x7 : Int32} {Kc128 : jS × Int64 × Int32 → Prop} (hc128 : ∀ z : jS × Int64 × Int32, Kc128 z → jJ (X, G, 8, jA X G tvl K) z.1 [(0, .ref x0), (3, .int x3), (4, .ref x4), (5, .long z.2.1), (7, .int z.2.2)] 128 []) (h : wp_X0_tellsGuest_141 S t0 t1 x0 x3 x4 x7 Kc128 K) : jJ (X, G, 8, jA X G tvl K) S [(0, .ref x0), (3, .int x3), (4, .ref x4), (7, .int x7)] 141 [.ref t1, .long t0] := by
  unfold wp_X0_tellsGuest_141 at h
  refine jr_getr C 144 rfl fo_0_16 q244 dX0_tellsGuest_141 h (fun v1 h => ?_)
  refine jr_bipush (v := 23) C 146 rfl dX0_tellsGuest_144 (by decide) ?_
  refine jr_aaldn C 147 rfl (t := 7) rfl rfl dX0_tellsGuest_146 h (fun v2 h => ?_)
  refine jr_iload_n C 148 rfl dX0_tellsGuest_147 rfl 1 rfl ?_
  refine jr_aaldn C 149 rfl (t := 6) rfl rfl dX0_tellsGuest_148 h (fun v3 h => ?_)
  refine jr_iload C 151 rfl dX0_tellsGuest_149 3 rfl ?_
  refine jr_iald C 152 rfl dX0_tellsGuest_151 h (fun v4 h => ?_)
  refine jr_i2l C 153 rfl dX0_tellsGuest_152 ?_
  refine jr_ladd C 154 rfl dX0_tellsGuest_153 ?_
  refine jr_lstore (lv' := [(5, .long (t0 + ((v4 : Int32).toInt64))), (0, .ref x0), (3, .int x3), (4, .ref x4), (7, .int x7)]) C 156 rfl dX0_tellsGuest_154 (Nat.le_of_ble_eq_true rfl) rfl ?_
  refine jr_iinc (v := (x7 + 1)) (lv' := [(7, .int (x7 + 1)), (5, .long (t0 + ((v4 : Int32).toInt64))), (0, .ref x0), (3, .int x3), (4, .ref x4)]) C 159 rfl dX0_tellsGuest_156 4 rfl rfl (Nat.le_of_ble_eq_true rfl) rfl ?_
  refine jr_goto C 128 dX0_tellsGuest_159 (by decide) ?_
  exact jr_sub [2, 3, 4, 1, 0] rfl (hc128 _ h)
theorem wk_X0_tellsGuest_213 {X : jX} {G : jG} {K : jS → Int64 → Prop} (C : jC (X, G, 8, jA X G tvl K) d_X0_tellsGuest cX0_tellsGuest "Samovar" (some .long) yX0_tellsGuest) {S : jS} {x0 : Nat} {x3 : Int32} {x5 : Int64} {x7 : Int32} {Kc213 : jS × Int64 × Int32 → Prop} (hc213 : ∀ z : jS × Int64 × Int32, Kc213 z → jJ (X, G, 8, jA X G tvl K) z.1 [(0, .ref x0), (3, .int x3), (5, .long z.2.1), (7, .int z.2.2)] 213 []) (h : wp_X0_tellsGuest_213 S x0 x3 x5 x7 Kc213 K) : jJ (X, G, 8, jA X G tvl K) S [(0, .ref x0), (3, .int x3), (5, .long x5), (7, .int x7)] 213 [] := by
  unfold wp_X0_tellsGuest_213 at h
  refine jr_iload C 215 rfl dX0_tellsGuest_213 3 rfl ?_
  refine jr_iconst (v := 2) C 216 rfl dX0_tellsGuest_215 (by decide) ?_
  refine jr_icmp_ge C 242 219 rfl dX0_tellsGuest_216 (by decide) (fun c3 => ?_) (fun c3 => ?_)
  · have h := h.1 c3
    refine jr_lload C 244 rfl dX0_tellsGuest_242 2 rfl ?_
    exact jr_lreturn C dX0_tellsGuest_244 h
  · have h := h.2 c3
    refine jr_ldc2 (v := 31) C 222 rfl dX0_tellsGuest_219 q1261 ?_
    refine jr_lload C 224 rfl dX0_tellsGuest_222 2 rfl ?_
    refine jr_lmul C 225 rfl dX0_tellsGuest_224 ?_
    refine jr_aload_n C 226 rfl dX0_tellsGuest_225 rfl 0 rfl ?_
    refine jr_iconst (v := 5) C 227 rfl dX0_tellsGuest_226 (by decide) ?_
    refine jr_iload_n C 228 rfl dX0_tellsGuest_227 rfl 1 rfl ?_
    refine jr_iload C 230 rfl dX0_tellsGuest_228 3 rfl ?_
    obtain ⟨⟨V, hb⟩, h⟩ := h
    refine jr_callVWl (r0 := (RX0, TX0, 24)) (As := [.int 5, .int x3, .int x7]) (st := [.long (31 * x5)]) C 233 rfl (m_X0_chanceOf C.2.2.2.2.2.2.2.2.2.2.2.2.2.2.2 h) rfl hb rfl q1108 q1110 qs34 q94 q1111 (by decide) (by decide) ndV_X0_chanceOf (Nat.le_of_ble_eq_true rfl) dX0_tellsGuest_230 (fun S1 r2 h => ?_)
    refine jr_ladd C 234 rfl dX0_tellsGuest_233 ?_
    refine jr_lstore (lv' := [(5, .long ((31 * x5) + r2)), (0, .ref x0), (3, .int x3), (7, .int x7)]) C 236 rfl dX0_tellsGuest_234 (Nat.le_of_ble_eq_true rfl) rfl ?_
    refine jr_iinc (v := (x7 + 1)) (lv' := [(7, .int (x7 + 1)), (5, .long ((31 * x5) + r2)), (0, .ref x0), (3, .int x3)]) C 239 rfl dX0_tellsGuest_236 3 rfl rfl (Nat.le_of_ble_eq_true rfl) rfl ?_
    refine jr_goto C 213 dX0_tellsGuest_239 (by decide) ?_
    exact jr_sub [2, 3, 1, 0] rfl (hc213 _ h)
theorem wk_X0_tellsGuest_213_L {X : jX} {G : jG} {K : jS → Int64 → Prop} (C : jC (X, G, 8, jA X G tvl K) d_X0_tellsGuest cX0_tellsGuest "Samovar" (some .long) yX0_tellsGuest) {x0 : Nat} {x3 : Int32}  : ∀ (n : Nat) (z : jS × Int64 × Int32), jlp n (wp_X0_tellsGuest_213_L x0 x3 K) z → jJ (X, G, 8, jA X G tvl K) z.1 [(0, .ref x0), (3, .int x3), (5, .long z.2.1), (7, .int z.2.2)] 213 [] := by
  intro n
  induction n with
  | zero => intro z h; exact h.elim
  | succ n ih => intro z h; exact wk_X0_tellsGuest_213 C ih h
theorem wk_X0_tellsGuest_180 {X : jX} {G : jG} {K : jS → Int64 → Prop} (C : jC (X, G, 8, jA X G tvl K) d_X0_tellsGuest cX0_tellsGuest "Samovar" (some .long) yX0_tellsGuest) {S : jS} {x0 : Nat} {x3 : Int32} {x4 : Nat} {x5 : Int64} {x7 : Int32} {Kc180 : jS × Int64 × Int32 → Prop} (hc180 : ∀ z : jS × Int64 × Int32, Kc180 z → jJ (X, G, 8, jA X G tvl K) z.1 [(0, .ref x0), (3, .int x3), (4, .ref x4), (5, .long z.2.1), (7, .int z.2.2)] 180 []) (h : wp_X0_tellsGuest_180 S x0 x3 x4 x5 x7 Kc180 K) : jJ (X, G, 8, jA X G tvl K) S [(0, .ref x0), (3, .int x3), (4, .ref x4), (5, .long x5), (7, .int x7)] 180 [] := by
  unfold wp_X0_tellsGuest_180 at h
  refine jr_iload C 182 rfl dX0_tellsGuest_180 4 rfl ?_
  refine jr_iconst (v := 2) C 183 rfl dX0_tellsGuest_182 (by decide) ?_
  refine jr_icmp_ge C 210 186 rfl dX0_tellsGuest_183 (by decide) (fun c3 => ?_) (fun c3 => ?_)
  · have h := h.1 c3
    refine jr_iconst (v := 0) C 211 rfl dX0_tellsGuest_210 (by decide) ?_
    refine jr_istore (lv' := [(7, .int 0), (0, .ref x0), (3, .int x3), (4, .ref x4), (5, .long x5)]) C 213 rfl dX0_tellsGuest_211 (Nat.le_of_ble_eq_true rfl) rfl ?_
    obtain ⟨n, h⟩ := h
    exact jr_sub [1, 2, 4, 0] rfl (wk_X0_tellsGuest_213_L C  n _ h)
  · have h := h.2 c3
    refine jr_ldc2 (v := 31) C 189 rfl dX0_tellsGuest_186 q1261 ?_
    refine jr_lload C 191 rfl dX0_tellsGuest_189 3 rfl ?_
    refine jr_lmul C 192 rfl dX0_tellsGuest_191 ?_
    refine jr_aload_n C 193 rfl dX0_tellsGuest_192 rfl 0 rfl ?_
    refine jr_aload C 195 rfl dX0_tellsGuest_193 2 rfl ?_
    refine jr_iload C 197 rfl dX0_tellsGuest_195 4 rfl ?_
    obtain ⟨⟨V, hb⟩, h⟩ := h
    refine jr_callVWi (r0 := (RX0, TX0, 24)) (As := [.ref x4, .int x7]) (st := [.long (31 * x5)]) C 200 rfl (m_X0_comeOf C.2.2.2.2.2.2.2.2.2.2.2.2.2.2.2 h) rfl hb rfl q1038 q1040 qs25 q94 q1041 (by decide) (by decide) ndV_X0_comeOf (Nat.le_of_ble_eq_true rfl) dX0_tellsGuest_197 (fun S1 r2 h => ?_)
    refine jr_i2l C 201 rfl dX0_tellsGuest_200 ?_
    refine jr_ladd C 202 rfl dX0_tellsGuest_201 ?_
    refine jr_lstore (lv' := [(5, .long ((31 * x5) + ((r2 : Int32).toInt64))), (0, .ref x0), (3, .int x3), (4, .ref x4), (7, .int x7)]) C 204 rfl dX0_tellsGuest_202 (Nat.le_of_ble_eq_true rfl) rfl ?_
    refine jr_iinc (v := (x7 + 1)) (lv' := [(7, .int (x7 + 1)), (5, .long ((31 * x5) + ((r2 : Int32).toInt64))), (0, .ref x0), (3, .int x3), (4, .ref x4)]) C 207 rfl dX0_tellsGuest_204 4 rfl rfl (Nat.le_of_ble_eq_true rfl) rfl ?_
    refine jr_goto C 180 dX0_tellsGuest_207 (by decide) ?_
    exact jr_sub [2, 3, 4, 1, 0] rfl (hc180 _ h)
theorem wk_X0_tellsGuest_180_L {X : jX} {G : jG} {K : jS → Int64 → Prop} (C : jC (X, G, 8, jA X G tvl K) d_X0_tellsGuest cX0_tellsGuest "Samovar" (some .long) yX0_tellsGuest) {x0 : Nat} {x3 : Int32} {x4 : Nat}  : ∀ (n : Nat) (z : jS × Int64 × Int32), jlp n (wp_X0_tellsGuest_180_L x0 x3 x4 K) z → jJ (X, G, 8, jA X G tvl K) z.1 [(0, .ref x0), (3, .int x3), (4, .ref x4), (5, .long z.2.1), (7, .int z.2.2)] 180 [] := by
  intro n
  induction n with
  | zero => intro z h; exact h.elim
  | succ n ih => intro z h; exact wk_X0_tellsGuest_180 C ih h
theorem wk_X0_tellsGuest_170 {X : jX} {G : jG} {K : jS → Int64 → Prop} (C : jC (X, G, 8, jA X G tvl K) d_X0_tellsGuest cX0_tellsGuest "Samovar" (some .long) yX0_tellsGuest) {S : jS} {t0 : Int64} {t1 : Nat} {x0 : Nat} {x3 : Int32} {x4 : Nat}  (h : wp_X0_tellsGuest_170 S t0 t1 x0 x3 x4 K) : jJ (X, G, 8, jA X G tvl K) S [(0, .ref x0), (3, .int x3), (4, .ref x4)] 170 [.ref t1, .long t0] := by
  unfold wp_X0_tellsGuest_170 at h
  refine jr_getiN C 173 rfl fo_4_7 (jx_g q577 rfl) dX0_tellsGuest_170 h (fun v1 h => ?_)
  refine jr_i2l C 174 rfl dX0_tellsGuest_173 ?_
  refine jr_ladd C 175 rfl dX0_tellsGuest_174 ?_
  refine jr_lstore (lv' := [(5, .long (t0 + ((v1 : Int32).toInt64))), (0, .ref x0), (3, .int x3), (4, .ref x4)]) C 177 rfl dX0_tellsGuest_175 (Nat.le_of_ble_eq_true rfl) rfl ?_
  refine jr_iconst (v := 0) C 178 rfl dX0_tellsGuest_177 (by decide) ?_
  refine jr_istore (lv' := [(7, .int 0), (5, .long (t0 + ((v1 : Int32).toInt64))), (0, .ref x0), (3, .int x3), (4, .ref x4)]) C 180 rfl dX0_tellsGuest_178 (Nat.le_of_ble_eq_true rfl) rfl ?_
  obtain ⟨n, h⟩ := h
  exact jr_sub [2, 3, 4, 1, 0] rfl (wk_X0_tellsGuest_180_L C  n _ h)
theorem wk_X0_tellsGuest_128 {X : jX} {G : jG} {K : jS → Int64 → Prop} (C : jC (X, G, 8, jA X G tvl K) d_X0_tellsGuest cX0_tellsGuest "Samovar" (some .long) yX0_tellsGuest) {S : jS} {x0 : Nat} {x3 : Int32} {x4 : Nat} {x5 : Int64} {x7 : Int32} {Kc128 : jS × Int64 × Int32 → Prop} (hc128 : ∀ z : jS × Int64 × Int32, Kc128 z → jJ (X, G, 8, jA X G tvl K) z.1 [(0, .ref x0), (3, .int x3), (4, .ref x4), (5, .long z.2.1), (7, .int z.2.2)] 128 []) (h : wp_X0_tellsGuest_128 S x0 x3 x4 x5 x7 Kc128 K) : jJ (X, G, 8, jA X G tvl K) S [(0, .ref x0), (3, .int x3), (4, .ref x4), (5, .long x5), (7, .int x7)] 128 [] := by
  unfold wp_X0_tellsGuest_128 at h
  refine jr_iload C 130 rfl dX0_tellsGuest_128 4 rfl ?_
  refine jr_iconst (v := 2) C 131 rfl dX0_tellsGuest_130 (by decide) ?_
  refine jr_icmp_ge C 162 134 rfl dX0_tellsGuest_131 (by decide) (fun c1 => ?_) (fun c1 => ?_)
  · have h := h.1 c1
    refine jr_ldc2 (v := 31) C 165 rfl dX0_tellsGuest_162 q1261 ?_
    refine jr_lload C 167 rfl dX0_tellsGuest_165 3 rfl ?_
    refine jr_lmul C 168 rfl dX0_tellsGuest_167 ?_
    refine jr_aload C 170 rfl dX0_tellsGuest_168 2 rfl ?_
    exact jr_sub [0, 1, 2] rfl (wk_X0_tellsGuest_170 C  h)
  · have h := h.2 c1
    refine jr_ldc2 (v := 31) C 137 rfl dX0_tellsGuest_134 q1261 ?_
    refine jr_lload C 139 rfl dX0_tellsGuest_137 3 rfl ?_
    refine jr_lmul C 140 rfl dX0_tellsGuest_139 ?_
    refine jr_aload_n C 141 rfl dX0_tellsGuest_140 rfl 0 rfl ?_
    exact jr_sub [0, 1, 2, 4] rfl (wk_X0_tellsGuest_141 C hc128 h)
theorem wk_X0_tellsGuest_128_L {X : jX} {G : jG} {K : jS → Int64 → Prop} (C : jC (X, G, 8, jA X G tvl K) d_X0_tellsGuest cX0_tellsGuest "Samovar" (some .long) yX0_tellsGuest) {x0 : Nat} {x3 : Int32} {x4 : Nat}  : ∀ (n : Nat) (z : jS × Int64 × Int32), jlp n (wp_X0_tellsGuest_128_L x0 x3 x4 K) z → jJ (X, G, 8, jA X G tvl K) z.1 [(0, .ref x0), (3, .int x3), (4, .ref x4), (5, .long z.2.1), (7, .int z.2.2)] 128 [] := by
  intro n
  induction n with
  | zero => intro z h; exact h.elim
  | succ n ih => intro z h; exact wk_X0_tellsGuest_128 C ih h
theorem wk_X0_tellsGuest_91 {X : jX} {G : jG} {K : jS → Int64 → Prop} (C : jC (X, G, 8, jA X G tvl K) d_X0_tellsGuest cX0_tellsGuest "Samovar" (some .long) yX0_tellsGuest) {S : jS} {x0 : Nat} {x3 : Int32} {x4 : Nat} {x5 : Int64} {x7 : Int32} {Kc91 : jS × Int64 × Int32 → Prop} (hc91 : ∀ z : jS × Int64 × Int32, Kc91 z → jJ (X, G, 8, jA X G tvl K) z.1 [(0, .ref x0), (3, .int x3), (4, .ref x4), (5, .long z.2.1), (7, .int z.2.2)] 91 []) (h : wp_X0_tellsGuest_91 S x0 x3 x4 x5 x7 Kc91 K) : jJ (X, G, 8, jA X G tvl K) S [(0, .ref x0), (3, .int x3), (4, .ref x4), (5, .long x5), (7, .int x7)] 91 [] := by
  unfold wp_X0_tellsGuest_91 at h
  refine jr_iload C 93 rfl dX0_tellsGuest_91 4 rfl ?_
  refine jr_iconst (v := 2) C 94 rfl dX0_tellsGuest_93 (by decide) ?_
  refine jr_icmp_ge C 125 97 rfl dX0_tellsGuest_94 (by decide) (fun c1 => ?_) (fun c1 => ?_)
  · have h := h.1 c1
    refine jr_iconst (v := 0) C 126 rfl dX0_tellsGuest_125 (by decide) ?_
    refine jr_istore (lv' := [(7, .int 0), (0, .ref x0), (3, .int x3), (4, .ref x4), (5, .long x5)]) C 128 rfl dX0_tellsGuest_126 (Nat.le_of_ble_eq_true rfl) rfl ?_
    obtain ⟨n, h⟩ := h
    exact jr_sub [1, 2, 3, 4, 0] rfl (wk_X0_tellsGuest_128_L C  n _ h)
  · have h := h.2 c1
    refine jr_ldc2 (v := 31) C 100 rfl dX0_tellsGuest_97 q1261 ?_
    refine jr_lload C 102 rfl dX0_tellsGuest_100 3 rfl ?_
    refine jr_lmul C 103 rfl dX0_tellsGuest_102 ?_
    refine jr_aload_n C 104 rfl dX0_tellsGuest_103 rfl 0 rfl ?_
    exact jr_sub [0, 1, 2, 4] rfl (wk_X0_tellsGuest_104 C hc91 h)
theorem wk_X0_tellsGuest_91_L {X : jX} {G : jG} {K : jS → Int64 → Prop} (C : jC (X, G, 8, jA X G tvl K) d_X0_tellsGuest cX0_tellsGuest "Samovar" (some .long) yX0_tellsGuest) {x0 : Nat} {x3 : Int32} {x4 : Nat}  : ∀ (n : Nat) (z : jS × Int64 × Int32), jlp n (wp_X0_tellsGuest_91_L x0 x3 x4 K) z → jJ (X, G, 8, jA X G tvl K) z.1 [(0, .ref x0), (3, .int x3), (4, .ref x4), (5, .long z.2.1), (7, .int z.2.2)] 91 [] := by
  intro n
  induction n with
  | zero => intro z h; exact h.elim
  | succ n ih => intro z h; exact wk_X0_tellsGuest_91 C ih h
theorem wk_X0_tellsGuest_55 {X : jX} {G : jG} {K : jS → Int64 → Prop} (C : jC (X, G, 8, jA X G tvl K) d_X0_tellsGuest cX0_tellsGuest "Samovar" (some .long) yX0_tellsGuest) {S : jS} {x0 : Nat} {x3 : Int32} {x4 : Nat} {x5 : Int64} {x7 : Int32} {Kc55 : jS × Int64 × Int32 → Prop} (hc55 : ∀ z : jS × Int64 × Int32, Kc55 z → jJ (X, G, 8, jA X G tvl K) z.1 [(0, .ref x0), (3, .int x3), (4, .ref x4), (5, .long z.2.1), (7, .int z.2.2)] 55 []) (h : wp_X0_tellsGuest_55 S x0 x3 x4 x5 x7 Kc55 K) : jJ (X, G, 8, jA X G tvl K) S [(0, .ref x0), (3, .int x3), (4, .ref x4), (5, .long x5), (7, .int x7)] 55 [] := by
  unfold wp_X0_tellsGuest_55 at h
  refine jr_iload C 57 rfl dX0_tellsGuest_55 4 rfl ?_
  refine jr_iconst (v := 2) C 58 rfl dX0_tellsGuest_57 (by decide) ?_
  refine jr_icmp_ge C 88 61 rfl dX0_tellsGuest_58 (by decide) (fun c1 => ?_) (fun c1 => ?_)
  · have h := h.1 c1
    refine jr_iconst (v := 0) C 89 rfl dX0_tellsGuest_88 (by decide) ?_
    refine jr_istore (lv' := [(7, .int 0), (0, .ref x0), (3, .int x3), (4, .ref x4), (5, .long x5)]) C 91 rfl dX0_tellsGuest_89 (Nat.le_of_ble_eq_true rfl) rfl ?_
    obtain ⟨n, h⟩ := h
    exact jr_sub [1, 2, 3, 4, 0] rfl (wk_X0_tellsGuest_91_L C  n _ h)
  · have h := h.2 c1
    refine jr_ldc2 (v := 31) C 64 rfl dX0_tellsGuest_61 q1261 ?_
    refine jr_lload C 66 rfl dX0_tellsGuest_64 3 rfl ?_
    refine jr_lmul C 67 rfl dX0_tellsGuest_66 ?_
    refine jr_aload_n C 68 rfl dX0_tellsGuest_67 rfl 0 rfl ?_
    exact jr_sub [0, 1, 2, 4] rfl (wk_X0_tellsGuest_68 C hc55 h)
theorem wk_X0_tellsGuest_55_L {X : jX} {G : jG} {K : jS → Int64 → Prop} (C : jC (X, G, 8, jA X G tvl K) d_X0_tellsGuest cX0_tellsGuest "Samovar" (some .long) yX0_tellsGuest) {x0 : Nat} {x3 : Int32} {x4 : Nat}  : ∀ (n : Nat) (z : jS × Int64 × Int32), jlp n (wp_X0_tellsGuest_55_L x0 x3 x4 K) z → jJ (X, G, 8, jA X G tvl K) z.1 [(0, .ref x0), (3, .int x3), (4, .ref x4), (5, .long z.2.1), (7, .int z.2.2)] 55 [] := by
  intro n
  induction n with
  | zero => intro z h; exact h.elim
  | succ n ih => intro z h; exact wk_X0_tellsGuest_55 C ih h
theorem wk_X0_tellsGuest_52 {X : jX} {G : jG} {K : jS → Int64 → Prop} (C : jC (X, G, 8, jA X G tvl K) d_X0_tellsGuest cX0_tellsGuest "Samovar" (some .long) yX0_tellsGuest) {S : jS} {x0 : Nat} {x3 : Int32} {x4 : Nat} {x5 : Int64}  (h : wp_X0_tellsGuest_52 S x0 x3 x4 x5 K) : jJ (X, G, 8, jA X G tvl K) S [(0, .ref x0), (3, .int x3), (4, .ref x4), (5, .long x5)] 52 [] := by
  unfold wp_X0_tellsGuest_52 at h
  refine jr_iconst (v := 0) C 53 rfl dX0_tellsGuest_52 (by decide) ?_
  refine jr_istore (lv' := [(7, .int 0), (0, .ref x0), (3, .int x3), (4, .ref x4), (5, .long x5)]) C 55 rfl dX0_tellsGuest_53 (Nat.le_of_ble_eq_true rfl) rfl ?_
  obtain ⟨n, h⟩ := h
  exact jr_sub [1, 2, 3, 4, 0] rfl (wk_X0_tellsGuest_55_L C  n _ h)
theorem wk_X0_tellsGuest_23 {X : jX} {G : jG} {K : jS → Int64 → Prop} (C : jC (X, G, 8, jA X G tvl K) d_X0_tellsGuest cX0_tellsGuest "Samovar" (some .long) yX0_tellsGuest) {S : jS} {x0 : Nat} {x3 : Int32} {x4 : Nat} {x5 : Int64} {x7 : Int32} {Kc23 : jS × Int64 × Int32 → Prop} (hc23 : ∀ z : jS × Int64 × Int32, Kc23 z → jJ (X, G, 8, jA X G tvl K) z.1 [(0, .ref x0), (3, .int x3), (4, .ref x4), (5, .long z.2.1), (7, .int z.2.2)] 23 []) (h : wp_X0_tellsGuest_23 S x0 x3 x4 x5 x7 Kc23 K) : jJ (X, G, 8, jA X G tvl K) S [(0, .ref x0), (3, .int x3), (4, .ref x4), (5, .long x5), (7, .int x7)] 23 [] := by
  unfold wp_X0_tellsGuest_23 at h
  refine jr_iload C 25 rfl dX0_tellsGuest_23 4 rfl ?_
  refine jr_iconst (v := 3) C 26 rfl dX0_tellsGuest_25 (by decide) ?_
  refine jr_icmp_ge C 52 29 rfl dX0_tellsGuest_26 (by decide) (fun c1 => ?_) (fun c1 => ?_)
  · have h := h.1 c1
    exact jr_sub [0, 1, 2, 3] rfl (wk_X0_tellsGuest_52 C  h)
  · have h := h.2 c1
    exact (wk_X0_tellsGuest_29 C hc23 h)
theorem wk_X0_tellsGuest_23_L {X : jX} {G : jG} {K : jS → Int64 → Prop} (C : jC (X, G, 8, jA X G tvl K) d_X0_tellsGuest cX0_tellsGuest "Samovar" (some .long) yX0_tellsGuest) {x0 : Nat} {x3 : Int32} {x4 : Nat}  : ∀ (n : Nat) (z : jS × Int64 × Int32), jlp n (wp_X0_tellsGuest_23_L x0 x3 x4 K) z → jJ (X, G, 8, jA X G tvl K) z.1 [(0, .ref x0), (3, .int x3), (4, .ref x4), (5, .long z.2.1), (7, .int z.2.2)] 23 [] := by
  intro n
  induction n with
  | zero => intro z h; exact h.elim
  | succ n ih => intro z h; exact wk_X0_tellsGuest_23 C ih h
theorem wk_X0_tellsGuest_0 {X : jX} {G : jG} {K : jS → Int64 → Prop} (C : jC (X, G, 8, jA X G tvl K) d_X0_tellsGuest cX0_tellsGuest "Samovar" (some .long) yX0_tellsGuest) {S : jS} {x0 : Nat} {x1 : Int64} {x3 : Int32}  (h : wp_X0_tellsGuest S x0 x1 x3 K) : jJ (X, G, 8, jA X G tvl K) S [(0, .ref x0), (1, .long x1), (3, .int x3)] 0 [] := by
  unfold wp_X0_tellsGuest at h
  refine jr_aload_n C 1 rfl dX0_tellsGuest_0 rfl 0 rfl ?_
  refine jr_getr C 4 rfl fo_0_4 q232 dX0_tellsGuest_1 h (fun v1 h => ?_)
  refine jr_iload_n C 5 rfl dX0_tellsGuest_4 rfl 2 rfl ?_
  obtain ⟨⟨V, hb⟩, h⟩ := h
  refine jr_callVr (r0 := (RJ2, TJ2, 3)) (As := [.int x3]) (st := []) C 8 rfl (m_J2_get C.2.2.2.2.2.2.2.2.2.2.2.2.2.2.2 h) rfl hb rfl q702 q703 q704 q99 q705 (by decide) (by decide) ndV_J2_get (Nat.le_of_ble_eq_true rfl) dX0_tellsGuest_5 (fun S2 r3 h => ?_)
  obtain ⟨hz, h⟩ := h
  refine jr_cast C 11 rfl (cs := [4]) can_Samovar_Guest (by decide) q213 dX0_tellsGuest_8 hz ?_
  refine jr_astore (lv' := [(4, .ref r3), (0, .ref x0), (1, .long x1), (3, .int x3)]) C 13 rfl dX0_tellsGuest_11 (Nat.le_of_ble_eq_true rfl) rfl ?_
  refine jr_aload_n C 14 rfl dX0_tellsGuest_13 rfl 1 rfl ?_
  obtain ⟨⟨V, hb⟩, h⟩ := h
  refine jr_callVv (r0 := (RX0, TX0, 24)) (As := []) (st := []) C 17 rfl (m_X0_find C.2.2.2.2.2.2.2.2.2.2.2.2.2.2.2 h) rfl hb rfl q831 q833 qs10 q94 q834 (by decide) (by decide) ndV_X0_find (Nat.le_of_ble_eq_true rfl) dX0_tellsGuest_14 (fun S4 _ h => ?_)
  refine jr_lload_n C 18 rfl dX0_tellsGuest_17 rfl 2 rfl ?_
  refine jr_lstore (lv' := [(5, .long x1), (4, .ref r3), (0, .ref x0), (1, .long x1), (3, .int x3)]) C 20 rfl dX0_tellsGuest_18 (Nat.le_of_ble_eq_true rfl) rfl ?_
  refine jr_iconst (v := 0) C 21 rfl dX0_tellsGuest_20 (by decide) ?_
  refine jr_istore (lv' := [(7, .int 0), (5, .long x1), (4, .ref r3), (0, .ref x0), (1, .long x1), (3, .int x3)]) C 23 rfl dX0_tellsGuest_21 (Nat.le_of_ble_eq_true rfl) rfl ?_
  obtain ⟨n, h⟩ := h
  exact jr_sub [3, 5, 2, 1, 0] rfl (wk_X0_tellsGuest_23_L C  n _ h)
theorem m_X0_tellsGuest {l : Launch} (hl : l.stackTraces = false) {G : jG} {K : jS → Int64 → Prop} {S : jS} {x0 : Nat} {x1 : Int64} {x3 : Int32} (h : wp_X0_tellsGuest S x0 x1 x3 K) : jMet l G d_X0_tellsGuest yX0_tellsGuest (ws_ yX0_tellsGuest cX0_tellsGuest 8 (some .long)) [.ref x0, .long x1, .int x3] S tvl K :=
  jMet.of hl rfl (by decide) (Nat.le_of_ble_eq_true rfl) (fun X C => jr_sub [0, 1, 2] rfl (wk_X0_tellsGuest_0 C h))
theorem wk_X0_kindOf_42 {X : jX} {G : jG} {K : jS → Int32 → Prop} (C : jC (X, G, 6, jA X G tvi K) d_X0_kindOf cX0_kindOf "Samovar" (some .int) yX0_kindOf) {S : jS} {t0 : Int32} {t1 : Int32} {x0 : Nat} {x1 : Nat} {x2 : Nat} {x4 : Int32} {Kc10 : jS × Int32 × Int32 → Prop} (hc10 : ∀ z : jS × Int32 × Int32, Kc10 z → jJ (X, G, 6, jA X G tvi K) z.1 [(0, .ref x0), (1, .ref x1), (2, .ref x2), (3, .int z.2.1), (4, .int z.2.2)] 10 []) (h : wp_X0_kindOf_42 S t0 t1 x0 x1 x2 x4 Kc10 K) : jJ (X, G, 6, jA X G tvi K) S [(0, .ref x0), (1, .ref x1), (2, .ref x2), (4, .int x4)] 42 [.int t1, .int t0] := by
  unfold wp_X0_kindOf_42 at h
  refine jr_ior C 43 rfl dX0_kindOf_42 ?_
  refine jr_istore_n (lv' := [(3, .int (t0 ||| t1)), (0, .ref x0), (1, .ref x1), (2, .ref x2), (4, .int x4)]) C 44 rfl dX0_kindOf_43 rfl (Nat.le_of_ble_eq_true rfl) rfl ?_
  refine jr_iinc (v := (x4 + 1)) (lv' := [(4, .int (x4 + 1)), (3, .int (t0 ||| t1)), (0, .ref x0), (1, .ref x1), (2, .ref x2)]) C 47 rfl dX0_kindOf_44 4 rfl rfl (Nat.le_of_ble_eq_true rfl) rfl ?_
  refine jr_goto C 10 dX0_kindOf_47 (by decide) ?_
  exact jr_sub [2, 3, 4, 1, 0] rfl (hc10 _ h)
theorem wk_X0_kindOf_10 {X : jX} {G : jG} {K : jS → Int32 → Prop} (C : jC (X, G, 6, jA X G tvi K) d_X0_kindOf cX0_kindOf "Samovar" (some .int) yX0_kindOf) {S : jS} {x0 : Nat} {x1 : Nat} {x2 : Nat} {x3 : Int32} {x4 : Int32} {Kc10 : jS × Int32 × Int32 → Prop} (hc10 : ∀ z : jS × Int32 × Int32, Kc10 z → jJ (X, G, 6, jA X G tvi K) z.1 [(0, .ref x0), (1, .ref x1), (2, .ref x2), (3, .int z.2.1), (4, .int z.2.2)] 10 []) (h : wp_X0_kindOf_10 S x0 x1 x2 x3 x4 Kc10 K) : jJ (X, G, 6, jA X G tvi K) S [(0, .ref x0), (1, .ref x1), (2, .ref x2), (3, .int x3), (4, .int x4)] 10 [] := by
  unfold wp_X0_kindOf_10 at h
  refine jr_iload C 12 rfl dX0_kindOf_10 4 rfl ?_
  refine jr_iconst (v := 3) C 13 rfl dX0_kindOf_12 (by decide) ?_
  refine jr_icmp_ge C 50 16 rfl dX0_kindOf_13 (by decide) (fun c8 => ?_) (fun c8 => ?_)
  · have h := h.1 c8
    refine jr_aload_n C 51 rfl dX0_kindOf_50 rfl 1 rfl ?_
    refine jr_aload_n C 52 rfl dX0_kindOf_51 rfl 2 rfl ?_
    refine jr_putvN C 55 rfl fo_5_1 (by decide) (jx_g q673 rfl) dX0_kindOf_52 rfl rfl h (fun S1 h => ?_)
    refine jr_goto C 68 dX0_kindOf_55 (by decide) ?_
    refine jr_iload_n C 69 rfl dX0_kindOf_68 rfl 3 rfl ?_
    exact jr_ireturn C dX0_kindOf_69 h
  · have h := h.2 c8
    refine jr_aload_n C 17 rfl dX0_kindOf_16 rfl 1 rfl ?_
    refine jr_gets C 20 rfl (i := 0) rfl q1025 dX0_kindOf_17 h (fun v2 h => ?_)
    refine jr_iload C 22 rfl dX0_kindOf_20 4 rfl ?_
    refine jr_aaldn C 23 rfl (t := 10) rfl rfl dX0_kindOf_22 h (fun v3 h => ?_)
    refine jr_putvN C 26 rfl fo_5_1 (by decide) (jx_g q673 rfl) dX0_kindOf_23 rfl rfl h (fun S4 h => ?_)
    refine jr_iload_n C 27 rfl dX0_kindOf_26 rfl 3 rfl ?_
    refine jr_aload_n C 28 rfl dX0_kindOf_27 rfl 0 rfl ?_
    obtain ⟨⟨V, hb⟩, h⟩ := h
    refine jr_callVi (r0 := (RX0, TX0, 24)) (As := []) (st := [.int x3]) C 31 rfl (m_X0_isSeen C.2.2.2.2.2.2.2.2.2.2.2.2.2.2.2 h) rfl hb rfl q1071 q1073 qs29 q94 q1074 (by decide) (by decide) ndV_X0_isSeen (Nat.le_of_ble_eq_true rfl) dX0_kindOf_28 (fun S5 r6 h => ?_)
    refine jr_if_eq C 41 34 rfl dX0_kindOf_31 (by decide) (fun c7 => ?_) (fun c7 => ?_)
    · have h := h.1 c7
      refine jr_iconst (v := 0) C 42 rfl dX0_kindOf_41 (by decide) ?_
      exact jr_sub [0, 1, 2, 4] rfl (wk_X0_kindOf_42 C hc10 h)
    · have h := h.2 c7
      refine jr_iconst (v := 1) C 35 rfl dX0_kindOf_34 (by decide) ?_
      refine jr_iload C 37 rfl dX0_kindOf_35 4 rfl ?_
      refine jr_ishl C 38 rfl dX0_kindOf_37 ?_
      refine jr_goto C 42 dX0_kindOf_38 (by decide) ?_
      exact jr_sub [0, 1, 2, 4] rfl (wk_X0_kindOf_42 C hc10 h)
theorem wk_X0_kindOf_10_L {X : jX} {G : jG} {K : jS → Int32 → Prop} (C : jC (X, G, 6, jA X G tvi K) d_X0_kindOf cX0_kindOf "Samovar" (some .int) yX0_kindOf) {x0 : Nat} {x1 : Nat} {x2 : Nat}  : ∀ (n : Nat) (z : jS × Int32 × Int32), jlp n (wp_X0_kindOf_10_L x0 x1 x2 K) z → jJ (X, G, 6, jA X G tvi K) z.1 [(0, .ref x0), (1, .ref x1), (2, .ref x2), (3, .int z.2.1), (4, .int z.2.2)] 10 [] := by
  intro n
  induction n with
  | zero => intro z h; exact h.elim
  | succ n ih => intro z h; exact wk_X0_kindOf_10 C ih h
theorem wk_X0_kindOf_0 {X : jX} {G : jG} {K : jS → Int32 → Prop} (C : jC (X, G, 6, jA X G tvi K) d_X0_kindOf cX0_kindOf "Samovar" (some .int) yX0_kindOf) {S : jS} {x0 : Nat} {x1 : Nat}  (h : wp_X0_kindOf S x0 x1 K) : jJ (X, G, 6, jA X G tvi K) S [(0, .ref x0), (1, .ref x1)] 0 [] := by
  unfold wp_X0_kindOf at h
  refine jr_aload_n C 1 rfl dX0_kindOf_0 rfl 1 rfl ?_
  refine jr_getrN C 4 rfl fo_5_1 (jx_g q673 rfl) dX0_kindOf_1 h (fun v1 h => ?_)
  refine jr_astore_n (lv' := [(2, .ref v1), (0, .ref x0), (1, .ref x1)]) C 5 rfl dX0_kindOf_4 rfl (Nat.le_of_ble_eq_true rfl) rfl ?_
  refine jr_iconst (v := 0) C 6 rfl dX0_kindOf_5 (by decide) ?_
  refine jr_istore_n (lv' := [(3, .int 0), (2, .ref v1), (0, .ref x0), (1, .ref x1)]) C 7 rfl dX0_kindOf_6 rfl (Nat.le_of_ble_eq_true rfl) rfl ?_
  refine jr_iconst (v := 0) C 8 rfl dX0_kindOf_7 (by decide) ?_
  refine jr_istore (lv' := [(4, .int 0), (3, .int 0), (2, .ref v1), (0, .ref x0), (1, .ref x1)]) C 10 rfl dX0_kindOf_8 (Nat.le_of_ble_eq_true rfl) rfl ?_
  obtain ⟨n, h⟩ := h
  exact jr_sub [3, 4, 2, 1, 0] rfl (wk_X0_kindOf_10_L C  n _ h)
theorem m_X0_kindOf {l : Launch} (hl : l.stackTraces = false) {G : jG} {K : jS → Int32 → Prop} {S : jS} {x0 : Nat} {x1 : Nat} (h : wp_X0_kindOf S x0 x1 K) : jMet l G d_X0_kindOf yX0_kindOf (wsW_ yX0_kindOf cX0_kindOf 6 (some .int) [((7), (50), (58), (0)), ((58), (60), (58), (0))]) [.ref x0, .ref x1] S tvi K :=
  jMet.ofH hl rfl (by decide) (Nat.le_of_ble_eq_true rfl) (fun X C => jr_sub [0, 1] rfl (wk_X0_kindOf_0 C h))
theorem wk_X0_tellsPiece_12 {X : jX} {G : jG} {K : jS → Int64 → Prop} (C : jC (X, G, 7, jA X G tvl K) d_X0_tellsPiece cX0_tellsPiece "Samovar" (some .long) yX0_tellsPiece) {S : jS} {x0 : Nat} {x3 : Nat} {x4 : Int64} {x6 : Int32} {Kc6 : jS × Int64 × Int32 → Prop} (hc6 : ∀ z : jS × Int64 × Int32, Kc6 z → jJ (X, G, 7, jA X G tvl K) z.1 [(0, .ref x0), (3, .ref x3), (4, .long z.2.1), (6, .int z.2.2)] 6 []) (h : wp_X0_tellsPiece_12 S x0 x3 x4 x6 Kc6 K) : jJ (X, G, 7, jA X G tvl K) S [(0, .ref x0), (3, .ref x3), (4, .long x4), (6, .int x6)] 12 [] := by
  unfold wp_X0_tellsPiece_12 at h
  refine jr_ldc2 (v := 31) C 15 rfl dX0_tellsPiece_12 q1261 ?_
  refine jr_lload C 17 rfl dX0_tellsPiece_15 2 rfl ?_
  refine jr_lmul C 18 rfl dX0_tellsPiece_17 ?_
  refine jr_aload_n C 19 rfl dX0_tellsPiece_18 rfl 1 rfl ?_
  refine jr_iload C 21 rfl dX0_tellsPiece_19 3 rfl ?_
  obtain ⟨⟨V, hb⟩, h⟩ := h
  refine jr_callVi (r0 := (RX8, TX8, 3)) (As := [.int x6]) (st := [.long (31 * x4)]) C 24 rfl (m_X8_by C.2.2.2.2.2.2.2.2.2.2.2.2.2.2.2 h) rfl hb rfl q717 q718 q719 q116 q720 (by decide) (by decide) ndV_X8_by (Nat.le_of_ble_eq_true rfl) dX0_tellsPiece_21 (fun S1 r2 h => ?_)
  refine jr_i2l C 25 rfl dX0_tellsPiece_24 ?_
  refine jr_ladd C 26 rfl dX0_tellsPiece_25 ?_
  refine jr_lstore (lv' := [(4, .long ((31 * x4) + ((r2 : Int32).toInt64))), (0, .ref x0), (3, .ref x3), (6, .int x6)]) C 28 rfl dX0_tellsPiece_26 (Nat.le_of_ble_eq_true rfl) rfl ?_
  refine jr_iinc (v := (x6 + 1)) (lv' := [(6, .int (x6 + 1)), (4, .long ((31 * x4) + ((r2 : Int32).toInt64))), (0, .ref x0), (3, .ref x3)]) C 31 rfl dX0_tellsPiece_28 3 rfl rfl (Nat.le_of_ble_eq_true rfl) rfl ?_
  refine jr_goto C 6 dX0_tellsPiece_31 (by decide) ?_
  exact jr_sub [2, 3, 1, 0] rfl (hc6 _ h)
theorem wk_X0_tellsPiece_37 {X : jX} {G : jG} {K : jS → Int64 → Prop} (C : jC (X, G, 7, jA X G tvl K) d_X0_tellsPiece cX0_tellsPiece "Samovar" (some .long) yX0_tellsPiece) {S : jS} {x0 : Nat} {x3 : Nat} {x4 : Int64} {x6 : Int32} {Kc37 : jS × Int64 × Int32 → Prop} (hc37 : ∀ z : jS × Int64 × Int32, Kc37 z → jJ (X, G, 7, jA X G tvl K) z.1 [(0, .ref x0), (3, .ref x3), (4, .long z.2.1), (6, .int z.2.2)] 37 []) (h : wp_X0_tellsPiece_37 S x0 x3 x4 x6 Kc37 K) : jJ (X, G, 7, jA X G tvl K) S [(0, .ref x0), (3, .ref x3), (4, .long x4), (6, .int x6)] 37 [] := by
  unfold wp_X0_tellsPiece_37 at h
  refine jr_iload C 39 rfl dX0_tellsPiece_37 3 rfl ?_
  refine jr_iconst (v := 2) C 40 rfl dX0_tellsPiece_39 (by decide) ?_
  refine jr_icmp_ge C 66 43 rfl dX0_tellsPiece_40 (by decide) (fun c5 => ?_) (fun c5 => ?_)
  · have h := h.1 c5
    refine jr_ldc2 (v := 31) C 69 rfl dX0_tellsPiece_66 q1261 ?_
    refine jr_lload C 71 rfl dX0_tellsPiece_69 2 rfl ?_
    refine jr_lmul C 72 rfl dX0_tellsPiece_71 ?_
    refine jr_aload_n C 73 rfl dX0_tellsPiece_72 rfl 0 rfl ?_
    refine jr_aload_n C 74 rfl dX0_tellsPiece_73 rfl 1 rfl ?_
    obtain ⟨⟨V, hb⟩, h⟩ := h
    refine jr_callVWi (r0 := (RX0, TX0, 24)) (As := [.ref x3]) (st := [.long (31 * x4)]) C 77 rfl (m_X0_kindOf C.2.2.2.2.2.2.2.2.2.2.2.2.2.2.2 h) rfl hb rfl q1087 q1089 qs31 q94 q1090 (by decide) (by decide) ndV_X0_kindOf (Nat.le_of_ble_eq_true rfl) dX0_tellsPiece_74 (fun S1 r2 h => ?_)
    refine jr_i2l C 78 rfl dX0_tellsPiece_77 ?_
    refine jr_ladd C 79 rfl dX0_tellsPiece_78 ?_
    exact jr_lreturn C dX0_tellsPiece_79 h
  · have h := h.2 c5
    refine jr_ldc2 (v := 31) C 46 rfl dX0_tellsPiece_43 q1261 ?_
    refine jr_lload C 48 rfl dX0_tellsPiece_46 2 rfl ?_
    refine jr_lmul C 49 rfl dX0_tellsPiece_48 ?_
    refine jr_aload_n C 50 rfl dX0_tellsPiece_49 rfl 0 rfl ?_
    refine jr_aload_n C 51 rfl dX0_tellsPiece_50 rfl 1 rfl ?_
    refine jr_iload C 53 rfl dX0_tellsPiece_51 3 rfl ?_
    obtain ⟨⟨V, hb⟩, h⟩ := h
    refine jr_callVWi (r0 := (RX0, TX0, 24)) (As := [.ref x3, .int x6]) (st := [.long (31 * x4)]) C 56 rfl (m_X0_betterOf C.2.2.2.2.2.2.2.2.2.2.2.2.2.2.2 h) rfl hb rfl q1021 q1023 qs23 q94 q1024 (by decide) (by decide) ndV_X0_betterOf (Nat.le_of_ble_eq_true rfl) dX0_tellsPiece_53 (fun S3 r4 h => ?_)
    refine jr_i2l C 57 rfl dX0_tellsPiece_56 ?_
    refine jr_ladd C 58 rfl dX0_tellsPiece_57 ?_
    refine jr_lstore (lv' := [(4, .long ((31 * x4) + ((r4 : Int32).toInt64))), (0, .ref x0), (3, .ref x3), (6, .int x6)]) C 60 rfl dX0_tellsPiece_58 (Nat.le_of_ble_eq_true rfl) rfl ?_
    refine jr_iinc (v := (x6 + 1)) (lv' := [(6, .int (x6 + 1)), (4, .long ((31 * x4) + ((r4 : Int32).toInt64))), (0, .ref x0), (3, .ref x3)]) C 63 rfl dX0_tellsPiece_60 3 rfl rfl (Nat.le_of_ble_eq_true rfl) rfl ?_
    refine jr_goto C 37 dX0_tellsPiece_63 (by decide) ?_
    exact jr_sub [2, 3, 1, 0] rfl (hc37 _ h)
theorem wk_X0_tellsPiece_37_L {X : jX} {G : jG} {K : jS → Int64 → Prop} (C : jC (X, G, 7, jA X G tvl K) d_X0_tellsPiece cX0_tellsPiece "Samovar" (some .long) yX0_tellsPiece) {x0 : Nat} {x3 : Nat}  : ∀ (n : Nat) (z : jS × Int64 × Int32), jlp n (wp_X0_tellsPiece_37_L x0 x3 K) z → jJ (X, G, 7, jA X G tvl K) z.1 [(0, .ref x0), (3, .ref x3), (4, .long z.2.1), (6, .int z.2.2)] 37 [] := by
  intro n
  induction n with
  | zero => intro z h; exact h.elim
  | succ n ih => intro z h; exact wk_X0_tellsPiece_37 C ih h
theorem wk_X0_tellsPiece_34 {X : jX} {G : jG} {K : jS → Int64 → Prop} (C : jC (X, G, 7, jA X G tvl K) d_X0_tellsPiece cX0_tellsPiece "Samovar" (some .long) yX0_tellsPiece) {S : jS} {x0 : Nat} {x3 : Nat} {x4 : Int64}  (h : wp_X0_tellsPiece_34 S x0 x3 x4 K) : jJ (X, G, 7, jA X G tvl K) S [(0, .ref x0), (3, .ref x3), (4, .long x4)] 34 [] := by
  unfold wp_X0_tellsPiece_34 at h
  refine jr_iconst (v := 0) C 35 rfl dX0_tellsPiece_34 (by decide) ?_
  refine jr_istore (lv' := [(6, .int 0), (0, .ref x0), (3, .ref x3), (4, .long x4)]) C 37 rfl dX0_tellsPiece_35 (Nat.le_of_ble_eq_true rfl) rfl ?_
  obtain ⟨n, h⟩ := h
  exact jr_sub [1, 2, 3, 0] rfl (wk_X0_tellsPiece_37_L C  n _ h)
theorem wk_X0_tellsPiece_6 {X : jX} {G : jG} {K : jS → Int64 → Prop} (C : jC (X, G, 7, jA X G tvl K) d_X0_tellsPiece cX0_tellsPiece "Samovar" (some .long) yX0_tellsPiece) {S : jS} {x0 : Nat} {x3 : Nat} {x4 : Int64} {x6 : Int32} {Kc6 : jS × Int64 × Int32 → Prop} (hc6 : ∀ z : jS × Int64 × Int32, Kc6 z → jJ (X, G, 7, jA X G tvl K) z.1 [(0, .ref x0), (3, .ref x3), (4, .long z.2.1), (6, .int z.2.2)] 6 []) (h : wp_X0_tellsPiece_6 S x0 x3 x4 x6 Kc6 K) : jJ (X, G, 7, jA X G tvl K) S [(0, .ref x0), (3, .ref x3), (4, .long x4), (6, .int x6)] 6 [] := by
  unfold wp_X0_tellsPiece_6 at h
  refine jr_iload C 8 rfl dX0_tellsPiece_6 3 rfl ?_
  refine jr_iconst (v := 3) C 9 rfl dX0_tellsPiece_8 (by decide) ?_
  refine jr_icmp_ge C 34 12 rfl dX0_tellsPiece_9 (by decide) (fun c1 => ?_) (fun c1 => ?_)
  · have h := h.1 c1
    exact jr_sub [0, 1, 2] rfl (wk_X0_tellsPiece_34 C  h)
  · have h := h.2 c1
    exact (wk_X0_tellsPiece_12 C hc6 h)
theorem wk_X0_tellsPiece_6_L {X : jX} {G : jG} {K : jS → Int64 → Prop} (C : jC (X, G, 7, jA X G tvl K) d_X0_tellsPiece cX0_tellsPiece "Samovar" (some .long) yX0_tellsPiece) {x0 : Nat} {x3 : Nat}  : ∀ (n : Nat) (z : jS × Int64 × Int32), jlp n (wp_X0_tellsPiece_6_L x0 x3 K) z → jJ (X, G, 7, jA X G tvl K) z.1 [(0, .ref x0), (3, .ref x3), (4, .long z.2.1), (6, .int z.2.2)] 6 [] := by
  intro n
  induction n with
  | zero => intro z h; exact h.elim
  | succ n ih => intro z h; exact wk_X0_tellsPiece_6 C ih h
theorem wk_X0_tellsPiece_0 {X : jX} {G : jG} {K : jS → Int64 → Prop} (C : jC (X, G, 7, jA X G tvl K) d_X0_tellsPiece cX0_tellsPiece "Samovar" (some .long) yX0_tellsPiece) {S : jS} {x0 : Nat} {x1 : Int64} {x3 : Nat}  (h : wp_X0_tellsPiece S x0 x1 x3 K) : jJ (X, G, 7, jA X G tvl K) S [(0, .ref x0), (1, .long x1), (3, .ref x3)] 0 [] := by
  unfold wp_X0_tellsPiece at h
  refine jr_lload_n C 1 rfl dX0_tellsPiece_0 rfl 1 rfl ?_
  refine jr_lstore (lv' := [(4, .long x1), (0, .ref x0), (1, .long x1), (3, .ref x3)]) C 3 rfl dX0_tellsPiece_1 (Nat.le_of_ble_eq_true rfl) rfl ?_
  refine jr_iconst (v := 0) C 4 rfl dX0_tellsPiece_3 (by decide) ?_
  refine jr_istore (lv' := [(6, .int 0), (4, .long x1), (0, .ref x0), (1, .long x1), (3, .ref x3)]) C 6 rfl dX0_tellsPiece_4 (Nat.le_of_ble_eq_true rfl) rfl ?_
  obtain ⟨n, h⟩ := h
  exact jr_sub [2, 4, 1, 0] rfl (wk_X0_tellsPiece_6_L C  n _ h)
theorem m_X0_tellsPiece {l : Launch} (hl : l.stackTraces = false) {G : jG} {K : jS → Int64 → Prop} {S : jS} {x0 : Nat} {x1 : Int64} {x3 : Nat} (h : wp_X0_tellsPiece S x0 x1 x3 K) : jMet l G d_X0_tellsPiece yX0_tellsPiece (ws_ yX0_tellsPiece cX0_tellsPiece 7 (some .long)) [.ref x0, .long x1, .ref x3] S tvl K :=
  jMet.of hl rfl (by decide) (Nat.le_of_ble_eq_true rfl) (fun X C => jr_sub [0, 1, 2] rfl (wk_X0_tellsPiece_0 C h))
theorem wk_X0_thirstNow_54 {X : jX} {G : jG} {K : jS → Int32 → Prop} (C : jC (X, G, 3, jA X G tvi K) d_X0_thirstNow cX0_thirstNow "Samovar" (some .int) yX0_thirstNow) {S : jS} {t0 : Int32} {t1 : Int32} {x0 : Nat} {x2 : Int32} {Kc4 : jS × Int32 × Int32 → Prop} (hc4 : ∀ z : jS × Int32 × Int32, Kc4 z → jJ (X, G, 3, jA X G tvi K) z.1 [(0, .ref x0), (1, .int z.2.1), (2, .int z.2.2)] 4 []) (h : wp_X0_thirstNow_54 S t0 t1 x0 x2 Kc4 K) : jJ (X, G, 3, jA X G tvi K) S [(0, .ref x0), (2, .int x2)] 54 [.int t1, .int t0] := by
  unfold wp_X0_thirstNow_54 at h
  refine jr_ior C 55 rfl dX0_thirstNow_54 ?_
  refine jr_istore_n (lv' := [(1, .int (t0 ||| t1)), (0, .ref x0), (2, .int x2)]) C 56 rfl dX0_thirstNow_55 rfl (Nat.le_of_ble_eq_true rfl) rfl ?_
  refine jr_iinc (v := (x2 + 1)) (lv' := [(2, .int (x2 + 1)), (1, .int (t0 ||| t1)), (0, .ref x0)]) C 59 rfl dX0_thirstNow_56 2 rfl rfl (Nat.le_of_ble_eq_true rfl) rfl ?_
  refine jr_goto C 4 dX0_thirstNow_59 (by decide) ?_
  exact jr_sub [2, 1, 0] rfl (hc4 _ h)
theorem wk_X0_thirstNow_4 {X : jX} {G : jG} {K : jS → Int32 → Prop} (C : jC (X, G, 3, jA X G tvi K) d_X0_thirstNow cX0_thirstNow "Samovar" (some .int) yX0_thirstNow) {S : jS} {x0 : Nat} {x1 : Int32} {x2 : Int32} {Kc4 : jS × Int32 × Int32 → Prop} (hc4 : ∀ z : jS × Int32 × Int32, Kc4 z → jJ (X, G, 3, jA X G tvi K) z.1 [(0, .ref x0), (1, .int z.2.1), (2, .int z.2.2)] 4 []) (h : wp_X0_thirstNow_4 S x0 x1 x2 Kc4 K) : jJ (X, G, 3, jA X G tvi K) S [(0, .ref x0), (1, .int x1), (2, .int x2)] 4 [] := by
  unfold wp_X0_thirstNow_4 at h
  refine jr_iload_n C 5 rfl dX0_thirstNow_4 rfl 2 rfl ?_
  refine jr_aload_n C 6 rfl dX0_thirstNow_5 rfl 0 rfl ?_
  refine jr_getr C 9 rfl fo_0_4 q232 dX0_thirstNow_6 h (fun v1 h => ?_)
  obtain ⟨⟨V, hb⟩, h⟩ := h
  refine jr_callVi (r0 := (RJ2, TJ2, 3)) (As := []) (st := [.int x2]) C 12 rfl (m_J2_size C.2.2.2.2.2.2.2.2.2.2.2.2.2.2.2 h) rfl hb rfl q700 q378 q379 q99 q380 (by decide) (by decide) ndV_J2_size (Nat.le_of_ble_eq_true rfl) dX0_thirstNow_9 (fun S2 r3 h => ?_)
  refine jr_icmp_ge C 62 15 rfl dX0_thirstNow_12 (by decide) (fun c13 => ?_) (fun c13 => ?_)
  · have h := h.1 c13
    refine jr_iload_n C 63 rfl dX0_thirstNow_62 rfl 1 rfl ?_
    exact jr_ireturn C dX0_thirstNow_63 h
  · have h := h.2 c13
    refine jr_iload_n C 16 rfl dX0_thirstNow_15 rfl 1 rfl ?_
    refine jr_aload_n C 17 rfl dX0_thirstNow_16 rfl 0 rfl ?_
    refine jr_getr C 20 rfl fo_0_4 q232 dX0_thirstNow_17 h (fun v4 h => ?_)
    refine jr_iload_n C 21 rfl dX0_thirstNow_20 rfl 2 rfl ?_
    obtain ⟨⟨V, hb⟩, h⟩ := h
    refine jr_callVr (r0 := (RJ2, TJ2, 3)) (As := [.int x2]) (st := [.int x1]) C 24 rfl (m_J2_get C.2.2.2.2.2.2.2.2.2.2.2.2.2.2.2 h) rfl hb rfl q702 q703 q704 q99 q705 (by decide) (by decide) ndV_J2_get (Nat.le_of_ble_eq_true rfl) dX0_thirstNow_21 (fun S5 r6 h => ?_)
    obtain ⟨hz, h⟩ := h
    refine jr_cast C 27 rfl (cs := [4]) can_Samovar_Guest (by decide) q213 dX0_thirstNow_24 hz ?_
    refine jr_getiN C 30 rfl fo_4_4 (jx_g q572 rfl) dX0_thirstNow_27 h (fun v7 h => ?_)
    refine jr_aload_n C 31 rfl dX0_thirstNow_30 rfl 0 rfl ?_
    refine jr_getr C 34 rfl fo_0_4 q232 dX0_thirstNow_31 h (fun v8 h => ?_)
    refine jr_iload_n C 35 rfl dX0_thirstNow_34 rfl 2 rfl ?_
    obtain ⟨⟨V, hb⟩, h⟩ := h
    refine jr_callVr (r0 := (RJ2, TJ2, 3)) (As := [.int x2]) (st := [.int v7, .int x1]) C 38 rfl (m_J2_get C.2.2.2.2.2.2.2.2.2.2.2.2.2.2.2 h) rfl hb rfl q702 q703 q704 q99 q705 (by decide) (by decide) ndV_J2_get (Nat.le_of_ble_eq_true rfl) dX0_thirstNow_35 (fun S9 r10 h => ?_)
    obtain ⟨hz, h⟩ := h
    refine jr_cast C 41 rfl (cs := [4]) can_Samovar_Guest (by decide) q213 dX0_thirstNow_38 hz ?_
    refine jr_getiN C 44 rfl fo_4_2 (jx_g q568 rfl) dX0_thirstNow_41 h (fun v11 h => ?_)
    refine jr_icmp_ge C 53 47 rfl dX0_thirstNow_44 (by decide) (fun c12 => ?_) (fun c12 => ?_)
    · have h := h.1 c12
      refine jr_iconst (v := 0) C 54 rfl dX0_thirstNow_53 (by decide) ?_
      exact jr_sub [0, 2] rfl (wk_X0_thirstNow_54 C hc4 h)
    · have h := h.2 c12
      refine jr_iconst (v := 1) C 48 rfl dX0_thirstNow_47 (by decide) ?_
      refine jr_iload_n C 49 rfl dX0_thirstNow_48 rfl 2 rfl ?_
      refine jr_ishl C 50 rfl dX0_thirstNow_49 ?_
      refine jr_goto C 54 dX0_thirstNow_50 (by decide) ?_
      exact jr_sub [0, 2] rfl (wk_X0_thirstNow_54 C hc4 h)
theorem wk_X0_thirstNow_4_L {X : jX} {G : jG} {K : jS → Int32 → Prop} (C : jC (X, G, 3, jA X G tvi K) d_X0_thirstNow cX0_thirstNow "Samovar" (some .int) yX0_thirstNow) {x0 : Nat}  : ∀ (n : Nat) (z : jS × Int32 × Int32), jlp n (wp_X0_thirstNow_4_L x0 K) z → jJ (X, G, 3, jA X G tvi K) z.1 [(0, .ref x0), (1, .int z.2.1), (2, .int z.2.2)] 4 [] := by
  intro n
  induction n with
  | zero => intro z h; exact h.elim
  | succ n ih => intro z h; exact wk_X0_thirstNow_4 C ih h
theorem wk_X0_thirstNow_0 {X : jX} {G : jG} {K : jS → Int32 → Prop} (C : jC (X, G, 3, jA X G tvi K) d_X0_thirstNow cX0_thirstNow "Samovar" (some .int) yX0_thirstNow) {S : jS} {x0 : Nat}  (h : wp_X0_thirstNow S x0 K) : jJ (X, G, 3, jA X G tvi K) S [(0, .ref x0)] 0 [] := by
  unfold wp_X0_thirstNow at h
  refine jr_iconst (v := 0) C 1 rfl dX0_thirstNow_0 (by decide) ?_
  refine jr_istore_n (lv' := [(1, .int 0), (0, .ref x0)]) C 2 rfl dX0_thirstNow_1 rfl (Nat.le_of_ble_eq_true rfl) rfl ?_
  refine jr_iconst (v := 0) C 3 rfl dX0_thirstNow_2 (by decide) ?_
  refine jr_istore_n (lv' := [(2, .int 0), (1, .int 0), (0, .ref x0)]) C 4 rfl dX0_thirstNow_3 rfl (Nat.le_of_ble_eq_true rfl) rfl ?_
  obtain ⟨n, h⟩ := h
  exact jr_sub [2, 1, 0] rfl (wk_X0_thirstNow_4_L C  n _ h)
theorem m_X0_thirstNow {l : Launch} (hl : l.stackTraces = false) {G : jG} {K : jS → Int32 → Prop} {S : jS} {x0 : Nat} (h : wp_X0_thirstNow S x0 K) : jMet l G d_X0_thirstNow yX0_thirstNow (ws_ yX0_thirstNow cX0_thirstNow 3 (some .int)) [.ref x0] S tvi K :=
  jMet.of hl rfl (by decide) (Nat.le_of_ble_eq_true rfl) (fun X C => jr_sub [0] rfl (wk_X0_thirstNow_0 C h))
theorem ndD_Text_read_1_2 : ("Samovar$Text" : String) ≠ "java/lang/invoke/MethodHandle" ∧ ("Samovar$Text" : String) ≠ "java/lang/invoke/VarHandle" ∧ (parseMethodDescriptor "()I").map (fun d => d.parameters.length) = some 0 := by decide +kernel
theorem dr_Text_read_1_2 {Z : jZ} {d : Nat} {cc : ByteArray} {own : String} {ret : Option FieldType} {y : MethodName} {pc : Nat} {S : jS} {lv : List (Nat × Value)} {st As : List Value} (C : jC Z d cc own ret y) (pc' : Nat) (hp : pc + 3 = pc') {a : Nat}  {K : jS → Int32 → Prop} {stk : List Value} (h : wpD_Text_read_1_2 S a  K) (hstk : [].reverse ++ .ref a :: st = stk) {index : Nat} (q1 : Cond.methodLink own index (⟨"Samovar$Text", "read", "()I"⟩ : MethodName) ∈ lw_all) (hd : d_D_Text_read_1_2 + 1 ≤ d) (hst : (st.map fun v => v.category).sum ≤ 8) (hdg : decode cc pc = .ok (.invokevirtual index, 3)) (kk : ∀ (S1 : jS) (r : Int32), K S1 r → jJ Z S1 lv pc' (.int r :: st)) : jJ Z S lv pc stk := by
  unfold wpD_Text_read_1_2 at h
  rcases h with ⟨⟨V, hb⟩, h⟩ | ⟨⟨V, hb⟩, h⟩
  · exact jr_callUi (As := []) (r0 := (RX2, TX2, 6)) (owner := "Samovar$Text") C pc' hp (m_X1_read C.2.2.2.2.2.2.2.2.2.2.2.2.2.2.2 h) hstk hb rfl (va_Decl.abs (C.2.2.2.2.2.2.2.1.2.2.2.1 _ (jx_g q698 rfl))) q1 q344 (C.2.2.2.2.1 _ q346) q343 q95 q347 (Nat.le_trans (Nat.le_of_ble_eq_true rfl) hd) (by decide) ndD_Text_read_1_2 hst hdg kk
  · exact jr_callUi (As := []) (r0 := (RX3, TX3, 6)) (owner := "Samovar$Text") C pc' hp (m_X1_read C.2.2.2.2.2.2.2.2.2.2.2.2.2.2.2 h) hstk hb rfl (va_Decl.abs (C.2.2.2.2.2.2.2.1.2.2.2.1 _ (jx_g q698 rfl))) q1 q344 (C.2.2.2.2.1 _ q345) q343 q95 q347 (Nat.le_trans (Nat.le_of_ble_eq_true rfl) hd) (by decide) ndD_Text_read_1_2 hst hdg kk
theorem wk_X0_digest_12 {X : jX} {G : jG} {K : jS → Int64 → Prop} (C : jC (X, G, 5, jA X G tvl K) d_X0_digest cX0_digest "Samovar" (some .long) yX0_digest) {S : jS} {x0 : Nat} {x1 : Int64} {x3 : Int32} {Kc6 : jS × Int64 × Int32 → Prop} (hc6 : ∀ z : jS × Int64 × Int32, Kc6 z → jJ (X, G, 5, jA X G tvl K) z.1 [(0, .ref x0), (1, .long z.2.1), (3, .int z.2.2)] 6 []) (h : wp_X0_digest_12 S x0 x1 x3 Kc6 K) : jJ (X, G, 5, jA X G tvl K) S [(0, .ref x0), (1, .long x1), (3, .int x3)] 12 [] := by
  unfold wp_X0_digest_12 at h
  refine jr_ldc2 (v := 31) C 15 rfl dX0_digest_12 q1261 ?_
  refine jr_lload_n C 16 rfl dX0_digest_15 rfl 1 rfl ?_
  refine jr_lmul C 17 rfl dX0_digest_16 ?_
  refine jr_aload_n C 18 rfl dX0_digest_17 rfl 0 rfl ?_
  refine jr_iload_n C 19 rfl dX0_digest_18 rfl 2 rfl ?_
  obtain ⟨⟨V, hb⟩, h⟩ := h
  refine jr_callVi (r0 := (RX0, TX0, 24)) (As := [.int x3]) (st := [.long (31 * x1)]) C 22 rfl (m_X0_count C.2.2.2.2.2.2.2.2.2.2.2.2.2.2.2 h) rfl hb rfl q1262 q1244 q1245 q94 q1246 (by decide) (by decide) ndV_X0_count (Nat.le_of_ble_eq_true rfl) dX0_digest_19 (fun S1 r2 h => ?_)
  refine jr_i2l C 23 rfl dX0_digest_22 ?_
  refine jr_ladd C 24 rfl dX0_digest_23 ?_
  refine jr_lstore_n (lv' := [(1, .long ((31 * x1) + ((r2 : Int32).toInt64))), (0, .ref x0), (3, .int x3)]) C 25 rfl dX0_digest_24 rfl (Nat.le_of_ble_eq_true rfl) rfl ?_
  refine jr_iinc (v := (x3 + 1)) (lv' := [(3, .int (x3 + 1)), (1, .long ((31 * x1) + ((r2 : Int32).toInt64))), (0, .ref x0)]) C 28 rfl dX0_digest_25 2 rfl rfl (Nat.le_of_ble_eq_true rfl) rfl ?_
  refine jr_goto C 6 dX0_digest_28 (by decide) ?_
  exact jr_sub [2, 1, 0] rfl (hc6 _ h)
theorem wk_X0_digest_54 {X : jX} {G : jG} {K : jS → Int64 → Prop} (C : jC (X, G, 5, jA X G tvl K) d_X0_digest cX0_digest "Samovar" (some .long) yX0_digest) {S : jS} {t0 : Int64} {x0 : Nat} {x3 : Int32} {Kc33 : jS × Int64 × Int32 → Prop} (hc33 : ∀ z : jS × Int64 × Int32, Kc33 z → jJ (X, G, 5, jA X G tvl K) z.1 [(0, .ref x0), (1, .long z.2.1), (3, .int z.2.2)] 33 []) (h : wp_X0_digest_54 S t0 x0 x3 Kc33 K) : jJ (X, G, 5, jA X G tvl K) S [(0, .ref x0), (3, .int x3)] 54 [.long t0] := by
  unfold wp_X0_digest_54 at h
  refine jr_lstore_n (lv' := [(1, .long t0), (0, .ref x0), (3, .int x3)]) C 55 rfl dX0_digest_54 rfl (Nat.le_of_ble_eq_true rfl) rfl ?_
  refine jr_iinc (v := (x3 + 1)) (lv' := [(3, .int (x3 + 1)), (1, .long t0), (0, .ref x0)]) C 58 rfl dX0_digest_55 2 rfl rfl (Nat.le_of_ble_eq_true rfl) rfl ?_
  refine jr_goto C 33 dX0_digest_58 (by decide) ?_
  exact jr_sub [2, 1, 0] rfl (hc33 _ h)
theorem wk_X0_digest_96 {X : jX} {G : jG} {K : jS → Int64 → Prop} (C : jC (X, G, 5, jA X G tvl K) d_X0_digest cX0_digest "Samovar" (some .long) yX0_digest) {S : jS} {t0 : Int64} {t1 : Nat} {t2 : Int32} {x0 : Nat} {x3 : Int32} {x4 : Int32} {Kc67 : jS × Int64 × Int32 → Prop} (hc67 : ∀ z : jS × Int64 × Int32, Kc67 z → jJ (X, G, 5, jA X G tvl K) z.1 [(0, .ref x0), (1, .long z.2.1), (3, .int z.2.2)] 67 []) {Kc76 : jS × Int64 × Int32 → Prop} (hc76 : ∀ z : jS × Int64 × Int32, Kc76 z → jJ (X, G, 5, jA X G tvl K) z.1 [(0, .ref x0), (1, .long z.2.1), (3, .int x3), (4, .int z.2.2)] 76 []) (h : wp_X0_digest_96 S t0 t1 t2 x0 x3 x4 Kc67 Kc76 K) : jJ (X, G, 5, jA X G tvl K) S [(0, .ref x0), (3, .int x3), (4, .int x4)] 96 [.int t2, .ref t1, .long t0] := by
  unfold wp_X0_digest_96 at h
  refine jr_iald C 97 rfl dX0_digest_96 h (fun v1 h => ?_)
  refine jr_i2l C 98 rfl dX0_digest_97 ?_
  refine jr_ladd C 99 rfl dX0_digest_98 ?_
  refine jr_lstore_n (lv' := [(1, .long (t0 + ((v1 : Int32).toInt64))), (0, .ref x0), (3, .int x3), (4, .int x4)]) C 100 rfl dX0_digest_99 rfl (Nat.le_of_ble_eq_true rfl) rfl ?_
  refine jr_iinc (v := (x4 + 1)) (lv' := [(4, .int (x4 + 1)), (1, .long (t0 + ((v1 : Int32).toInt64))), (0, .ref x0), (3, .int x3)]) C 103 rfl dX0_digest_100 3 rfl rfl (Nat.le_of_ble_eq_true rfl) rfl ?_
  refine jr_goto C 76 dX0_digest_103 (by decide) ?_
  exact jr_sub [2, 1, 3, 0] rfl (hc76 _ h)
theorem wk_X0_digest_118 {X : jX} {G : jG} {K : jS → Int64 → Prop} (C : jC (X, G, 5, jA X G tvl K) d_X0_digest cX0_digest "Samovar" (some .long) yX0_digest) {S : jS} {t0 : Int64} {t1 : Int64} {x0 : Nat} {x3 : Int32} {Kc67 : jS × Int64 × Int32 → Prop} (hc67 : ∀ z : jS × Int64 × Int32, Kc67 z → jJ (X, G, 5, jA X G tvl K) z.1 [(0, .ref x0), (1, .long z.2.1), (3, .int z.2.2)] 67 []) (h : wp_X0_digest_118 S t0 t1 x0 x3 Kc67 K) : jJ (X, G, 5, jA X G tvl K) S [(0, .ref x0), (3, .int x3)] 118 [.long t1, .long t0] := by
  unfold wp_X0_digest_118 at h
  refine jr_ladd C 119 rfl dX0_digest_118 ?_
  refine jr_lstore_n (lv' := [(1, .long (t0 + t1)), (0, .ref x0), (3, .int x3)]) C 120 rfl dX0_digest_119 rfl (Nat.le_of_ble_eq_true rfl) rfl ?_
  refine jr_iinc (v := (x3 + 1)) (lv' := [(3, .int (x3 + 1)), (1, .long (t0 + t1)), (0, .ref x0)]) C 123 rfl dX0_digest_120 2 rfl rfl (Nat.le_of_ble_eq_true rfl) rfl ?_
  refine jr_goto C 67 dX0_digest_123 (by decide) ?_
  exact jr_sub [2, 1, 0] rfl (hc67 _ h)
theorem wk_X0_digest_76 {X : jX} {G : jG} {K : jS → Int64 → Prop} (C : jC (X, G, 5, jA X G tvl K) d_X0_digest cX0_digest "Samovar" (some .long) yX0_digest) {S : jS} {x0 : Nat} {x1 : Int64} {x3 : Int32} {x4 : Int32} {Kc67 : jS × Int64 × Int32 → Prop} (hc67 : ∀ z : jS × Int64 × Int32, Kc67 z → jJ (X, G, 5, jA X G tvl K) z.1 [(0, .ref x0), (1, .long z.2.1), (3, .int z.2.2)] 67 []) {Kc76 : jS × Int64 × Int32 → Prop} (hc76 : ∀ z : jS × Int64 × Int32, Kc76 z → jJ (X, G, 5, jA X G tvl K) z.1 [(0, .ref x0), (1, .long z.2.1), (3, .int x3), (4, .int z.2.2)] 76 []) (h : wp_X0_digest_76 S x0 x1 x3 x4 Kc67 Kc76 K) : jJ (X, G, 5, jA X G tvl K) S [(0, .ref x0), (1, .long x1), (3, .int x3), (4, .int x4)] 76 [] := by
  unfold wp_X0_digest_76 at h
  refine jr_iload C 78 rfl dX0_digest_76 3 rfl ?_
  refine jr_bipush (v := 6) C 80 rfl dX0_digest_78 (by decide) ?_
  refine jr_icmp_ge C 106 83 rfl dX0_digest_80 (by decide) (fun c5 => ?_) (fun c5 => ?_)
  · have h := h.1 c5
    refine jr_ldc2 (v := 31) C 109 rfl dX0_digest_106 q1261 ?_
    refine jr_lload_n C 110 rfl dX0_digest_109 rfl 1 rfl ?_
    refine jr_lmul C 111 rfl dX0_digest_110 ?_
    refine jr_aload_n C 112 rfl dX0_digest_111 rfl 0 rfl ?_
    refine jr_getr C 115 rfl fo_0_15 q243 dX0_digest_112 h (fun v1 h => ?_)
    refine jr_iload_n C 116 rfl dX0_digest_115 rfl 2 rfl ?_
    refine jr_iald C 117 rfl dX0_digest_116 h (fun v2 h => ?_)
    refine jr_i2l C 118 rfl dX0_digest_117 ?_
    exact jr_sub [0, 2] rfl (wk_X0_digest_118 C hc67 h)
  · have h := h.2 c5
    refine jr_ldc2 (v := 31) C 86 rfl dX0_digest_83 q1261 ?_
    refine jr_lload_n C 87 rfl dX0_digest_86 rfl 1 rfl ?_
    refine jr_lmul C 88 rfl dX0_digest_87 ?_
    refine jr_aload_n C 89 rfl dX0_digest_88 rfl 0 rfl ?_
    refine jr_getr C 92 rfl fo_0_14 q242 dX0_digest_89 h (fun v3 h => ?_)
    refine jr_iload_n C 93 rfl dX0_digest_92 rfl 2 rfl ?_
    refine jr_aaldn C 94 rfl (t := 6) rfl rfl dX0_digest_93 h (fun v4 h => ?_)
    refine jr_iload C 96 rfl dX0_digest_94 3 rfl ?_
    exact jr_sub [0, 2, 3] rfl (wk_X0_digest_96 C hc67 hc76 h)
theorem wk_X0_digest_76_L {X : jX} {G : jG} {K : jS → Int64 → Prop} (C : jC (X, G, 5, jA X G tvl K) d_X0_digest cX0_digest "Samovar" (some .long) yX0_digest) {x0 : Nat} {x3 : Int32} {Kc67 : jS × Int64 × Int32 → Prop} (hc67 : ∀ z : jS × Int64 × Int32, Kc67 z → jJ (X, G, 5, jA X G tvl K) z.1 [(0, .ref x0), (1, .long z.2.1), (3, .int z.2.2)] 67 []) : ∀ (n : Nat) (z : jS × Int64 × Int32), jlp n (wp_X0_digest_76_L x0 x3 Kc67 K) z → jJ (X, G, 5, jA X G tvl K) z.1 [(0, .ref x0), (1, .long z.2.1), (3, .int x3), (4, .int z.2.2)] 76 [] := by
  intro n
  induction n with
  | zero => intro z h; exact h.elim
  | succ n ih => intro z h; exact wk_X0_digest_76 C hc67 ih h
theorem wk_X0_digest_155 {X : jX} {G : jG} {K : jS → Int64 → Prop} (C : jC (X, G, 5, jA X G tvl K) d_X0_digest cX0_digest "Samovar" (some .long) yX0_digest) {S : jS} {t0 : Int64} {x0 : Nat} {x3 : Int32} {Kc128 : jS × Int64 × Int32 → Prop} (hc128 : ∀ z : jS × Int64 × Int32, Kc128 z → jJ (X, G, 5, jA X G tvl K) z.1 [(0, .ref x0), (1, .long z.2.1), (3, .int z.2.2)] 128 []) (h : wp_X0_digest_155 S t0 x0 x3 Kc128 K) : jJ (X, G, 5, jA X G tvl K) S [(0, .ref x0), (3, .int x3)] 155 [.long t0] := by
  unfold wp_X0_digest_155 at h
  refine jr_lstore_n (lv' := [(1, .long t0), (0, .ref x0), (3, .int x3)]) C 156 rfl dX0_digest_155 rfl (Nat.le_of_ble_eq_true rfl) rfl ?_
  refine jr_iinc (v := (x3 + 1)) (lv' := [(3, .int (x3 + 1)), (1, .long t0), (0, .ref x0)]) C 159 rfl dX0_digest_156 2 rfl rfl (Nat.le_of_ble_eq_true rfl) rfl ?_
  refine jr_goto C 128 dX0_digest_159 (by decide) ?_
  exact jr_sub [2, 1, 0] rfl (hc128 _ h)
theorem wk_X0_digest_196 {X : jX} {G : jG} {K : jS → Int64 → Prop} (C : jC (X, G, 5, jA X G tvl K) d_X0_digest cX0_digest "Samovar" (some .long) yX0_digest) {S : jS} {x0 : Nat} {x1 : Int64} {x3 : Int32} {Kc191 : jS × Int64 × Int32 → Prop} (hc191 : ∀ z : jS × Int64 × Int32, Kc191 z → jJ (X, G, 5, jA X G tvl K) z.1 [(0, .ref x0), (1, .long z.2.1), (3, .int z.2.2)] 191 []) (h : wp_X0_digest_196 S x0 x1 x3 Kc191 K) : jJ (X, G, 5, jA X G tvl K) S [(0, .ref x0), (1, .long x1), (3, .int x3)] 196 [] := by
  unfold wp_X0_digest_196 at h
  refine jr_ldc2 (v := 31) C 199 rfl dX0_digest_196 q1261 ?_
  refine jr_lload_n C 200 rfl dX0_digest_199 rfl 1 rfl ?_
  refine jr_lmul C 201 rfl dX0_digest_200 ?_
  refine jr_aload_n C 202 rfl dX0_digest_201 rfl 0 rfl ?_
  refine jr_iload_n C 203 rfl dX0_digest_202 rfl 2 rfl ?_
  obtain ⟨⟨V, hb⟩, h⟩ := h
  refine jr_callVi (r0 := (RX0, TX0, 24)) (As := [.int x3]) (st := [.long (31 * x1)]) C 206 rfl (m_X0_sumBy C.2.2.2.2.2.2.2.2.2.2.2.2.2.2.2 h) rfl hb rfl q977 q979 qs17 q94 q980 (by decide) (by decide) ndV_X0_sumBy (Nat.le_of_ble_eq_true rfl) dX0_digest_203 (fun S1 r2 h => ?_)
  refine jr_i2l C 207 rfl dX0_digest_206 ?_
  refine jr_ladd C 208 rfl dX0_digest_207 ?_
  refine jr_lstore_n (lv' := [(1, .long ((31 * x1) + ((r2 : Int32).toInt64))), (0, .ref x0), (3, .int x3)]) C 209 rfl dX0_digest_208 rfl (Nat.le_of_ble_eq_true rfl) rfl ?_
  refine jr_iinc (v := (x3 + 1)) (lv' := [(3, .int (x3 + 1)), (1, .long ((31 * x1) + ((r2 : Int32).toInt64))), (0, .ref x0)]) C 212 rfl dX0_digest_209 2 rfl rfl (Nat.le_of_ble_eq_true rfl) rfl ?_
  refine jr_goto C 191 dX0_digest_212 (by decide) ?_
  exact jr_sub [2, 1, 0] rfl (hc191 _ h)
theorem wk_X0_digest_234 {X : jX} {G : jG} {K : jS → Int64 → Prop} (C : jC (X, G, 5, jA X G tvl K) d_X0_digest cX0_digest "Samovar" (some .long) yX0_digest) {S : jS} {x0 : Nat} {x1 : Int64} {x3 : Int32} {Kc229 : jS × Int64 × Int32 → Prop} (hc229 : ∀ z : jS × Int64 × Int32, Kc229 z → jJ (X, G, 5, jA X G tvl K) z.1 [(0, .ref x0), (1, .long z.2.1), (3, .int z.2.2)] 229 []) (h : wp_X0_digest_234 S x0 x1 x3 Kc229 K) : jJ (X, G, 5, jA X G tvl K) S [(0, .ref x0), (1, .long x1), (3, .int x3)] 234 [] := by
  unfold wp_X0_digest_234 at h
  refine jr_ldc2 (v := 31) C 237 rfl dX0_digest_234 q1261 ?_
  refine jr_lload_n C 238 rfl dX0_digest_237 rfl 1 rfl ?_
  refine jr_lmul C 239 rfl dX0_digest_238 ?_
  refine jr_aload_n C 240 rfl dX0_digest_239 rfl 0 rfl ?_
  refine jr_iload_n C 241 rfl dX0_digest_240 rfl 2 rfl ?_
  obtain ⟨⟨V, hb⟩, h⟩ := h
  refine jr_callVi (r0 := (RX0, TX0, 24)) (As := [.int x3]) (st := [.long (31 * x1)]) C 244 rfl (m_X0_hottestBy C.2.2.2.2.2.2.2.2.2.2.2.2.2.2.2 h) rfl hb rfl q1001 q1003 qs21 q94 q1004 (by decide) (by decide) ndV_X0_hottestBy (Nat.le_of_ble_eq_true rfl) dX0_digest_241 (fun S1 r2 h => ?_)
  refine jr_i2l C 245 rfl dX0_digest_244 ?_
  refine jr_ladd C 246 rfl dX0_digest_245 ?_
  refine jr_lstore_n (lv' := [(1, .long ((31 * x1) + ((r2 : Int32).toInt64))), (0, .ref x0), (3, .int x3)]) C 247 rfl dX0_digest_246 rfl (Nat.le_of_ble_eq_true rfl) rfl ?_
  refine jr_iinc (v := (x3 + 1)) (lv' := [(3, .int (x3 + 1)), (1, .long ((31 * x1) + ((r2 : Int32).toInt64))), (0, .ref x0)]) C 250 rfl dX0_digest_247 2 rfl rfl (Nat.le_of_ble_eq_true rfl) rfl ?_
  refine jr_goto C 229 dX0_digest_250 (by decide) ?_
  exact jr_sub [2, 1, 0] rfl (hc229 _ h)
theorem wk_X0_digest_272 {X : jX} {G : jG} {K : jS → Int64 → Prop} (C : jC (X, G, 5, jA X G tvl K) d_X0_digest cX0_digest "Samovar" (some .long) yX0_digest) {S : jS} {x0 : Nat} {x1 : Int64} {x3 : Int32} {Kc267 : jS × Int64 × Int32 → Prop} (hc267 : ∀ z : jS × Int64 × Int32, Kc267 z → jJ (X, G, 5, jA X G tvl K) z.1 [(0, .ref x0), (1, .long z.2.1), (3, .int z.2.2)] 267 []) (h : wp_X0_digest_272 S x0 x1 x3 Kc267 K) : jJ (X, G, 5, jA X G tvl K) S [(0, .ref x0), (1, .long x1), (3, .int x3)] 272 [] := by
  unfold wp_X0_digest_272 at h
  refine jr_ldc2 (v := 31) C 275 rfl dX0_digest_272 q1261 ?_
  refine jr_lload_n C 276 rfl dX0_digest_275 rfl 1 rfl ?_
  refine jr_lmul C 277 rfl dX0_digest_276 ?_
  refine jr_aload_n C 278 rfl dX0_digest_277 rfl 0 rfl ?_
  refine jr_iload_n C 279 rfl dX0_digest_278 rfl 2 rfl ?_
  obtain ⟨⟨V, hb⟩, h⟩ := h
  refine jr_callVWi (r0 := (RX0, TX0, 24)) (As := [.int x3]) (st := [.long (31 * x1)]) C 282 rfl (m_X0_fillBy C.2.2.2.2.2.2.2.2.2.2.2.2.2.2.2 h) rfl hb rfl q1030 q1032 qs24 q94 q1033 (by decide) (by decide) ndV_X0_fillBy (Nat.le_of_ble_eq_true rfl) dX0_digest_279 (fun S1 r2 h => ?_)
  refine jr_i2l C 283 rfl dX0_digest_282 ?_
  refine jr_ladd C 284 rfl dX0_digest_283 ?_
  refine jr_lstore_n (lv' := [(1, .long ((31 * x1) + ((r2 : Int32).toInt64))), (0, .ref x0), (3, .int x3)]) C 285 rfl dX0_digest_284 rfl (Nat.le_of_ble_eq_true rfl) rfl ?_
  refine jr_iinc (v := (x3 + 1)) (lv' := [(3, .int (x3 + 1)), (1, .long ((31 * x1) + ((r2 : Int32).toInt64))), (0, .ref x0)]) C 288 rfl dX0_digest_285 2 rfl rfl (Nat.le_of_ble_eq_true rfl) rfl ?_
  refine jr_goto C 267 dX0_digest_288 (by decide) ?_
  exact jr_sub [2, 1, 0] rfl (hc267 _ h)
theorem wk_X0_digest_298 {X : jX} {G : jG} {K : jS → Int64 → Prop} (C : jC (X, G, 5, jA X G tvl K) d_X0_digest cX0_digest "Samovar" (some .long) yX0_digest) {S : jS} {x0 : Nat} {x1 : Int64} {x3 : Int32} {Kc293 : jS × Int64 × Int32 → Prop} (hc293 : ∀ z : jS × Int64 × Int32, Kc293 z → jJ (X, G, 5, jA X G tvl K) z.1 [(0, .ref x0), (1, .long z.2.1), (3, .int z.2.2)] 293 []) (h : wp_X0_digest_298 S x0 x1 x3 Kc293 K) : jJ (X, G, 5, jA X G tvl K) S [(0, .ref x0), (1, .long x1), (3, .int x3)] 298 [] := by
  unfold wp_X0_digest_298 at h
  refine jr_ldc2 (v := 31) C 301 rfl dX0_digest_298 q1261 ?_
  refine jr_lload_n C 302 rfl dX0_digest_301 rfl 1 rfl ?_
  refine jr_lmul C 303 rfl dX0_digest_302 ?_
  refine jr_aload_n C 304 rfl dX0_digest_303 rfl 0 rfl ?_
  refine jr_iload_n C 305 rfl dX0_digest_304 rfl 2 rfl ?_
  obtain ⟨⟨V, hb⟩, h⟩ := h
  refine jr_callVi (r0 := (RX0, TX0, 24)) (As := [.int x3]) (st := [.long (31 * x1)]) C 308 rfl (m_X0_spareBy C.2.2.2.2.2.2.2.2.2.2.2.2.2.2.2 h) rfl hb rfl q1047 q1049 qs26 q94 q1050 (by decide) (by decide) ndV_X0_spareBy (Nat.le_of_ble_eq_true rfl) dX0_digest_305 (fun S1 r2 h => ?_)
  refine jr_i2l C 309 rfl dX0_digest_308 ?_
  refine jr_ladd C 310 rfl dX0_digest_309 ?_
  refine jr_lstore_n (lv' := [(1, .long ((31 * x1) + ((r2 : Int32).toInt64))), (0, .ref x0), (3, .int x3)]) C 311 rfl dX0_digest_310 rfl (Nat.le_of_ble_eq_true rfl) rfl ?_
  refine jr_iinc (v := (x3 + 1)) (lv' := [(3, .int (x3 + 1)), (1, .long ((31 * x1) + ((r2 : Int32).toInt64))), (0, .ref x0)]) C 314 rfl dX0_digest_311 2 rfl rfl (Nat.le_of_ble_eq_true rfl) rfl ?_
  refine jr_goto C 293 dX0_digest_314 (by decide) ?_
  exact jr_sub [2, 1, 0] rfl (hc293 _ h)
theorem wk_X0_digest_376 {X : jX} {G : jG} {K : jS → Int64 → Prop} (C : jC (X, G, 5, jA X G tvl K) d_X0_digest cX0_digest "Samovar" (some .long) yX0_digest) {S : jS} {t0 : Int64} {x0 : Nat} {x3 : Int32} {Kc355 : jS × Int64 × Int32 → Prop} (hc355 : ∀ z : jS × Int64 × Int32, Kc355 z → jJ (X, G, 5, jA X G tvl K) z.1 [(0, .ref x0), (1, .long z.2.1), (3, .int z.2.2)] 355 []) (h : wp_X0_digest_376 S t0 x0 x3 Kc355 K) : jJ (X, G, 5, jA X G tvl K) S [(0, .ref x0), (3, .int x3)] 376 [.long t0] := by
  unfold wp_X0_digest_376 at h
  refine jr_lstore_n (lv' := [(1, .long t0), (0, .ref x0), (3, .int x3)]) C 377 rfl dX0_digest_376 rfl (Nat.le_of_ble_eq_true rfl) rfl ?_
  refine jr_iinc (v := (x3 + 1)) (lv' := [(3, .int (x3 + 1)), (1, .long t0), (0, .ref x0)]) C 380 rfl dX0_digest_377 2 rfl rfl (Nat.le_of_ble_eq_true rfl) rfl ?_
  refine jr_goto C 355 dX0_digest_380 (by decide) ?_
  exact jr_sub [2, 1, 0] rfl (hc355 _ h)
theorem wk_X0_digest_355 {X : jX} {G : jG} {K : jS → Int64 → Prop} (C : jC (X, G, 5, jA X G tvl K) d_X0_digest cX0_digest "Samovar" (some .long) yX0_digest) {S : jS} {x0 : Nat} {x1 : Int64} {x3 : Int32} {Kc355 : jS × Int64 × Int32 → Prop} (hc355 : ∀ z : jS × Int64 × Int32, Kc355 z → jJ (X, G, 5, jA X G tvl K) z.1 [(0, .ref x0), (1, .long z.2.1), (3, .int z.2.2)] 355 []) (h : wp_X0_digest_355 S x0 x1 x3 Kc355 K) : jJ (X, G, 5, jA X G tvl K) S [(0, .ref x0), (1, .long x1), (3, .int x3)] 355 [] := by
  unfold wp_X0_digest_355 at h
  refine jr_iload_n C 356 rfl dX0_digest_355 rfl 2 rfl ?_
  refine jr_iconst (v := 2) C 357 rfl dX0_digest_356 (by decide) ?_
  refine jr_icmp_ge C 383 360 rfl dX0_digest_357 (by decide) (fun c3 => ?_) (fun c3 => ?_)
  · have h := h.1 c3
    refine jr_lload_n C 384 rfl dX0_digest_383 rfl 1 rfl ?_
    exact jr_lreturn C dX0_digest_384 h
  · have h := h.2 c3
    refine jr_ldc2 (v := 31) C 363 rfl dX0_digest_360 q1261 ?_
    refine jr_lload_n C 364 rfl dX0_digest_363 rfl 1 rfl ?_
    refine jr_lmul C 365 rfl dX0_digest_364 ?_
    refine jr_aload_n C 366 rfl dX0_digest_365 rfl 0 rfl ?_
    refine jr_bipush (v := 7) C 368 rfl dX0_digest_366 (by decide) ?_
    refine jr_bipush (v := 6) C 370 rfl dX0_digest_368 (by decide) ?_
    refine jr_iload_n C 371 rfl dX0_digest_370 rfl 2 rfl ?_
    obtain ⟨⟨V, hb⟩, h⟩ := h
    refine jr_callVWi (r0 := (RX0, TX0, 24)) (As := [.int 7, .int 6, .int x3]) (st := [.long (31 * x1)]) C 374 rfl (m_X0_eveningsOf C.2.2.2.2.2.2.2.2.2.2.2.2.2.2.2 h) rfl hb rfl q1127 q1129 qs35 q94 q1130 (by decide) (by decide) ndV_X0_eveningsOf (Nat.le_of_ble_eq_true rfl) dX0_digest_371 (fun S1 r2 h => ?_)
    refine jr_i2l C 375 rfl dX0_digest_374 ?_
    refine jr_ladd C 376 rfl dX0_digest_375 ?_
    exact jr_sub [0, 2] rfl (wk_X0_digest_376 C hc355 h)
theorem wk_X0_digest_355_L {X : jX} {G : jG} {K : jS → Int64 → Prop} (C : jC (X, G, 5, jA X G tvl K) d_X0_digest cX0_digest "Samovar" (some .long) yX0_digest) {x0 : Nat}  : ∀ (n : Nat) (z : jS × Int64 × Int32), jlp n (wp_X0_digest_355_L x0 K) z → jJ (X, G, 5, jA X G tvl K) z.1 [(0, .ref x0), (1, .long z.2.1), (3, .int z.2.2)] 355 [] := by
  intro n
  induction n with
  | zero => intro z h; exact h.elim
  | succ n ih => intro z h; exact wk_X0_digest_355 C ih h
theorem wk_X0_digest_317 {X : jX} {G : jG} {K : jS → Int64 → Prop} (C : jC (X, G, 5, jA X G tvl K) d_X0_digest cX0_digest "Samovar" (some .long) yX0_digest) {S : jS} {x0 : Nat} {x1 : Int64}  (h : wp_X0_digest_317 S x0 x1 K) : jJ (X, G, 5, jA X G tvl K) S [(0, .ref x0), (1, .long x1)] 317 [] := by
  unfold wp_X0_digest_317 at h
  refine jr_ldc2 (v := 31) C 320 rfl dX0_digest_317 q1261 ?_
  refine jr_lload_n C 321 rfl dX0_digest_320 rfl 1 rfl ?_
  refine jr_lmul C 322 rfl dX0_digest_321 ?_
  refine jr_aload_n C 323 rfl dX0_digest_322 rfl 0 rfl ?_
  obtain ⟨⟨V, hb⟩, h⟩ := h
  refine jr_callVWi (r0 := (RX0, TX0, 24)) (As := []) (st := [.long (31 * x1)]) C 326 rfl (m_X0_neverNow C.2.2.2.2.2.2.2.2.2.2.2.2.2.2.2 h) rfl hb rfl q1067 q1069 qs28 q94 q1070 (by decide) (by decide) ndV_X0_neverNow (Nat.le_of_ble_eq_true rfl) dX0_digest_323 (fun S1 r2 h => ?_)
  refine jr_i2l C 327 rfl dX0_digest_326 ?_
  refine jr_ladd C 328 rfl dX0_digest_327 ?_
  refine jr_lstore_n (lv' := [(1, .long ((31 * x1) + ((r2 : Int32).toInt64))), (0, .ref x0)]) C 329 rfl dX0_digest_328 rfl (Nat.le_of_ble_eq_true rfl) rfl ?_
  refine jr_ldc2 (v := 31) C 332 rfl dX0_digest_329 q1261 ?_
  refine jr_lload_n C 333 rfl dX0_digest_332 rfl 0 rfl ?_
  refine jr_lmul C 334 rfl dX0_digest_333 ?_
  refine jr_aload_n C 335 rfl dX0_digest_334 rfl 1 rfl ?_
  obtain ⟨⟨V, hb⟩, h⟩ := h
  refine jr_callVWi (r0 := (RX0, TX0, 24)) (As := []) (st := [.long (31 * ((31 * x1) + ((r2 : Int32).toInt64)))]) C 338 rfl (m_X0_watersNow C.2.2.2.2.2.2.2.2.2.2.2.2.2.2.2 h) rfl hb rfl q1079 q1081 qs30 q94 q1082 (by decide) (by decide) ndV_X0_watersNow (Nat.le_of_ble_eq_true rfl) dX0_digest_335 (fun S3 r4 h => ?_)
  refine jr_i2l C 339 rfl dX0_digest_338 ?_
  refine jr_ladd C 340 rfl dX0_digest_339 ?_
  refine jr_lstore_n (lv' := [(1, .long ((31 * ((31 * x1) + ((r2 : Int32).toInt64))) + ((r4 : Int32).toInt64))), (0, .ref x0)]) C 341 rfl dX0_digest_340 rfl (Nat.le_of_ble_eq_true rfl) rfl ?_
  refine jr_ldc2 (v := 31) C 344 rfl dX0_digest_341 q1261 ?_
  refine jr_lload_n C 345 rfl dX0_digest_344 rfl 0 rfl ?_
  refine jr_lmul C 346 rfl dX0_digest_345 ?_
  refine jr_aload_n C 347 rfl dX0_digest_346 rfl 1 rfl ?_
  obtain ⟨⟨V, hb⟩, h⟩ := h
  refine jr_callVi (r0 := (RX0, TX0, 24)) (As := []) (st := [.long (31 * ((31 * ((31 * x1) + ((r2 : Int32).toInt64))) + ((r4 : Int32).toInt64)))]) C 350 rfl (m_X0_askNow C.2.2.2.2.2.2.2.2.2.2.2.2.2.2.2 h) rfl hb rfl q1095 q1097 qs32 q94 q1098 (by decide) (by decide) ndV_X0_askNow (Nat.le_of_ble_eq_true rfl) dX0_digest_347 (fun S5 r6 h => ?_)
  refine jr_i2l C 351 rfl dX0_digest_350 ?_
  refine jr_ladd C 352 rfl dX0_digest_351 ?_
  refine jr_lstore_n (lv' := [(1, .long ((31 * ((31 * ((31 * x1) + ((r2 : Int32).toInt64))) + ((r4 : Int32).toInt64))) + ((r6 : Int32).toInt64))), (0, .ref x0)]) C 353 rfl dX0_digest_352 rfl (Nat.le_of_ble_eq_true rfl) rfl ?_
  refine jr_iconst (v := 0) C 354 rfl dX0_digest_353 (by decide) ?_
  refine jr_istore_n (lv' := [(3, .int 0), (1, .long ((31 * ((31 * ((31 * x1) + ((r2 : Int32).toInt64))) + ((r4 : Int32).toInt64))) + ((r6 : Int32).toInt64))), (0, .ref x0)]) C 355 rfl dX0_digest_354 rfl (Nat.le_of_ble_eq_true rfl) rfl ?_
  obtain ⟨n, h⟩ := h
  exact jr_sub [2, 1, 0] rfl (wk_X0_digest_355_L C  n _ h)
theorem wk_X0_digest_293 {X : jX} {G : jG} {K : jS → Int64 → Prop} (C : jC (X, G, 5, jA X G tvl K) d_X0_digest cX0_digest "Samovar" (some .long) yX0_digest) {S : jS} {x0 : Nat} {x1 : Int64} {x3 : Int32} {Kc293 : jS × Int64 × Int32 → Prop} (hc293 : ∀ z : jS × Int64 × Int32, Kc293 z → jJ (X, G, 5, jA X G tvl K) z.1 [(0, .ref x0), (1, .long z.2.1), (3, .int z.2.2)] 293 []) (h : wp_X0_digest_293 S x0 x1 x3 Kc293 K) : jJ (X, G, 5, jA X G tvl K) S [(0, .ref x0), (1, .long x1), (3, .int x3)] 293 [] := by
  unfold wp_X0_digest_293 at h
  refine jr_iload_n C 294 rfl dX0_digest_293 rfl 2 rfl ?_
  refine jr_iconst (v := 1) C 295 rfl dX0_digest_294 (by decide) ?_
  refine jr_icmp_ge C 317 298 rfl dX0_digest_295 (by decide) (fun c1 => ?_) (fun c1 => ?_)
  · have h := h.1 c1
    exact jr_sub [0, 1] rfl (wk_X0_digest_317 C  h)
  · have h := h.2 c1
    exact (wk_X0_digest_298 C hc293 h)
theorem wk_X0_digest_293_L {X : jX} {G : jG} {K : jS → Int64 → Prop} (C : jC (X, G, 5, jA X G tvl K) d_X0_digest cX0_digest "Samovar" (some .long) yX0_digest) {x0 : Nat}  : ∀ (n : Nat) (z : jS × Int64 × Int32), jlp n (wp_X0_digest_293_L x0 K) z → jJ (X, G, 5, jA X G tvl K) z.1 [(0, .ref x0), (1, .long z.2.1), (3, .int z.2.2)] 293 [] := by
  intro n
  induction n with
  | zero => intro z h; exact h.elim
  | succ n ih => intro z h; exact wk_X0_digest_293 C ih h
theorem wk_X0_digest_291 {X : jX} {G : jG} {K : jS → Int64 → Prop} (C : jC (X, G, 5, jA X G tvl K) d_X0_digest cX0_digest "Samovar" (some .long) yX0_digest) {S : jS} {x0 : Nat} {x1 : Int64}  (h : wp_X0_digest_291 S x0 x1 K) : jJ (X, G, 5, jA X G tvl K) S [(0, .ref x0), (1, .long x1)] 291 [] := by
  unfold wp_X0_digest_291 at h
  refine jr_iconst (v := (-1)) C 292 rfl dX0_digest_291 (by decide) ?_
  refine jr_istore_n (lv' := [(3, .int (-1)), (0, .ref x0), (1, .long x1)]) C 293 rfl dX0_digest_292 rfl (Nat.le_of_ble_eq_true rfl) rfl ?_
  obtain ⟨n, h⟩ := h
  exact jr_sub [1, 2, 0] rfl (wk_X0_digest_293_L C  n _ h)
theorem wk_X0_digest_267 {X : jX} {G : jG} {K : jS → Int64 → Prop} (C : jC (X, G, 5, jA X G tvl K) d_X0_digest cX0_digest "Samovar" (some .long) yX0_digest) {S : jS} {x0 : Nat} {x1 : Int64} {x3 : Int32} {Kc267 : jS × Int64 × Int32 → Prop} (hc267 : ∀ z : jS × Int64 × Int32, Kc267 z → jJ (X, G, 5, jA X G tvl K) z.1 [(0, .ref x0), (1, .long z.2.1), (3, .int z.2.2)] 267 []) (h : wp_X0_digest_267 S x0 x1 x3 Kc267 K) : jJ (X, G, 5, jA X G tvl K) S [(0, .ref x0), (1, .long x1), (3, .int x3)] 267 [] := by
  unfold wp_X0_digest_267 at h
  refine jr_iload_n C 268 rfl dX0_digest_267 rfl 2 rfl ?_
  refine jr_iconst (v := 2) C 269 rfl dX0_digest_268 (by decide) ?_
  refine jr_icmp_ge C 291 272 rfl dX0_digest_269 (by decide) (fun c1 => ?_) (fun c1 => ?_)
  · have h := h.1 c1
    exact jr_sub [0, 1] rfl (wk_X0_digest_291 C  h)
  · have h := h.2 c1
    exact (wk_X0_digest_272 C hc267 h)
theorem wk_X0_digest_267_L {X : jX} {G : jG} {K : jS → Int64 → Prop} (C : jC (X, G, 5, jA X G tvl K) d_X0_digest cX0_digest "Samovar" (some .long) yX0_digest) {x0 : Nat}  : ∀ (n : Nat) (z : jS × Int64 × Int32), jlp n (wp_X0_digest_267_L x0 K) z → jJ (X, G, 5, jA X G tvl K) z.1 [(0, .ref x0), (1, .long z.2.1), (3, .int z.2.2)] 267 [] := by
  intro n
  induction n with
  | zero => intro z h; exact h.elim
  | succ n ih => intro z h; exact wk_X0_digest_267 C ih h
theorem wk_X0_digest_253 {X : jX} {G : jG} {K : jS → Int64 → Prop} (C : jC (X, G, 5, jA X G tvl K) d_X0_digest cX0_digest "Samovar" (some .long) yX0_digest) {S : jS} {x0 : Nat} {x1 : Int64}  (h : wp_X0_digest_253 S x0 x1 K) : jJ (X, G, 5, jA X G tvl K) S [(0, .ref x0), (1, .long x1)] 253 [] := by
  unfold wp_X0_digest_253 at h
  refine jr_ldc2 (v := 31) C 256 rfl dX0_digest_253 q1261 ?_
  refine jr_lload_n C 257 rfl dX0_digest_256 rfl 1 rfl ?_
  refine jr_lmul C 258 rfl dX0_digest_257 ?_
  refine jr_aload_n C 259 rfl dX0_digest_258 rfl 0 rfl ?_
  obtain ⟨⟨V, hb⟩, h⟩ := h
  refine jr_callVi (r0 := (RX0, TX0, 24)) (As := []) (st := [.long (31 * x1)]) C 262 rfl (m_X0_thirstNow C.2.2.2.2.2.2.2.2.2.2.2.2.2.2.2 h) rfl hb rfl q1013 q1015 qs22 q94 q1016 (by decide) (by decide) ndV_X0_thirstNow (Nat.le_of_ble_eq_true rfl) dX0_digest_259 (fun S1 r2 h => ?_)
  refine jr_i2l C 263 rfl dX0_digest_262 ?_
  refine jr_ladd C 264 rfl dX0_digest_263 ?_
  refine jr_lstore_n (lv' := [(1, .long ((31 * x1) + ((r2 : Int32).toInt64))), (0, .ref x0)]) C 265 rfl dX0_digest_264 rfl (Nat.le_of_ble_eq_true rfl) rfl ?_
  refine jr_iconst (v := 0) C 266 rfl dX0_digest_265 (by decide) ?_
  refine jr_istore_n (lv' := [(3, .int 0), (1, .long ((31 * x1) + ((r2 : Int32).toInt64))), (0, .ref x0)]) C 267 rfl dX0_digest_266 rfl (Nat.le_of_ble_eq_true rfl) rfl ?_
  obtain ⟨n, h⟩ := h
  exact jr_sub [2, 1, 0] rfl (wk_X0_digest_267_L C  n _ h)
theorem wk_X0_digest_229 {X : jX} {G : jG} {K : jS → Int64 → Prop} (C : jC (X, G, 5, jA X G tvl K) d_X0_digest cX0_digest "Samovar" (some .long) yX0_digest) {S : jS} {x0 : Nat} {x1 : Int64} {x3 : Int32} {Kc229 : jS × Int64 × Int32 → Prop} (hc229 : ∀ z : jS × Int64 × Int32, Kc229 z → jJ (X, G, 5, jA X G tvl K) z.1 [(0, .ref x0), (1, .long z.2.1), (3, .int z.2.2)] 229 []) (h : wp_X0_digest_229 S x0 x1 x3 Kc229 K) : jJ (X, G, 5, jA X G tvl K) S [(0, .ref x0), (1, .long x1), (3, .int x3)] 229 [] := by
  unfold wp_X0_digest_229 at h
  refine jr_iload_n C 230 rfl dX0_digest_229 rfl 2 rfl ?_
  refine jr_iconst (v := 2) C 231 rfl dX0_digest_230 (by decide) ?_
  refine jr_icmp_ge C 253 234 rfl dX0_digest_231 (by decide) (fun c1 => ?_) (fun c1 => ?_)
  · have h := h.1 c1
    exact jr_sub [0, 1] rfl (wk_X0_digest_253 C  h)
  · have h := h.2 c1
    exact (wk_X0_digest_234 C hc229 h)
theorem wk_X0_digest_229_L {X : jX} {G : jG} {K : jS → Int64 → Prop} (C : jC (X, G, 5, jA X G tvl K) d_X0_digest cX0_digest "Samovar" (some .long) yX0_digest) {x0 : Nat}  : ∀ (n : Nat) (z : jS × Int64 × Int32), jlp n (wp_X0_digest_229_L x0 K) z → jJ (X, G, 5, jA X G tvl K) z.1 [(0, .ref x0), (1, .long z.2.1), (3, .int z.2.2)] 229 [] := by
  intro n
  induction n with
  | zero => intro z h; exact h.elim
  | succ n ih => intro z h; exact wk_X0_digest_229 C ih h
theorem wk_X0_digest_215 {X : jX} {G : jG} {K : jS → Int64 → Prop} (C : jC (X, G, 5, jA X G tvl K) d_X0_digest cX0_digest "Samovar" (some .long) yX0_digest) {S : jS} {x0 : Nat} {x1 : Int64}  (h : wp_X0_digest_215 S x0 x1 K) : jJ (X, G, 5, jA X G tvl K) S [(0, .ref x0), (1, .long x1)] 215 [] := by
  unfold wp_X0_digest_215 at h
  refine jr_ldc2 (v := 31) C 218 rfl dX0_digest_215 q1261 ?_
  refine jr_lload_n C 219 rfl dX0_digest_218 rfl 1 rfl ?_
  refine jr_lmul C 220 rfl dX0_digest_219 ?_
  refine jr_aload_n C 221 rfl dX0_digest_220 rfl 0 rfl ?_
  obtain ⟨⟨V, hb⟩, h⟩ := h
  refine jr_callVi (r0 := (RX0, TX0, 24)) (As := []) (st := [.long (31 * x1)]) C 224 rfl (m_X0_firstNow C.2.2.2.2.2.2.2.2.2.2.2.2.2.2.2 h) rfl hb rfl q993 q995 qs20 q94 q996 (by decide) (by decide) ndV_X0_firstNow (Nat.le_of_ble_eq_true rfl) dX0_digest_221 (fun S1 r2 h => ?_)
  refine jr_i2l C 225 rfl dX0_digest_224 ?_
  refine jr_ladd C 226 rfl dX0_digest_225 ?_
  refine jr_lstore_n (lv' := [(1, .long ((31 * x1) + ((r2 : Int32).toInt64))), (0, .ref x0)]) C 227 rfl dX0_digest_226 rfl (Nat.le_of_ble_eq_true rfl) rfl ?_
  refine jr_iconst (v := 0) C 228 rfl dX0_digest_227 (by decide) ?_
  refine jr_istore_n (lv' := [(3, .int 0), (1, .long ((31 * x1) + ((r2 : Int32).toInt64))), (0, .ref x0)]) C 229 rfl dX0_digest_228 rfl (Nat.le_of_ble_eq_true rfl) rfl ?_
  obtain ⟨n, h⟩ := h
  exact jr_sub [2, 1, 0] rfl (wk_X0_digest_229_L C  n _ h)
theorem wk_X0_digest_191 {X : jX} {G : jG} {K : jS → Int64 → Prop} (C : jC (X, G, 5, jA X G tvl K) d_X0_digest cX0_digest "Samovar" (some .long) yX0_digest) {S : jS} {x0 : Nat} {x1 : Int64} {x3 : Int32} {Kc191 : jS × Int64 × Int32 → Prop} (hc191 : ∀ z : jS × Int64 × Int32, Kc191 z → jJ (X, G, 5, jA X G tvl K) z.1 [(0, .ref x0), (1, .long z.2.1), (3, .int z.2.2)] 191 []) (h : wp_X0_digest_191 S x0 x1 x3 Kc191 K) : jJ (X, G, 5, jA X G tvl K) S [(0, .ref x0), (1, .long x1), (3, .int x3)] 191 [] := by
  unfold wp_X0_digest_191 at h
  refine jr_iload_n C 192 rfl dX0_digest_191 rfl 2 rfl ?_
  refine jr_iconst (v := 5) C 193 rfl dX0_digest_192 (by decide) ?_
  refine jr_icmp_ge C 215 196 rfl dX0_digest_193 (by decide) (fun c1 => ?_) (fun c1 => ?_)
  · have h := h.1 c1
    exact jr_sub [0, 1] rfl (wk_X0_digest_215 C  h)
  · have h := h.2 c1
    exact (wk_X0_digest_196 C hc191 h)
theorem wk_X0_digest_191_L {X : jX} {G : jG} {K : jS → Int64 → Prop} (C : jC (X, G, 5, jA X G tvl K) d_X0_digest cX0_digest "Samovar" (some .long) yX0_digest) {x0 : Nat}  : ∀ (n : Nat) (z : jS × Int64 × Int32), jlp n (wp_X0_digest_191_L x0 K) z → jJ (X, G, 5, jA X G tvl K) z.1 [(0, .ref x0), (1, .long z.2.1), (3, .int z.2.2)] 191 [] := by
  intro n
  induction n with
  | zero => intro z h; exact h.elim
  | succ n ih => intro z h; exact wk_X0_digest_191 C ih h
theorem wk_X0_digest_165 {X : jX} {G : jG} {K : jS → Int64 → Prop} (C : jC (X, G, 5, jA X G tvl K) d_X0_digest cX0_digest "Samovar" (some .long) yX0_digest) {S : jS} {t0 : Int32} {x0 : Nat} {x1 : Int64} {x3 : Int32} {Kc164 : jS × Int64 × Int32 → Prop} (hc164 : ∀ z : jS × Int64 × Int32, Kc164 z → jJ (X, G, 5, jA X G tvl K) z.1 [(0, .ref x0), (1, .long z.2.1), (3, .int z.2.2)] 164 []) (h : wp_X0_digest_165 S t0 x0 x1 x3 Kc164 K) : jJ (X, G, 5, jA X G tvl K) S [(0, .ref x0), (1, .long x1), (3, .int x3)] 165 [.int t0] := by
  unfold wp_X0_digest_165 at h
  refine jr_aload_n C 166 rfl dX0_digest_165 rfl 0 rfl ?_
  obtain ⟨⟨V, hb⟩, h⟩ := h
  refine jr_callVi (r0 := (RX0, TX0, 24)) (As := []) (st := [.int t0]) C 169 rfl (m_X0_people C.2.2.2.2.2.2.2.2.2.2.2.2.2.2.2 h) rfl hb rfl q744 q746 qs7 q94 q747 (by decide) (by decide) ndV_X0_people (Nat.le_of_ble_eq_true rfl) dX0_digest_166 (fun S1 r2 h => ?_)
  refine jr_icmp_ge C 185 172 rfl dX0_digest_169 (by decide) (fun c6 => ?_) (fun c6 => ?_)
  · have h := h.1 c6
    refine jr_aload_n C 186 rfl dX0_digest_185 rfl 0 rfl ?_
    obtain ⟨⟨V, hb⟩, h⟩ := h
    refine jr_callVv (r0 := (RX0, TX0, 24)) (As := []) (st := []) C 189 rfl (m_X0_find C.2.2.2.2.2.2.2.2.2.2.2.2.2.2.2 h) rfl hb rfl q831 q833 qs10 q94 q834 (by decide) (by decide) ndV_X0_find (Nat.le_of_ble_eq_true rfl) dX0_digest_186 (fun S3 _ h => ?_)
    refine jr_iconst (v := 0) C 190 rfl dX0_digest_189 (by decide) ?_
    refine jr_istore_n (lv' := [(3, .int 0), (0, .ref x0), (1, .long x1)]) C 191 rfl dX0_digest_190 rfl (Nat.le_of_ble_eq_true rfl) rfl ?_
    obtain ⟨n, h⟩ := h
    exact jr_sub [1, 2, 0] rfl (wk_X0_digest_191_L C  n _ h)
  · have h := h.2 c6
    refine jr_aload_n C 173 rfl dX0_digest_172 rfl 0 rfl ?_
    refine jr_lload_n C 174 rfl dX0_digest_173 rfl 1 rfl ?_
    refine jr_iload_n C 175 rfl dX0_digest_174 rfl 2 rfl ?_
    obtain ⟨⟨V, hb⟩, h⟩ := h
    refine jr_callVl (r0 := (RX0, TX0, 24)) (As := [.long x1, .int x3]) (st := []) C 178 rfl (m_X0_tellsGuest C.2.2.2.2.2.2.2.2.2.2.2.2.2.2.2 h) rfl hb rfl q1267 q1269 qs40 q94 q1270 (by decide) (by decide) ndV_X0_tellsGuest (Nat.le_of_ble_eq_true rfl) dX0_digest_175 (fun S4 r5 h => ?_)
    refine jr_lstore_n (lv' := [(1, .long r5), (0, .ref x0), (3, .int x3)]) C 179 rfl dX0_digest_178 rfl (Nat.le_of_ble_eq_true rfl) rfl ?_
    refine jr_iinc (v := (x3 + 1)) (lv' := [(3, .int (x3 + 1)), (1, .long r5), (0, .ref x0)]) C 182 rfl dX0_digest_179 2 rfl rfl (Nat.le_of_ble_eq_true rfl) rfl ?_
    refine jr_goto C 164 dX0_digest_182 (by decide) ?_
    exact jr_sub [2, 1, 0] rfl (hc164 _ h)
theorem wk_X0_digest_164 {X : jX} {G : jG} {K : jS → Int64 → Prop} (C : jC (X, G, 5, jA X G tvl K) d_X0_digest cX0_digest "Samovar" (some .long) yX0_digest) {S : jS} {x0 : Nat} {x1 : Int64} {x3 : Int32} {Kc164 : jS × Int64 × Int32 → Prop} (hc164 : ∀ z : jS × Int64 × Int32, Kc164 z → jJ (X, G, 5, jA X G tvl K) z.1 [(0, .ref x0), (1, .long z.2.1), (3, .int z.2.2)] 164 []) (h : wp_X0_digest_164 S x0 x1 x3 Kc164 K) : jJ (X, G, 5, jA X G tvl K) S [(0, .ref x0), (1, .long x1), (3, .int x3)] 164 [] := by
  unfold wp_X0_digest_164 at h
  refine jr_iload_n C 165 rfl dX0_digest_164 rfl 2 rfl ?_
  exact (wk_X0_digest_165 C hc164 h)
theorem wk_X0_digest_164_L {X : jX} {G : jG} {K : jS → Int64 → Prop} (C : jC (X, G, 5, jA X G tvl K) d_X0_digest cX0_digest "Samovar" (some .long) yX0_digest) {x0 : Nat}  : ∀ (n : Nat) (z : jS × Int64 × Int32), jlp n (wp_X0_digest_164_L x0 K) z → jJ (X, G, 5, jA X G tvl K) z.1 [(0, .ref x0), (1, .long z.2.1), (3, .int z.2.2)] 164 [] := by
  intro n
  induction n with
  | zero => intro z h; exact h.elim
  | succ n ih => intro z h; exact wk_X0_digest_164 C ih h
theorem wk_X0_digest_128 {X : jX} {G : jG} {K : jS → Int64 → Prop} (C : jC (X, G, 5, jA X G tvl K) d_X0_digest cX0_digest "Samovar" (some .long) yX0_digest) {S : jS} {x0 : Nat} {x1 : Int64} {x3 : Int32} {Kc128 : jS × Int64 × Int32 → Prop} (hc128 : ∀ z : jS × Int64 × Int32, Kc128 z → jJ (X, G, 5, jA X G tvl K) z.1 [(0, .ref x0), (1, .long z.2.1), (3, .int z.2.2)] 128 []) (h : wp_X0_digest_128 S x0 x1 x3 Kc128 K) : jJ (X, G, 5, jA X G tvl K) S [(0, .ref x0), (1, .long x1), (3, .int x3)] 128 [] := by
  unfold wp_X0_digest_128 at h
  refine jr_iload_n C 129 rfl dX0_digest_128 rfl 2 rfl ?_
  refine jr_aload_n C 130 rfl dX0_digest_129 rfl 0 rfl ?_
  obtain ⟨⟨V, hb⟩, h⟩ := h
  refine jr_callVi (r0 := (RX0, TX0, 24)) (As := []) (st := [.int x3]) C 133 rfl (m_X0_pieces C.2.2.2.2.2.2.2.2.2.2.2.2.2.2.2 h) rfl hb rfl q692 q694 qs5 q94 q695 (by decide) (by decide) ndV_X0_pieces (Nat.le_of_ble_eq_true rfl) dX0_digest_130 (fun S1 r2 h => ?_)
  refine jr_icmp_ge C 162 136 rfl dX0_digest_133 (by decide) (fun c9 => ?_) (fun c9 => ?_)
  · have h := h.1 c9
    refine jr_iconst (v := 0) C 163 rfl dX0_digest_162 (by decide) ?_
    refine jr_istore_n (lv' := [(3, .int 0), (0, .ref x0), (1, .long x1)]) C 164 rfl dX0_digest_163 rfl (Nat.le_of_ble_eq_true rfl) rfl ?_
    obtain ⟨n, h⟩ := h
    exact jr_sub [1, 2, 0] rfl (wk_X0_digest_164_L C  n _ h)
  · have h := h.2 c9
    refine jr_aload_n C 137 rfl dX0_digest_136 rfl 0 rfl ?_
    refine jr_lload_n C 138 rfl dX0_digest_137 rfl 1 rfl ?_
    refine jr_aload_n C 139 rfl dX0_digest_138 rfl 0 rfl ?_
    refine jr_getr C 142 rfl fo_0_1 q229 dX0_digest_139 h (fun v3 h => ?_)
    refine jr_getr C 145 rfl fo_1_5 q168 dX0_digest_142 h (fun v4 h => ?_)
    refine jr_iload_n C 146 rfl dX0_digest_145 rfl 2 rfl ?_
    obtain ⟨⟨V, hb⟩, h⟩ := h
    refine jr_callVr (r0 := (RJ2, TJ2, 3)) (As := [.int x3]) (st := [.long x1, .ref x0]) C 149 rfl (m_J2_get C.2.2.2.2.2.2.2.2.2.2.2.2.2.2.2 h) rfl hb rfl q702 q703 q704 q99 q705 (by decide) (by decide) ndV_J2_get (Nat.le_of_ble_eq_true rfl) dX0_digest_146 (fun S5 r6 h => ?_)
    obtain ⟨hz, h⟩ := h
    refine jr_cast C 152 rfl (cs := [5]) can_Samovar_Piece (by decide) q716 dX0_digest_149 hz ?_
    obtain ⟨⟨V, hb⟩, h⟩ := h
    refine jr_callVl (r0 := (RX0, TX0, 24)) (As := [.long x1, .ref r6]) (st := []) C 155 rfl (m_X0_tellsPiece C.2.2.2.2.2.2.2.2.2.2.2.2.2.2.2 h) rfl hb rfl q1263 q1265 qs39 q94 q1266 (by decide) (by decide) ndV_X0_tellsPiece (Nat.le_of_ble_eq_true rfl) dX0_digest_152 (fun S7 r8 h => ?_)
    exact jr_sub [0, 2] rfl (wk_X0_digest_155 C hc128 h)
theorem wk_X0_digest_128_L {X : jX} {G : jG} {K : jS → Int64 → Prop} (C : jC (X, G, 5, jA X G tvl K) d_X0_digest cX0_digest "Samovar" (some .long) yX0_digest) {x0 : Nat}  : ∀ (n : Nat) (z : jS × Int64 × Int32), jlp n (wp_X0_digest_128_L x0 K) z → jJ (X, G, 5, jA X G tvl K) z.1 [(0, .ref x0), (1, .long z.2.1), (3, .int z.2.2)] 128 [] := by
  intro n
  induction n with
  | zero => intro z h; exact h.elim
  | succ n ih => intro z h; exact wk_X0_digest_128 C ih h
theorem wk_X0_digest_67 {X : jX} {G : jG} {K : jS → Int64 → Prop} (C : jC (X, G, 5, jA X G tvl K) d_X0_digest cX0_digest "Samovar" (some .long) yX0_digest) {S : jS} {x0 : Nat} {x1 : Int64} {x3 : Int32} {Kc67 : jS × Int64 × Int32 → Prop} (hc67 : ∀ z : jS × Int64 × Int32, Kc67 z → jJ (X, G, 5, jA X G tvl K) z.1 [(0, .ref x0), (1, .long z.2.1), (3, .int z.2.2)] 67 []) (h : wp_X0_digest_67 S x0 x1 x3 Kc67 K) : jJ (X, G, 5, jA X G tvl K) S [(0, .ref x0), (1, .long x1), (3, .int x3)] 67 [] := by
  unfold wp_X0_digest_67 at h
  refine jr_iload_n C 68 rfl dX0_digest_67 rfl 2 rfl ?_
  refine jr_bipush (v := 24) C 70 rfl dX0_digest_68 (by decide) ?_
  refine jr_icmp_ge C 126 73 rfl dX0_digest_70 (by decide) (fun c1 => ?_) (fun c1 => ?_)
  · have h := h.1 c1
    refine jr_iconst (v := 0) C 127 rfl dX0_digest_126 (by decide) ?_
    refine jr_istore_n (lv' := [(3, .int 0), (0, .ref x0), (1, .long x1)]) C 128 rfl dX0_digest_127 rfl (Nat.le_of_ble_eq_true rfl) rfl ?_
    obtain ⟨n, h⟩ := h
    exact jr_sub [1, 2, 0] rfl (wk_X0_digest_128_L C  n _ h)
  · have h := h.2 c1
    refine jr_iconst (v := 0) C 74 rfl dX0_digest_73 (by decide) ?_
    refine jr_istore (lv' := [(4, .int 0), (0, .ref x0), (1, .long x1), (3, .int x3)]) C 76 rfl dX0_digest_74 (Nat.le_of_ble_eq_true rfl) rfl ?_
    obtain ⟨n, h⟩ := h
    exact jr_sub [1, 2, 3, 0] rfl (wk_X0_digest_76_L C hc67 n _ h)
theorem wk_X0_digest_67_L {X : jX} {G : jG} {K : jS → Int64 → Prop} (C : jC (X, G, 5, jA X G tvl K) d_X0_digest cX0_digest "Samovar" (some .long) yX0_digest) {x0 : Nat}  : ∀ (n : Nat) (z : jS × Int64 × Int32), jlp n (wp_X0_digest_67_L x0 K) z → jJ (X, G, 5, jA X G tvl K) z.1 [(0, .ref x0), (1, .long z.2.1), (3, .int z.2.2)] 67 [] := by
  intro n
  induction n with
  | zero => intro z h; exact h.elim
  | succ n ih => intro z h; exact wk_X0_digest_67 C ih h
theorem wk_X0_digest_33 {X : jX} {G : jG} {K : jS → Int64 → Prop} (C : jC (X, G, 5, jA X G tvl K) d_X0_digest cX0_digest "Samovar" (some .long) yX0_digest) {S : jS} {x0 : Nat} {x1 : Int64} {x3 : Int32} {Kc33 : jS × Int64 × Int32 → Prop} (hc33 : ∀ z : jS × Int64 × Int32, Kc33 z → jJ (X, G, 5, jA X G tvl K) z.1 [(0, .ref x0), (1, .long z.2.1), (3, .int z.2.2)] 33 []) (h : wp_X0_digest_33 S x0 x1 x3 Kc33 K) : jJ (X, G, 5, jA X G tvl K) S [(0, .ref x0), (1, .long x1), (3, .int x3)] 33 [] := by
  unfold wp_X0_digest_33 at h
  refine jr_iload_n C 34 rfl dX0_digest_33 rfl 2 rfl ?_
  refine jr_iconst (v := 2) C 35 rfl dX0_digest_34 (by decide) ?_
  refine jr_icmp_ge C 61 38 rfl dX0_digest_35 (by decide) (fun c6 => ?_) (fun c6 => ?_)
  · have h := h.1 c6
    refine jr_aload_n C 62 rfl dX0_digest_61 rfl 0 rfl ?_
    obtain ⟨⟨V, hb⟩, h⟩ := h
    refine jr_callVv (r0 := (RX0, TX0, 24)) (As := []) (st := []) C 65 rfl (m_X0_find C.2.2.2.2.2.2.2.2.2.2.2.2.2.2.2 h) rfl hb rfl q831 q833 qs10 q94 q834 (by decide) (by decide) ndV_X0_find (Nat.le_of_ble_eq_true rfl) dX0_digest_62 (fun S1 _ h => ?_)
    refine jr_iconst (v := 0) C 66 rfl dX0_digest_65 (by decide) ?_
    refine jr_istore_n (lv' := [(3, .int 0), (0, .ref x0), (1, .long x1)]) C 67 rfl dX0_digest_66 rfl (Nat.le_of_ble_eq_true rfl) rfl ?_
    obtain ⟨n, h⟩ := h
    exact jr_sub [1, 2, 0] rfl (wk_X0_digest_67_L C  n _ h)
  · have h := h.2 c6
    refine jr_ldc2 (v := 31) C 41 rfl dX0_digest_38 q1261 ?_
    refine jr_lload_n C 42 rfl dX0_digest_41 rfl 1 rfl ?_
    refine jr_lmul C 43 rfl dX0_digest_42 ?_
    refine jr_aload_n C 44 rfl dX0_digest_43 rfl 0 rfl ?_
    refine jr_getr C 47 rfl fo_0_3 q231 dX0_digest_44 h (fun v2 h => ?_)
    refine jr_iload_n C 48 rfl dX0_digest_47 rfl 2 rfl ?_
    refine jr_aaldn C 49 rfl (t := 5) rfl rfl dX0_digest_48 h (fun v3 h => ?_)
    refine dr_Text_read_1_2 (As := []) (st := [.long (31 * x1)]) C 52 rfl h rfl q342 (by decide) (Nat.le_of_ble_eq_true rfl) dX0_digest_49 (fun S4 r5 h => ?_)
    refine jr_i2l C 53 rfl dX0_digest_52 ?_
    refine jr_ladd C 54 rfl dX0_digest_53 ?_
    exact jr_sub [0, 2] rfl (wk_X0_digest_54 C hc33 h)
theorem wk_X0_digest_33_L {X : jX} {G : jG} {K : jS → Int64 → Prop} (C : jC (X, G, 5, jA X G tvl K) d_X0_digest cX0_digest "Samovar" (some .long) yX0_digest) {x0 : Nat}  : ∀ (n : Nat) (z : jS × Int64 × Int32), jlp n (wp_X0_digest_33_L x0 K) z → jJ (X, G, 5, jA X G tvl K) z.1 [(0, .ref x0), (1, .long z.2.1), (3, .int z.2.2)] 33 [] := by
  intro n
  induction n with
  | zero => intro z h; exact h.elim
  | succ n ih => intro z h; exact wk_X0_digest_33 C ih h
theorem wk_X0_digest_31 {X : jX} {G : jG} {K : jS → Int64 → Prop} (C : jC (X, G, 5, jA X G tvl K) d_X0_digest cX0_digest "Samovar" (some .long) yX0_digest) {S : jS} {x0 : Nat} {x1 : Int64}  (h : wp_X0_digest_31 S x0 x1 K) : jJ (X, G, 5, jA X G tvl K) S [(0, .ref x0), (1, .long x1)] 31 [] := by
  unfold wp_X0_digest_31 at h
  refine jr_iconst (v := 0) C 32 rfl dX0_digest_31 (by decide) ?_
  refine jr_istore_n (lv' := [(3, .int 0), (0, .ref x0), (1, .long x1)]) C 33 rfl dX0_digest_32 rfl (Nat.le_of_ble_eq_true rfl) rfl ?_
  obtain ⟨n, h⟩ := h
  exact jr_sub [1, 2, 0] rfl (wk_X0_digest_33_L C  n _ h)
theorem wk_X0_digest_6 {X : jX} {G : jG} {K : jS → Int64 → Prop} (C : jC (X, G, 5, jA X G tvl K) d_X0_digest cX0_digest "Samovar" (some .long) yX0_digest) {S : jS} {x0 : Nat} {x1 : Int64} {x3 : Int32} {Kc6 : jS × Int64 × Int32 → Prop} (hc6 : ∀ z : jS × Int64 × Int32, Kc6 z → jJ (X, G, 5, jA X G tvl K) z.1 [(0, .ref x0), (1, .long z.2.1), (3, .int z.2.2)] 6 []) (h : wp_X0_digest_6 S x0 x1 x3 Kc6 K) : jJ (X, G, 5, jA X G tvl K) S [(0, .ref x0), (1, .long x1), (3, .int x3)] 6 [] := by
  unfold wp_X0_digest_6 at h
  refine jr_iload_n C 7 rfl dX0_digest_6 rfl 2 rfl ?_
  refine jr_bipush (v := 8) C 9 rfl dX0_digest_7 (by decide) ?_
  refine jr_icmp_ge C 31 12 rfl dX0_digest_9 (by decide) (fun c1 => ?_) (fun c1 => ?_)
  · have h := h.1 c1
    exact jr_sub [0, 1] rfl (wk_X0_digest_31 C  h)
  · have h := h.2 c1
    exact (wk_X0_digest_12 C hc6 h)
theorem wk_X0_digest_6_L {X : jX} {G : jG} {K : jS → Int64 → Prop} (C : jC (X, G, 5, jA X G tvl K) d_X0_digest cX0_digest "Samovar" (some .long) yX0_digest) {x0 : Nat}  : ∀ (n : Nat) (z : jS × Int64 × Int32), jlp n (wp_X0_digest_6_L x0 K) z → jJ (X, G, 5, jA X G tvl K) z.1 [(0, .ref x0), (1, .long z.2.1), (3, .int z.2.2)] 6 [] := by
  intro n
  induction n with
  | zero => intro z h; exact h.elim
  | succ n ih => intro z h; exact wk_X0_digest_6 C ih h
theorem wk_X0_digest_0 {X : jX} {G : jG} {K : jS → Int64 → Prop} (C : jC (X, G, 5, jA X G tvl K) d_X0_digest cX0_digest "Samovar" (some .long) yX0_digest) {S : jS} {x0 : Nat}  (h : wp_X0_digest S x0 K) : jJ (X, G, 5, jA X G tvl K) S [(0, .ref x0)] 0 [] := by
  unfold wp_X0_digest at h
  refine jr_ldc2 (v := 17) C 3 rfl dX0_digest_0 q1260 ?_
  refine jr_lstore_n (lv' := [(1, .long 17), (0, .ref x0)]) C 4 rfl dX0_digest_3 rfl (Nat.le_of_ble_eq_true rfl) rfl ?_
  refine jr_iconst (v := 0) C 5 rfl dX0_digest_4 (by decide) ?_
  refine jr_istore_n (lv' := [(3, .int 0), (1, .long 17), (0, .ref x0)]) C 6 rfl dX0_digest_5 rfl (Nat.le_of_ble_eq_true rfl) rfl ?_
  obtain ⟨n, h⟩ := h
  exact jr_sub [2, 1, 0] rfl (wk_X0_digest_6_L C  n _ h)
theorem m_X0_digest {l : Launch} (hl : l.stackTraces = false) {G : jG} {K : jS → Int64 → Prop} {S : jS} {x0 : Nat} (h : wp_X0_digest S x0 K) : jMet l G d_X0_digest yX0_digest (ws_ yX0_digest cX0_digest 5 (some .long)) [.ref x0] S tvl K :=
  jMet.of hl rfl (by decide) (Nat.le_of_ble_eq_true rfl) (fun X C => jr_sub [0] rfl (wk_X0_digest_0 C h))
theorem wk_X0_evenings_31 {X : jX} {G : jG} {K : jS → Int32 → Prop} (C : jC (X, G, 4, jA X G tvi K) d_X0_evenings cX0_evenings "Samovar" (some .int) yX0_evenings) {S : jS} {t0 : Int32}  (h : wp_X0_evenings_31 S t0 K) : jJ (X, G, 4, jA X G tvi K) S [] 31 [.int t0] := by
  unfold wp_X0_evenings_31 at h
  exact jr_ireturn C dX0_evenings_31 h
theorem wk_X0_evenings_29 {X : jX} {G : jG} {K : jS → Int32 → Prop} (C : jC (X, G, 4, jA X G tvi K) d_X0_evenings cX0_evenings "Samovar" (some .int) yX0_evenings) {S : jS}   (h : wp_X0_evenings_29 S K) : jJ (X, G, 4, jA X G tvi K) S [] 29 [] := by
  unfold wp_X0_evenings_29 at h
  refine jr_bipush (v := (-2)) C 31 rfl dX0_evenings_29 (by decide) ?_
  exact (wk_X0_evenings_31 C  h)
theorem wk_X0_evenings_0 {X : jX} {G : jG} {K : jS → Int32 → Prop} (C : jC (X, G, 4, jA X G tvi K) d_X0_evenings cX0_evenings "Samovar" (some .int) yX0_evenings) {S : jS} {x0 : Nat} {x1 : Int32} {x2 : Int32} {x3 : Int32}  (h : wp_X0_evenings S x0 x1 x2 x3 K) : jJ (X, G, 4, jA X G tvi K) S [(0, .ref x0), (1, .int x1), (2, .int x2), (3, .int x3)] 0 [] := by
  unfold wp_X0_evenings at h
  refine jr_iload_n C 1 rfl dX0_evenings_0 rfl 2 rfl ?_
  refine jr_i2l C 2 rfl dX0_evenings_1 ?_
  refine jr_lconst (v := 0) C 3 rfl dX0_evenings_2 (by decide) ?_
  refine jr_ldc2 (v := 8) C 6 rfl dX0_evenings_3 q1126 ?_
  refine jr_callSi (As := [.long ((x2 : Int32).toInt64), .long 0, .long 8]) (st := []) C 9 rfl (m_X0_in C.2.2.2.2.2.2.2.2.2.2.2.2.2.2.2 h) rfl q308 q309 q94 q310 (by decide) (by decide) nd_X0_in (Nat.le_of_ble_eq_true rfl) dX0_evenings_6 (fun S1 r2 h => ?_)
  refine jr_if_eq C 29 12 rfl dX0_evenings_9 (by decide) (fun c8 => ?_) (fun c8 => ?_)
  · have h := h.1 c8
    exact jr_sub [] rfl (wk_X0_evenings_29 C  h)
  · have h := h.2 c8
    refine jr_iload_n C 13 rfl dX0_evenings_12 rfl 3 rfl ?_
    refine jr_callSi (As := [.int x3]) (st := []) C 16 rfl (m_X0_isTwo C.2.2.2.2.2.2.2.2.2.2.2.2.2.2.2 h) rfl q305 q306 q94 q307 (by decide) (by decide) nd_X0_isTwo (Nat.le_of_ble_eq_true rfl) dX0_evenings_13 (fun S3 r4 h => ?_)
    refine jr_if_eq C 29 19 rfl dX0_evenings_16 (by decide) (fun c7 => ?_) (fun c7 => ?_)
    · have h := h.1 c7
      exact jr_sub [] rfl (wk_X0_evenings_29 C  h)
    · have h := h.2 c7
      refine jr_aload_n C 20 rfl dX0_evenings_19 rfl 0 rfl ?_
      refine jr_iload_n C 21 rfl dX0_evenings_20 rfl 1 rfl ?_
      refine jr_iload_n C 22 rfl dX0_evenings_21 rfl 2 rfl ?_
      refine jr_iload_n C 23 rfl dX0_evenings_22 rfl 3 rfl ?_
      obtain ⟨⟨V, hb⟩, h⟩ := h
      refine jr_callVWi (r0 := (RX0, TX0, 24)) (As := [.int x1, .int x2, .int x3]) (st := []) C 26 rfl (m_X0_eveningsOf C.2.2.2.2.2.2.2.2.2.2.2.2.2.2.2 h) rfl hb rfl q1127 q1129 qs35 q94 q1130 (by decide) (by decide) ndV_X0_eveningsOf (Nat.le_of_ble_eq_true rfl) dX0_evenings_23 (fun S5 r6 h => ?_)
      refine jr_goto C 31 dX0_evenings_26 (by decide) ?_
      exact jr_sub [] rfl (wk_X0_evenings_31 C  h)
theorem m_X0_evenings {l : Launch} (hl : l.stackTraces = false) {G : jG} {K : jS → Int32 → Prop} {S : jS} {x0 : Nat} {x1 : Int32} {x2 : Int32} {x3 : Int32} (h : wp_X0_evenings S x0 x1 x2 x3 K) : jMet l G d_X0_evenings yX0_evenings (ws_ yX0_evenings cX0_evenings 4 (some .int)) [.ref x0, .int x1, .int x2, .int x3] S tvi K :=
  jMet.of hl rfl (by decide) (Nat.le_of_ble_eq_true rfl) (fun X C => jr_sub [0, 1, 2, 3] rfl (wk_X0_evenings_0 C h))
theorem wk_X0_event_31 {X : jX} {G : jG} {K : jS → Int32 → Prop} (C : jC (X, G, 4, jA X G tvi K) d_X0_event cX0_event "Samovar" (some .int) yX0_event) {S : jS}   (h : wp_X0_event_31 S K) : jJ (X, G, 4, jA X G tvi K) S [] 31 [] := by
  unfold wp_X0_event_31 at h
  refine jr_bipush (v := (-2)) C 33 rfl dX0_event_31 (by decide) ?_
  exact jr_ireturn C dX0_event_33 h
theorem wk_X0_event_0 {X : jX} {G : jG} {K : jS → Int32 → Prop} (C : jC (X, G, 4, jA X G tvi K) d_X0_event cX0_event "Samovar" (some .int) yX0_event) {S : jS} {x0 : Nat} {x1 : Int32} {x2 : Int32} {x3 : Int32}  (h : wp_X0_event S x0 x1 x2 x3 K) : jJ (X, G, 4, jA X G tvi K) S [(0, .ref x0), (1, .int x1), (2, .int x2), (3, .int x3)] 0 [] := by
  unfold wp_X0_event at h
  refine jr_iload_n C 1 rfl dX0_event_0 rfl 1 rfl ?_
  refine jr_i2l C 2 rfl dX0_event_1 ?_
  refine jr_lconst (v := 0) C 3 rfl dX0_event_2 (by decide) ?_
  refine jr_ldc2 (v := 2) C 6 rfl dX0_event_3 q701 ?_
  refine jr_callSi (As := [.long ((x1 : Int32).toInt64), .long 0, .long 2]) (st := []) C 9 rfl (m_X0_in C.2.2.2.2.2.2.2.2.2.2.2.2.2.2.2 h) rfl q308 q309 q94 q310 (by decide) (by decide) nd_X0_in (Nat.le_of_ble_eq_true rfl) dX0_event_6 (fun S1 r2 h => ?_)
  refine jr_if_eq C 31 12 rfl dX0_event_9 (by decide) (fun c24 => ?_) (fun c24 => ?_)
  · have h := h.1 c24
    exact jr_sub [] rfl (wk_X0_event_31 C  h)
  · have h := h.2 c24
    refine jr_iload_n C 13 rfl dX0_event_12 rfl 2 rfl ?_
    refine jr_callSi (As := [.int x2]) (st := []) C 16 rfl (m_X0_isMinute C.2.2.2.2.2.2.2.2.2.2.2.2.2.2.2 h) rfl q775 q776 q94 q777 (by decide) (by decide) nd_X0_isMinute (Nat.le_of_ble_eq_true rfl) dX0_event_13 (fun S3 r4 h => ?_)
    refine jr_if_eq C 31 19 rfl dX0_event_16 (by decide) (fun c23 => ?_) (fun c23 => ?_)
    · have h := h.1 c23
      exact jr_sub [] rfl (wk_X0_event_31 C  h)
    · have h := h.2 c23
      refine jr_iload_n C 20 rfl dX0_event_19 rfl 3 rfl ?_
      refine jr_i2l C 21 rfl dX0_event_20 ?_
      refine jr_lconst (v := 0) C 22 rfl dX0_event_21 (by decide) ?_
      refine jr_ldc2 (v := 9) C 25 rfl dX0_event_22 q779 ?_
      refine jr_callSi (As := [.long ((x3 : Int32).toInt64), .long 0, .long 9]) (st := []) C 28 rfl (m_X0_in C.2.2.2.2.2.2.2.2.2.2.2.2.2.2.2 h) rfl q308 q309 q94 q310 (by decide) (by decide) nd_X0_in (Nat.le_of_ble_eq_true rfl) dX0_event_25 (fun S5 r6 h => ?_)
      refine jr_if_ne C 34 31 rfl dX0_event_28 (by decide) (fun c22 => ?_) (fun c22 => ?_)
      · have h := h.1 c22
        exact jr_sub [] rfl (wk_X0_event_31 C  h)
      · have h := h.2 c22
        refine jr_aload_n C 35 rfl dX0_event_34 rfl 0 rfl ?_
        refine jr_getr C 38 rfl fo_0_6 q234 dX0_event_35 h (fun v7 h => ?_)
        obtain ⟨⟨V, hb⟩, h⟩ := h
        refine jr_callVi (r0 := (RJ2, TJ2, 3)) (As := []) (st := []) C 41 rfl (m_J2_size C.2.2.2.2.2.2.2.2.2.2.2.2.2.2.2 h) rfl hb rfl q700 q378 q379 q99 q380 (by decide) (by decide) ndV_J2_size (Nat.le_of_ble_eq_true rfl) dX0_event_38 (fun S8 r9 h => ?_)
        refine jr_bipush (v := 8) C 43 rfl dX0_event_41 (by decide) ?_
        refine jr_icmp_ne C 49 46 rfl dX0_event_43 (by decide) (fun c21 => ?_) (fun c21 => ?_)
        · have h := h.1 c21
          refine jr_bipush (v := (-4)) C 48 rfl dX0_event_46 (by decide) ?_
          exact jr_ireturn C dX0_event_48 h
        · have h := h.2 c21
          refine jr_aload_n C 50 rfl dX0_event_49 rfl 0 rfl ?_
          refine jr_getr C 53 rfl fo_0_6 q234 dX0_event_50 h (fun v10 h => ?_)
          refine jr_iconst (v := 3) C 54 rfl dX0_event_53 (by decide) ?_
          refine jr_newa C 56 rfl (t := 0) rfl (by decide) rfl rfl (by decide) q227 dX0_event_54 h (fun S11 a12 h => ?_)
          refine jr_dup C 57 rfl dX0_event_56 rfl ?_
          refine jr_iconst (v := 0) C 58 rfl dX0_event_57 (by decide) ?_
          refine jr_iload_n C 59 rfl dX0_event_58 rfl 1 rfl ?_
          refine jr_iast C 60 rfl dX0_event_59 h (fun S13 h => ?_)
          refine jr_dup C 61 rfl dX0_event_60 rfl ?_
          refine jr_iconst (v := 1) C 62 rfl dX0_event_61 (by decide) ?_
          refine jr_iload_n C 63 rfl dX0_event_62 rfl 2 rfl ?_
          refine jr_iast C 64 rfl dX0_event_63 h (fun S14 h => ?_)
          refine jr_dup C 65 rfl dX0_event_64 rfl ?_
          refine jr_iconst (v := 2) C 66 rfl dX0_event_65 (by decide) ?_
          refine jr_iload_n C 67 rfl dX0_event_66 rfl 3 rfl ?_
          refine jr_iast C 68 rfl dX0_event_67 h (fun S15 h => ?_)
          obtain ⟨⟨V, hb⟩, h⟩ := h
          refine jr_callVi (r0 := (RJ2, TJ2, 3)) (As := [.ref a12]) (st := []) C 71 rfl (m_J2_add C.2.2.2.2.2.2.2.2.2.2.2.2.2.2.2 h) rfl hb rfl q780 q596 q597 q99 q598 (by decide) (by decide) ndV_J2_add (Nat.le_of_ble_eq_true rfl) dX0_event_68 (fun S16 r17 h => ?_)
          refine jr_pop C 72 rfl dX0_event_71 rfl ?_
          refine jr_aload_n C 73 rfl dX0_event_72 rfl 0 rfl ?_
          refine jr_getr C 76 rfl fo_0_6 q234 dX0_event_73 h (fun v18 h => ?_)
          obtain ⟨⟨V, hb⟩, h⟩ := h
          refine jr_callVi (r0 := (RJ2, TJ2, 3)) (As := []) (st := []) C 79 rfl (m_J2_size C.2.2.2.2.2.2.2.2.2.2.2.2.2.2.2 h) rfl hb rfl q700 q378 q379 q99 q380 (by decide) (by decide) ndV_J2_size (Nat.le_of_ble_eq_true rfl) dX0_event_76 (fun S19 r20 h => ?_)
          exact jr_ireturn C dX0_event_79 h
theorem m_X0_event {l : Launch} (hl : l.stackTraces = false) {G : jG} {K : jS → Int32 → Prop} {S : jS} {x0 : Nat} {x1 : Int32} {x2 : Int32} {x3 : Int32} (h : wp_X0_event S x0 x1 x2 x3 K) : jMet l G d_X0_event yX0_event (ws_ yX0_event cX0_event 4 (some .int)) [.ref x0, .int x1, .int x2, .int x3] S tvi K :=
  jMet.of hl rfl (by decide) (Nat.le_of_ble_eq_true rfl) (fun X C => jr_sub [0, 1, 2, 3] rfl (wk_X0_event_0 C h))
theorem wk_X0_fault_21 {X : jX} {G : jG} {K : jS → Int32 → Prop} (C : jC (X, G, 2, jA X G tvi K) d_X0_fault cX0_fault "Samovar" (some .int) yX0_fault) {S : jS} {t0 : Int32}  (h : wp_X0_fault_21 S t0 K) : jJ (X, G, 2, jA X G tvi K) S [] 21 [.int t0] := by
  unfold wp_X0_fault_21 at h
  exact jr_ireturn C dX0_fault_21 h
theorem wk_X0_fault_0 {X : jX} {G : jG} {K : jS → Int32 → Prop} (C : jC (X, G, 2, jA X G tvi K) d_X0_fault cX0_fault "Samovar" (some .int) yX0_fault) {S : jS} {x0 : Nat} {x1 : Int32}  (h : wp_X0_fault S x0 x1 K) : jJ (X, G, 2, jA X G tvi K) S [(0, .ref x0), (1, .int x1)] 0 [] := by
  unfold wp_X0_fault at h
  refine jr_iload_n C 1 rfl dX0_fault_0 rfl 1 rfl ?_
  refine jr_callSi (As := [.int x1]) (st := []) C 4 rfl (m_X0_isTwo C.2.2.2.2.2.2.2.2.2.2.2.2.2.2.2 h) rfl q305 q306 q94 q307 (by decide) (by decide) nd_X0_isTwo (Nat.le_of_ble_eq_true rfl) dX0_fault_1 (fun S1 r2 h => ?_)
  refine jr_if_eq C 19 7 rfl dX0_fault_4 (by decide) (fun c7 => ?_) (fun c7 => ?_)
  · have h := h.1 c7
    refine jr_bipush (v := (-2)) C 21 rfl dX0_fault_19 (by decide) ?_
    exact jr_sub [] rfl (wk_X0_fault_21 C  h)
  · have h := h.2 c7
    refine jr_aload_n C 8 rfl dX0_fault_7 rfl 0 rfl ?_
    refine jr_getr C 11 rfl fo_0_3 q231 dX0_fault_8 h (fun v3 h => ?_)
    refine jr_iload_n C 12 rfl dX0_fault_11 rfl 1 rfl ?_
    refine jr_aaldn C 13 rfl (t := 5) rfl rfl dX0_fault_12 h (fun v4 h => ?_)
    refine dr_Text_read_1_2 (As := []) (st := []) C 16 rfl h rfl q342 (by decide) (Nat.le_of_ble_eq_true rfl) dX0_fault_13 (fun S5 r6 h => ?_)
    refine jr_goto C 21 dX0_fault_16 (by decide) ?_
    exact jr_sub [] rfl (wk_X0_fault_21 C  h)
theorem m_X0_fault {l : Launch} (hl : l.stackTraces = false) {G : jG} {K : jS → Int32 → Prop} {S : jS} {x0 : Nat} {x1 : Int32} (h : wp_X0_fault S x0 x1 K) : jMet l G d_X0_fault yX0_fault (ws_ yX0_fault cX0_fault 2 (some .int)) [.ref x0, .int x1] S tvi K :=
  jMet.of hl rfl (by decide) (Nat.le_of_ble_eq_true rfl) (fun X C => jr_sub [0, 1] rfl (wk_X0_fault_0 C h))
theorem wk_X0_fill_17 {X : jX} {G : jG} {K : jS → Int32 → Prop} (C : jC (X, G, 2, jA X G tvi K) d_X0_fill cX0_fill "Samovar" (some .int) yX0_fill) {S : jS} {t0 : Int32}  (h : wp_X0_fill_17 S t0 K) : jJ (X, G, 2, jA X G tvi K) S [] 17 [.int t0] := by
  unfold wp_X0_fill_17 at h
  exact jr_ireturn C dX0_fill_17 h
theorem wk_X0_fill_0 {X : jX} {G : jG} {K : jS → Int32 → Prop} (C : jC (X, G, 2, jA X G tvi K) d_X0_fill cX0_fill "Samovar" (some .int) yX0_fill) {S : jS} {x0 : Nat} {x1 : Int32}  (h : wp_X0_fill S x0 x1 K) : jJ (X, G, 2, jA X G tvi K) S [(0, .ref x0), (1, .int x1)] 0 [] := by
  unfold wp_X0_fill at h
  refine jr_iload_n C 1 rfl dX0_fill_0 rfl 1 rfl ?_
  refine jr_callSi (As := [.int x1]) (st := []) C 4 rfl (m_X0_isTwo C.2.2.2.2.2.2.2.2.2.2.2.2.2.2.2 h) rfl q305 q306 q94 q307 (by decide) (by decide) nd_X0_isTwo (Nat.le_of_ble_eq_true rfl) dX0_fill_1 (fun S1 r2 h => ?_)
  refine jr_if_eq C 15 7 rfl dX0_fill_4 (by decide) (fun c5 => ?_) (fun c5 => ?_)
  · have h := h.1 c5
    refine jr_bipush (v := (-2)) C 17 rfl dX0_fill_15 (by decide) ?_
    exact jr_sub [] rfl (wk_X0_fill_17 C  h)
  · have h := h.2 c5
    refine jr_aload_n C 8 rfl dX0_fill_7 rfl 0 rfl ?_
    refine jr_iload_n C 9 rfl dX0_fill_8 rfl 1 rfl ?_
    obtain ⟨⟨V, hb⟩, h⟩ := h
    refine jr_callVWi (r0 := (RX0, TX0, 24)) (As := [.int x1]) (st := []) C 12 rfl (m_X0_fillBy C.2.2.2.2.2.2.2.2.2.2.2.2.2.2.2 h) rfl hb rfl q1030 q1032 qs24 q94 q1033 (by decide) (by decide) ndV_X0_fillBy (Nat.le_of_ble_eq_true rfl) dX0_fill_9 (fun S3 r4 h => ?_)
    refine jr_goto C 17 dX0_fill_12 (by decide) ?_
    exact jr_sub [] rfl (wk_X0_fill_17 C  h)
theorem m_X0_fill {l : Launch} (hl : l.stackTraces = false) {G : jG} {K : jS → Int32 → Prop} {S : jS} {x0 : Nat} {x1 : Int32} (h : wp_X0_fill S x0 x1 K) : jMet l G d_X0_fill yX0_fill (ws_ yX0_fill cX0_fill 2 (some .int)) [.ref x0, .int x1] S tvi K :=
  jMet.of hl rfl (by decide) (Nat.le_of_ble_eq_true rfl) (fun X C => jr_sub [0, 1] rfl (wk_X0_fill_0 C h))
theorem wk_X0_first_0 {X : jX} {G : jG} {K : jS → Int32 → Prop} (C : jC (X, G, 1, jA X G tvi K) d_X0_first cX0_first "Samovar" (some .int) yX0_first) {S : jS} {x0 : Nat}  (h : wp_X0_first S x0 K) : jJ (X, G, 1, jA X G tvi K) S [(0, .ref x0)] 0 [] := by
  unfold wp_X0_first at h
  refine jr_aload_n C 1 rfl dX0_first_0 rfl 0 rfl ?_
  obtain ⟨⟨V, hb⟩, h⟩ := h
  refine jr_callVv (r0 := (RX0, TX0, 24)) (As := []) (st := []) C 4 rfl (m_X0_find C.2.2.2.2.2.2.2.2.2.2.2.2.2.2.2 h) rfl hb rfl q831 q833 qs10 q94 q834 (by decide) (by decide) ndV_X0_find (Nat.le_of_ble_eq_true rfl) dX0_first_1 (fun S1 _ h => ?_)
  refine jr_aload_n C 5 rfl dX0_first_4 rfl 0 rfl ?_
  obtain ⟨⟨V, hb⟩, h⟩ := h
  refine jr_callVi (r0 := (RX0, TX0, 24)) (As := []) (st := []) C 8 rfl (m_X0_firstNow C.2.2.2.2.2.2.2.2.2.2.2.2.2.2.2 h) rfl hb rfl q993 q995 qs20 q94 q996 (by decide) (by decide) ndV_X0_firstNow (Nat.le_of_ble_eq_true rfl) dX0_first_5 (fun S2 r3 h => ?_)
  exact jr_ireturn C dX0_first_8 h
theorem m_X0_first {l : Launch} (hl : l.stackTraces = false) {G : jG} {K : jS → Int32 → Prop} {S : jS} {x0 : Nat} (h : wp_X0_first S x0 K) : jMet l G d_X0_first yX0_first (ws_ yX0_first cX0_first 1 (some .int)) [.ref x0] S tvi K :=
  jMet.of hl rfl (by decide) (Nat.le_of_ble_eq_true rfl) (fun X C => jr_sub [0] rfl (wk_X0_first_0 C h))
theorem wk_X0_forget_0 {X : jX} {G : jG} {K : jS → Int32 → Prop} (C : jC (X, G, 2, jA X G tvi K) d_X0_forget cX0_forget "Samovar" (some .int) yX0_forget) {S : jS} {x0 : Nat}  (h : wp_X0_forget S x0 K) : jJ (X, G, 2, jA X G tvi K) S [(0, .ref x0)] 0 [] := by
  unfold wp_X0_forget at h
  refine jr_aload_n C 1 rfl dX0_forget_0 rfl 0 rfl ?_
  refine jr_getr C 4 rfl fo_0_18 q246 dX0_forget_1 h (fun v1 h => ?_)
  obtain ⟨⟨V, hb⟩, h⟩ := h
  refine jr_callVi (r0 := (RJ2, TJ2, 3)) (As := []) (st := []) C 7 rfl (m_J2_size C.2.2.2.2.2.2.2.2.2.2.2.2.2.2.2 h) rfl hb rfl q700 q378 q379 q99 q380 (by decide) (by decide) ndV_J2_size (Nat.le_of_ble_eq_true rfl) dX0_forget_4 (fun S2 r3 h => ?_)
  refine jr_istore_n (lv' := [(1, .int r3), (0, .ref x0)]) C 8 rfl dX0_forget_7 rfl (Nat.le_of_ble_eq_true rfl) rfl ?_
  refine jr_aload_n C 9 rfl dX0_forget_8 rfl 1 rfl ?_
  refine jr_getr C 12 rfl fo_0_18 q246 dX0_forget_9 h (fun v4 h => ?_)
  obtain ⟨⟨V, hb⟩, h⟩ := h
  refine jr_callVv (r0 := (RJ2, TJ2, 3)) (As := []) (st := []) C 15 rfl (m_J2_clear C.2.2.2.2.2.2.2.2.2.2.2.2.2.2.2 h) rfl hb rfl q839 q360 q361 q99 q362 (by decide) (by decide) ndV_J2_clear (Nat.le_of_ble_eq_true rfl) dX0_forget_12 (fun S5 _ h => ?_)
  refine jr_iload_n C 16 rfl dX0_forget_15 rfl 0 rfl ?_
  exact jr_ireturn C dX0_forget_16 h
theorem m_X0_forget {l : Launch} (hl : l.stackTraces = false) {G : jG} {K : jS → Int32 → Prop} {S : jS} {x0 : Nat} (h : wp_X0_forget S x0 K) : jMet l G d_X0_forget yX0_forget (ws_ yX0_forget cX0_forget 2 (some .int)) [.ref x0] S tvi K :=
  jMet.of hl rfl (by decide) (Nat.le_of_ble_eq_true rfl) (fun X C => jr_sub [0] rfl (wk_X0_forget_0 C h))
theorem wk_X0_lowest_0 {X : jX} {G : jG} {K : jS → Int32 → Prop} (C : jC (X, G, 2, jA X G tvi K) d_X0_lowest cX0_lowest "Samovar" (some .int) yX0_lowest) {S : jS} {x0 : Nat} {x1 : Int32}  (h : wp_X0_lowest S x0 x1 K) : jJ (X, G, 2, jA X G tvi K) S [(0, .ref x0), (1, .int x1)] 0 [] := by
  unfold wp_X0_lowest at h
  refine jr_aload_n C 1 rfl dX0_lowest_0 rfl 0 rfl ?_
  refine jr_iload_n C 2 rfl dX0_lowest_1 rfl 1 rfl ?_
  refine jr_putv C 5 rfl fo_0_0 (by decide) q228 dX0_lowest_2 rfl rfl h (fun S1 h => ?_)
  refine jr_ldc (v := (-2147483648)) C 7 rfl dX0_lowest_5 q1228 ?_
  exact jr_ireturn C dX0_lowest_7 h
theorem m_X0_lowest {l : Launch} (hl : l.stackTraces = false) {G : jG} {K : jS → Int32 → Prop} {S : jS} {x0 : Nat} {x1 : Int32} (h : wp_X0_lowest S x0 x1 K) : jMet l G d_X0_lowest yX0_lowest (ws_ yX0_lowest cX0_lowest 2 (some .int)) [.ref x0, .int x1] S tvi K :=
  jMet.of hl rfl (by decide) (Nat.le_of_ble_eq_true rfl) (fun X C => jr_sub [0, 1] rfl (wk_X0_lowest_0 C h))
theorem wk_X0_get_19 {X : jX} {G : jG} {K : jS → Int32 → Prop} (C : jC (X, G, 5, jA X G tvi K) d_X0_get cX0_get "Samovar" (some .int) yX0_get) (hT : (zc (X, G, 5, jA X G tvi K)).exceptionTable.toList = tableOf [((40), (51), (52), (415)), ((40), (51), (60), (417))]) {S : jS}   (h : wp_X0_get_19 S K) : jJ (X, G, 5, jA X G tvi K) S [] 19 [] := by
  unfold wp_X0_get_19 at h
  refine jr_ldc (v := (-2147483648)) C 21 rfl dX0_get_19 q1228 ?_
  exact jr_ireturn C dX0_get_21 h
theorem wk_X0_get_52 {X : jX} {G : jG} {K : jS → Int32 → Prop} (C : jC (X, G, 5, jA X G tvi K) d_X0_get cX0_get "Samovar" (some .int) yX0_get) (hT : (zc (X, G, 5, jA X G tvi K)).exceptionTable.toList = tableOf [((40), (51), (52), (415)), ((40), (51), (60), (417))]) {S : jS} {t0 : Nat} {x0 : Nat}  (h : wp_X0_get_52 S t0 x0 K) : jJ (X, G, 5, jA X G tvi K) S [(0, .ref x0)] 52 [.ref t0] := by
  unfold wp_X0_get_52 at h
  refine jr_astore (lv' := [(4, .ref t0), (0, .ref x0)]) C 54 rfl dX0_get_52 (Nat.le_of_ble_eq_true rfl) rfl ?_
  refine jr_aload_n C 55 rfl dX0_get_54 rfl 1 rfl ?_
  refine jr_iconst (v := 3) C 56 rfl dX0_get_55 (by decide) ?_
  obtain ⟨⟨V, hb⟩, h⟩ := h
  refine jr_callVi (r0 := (RX0, TX0, 24)) (As := [.int 3]) (st := []) C 59 rfl (m_X0_lowest C.2.2.2.2.2.2.2.2.2.2.2.2.2.2.2 h) rfl hb rfl q1229 q1231 qs38 q94 q1232 (by decide) (by decide) ndV_X0_lowest (Nat.le_of_ble_eq_true rfl) dX0_get_56 (fun S1 r2 h => ?_)
  exact jr_ireturn C dX0_get_59 h
theorem wk_X0_get_60 {X : jX} {G : jG} {K : jS → Int32 → Prop} (C : jC (X, G, 5, jA X G tvi K) d_X0_get cX0_get "Samovar" (some .int) yX0_get) (hT : (zc (X, G, 5, jA X G tvi K)).exceptionTable.toList = tableOf [((40), (51), (52), (415)), ((40), (51), (60), (417))]) {S : jS} {t0 : Nat} {x0 : Nat}  (h : wp_X0_get_60 S t0 x0 K) : jJ (X, G, 5, jA X G tvi K) S [(0, .ref x0)] 60 [.ref t0] := by
  unfold wp_X0_get_60 at h
  refine jr_astore (lv' := [(4, .ref t0), (0, .ref x0)]) C 62 rfl dX0_get_60 (Nat.le_of_ble_eq_true rfl) rfl ?_
  refine jr_aload_n C 63 rfl dX0_get_62 rfl 1 rfl ?_
  refine jr_iconst (v := 2) C 64 rfl dX0_get_63 (by decide) ?_
  obtain ⟨⟨V, hb⟩, h⟩ := h
  refine jr_callVi (r0 := (RX0, TX0, 24)) (As := [.int 2]) (st := []) C 67 rfl (m_X0_lowest C.2.2.2.2.2.2.2.2.2.2.2.2.2.2.2 h) rfl hb rfl q1229 q1231 qs38 q94 q1232 (by decide) (by decide) ndV_X0_lowest (Nat.le_of_ble_eq_true rfl) dX0_get_64 (fun S1 r2 h => ?_)
  exact jr_ireturn C dX0_get_67 h
theorem wk_X0_get_0 {X : jX} {G : jG} {K : jS → Int32 → Prop} (C : jC (X, G, 5, jA X G tvi K) d_X0_get cX0_get "Samovar" (some .int) yX0_get) (hT : (zc (X, G, 5, jA X G tvi K)).exceptionTable.toList = tableOf [((40), (51), (52), (415)), ((40), (51), (60), (417))]) {S : jS} {x0 : Nat} {x1 : Int32} {x2 : Int32} {x3 : Int32}  (h : wp_X0_get S x0 x1 x2 x3 K) : jJ (X, G, 5, jA X G tvi K) S [(0, .ref x0), (1, .int x1), (2, .int x2), (3, .int x3)] 0 [] := by
  unfold wp_X0_get at h
  refine jr_iload_n C 1 rfl dX0_get_0 rfl 1 rfl ?_
  refine jr_callSi (As := [.int x1]) (st := []) C 4 rfl (m_X0_isSheet C.2.2.2.2.2.2.2.2.2.2.2.2.2.2.2 h) rfl q802 q803 q94 q804 (by decide) (by decide) nd_X0_isSheet (Nat.le_of_ble_eq_true rfl) dX0_get_1 (fun S1 r2 h => ?_)
  refine jr_if_eq C 19 7 rfl dX0_get_4 (by decide) (fun c20 => ?_) (fun c20 => ?_)
  · have h := h.1 c20
    exact jr_sub [] rfl (wk_X0_get_19 C hT  h)
  · have h := h.2 c20
    refine jr_iload_n C 8 rfl dX0_get_7 rfl 2 rfl ?_
    refine jr_i2l C 9 rfl dX0_get_8 ?_
    refine jr_lconst (v := 0) C 10 rfl dX0_get_9 (by decide) ?_
    refine jr_ldc2 (v := 2) C 13 rfl dX0_get_10 q701 ?_
    refine jr_callSi (As := [.long ((x2 : Int32).toInt64), .long 0, .long 2]) (st := []) C 16 rfl (m_X0_in C.2.2.2.2.2.2.2.2.2.2.2.2.2.2.2 h) rfl q308 q309 q94 q310 (by decide) (by decide) nd_X0_in (Nat.le_of_ble_eq_true rfl) dX0_get_13 (fun S3 r4 h => ?_)
    refine jr_if_ne C 22 19 rfl dX0_get_16 (by decide) (fun c19 => ?_) (fun c19 => ?_)
    · have h := h.1 c19
      exact jr_sub [] rfl (wk_X0_get_19 C hT  h)
    · have h := h.2 c19
      refine jr_aload_n C 23 rfl dX0_get_22 rfl 0 rfl ?_
      refine jr_getr C 26 rfl fo_0_23 q251 dX0_get_23 h (fun v5 h => ?_)
      refine jr_iload_n C 27 rfl dX0_get_26 rfl 1 rfl ?_
      refine jr_aaldn C 28 rfl (t := 9) rfl rfl dX0_get_27 h (fun v6 h => ?_)
      refine jr_getoN C 31 rfl fo_6_0 (jx_g q223 rfl) dX0_get_28 h (fun v7 h => ?_)
      refine jr_ifnonnull (x := v7) C 40 34 rfl dX0_get_31 (by decide) (fun c18 => ?_) (fun c18 => ?_)
      · have h := h.1 c18
        refine jr_aload_n C 35 rfl dX0_get_34 rfl 0 rfl ?_
        refine jr_iconst (v := 1) C 36 rfl dX0_get_35 (by decide) ?_
        obtain ⟨⟨V, hb⟩, h⟩ := h
        refine jr_callVi (r0 := (RX0, TX0, 24)) (As := [.int 1]) (st := []) C 39 rfl (m_X0_lowest C.2.2.2.2.2.2.2.2.2.2.2.2.2.2.2 h) rfl hb rfl q1229 q1231 qs38 q94 q1232 (by decide) (by decide) ndV_X0_lowest (Nat.le_of_ble_eq_true rfl) dX0_get_36 (fun S8 r9 h => ?_)
        exact jr_ireturn C dX0_get_39 h
      · obtain ⟨a10, c18⟩ := Option.ne_none_iff_exists'.mp c18
        replace h := h.2 a10 c18
        subst c18
        refine jr_aload_n C 41 rfl dX0_get_40 rfl 0 rfl ?_
        refine jr_getr C 44 rfl fo_0_23 q251 dX0_get_41 h (fun v11 h => ?_)
        refine jr_iload_n C 45 rfl dX0_get_44 rfl 1 rfl ?_
        refine jr_aaldn C 46 rfl (t := 9) rfl rfl dX0_get_45 h (fun v12 h => ?_)
        refine jr_iload_n C 47 rfl dX0_get_46 rfl 2 rfl ?_
        refine jr_iload_n C 48 rfl dX0_get_47 rfl 3 rfl ?_
        obtain ⟨⟨V, hb⟩, h⟩ := h
        refine jr_callXVi (r0 := (RX4, TX4, 1)) (As := [.int x2, .int x3]) (st := []) C 51 rfl (m_X4_item C.2.2.2.2.2.2.2.2.2.2.2.2.2.2.2 h) rfl hb rfl q822 q823 q824 q101 q825 (by decide) (by decide) ndV_X4_item (Nat.le_of_ble_eq_true rfl) dX0_get_48 (fun S13 r14 h => ?_) (fun S15 e16 q17 h => by
    rcases h with ⟨hE, h⟩ | ⟨hE, h⟩
    · subst hE
      exact jx_catch C (e := 1) rfl [] ⟨40, 51, 52, 415⟩ [⟨40, 51, 60, 417⟩] hT (fun z hz => by cases hz) (by decide) (by decide) q1187 (jx_g q1199 rfl) (jr_sub [0] rfl (wk_X0_get_52 C hT  h))
    · subst hE
      exact jx_catch C (e := 2) rfl [⟨40, 51, 52, 415⟩] ⟨40, 51, 60, 417⟩ [] hT (by intro z hz; rcases List.mem_singleton.mp hz with rfl; exact Or.inr ⟨by decide, _, q1187, by decide⟩) (by decide) (by decide) q1201 (jx_g q1216 rfl) (jr_sub [0] rfl (wk_X0_get_60 C hT  h)))
        exact jr_ireturn C dX0_get_51 h
theorem m_X0_get {l : Launch} (hl : l.stackTraces = false) {G : jG} {K : jS → Int32 → Prop} {S : jS} {x0 : Nat} {x1 : Int32} {x2 : Int32} {x3 : Int32} (h : wp_X0_get S x0 x1 x2 x3 K) : jMet l G d_X0_get yX0_get (wsW_ yX0_get cX0_get 5 (some .int) [((40), (51), (52), (415)), ((40), (51), (60), (417))]) [.ref x0, .int x1, .int x2, .int x3] S tvi K :=
  jMet.ofHT hl rfl (by decide) (Nat.le_of_ble_eq_true rfl) (fun X C hT => jr_sub [0, 1, 2, 3] rfl (wk_X0_get_0 C hT h))
theorem wk_X0_guest_40 {X : jX} {G : jG} {K : jS → Int32 → Prop} (C : jC (X, G, 3, jA X G tvi K) d_X0_guest cX0_guest "Samovar" (some .int) yX0_guest) {S : jS} {t0 : Int32}  (h : wp_X0_guest_40 S t0 K) : jJ (X, G, 3, jA X G tvi K) S [] 40 [.int t0] := by
  unfold wp_X0_guest_40 at h
  exact jr_ireturn C dX0_guest_40 h
theorem wk_X0_guest_38 {X : jX} {G : jG} {K : jS → Int32 → Prop} (C : jC (X, G, 3, jA X G tvi K) d_X0_guest cX0_guest "Samovar" (some .int) yX0_guest) {S : jS}   (h : wp_X0_guest_38 S K) : jJ (X, G, 3, jA X G tvi K) S [] 38 [] := by
  unfold wp_X0_guest_38 at h
  refine jr_bipush (v := (-2)) C 40 rfl dX0_guest_38 (by decide) ?_
  exact (wk_X0_guest_40 C  h)
theorem wk_X0_guest_0 {X : jX} {G : jG} {K : jS → Int32 → Prop} (C : jC (X, G, 3, jA X G tvi K) d_X0_guest cX0_guest "Samovar" (some .int) yX0_guest) {S : jS} {x0 : Nat} {x1 : Int32} {x2 : Int32}  (h : wp_X0_guest S x0 x1 x2 K) : jJ (X, G, 3, jA X G tvi K) S [(0, .ref x0), (1, .int x1), (2, .int x2)] 0 [] := by
  unfold wp_X0_guest at h
  refine jr_aload_n C 1 rfl dX0_guest_0 rfl 0 rfl ?_
  refine jr_iload_n C 2 rfl dX0_guest_1 rfl 1 rfl ?_
  obtain ⟨⟨V, hb⟩, h⟩ := h
  refine jr_callVi (r0 := (RX0, TX0, 24)) (As := [.int x1]) (st := []) C 5 rfl (m_X0_isGuest C.2.2.2.2.2.2.2.2.2.2.2.2.2.2.2 h) rfl hb rfl q740 q742 qs6 q94 q743 (by decide) (by decide) ndV_X0_isGuest (Nat.le_of_ble_eq_true rfl) dX0_guest_2 (fun S1 r2 h => ?_)
  refine jr_if_eq C 38 8 rfl dX0_guest_5 (by decide) (fun c11 => ?_) (fun c11 => ?_)
  · have h := h.1 c11
    exact jr_sub [] rfl (wk_X0_guest_38 C  h)
  · have h := h.2 c11
    refine jr_iload_n C 9 rfl dX0_guest_8 rfl 2 rfl ?_
    refine jr_i2l C 10 rfl dX0_guest_9 ?_
    refine jr_lconst (v := 0) C 11 rfl dX0_guest_10 (by decide) ?_
    refine jr_ldc2 (v := 2) C 14 rfl dX0_guest_11 q701 ?_
    refine jr_callSi (As := [.long ((x2 : Int32).toInt64), .long 0, .long 2]) (st := []) C 17 rfl (m_X0_in C.2.2.2.2.2.2.2.2.2.2.2.2.2.2.2 h) rfl q308 q309 q94 q310 (by decide) (by decide) nd_X0_in (Nat.le_of_ble_eq_true rfl) dX0_guest_14 (fun S3 r4 h => ?_)
    refine jr_if_eq C 38 20 rfl dX0_guest_17 (by decide) (fun c10 => ?_) (fun c10 => ?_)
    · have h := h.1 c10
      exact jr_sub [] rfl (wk_X0_guest_38 C  h)
    · have h := h.2 c10
      refine jr_aload_n C 21 rfl dX0_guest_20 rfl 0 rfl ?_
      refine jr_getr C 24 rfl fo_0_4 q232 dX0_guest_21 h (fun v5 h => ?_)
      refine jr_iload_n C 25 rfl dX0_guest_24 rfl 1 rfl ?_
      obtain ⟨⟨V, hb⟩, h⟩ := h
      refine jr_callVr (r0 := (RJ2, TJ2, 3)) (As := [.int x1]) (st := []) C 28 rfl (m_J2_get C.2.2.2.2.2.2.2.2.2.2.2.2.2.2.2 h) rfl hb rfl q702 q703 q704 q99 q705 (by decide) (by decide) ndV_J2_get (Nat.le_of_ble_eq_true rfl) dX0_guest_25 (fun S6 r7 h => ?_)
      obtain ⟨hz, h⟩ := h
      refine jr_cast C 31 rfl (cs := [4]) can_Samovar_Guest (by decide) q213 dX0_guest_28 hz ?_
      refine jr_iload_n C 32 rfl dX0_guest_31 rfl 2 rfl ?_
      obtain ⟨⟨V, hb⟩, h⟩ := h
      refine jr_callVi (r0 := (RX7, TX7, 8)) (As := [.int x2]) (st := []) C 35 rfl (m_X7_by C.2.2.2.2.2.2.2.2.2.2.2.2.2.2.2 h) rfl hb rfl q751 q752 q753 q112 q754 (by decide) (by decide) ndV_X7_by (Nat.le_of_ble_eq_true rfl) dX0_guest_32 (fun S8 r9 h => ?_)
      refine jr_goto C 40 dX0_guest_35 (by decide) ?_
      exact jr_sub [] rfl (wk_X0_guest_40 C  h)
theorem m_X0_guest {l : Launch} (hl : l.stackTraces = false) {G : jG} {K : jS → Int32 → Prop} {S : jS} {x0 : Nat} {x1 : Int32} {x2 : Int32} (h : wp_X0_guest S x0 x1 x2 K) : jMet l G d_X0_guest yX0_guest (ws_ yX0_guest cX0_guest 3 (some .int)) [.ref x0, .int x1, .int x2] S tvi K :=
  jMet.of hl rfl (by decide) (Nat.le_of_ble_eq_true rfl) (fun X C => jr_sub [0, 1, 2] rfl (wk_X0_guest_0 C h))
theorem wk_X0_hottest_21 {X : jX} {G : jG} {K : jS → Int32 → Prop} (C : jC (X, G, 2, jA X G tvi K) d_X0_hottest cX0_hottest "Samovar" (some .int) yX0_hottest) {S : jS} {t0 : Int32}  (h : wp_X0_hottest_21 S t0 K) : jJ (X, G, 2, jA X G tvi K) S [] 21 [.int t0] := by
  unfold wp_X0_hottest_21 at h
  exact jr_ireturn C dX0_hottest_21 h
theorem wk_X0_hottest_0 {X : jX} {G : jG} {K : jS → Int32 → Prop} (C : jC (X, G, 2, jA X G tvi K) d_X0_hottest cX0_hottest "Samovar" (some .int) yX0_hottest) {S : jS} {x0 : Nat} {x1 : Int32}  (h : wp_X0_hottest S x0 x1 K) : jJ (X, G, 2, jA X G tvi K) S [(0, .ref x0), (1, .int x1)] 0 [] := by
  unfold wp_X0_hottest at h
  refine jr_aload_n C 1 rfl dX0_hottest_0 rfl 0 rfl ?_
  obtain ⟨⟨V, hb⟩, h⟩ := h
  refine jr_callVv (r0 := (RX0, TX0, 24)) (As := []) (st := []) C 4 rfl (m_X0_find C.2.2.2.2.2.2.2.2.2.2.2.2.2.2.2 h) rfl hb rfl q831 q833 qs10 q94 q834 (by decide) (by decide) ndV_X0_find (Nat.le_of_ble_eq_true rfl) dX0_hottest_1 (fun S1 _ h => ?_)
  refine jr_iload_n C 5 rfl dX0_hottest_4 rfl 1 rfl ?_
  refine jr_callSi (As := [.int x1]) (st := []) C 8 rfl (m_X0_isTwo C.2.2.2.2.2.2.2.2.2.2.2.2.2.2.2 h) rfl q305 q306 q94 q307 (by decide) (by decide) nd_X0_isTwo (Nat.le_of_ble_eq_true rfl) dX0_hottest_5 (fun S2 r3 h => ?_)
  refine jr_if_eq C 19 11 rfl dX0_hottest_8 (by decide) (fun c6 => ?_) (fun c6 => ?_)
  · have h := h.1 c6
    refine jr_bipush (v := (-2)) C 21 rfl dX0_hottest_19 (by decide) ?_
    exact jr_sub [] rfl (wk_X0_hottest_21 C  h)
  · have h := h.2 c6
    refine jr_aload_n C 12 rfl dX0_hottest_11 rfl 0 rfl ?_
    refine jr_iload_n C 13 rfl dX0_hottest_12 rfl 1 rfl ?_
    obtain ⟨⟨V, hb⟩, h⟩ := h
    refine jr_callVi (r0 := (RX0, TX0, 24)) (As := [.int x1]) (st := []) C 16 rfl (m_X0_hottestBy C.2.2.2.2.2.2.2.2.2.2.2.2.2.2.2 h) rfl hb rfl q1001 q1003 qs21 q94 q1004 (by decide) (by decide) ndV_X0_hottestBy (Nat.le_of_ble_eq_true rfl) dX0_hottest_13 (fun S4 r5 h => ?_)
    refine jr_goto C 21 dX0_hottest_16 (by decide) ?_
    exact jr_sub [] rfl (wk_X0_hottest_21 C  h)
theorem m_X0_hottest {l : Launch} (hl : l.stackTraces = false) {G : jG} {K : jS → Int32 → Prop} {S : jS} {x0 : Nat} {x1 : Int32} (h : wp_X0_hottest S x0 x1 K) : jMet l G d_X0_hottest yX0_hottest (ws_ yX0_hottest cX0_hottest 2 (some .int)) [.ref x0, .int x1] S tvi K :=
  jMet.of hl rfl (by decide) (Nat.le_of_ble_eq_true rfl) (fun X C => jr_sub [0, 1] rfl (wk_X0_hottest_0 C h))
theorem wk_X0_init_176 {X : jX} {G : jG} {K : jS → Unit → Prop} (C : jC (X, G, 1, jA X G tvv K) d_X0_init cX0_init "Samovar" none yX0_init) {S : jS} {t0 : Nat} {t1 : Nat} {t2 : Nat}  (h : wp_X0_init_176 S t0 t1 t2 K) : jJ (X, G, 1, jA X G tvv K) S [] 176 [.ref t2, .ref t1, .ref t0] := by
  unfold wp_X0_init_176 at h
  refine jr_iconst (v := 0) C 177 rfl dX0_init_176 (by decide) ?_
  refine jr_new C 180 rfl (c := 6) (by decide) rfl in_X4 tyX4_ok q215 q217 q101 dX0_init_177 h (fun S1 a2 h => ?_)
  refine jr_dup C 181 rfl dX0_init_180 rfl ?_
  refine jr_callINv (As := []) (st := [.ref a2, .int 0, .ref t2, .ref t1, .ref t0]) C 184 rfl (m_X4_init C.2.2.2.2.2.2.2.2.2.2.2.2.2.2.2 h) rfl rfl (jx_g q218 rfl) q219 q101 q220 (by decide) (by decide) nd_X4_init (Nat.le_of_ble_eq_true rfl) dX0_init_181 (fun S3 _ h => ?_)
  refine jr_aast C 185 rfl (t := 9) rfl (by decide) can_9 canI_9 dX0_init_184 h (fun S4 h => ?_)
  refine jr_dup C 186 rfl dX0_init_185 rfl ?_
  refine jr_iconst (v := 1) C 187 rfl dX0_init_186 (by decide) ?_
  refine jr_new C 190 rfl (c := 6) (by decide) rfl in_X4 tyX4_ok q215 q217 q101 dX0_init_187 h (fun S5 a6 h => ?_)
  refine jr_dup C 191 rfl dX0_init_190 rfl ?_
  refine jr_callINv (As := []) (st := [.ref a6, .int 1, .ref t1, .ref t1, .ref t0]) C 194 rfl (m_X4_init C.2.2.2.2.2.2.2.2.2.2.2.2.2.2.2 h) rfl rfl (jx_g q218 rfl) q219 q101 q220 (by decide) (by decide) nd_X4_init (Nat.le_of_ble_eq_true rfl) dX0_init_191 (fun S7 _ h => ?_)
  refine jr_aast C 195 rfl (t := 9) rfl (by decide) can_9 canI_9 dX0_init_194 h (fun S8 h => ?_)
  refine jr_dup C 196 rfl dX0_init_195 rfl ?_
  refine jr_iconst (v := 2) C 197 rfl dX0_init_196 (by decide) ?_
  refine jr_new C 200 rfl (c := 6) (by decide) rfl in_X4 tyX4_ok q215 q217 q101 dX0_init_197 h (fun S9 a10 h => ?_)
  refine jr_dup C 201 rfl dX0_init_200 rfl ?_
  refine jr_callINv (As := []) (st := [.ref a10, .int 2, .ref t1, .ref t1, .ref t0]) C 204 rfl (m_X4_init C.2.2.2.2.2.2.2.2.2.2.2.2.2.2.2 h) rfl rfl (jx_g q218 rfl) q219 q101 q220 (by decide) (by decide) nd_X4_init (Nat.le_of_ble_eq_true rfl) dX0_init_201 (fun S11 _ h => ?_)
  refine jr_aast C 205 rfl (t := 9) rfl (by decide) can_9 canI_9 dX0_init_204 h (fun S12 h => ?_)
  refine jr_dup C 206 rfl dX0_init_205 rfl ?_
  refine jr_iconst (v := 3) C 207 rfl dX0_init_206 (by decide) ?_
  refine jr_new C 210 rfl (c := 6) (by decide) rfl in_X4 tyX4_ok q215 q217 q101 dX0_init_207 h (fun S13 a14 h => ?_)
  refine jr_dup C 211 rfl dX0_init_210 rfl ?_
  refine jr_callINv (As := []) (st := [.ref a14, .int 3, .ref t1, .ref t1, .ref t0]) C 214 rfl (m_X4_init C.2.2.2.2.2.2.2.2.2.2.2.2.2.2.2 h) rfl rfl (jx_g q218 rfl) q219 q101 q220 (by decide) (by decide) nd_X4_init (Nat.le_of_ble_eq_true rfl) dX0_init_211 (fun S15 _ h => ?_)
  refine jr_aast C 215 rfl (t := 9) rfl (by decide) can_9 canI_9 dX0_init_214 h (fun S16 h => ?_)
  refine jr_putvF C 218 rfl rfl fo_0_23 fo_0_23_d (by decide) q251 dX0_init_215 rfl rfl h (fun S17 h => ?_)
  exact jr_return C dX0_init_218 h
theorem wk_X0_init_80 {X : jX} {G : jG} {K : jS → Unit → Prop} (C : jC (X, G, 1, jA X G tvv K) d_X0_init cX0_init "Samovar" none yX0_init) {S : jS} {t0 : Nat} {t1 : Nat} {x0 : Nat}  (h : wp_X0_init_80 S t0 t1 x0 K) : jJ (X, G, 1, jA X G tvv K) S [(0, .ref x0)] 80 [.ref t1, .ref t0] := by
  unfold wp_X0_init_80 at h
  refine jr_dup C 81 rfl dX0_init_80 rfl ?_
  refine jr_callIv (As := []) (st := [.ref t1, .ref t0]) C 84 rfl (m_J2_init C.2.2.2.2.2.2.2.2.2.2.2.2.2.2.2 h) rfl rfl q208 q143 q99 q144 (by decide) (by decide) nd_J2_init (Nat.le_of_ble_eq_true rfl) dX0_init_81 (fun S1 _ h => ?_)
  refine jr_putvF C 87 rfl rfl fo_0_6 fo_0_6_d (by decide) q234 dX0_init_84 rfl rfl h (fun S2 h => ?_)
  refine jr_aload_n C 88 rfl dX0_init_87 rfl 0 rfl ?_
  refine jr_new C 91 rfl (c := 3) (by decide) rfl in_J2 tyJ2_ok q207 q141 q99 dX0_init_88 h (fun S3 a4 h => ?_)
  refine jr_dup C 92 rfl dX0_init_91 rfl ?_
  refine jr_callIv (As := []) (st := [.ref a4, .ref x0]) C 95 rfl (m_J2_init C.2.2.2.2.2.2.2.2.2.2.2.2.2.2.2 h) rfl rfl q208 q143 q99 q144 (by decide) (by decide) nd_J2_init (Nat.le_of_ble_eq_true rfl) dX0_init_92 (fun S5 _ h => ?_)
  refine jr_putvF C 98 rfl rfl fo_0_13 fo_0_13_d (by decide) q241 dX0_init_95 rfl rfl h (fun S6 h => ?_)
  refine jr_aload_n C 99 rfl dX0_init_98 rfl 0 rfl ?_
  refine jr_bipush (v := 24) C 101 rfl dX0_init_99 (by decide) ?_
  refine jr_bipush (v := 6) C 103 rfl dX0_init_101 (by decide) ?_
  refine jr_mna2 C 107 rfl q209 dX0_init_103 h (fun S7 a8 h => ?_)
  refine jr_putvF C 110 rfl rfl fo_0_14 fo_0_14_d (by decide) q242 dX0_init_107 rfl rfl h (fun S9 h => ?_)
  refine jr_aload_n C 111 rfl dX0_init_110 rfl 0 rfl ?_
  refine jr_bipush (v := 24) C 113 rfl dX0_init_111 (by decide) ?_
  refine jr_newa C 115 rfl (t := 0) rfl (by decide) rfl rfl (by decide) q227 dX0_init_113 h (fun S10 a11 h => ?_)
  refine jr_putvF C 118 rfl rfl fo_0_15 fo_0_15_d (by decide) q243 dX0_init_115 rfl rfl h (fun S12 h => ?_)
  refine jr_aload_n C 119 rfl dX0_init_118 rfl 0 rfl ?_
  refine jr_bipush (v := 24) C 121 rfl dX0_init_119 (by decide) ?_
  refine jr_bipush (v := 8) C 123 rfl dX0_init_121 (by decide) ?_
  refine jr_iconst (v := 2) C 124 rfl dX0_init_123 (by decide) ?_
  refine jr_mna3 C 128 rfl q211 dX0_init_124 h (fun S13 a14 h => ?_)
  refine jr_putvF C 131 rfl rfl fo_0_16 fo_0_16_d (by decide) q244 dX0_init_128 rfl rfl h (fun S15 h => ?_)
  refine jr_aload_n C 132 rfl dX0_init_131 rfl 0 rfl ?_
  refine jr_new C 135 rfl (c := 3) (by decide) rfl in_J2 tyJ2_ok q207 q141 q99 dX0_init_132 h (fun S16 a17 h => ?_)
  refine jr_dup C 136 rfl dX0_init_135 rfl ?_
  refine jr_callIv (As := []) (st := [.ref a17, .ref x0]) C 139 rfl (m_J2_init C.2.2.2.2.2.2.2.2.2.2.2.2.2.2.2 h) rfl rfl q208 q143 q99 q144 (by decide) (by decide) nd_J2_init (Nat.le_of_ble_eq_true rfl) dX0_init_136 (fun S18 _ h => ?_)
  refine jr_putvF C 142 rfl rfl fo_0_18 fo_0_18_d (by decide) q246 dX0_init_139 rfl rfl h (fun S19 h => ?_)
  refine jr_aload_n C 143 rfl dX0_init_142 rfl 0 rfl ?_
  refine jr_bipush (v := 31) C 145 rfl dX0_init_143 (by decide) ?_
  refine jr_newa C 147 rfl (t := 0) rfl (by decide) rfl rfl (by decide) q227 dX0_init_145 h (fun S20 a21 h => ?_)
  refine jr_putvF C 150 rfl rfl fo_0_19 fo_0_19_d (by decide) q247 dX0_init_147 rfl rfl h (fun S22 h => ?_)
  refine jr_aload_n C 151 rfl dX0_init_150 rfl 0 rfl ?_
  refine jr_new C 154 rfl (c := 3) (by decide) rfl in_J2 tyJ2_ok q207 q141 q99 dX0_init_151 h (fun S23 a24 h => ?_)
  refine jr_dup C 155 rfl dX0_init_154 rfl ?_
  refine jr_callIv (As := []) (st := [.ref a24, .ref x0]) C 158 rfl (m_J2_init C.2.2.2.2.2.2.2.2.2.2.2.2.2.2.2 h) rfl rfl q208 q143 q99 q144 (by decide) (by decide) nd_J2_init (Nat.le_of_ble_eq_true rfl) dX0_init_155 (fun S25 _ h => ?_)
  refine jr_putvF C 161 rfl rfl fo_0_21 fo_0_21_d (by decide) q249 dX0_init_158 rfl rfl h (fun S26 h => ?_)
  refine jr_aload_n C 162 rfl dX0_init_161 rfl 0 rfl ?_
  refine jr_bipush (v := 8) C 164 rfl dX0_init_162 (by decide) ?_
  refine jr_newr C 167 rfl (t := 8) rfl (by decide) q213 (jx_g q214 rfl) dX0_init_164 h (fun S27 a28 h => ?_)
  refine jr_putvF C 170 rfl rfl fo_0_22 fo_0_22_d (by decide) q250 dX0_init_167 rfl rfl h (fun S29 h => ?_)
  refine jr_aload_n C 171 rfl dX0_init_170 rfl 0 rfl ?_
  refine jr_iconst (v := 4) C 172 rfl dX0_init_171 (by decide) ?_
  refine jr_newr C 175 rfl (t := 9) rfl (by decide) q215 (jx_g q216 rfl) dX0_init_172 h (fun S30 a31 h => ?_)
  refine jr_dup C 176 rfl dX0_init_175 rfl ?_
  exact jr_sub [] rfl (wk_X0_init_176 C  h)
theorem wk_X0_init_0 {X : jX} {G : jG} {K : jS → Unit → Prop} (C : jC (X, G, 1, jA X G tvv K) d_X0_init cX0_init "Samovar" none yX0_init) {S : jS} {x0 : Nat}  (h : wp_X0_init S x0 K) : jJ (X, G, 1, jA X G tvv K) S [(0, .ref x0)] 0 [] := by
  unfold wp_X0_init at h
  refine jr_aload_n C 1 rfl dX0_init_0 rfl 0 rfl ?_
  refine jr_objInit C 4 rfl (by decide) q128 q129 q130 (Nat.le_of_ble_eq_true rfl) dX0_init_1 ?_
  refine jr_aload_n C 5 rfl dX0_init_4 rfl 0 rfl ?_
  refine jr_new C 8 rfl (c := 1) (by decide) rfl in_X2 tyX2_ok q131 q132 q96 dX0_init_5 h (fun S1 a2 h => ?_)
  refine jr_dup C 9 rfl dX0_init_8 rfl ?_
  refine jr_callINv (As := []) (st := [.ref a2, .ref x0]) C 12 rfl (m_X2_init C.2.2.2.2.2.2.2.2.2.2.2.2.2.2.2 h) rfl rfl (jx_g q133 rfl) q134 q96 q135 (by decide) (by decide) nd_X2_init (Nat.le_of_ble_eq_true rfl) dX0_init_9 (fun S3 _ h => ?_)
  refine jr_putvF C 15 rfl rfl fo_0_1 fo_0_1_d (by decide) q229 dX0_init_12 rfl rfl h (fun S4 h => ?_)
  refine jr_aload_n C 16 rfl dX0_init_15 rfl 0 rfl ?_
  refine jr_new C 19 rfl (c := 2) (by decide) rfl in_X3 tyX3_ok q187 q188 q100 dX0_init_16 h (fun S5 a6 h => ?_)
  refine jr_dup C 20 rfl dX0_init_19 rfl ?_
  refine jr_callINv (As := []) (st := [.ref a6, .ref x0]) C 23 rfl (m_X3_init C.2.2.2.2.2.2.2.2.2.2.2.2.2.2.2 h) rfl rfl (jx_g q189 rfl) q190 q100 q191 (by decide) (by decide) nd_X3_init (Nat.le_of_ble_eq_true rfl) dX0_init_20 (fun S7 _ h => ?_)
  refine jr_putvF C 26 rfl rfl fo_0_2 fo_0_2_d (by decide) q230 dX0_init_23 rfl rfl h (fun S8 h => ?_)
  refine jr_aload_n C 27 rfl dX0_init_26 rfl 0 rfl ?_
  refine jr_iconst (v := 2) C 28 rfl dX0_init_27 (by decide) ?_
  refine jr_newr C 31 rfl (t := 5) rfl (by decide) q205 (jx_g q206 rfl) dX0_init_28 h (fun S9 a10 h => ?_)
  refine jr_dup C 32 rfl dX0_init_31 rfl ?_
  refine jr_iconst (v := 0) C 33 rfl dX0_init_32 (by decide) ?_
  refine jr_aload_n C 34 rfl dX0_init_33 rfl 0 rfl ?_
  refine jr_getr C 37 rfl fo_0_1 q229 dX0_init_34 h (fun v11 h => ?_)
  refine jr_aast C 38 rfl (t := 5) rfl (by decide) can_5 canI_5 dX0_init_37 h (fun S12 h => ?_)
  refine jr_dup C 39 rfl dX0_init_38 rfl ?_
  refine jr_iconst (v := 1) C 40 rfl dX0_init_39 (by decide) ?_
  refine jr_aload_n C 41 rfl dX0_init_40 rfl 0 rfl ?_
  refine jr_getr C 44 rfl fo_0_2 q230 dX0_init_41 h (fun v13 h => ?_)
  refine jr_aast C 45 rfl (t := 5) rfl (by decide) can_5 canI_5 dX0_init_44 h (fun S14 h => ?_)
  refine jr_putvF C 48 rfl rfl fo_0_3 fo_0_3_d (by decide) q231 dX0_init_45 rfl rfl h (fun S15 h => ?_)
  refine jr_aload_n C 49 rfl dX0_init_48 rfl 0 rfl ?_
  refine jr_aload_n C 50 rfl dX0_init_49 rfl 0 rfl ?_
  refine jr_getr C 53 rfl fo_0_2 q230 dX0_init_50 h (fun v16 h => ?_)
  refine jr_getr C 56 rfl fo_2_5 q196 dX0_init_53 h (fun v17 h => ?_)
  refine jr_putv C 59 rfl fo_0_4 (by decide) q232 dX0_init_56 rfl rfl h (fun S18 h => ?_)
  refine jr_aload_n C 60 rfl dX0_init_59 rfl 0 rfl ?_
  refine jr_iconst (v := 2) C 61 rfl dX0_init_60 (by decide) ?_
  refine jr_newa C 63 rfl (t := 0) rfl (by decide) rfl rfl (by decide) q227 dX0_init_61 h (fun S19 a20 h => ?_)
  refine jr_dup C 64 rfl dX0_init_63 rfl ?_
  refine jr_iconst (v := 0) C 65 rfl dX0_init_64 (by decide) ?_
  refine jr_bipush (v := 16) C 67 rfl dX0_init_65 (by decide) ?_
  refine jr_iast C 68 rfl dX0_init_67 h (fun S21 h => ?_)
  refine jr_dup C 69 rfl dX0_init_68 rfl ?_
  refine jr_iconst (v := 1) C 70 rfl dX0_init_69 (by decide) ?_
  refine jr_bipush (v := 16) C 72 rfl dX0_init_70 (by decide) ?_
  refine jr_iast C 73 rfl dX0_init_72 h (fun S22 h => ?_)
  refine jr_putvF C 76 rfl rfl fo_0_5 fo_0_5_d (by decide) q233 dX0_init_73 rfl rfl h (fun S23 h => ?_)
  refine jr_aload_n C 77 rfl dX0_init_76 rfl 0 rfl ?_
  refine jr_new C 80 rfl (c := 3) (by decide) rfl in_J2 tyJ2_ok q207 q141 q99 dX0_init_77 h (fun S24 a25 h => ?_)
  exact (wk_X0_init_80 C  h)
theorem m_X0_init {l : Launch} (hl : l.stackTraces = false) {G : jG} {K : jS → Unit → Prop} {S : jS} {x0 : Nat} (h : wp_X0_init S x0 K) : jMet l G d_X0_init yX0_init (ws_ yX0_init cX0_init 1 none) [.ref x0] S tvv K :=
  jMet.of hl rfl (by decide) (Nat.le_of_ble_eq_true rfl) (fun X C => jr_sub [0] rfl (wk_X0_init_0 C h))
theorem wk_X0_is_41 {X : jX} {G : jG} {K : jS → Int32 → Prop} (C : jC (X, G, 4, jA X G tvi K) d_X0_is cX0_is "Samovar" (some .int) yX0_is) {S : jS} {t0 : Int32}  (h : wp_X0_is_41 S t0 K) : jJ (X, G, 4, jA X G tvi K) S [] 41 [.int t0] := by
  unfold wp_X0_is_41 at h
  exact jr_ireturn C dX0_is_41 h
theorem wk_X0_is_39 {X : jX} {G : jG} {K : jS → Int32 → Prop} (C : jC (X, G, 4, jA X G tvi K) d_X0_is cX0_is "Samovar" (some .int) yX0_is) {S : jS}   (h : wp_X0_is_39 S K) : jJ (X, G, 4, jA X G tvi K) S [] 39 [] := by
  unfold wp_X0_is_39 at h
  refine jr_bipush (v := (-2)) C 41 rfl dX0_is_39 (by decide) ?_
  exact (wk_X0_is_41 C  h)
theorem wk_X0_is_0 {X : jX} {G : jG} {K : jS → Int32 → Prop} (C : jC (X, G, 4, jA X G tvi K) d_X0_is cX0_is "Samovar" (some .int) yX0_is) {S : jS} {x0 : Nat} {x1 : Int32} {x2 : Int32} {x3 : Int32}  (h : wp_X0_is S x0 x1 x2 x3 K) : jJ (X, G, 4, jA X G tvi K) S [(0, .ref x0), (1, .int x1), (2, .int x2), (3, .int x3)] 0 [] := by
  unfold wp_X0_is at h
  refine jr_aload_n C 1 rfl dX0_is_0 rfl 0 rfl ?_
  obtain ⟨⟨V, hb⟩, h⟩ := h
  refine jr_callVv (r0 := (RX0, TX0, 24)) (As := []) (st := []) C 4 rfl (m_X0_find C.2.2.2.2.2.2.2.2.2.2.2.2.2.2.2 h) rfl hb rfl q831 q833 qs10 q94 q834 (by decide) (by decide) ndV_X0_find (Nat.le_of_ble_eq_true rfl) dX0_is_1 (fun S1 _ h => ?_)
  refine jr_iload_n C 5 rfl dX0_is_4 rfl 1 rfl ?_
  refine jr_callSi (As := [.int x1]) (st := []) C 8 rfl (m_X0_isMinute C.2.2.2.2.2.2.2.2.2.2.2.2.2.2.2 h) rfl q775 q776 q94 q777 (by decide) (by decide) nd_X0_isMinute (Nat.le_of_ble_eq_true rfl) dX0_is_5 (fun S2 r3 h => ?_)
  refine jr_if_eq C 39 11 rfl dX0_is_8 (by decide) (fun c14 => ?_) (fun c14 => ?_)
  · have h := h.1 c14
    exact jr_sub [] rfl (wk_X0_is_39 C  h)
  · have h := h.2 c14
    refine jr_aload_n C 12 rfl dX0_is_11 rfl 0 rfl ?_
    refine jr_iload_n C 13 rfl dX0_is_12 rfl 2 rfl ?_
    obtain ⟨⟨V, hb⟩, h⟩ := h
    refine jr_callVi (r0 := (RX0, TX0, 24)) (As := [.int x2]) (st := []) C 16 rfl (m_X0_isGuest C.2.2.2.2.2.2.2.2.2.2.2.2.2.2.2 h) rfl hb rfl q740 q742 qs6 q94 q743 (by decide) (by decide) ndV_X0_isGuest (Nat.le_of_ble_eq_true rfl) dX0_is_13 (fun S4 r5 h => ?_)
    refine jr_if_eq C 39 19 rfl dX0_is_16 (by decide) (fun c13 => ?_) (fun c13 => ?_)
    · have h := h.1 c13
      exact jr_sub [] rfl (wk_X0_is_39 C  h)
    · have h := h.2 c13
      refine jr_iload_n C 20 rfl dX0_is_19 rfl 3 rfl ?_
      refine jr_callSi (As := [.int x3]) (st := []) C 23 rfl (m_X0_isTwo C.2.2.2.2.2.2.2.2.2.2.2.2.2.2.2 h) rfl q305 q306 q94 q307 (by decide) (by decide) nd_X0_isTwo (Nat.le_of_ble_eq_true rfl) dX0_is_20 (fun S6 r7 h => ?_)
      refine jr_if_eq C 39 26 rfl dX0_is_23 (by decide) (fun c12 => ?_) (fun c12 => ?_)
      · have h := h.1 c12
        exact jr_sub [] rfl (wk_X0_is_39 C  h)
      · have h := h.2 c12
        refine jr_aload_n C 27 rfl dX0_is_26 rfl 0 rfl ?_
        refine jr_getr C 30 rfl fo_0_16 q244 dX0_is_27 h (fun v8 h => ?_)
        refine jr_iload_n C 31 rfl dX0_is_30 rfl 1 rfl ?_
        refine jr_aaldn C 32 rfl (t := 7) rfl rfl dX0_is_31 h (fun v9 h => ?_)
        refine jr_iload_n C 33 rfl dX0_is_32 rfl 2 rfl ?_
        refine jr_aaldn C 34 rfl (t := 6) rfl rfl dX0_is_33 h (fun v10 h => ?_)
        refine jr_iload_n C 35 rfl dX0_is_34 rfl 3 rfl ?_
        refine jr_iald C 36 rfl dX0_is_35 h (fun v11 h => ?_)
        refine jr_goto C 41 dX0_is_36 (by decide) ?_
        exact jr_sub [] rfl (wk_X0_is_41 C  h)
theorem m_X0_is {l : Launch} (hl : l.stackTraces = false) {G : jG} {K : jS → Int32 → Prop} {S : jS} {x0 : Nat} {x1 : Int32} {x2 : Int32} {x3 : Int32} (h : wp_X0_is S x0 x1 x2 x3 K) : jMet l G d_X0_is yX0_is (ws_ yX0_is cX0_is 4 (some .int)) [.ref x0, .int x1, .int x2, .int x3] S tvi K :=
  jMet.of hl rfl (by decide) (Nat.le_of_ble_eq_true rfl) (fun X C => jr_sub [0, 1, 2, 3] rfl (wk_X0_is_0 C h))
theorem wk_X0_kind_31 {X : jX} {G : jG} {K : jS → Int32 → Prop} (C : jC (X, G, 2, jA X G tvi K) d_X0_kind cX0_kind "Samovar" (some .int) yX0_kind) {S : jS} {t0 : Int32}  (h : wp_X0_kind_31 S t0 K) : jJ (X, G, 2, jA X G tvi K) S [] 31 [.int t0] := by
  unfold wp_X0_kind_31 at h
  exact jr_ireturn C dX0_kind_31 h
theorem wk_X0_kind_0 {X : jX} {G : jG} {K : jS → Int32 → Prop} (C : jC (X, G, 2, jA X G tvi K) d_X0_kind cX0_kind "Samovar" (some .int) yX0_kind) {S : jS} {x0 : Nat} {x1 : Int32}  (h : wp_X0_kind S x0 x1 K) : jJ (X, G, 2, jA X G tvi K) S [(0, .ref x0), (1, .int x1)] 0 [] := by
  unfold wp_X0_kind at h
  refine jr_aload_n C 1 rfl dX0_kind_0 rfl 0 rfl ?_
  refine jr_iload_n C 2 rfl dX0_kind_1 rfl 1 rfl ?_
  obtain ⟨⟨V, hb⟩, h⟩ := h
  refine jr_callVi (r0 := (RX0, TX0, 24)) (As := [.int x1]) (st := []) C 5 rfl (m_X0_isPiece C.2.2.2.2.2.2.2.2.2.2.2.2.2.2.2 h) rfl hb rfl q688 q690 qs4 q94 q691 (by decide) (by decide) ndV_X0_isPiece (Nat.le_of_ble_eq_true rfl) dX0_kind_2 (fun S1 r2 h => ?_)
  refine jr_if_eq C 29 8 rfl dX0_kind_5 (by decide) (fun c9 => ?_) (fun c9 => ?_)
  · have h := h.1 c9
    refine jr_bipush (v := (-2)) C 31 rfl dX0_kind_29 (by decide) ?_
    exact jr_sub [] rfl (wk_X0_kind_31 C  h)
  · have h := h.2 c9
    refine jr_aload_n C 9 rfl dX0_kind_8 rfl 0 rfl ?_
    refine jr_aload_n C 10 rfl dX0_kind_9 rfl 0 rfl ?_
    refine jr_getr C 13 rfl fo_0_1 q229 dX0_kind_10 h (fun v3 h => ?_)
    refine jr_getr C 16 rfl fo_1_5 q168 dX0_kind_13 h (fun v4 h => ?_)
    refine jr_iload_n C 17 rfl dX0_kind_16 rfl 1 rfl ?_
    obtain ⟨⟨V, hb⟩, h⟩ := h
    refine jr_callVr (r0 := (RJ2, TJ2, 3)) (As := [.int x1]) (st := [.ref x0]) C 20 rfl (m_J2_get C.2.2.2.2.2.2.2.2.2.2.2.2.2.2.2 h) rfl hb rfl q702 q703 q704 q99 q705 (by decide) (by decide) ndV_J2_get (Nat.le_of_ble_eq_true rfl) dX0_kind_17 (fun S5 r6 h => ?_)
    obtain ⟨hz, h⟩ := h
    refine jr_cast C 23 rfl (cs := [5]) can_Samovar_Piece (by decide) q716 dX0_kind_20 hz ?_
    obtain ⟨⟨V, hb⟩, h⟩ := h
    refine jr_callVWi (r0 := (RX0, TX0, 24)) (As := [.ref r6]) (st := []) C 26 rfl (m_X0_kindOf C.2.2.2.2.2.2.2.2.2.2.2.2.2.2.2 h) rfl hb rfl q1087 q1089 qs31 q94 q1090 (by decide) (by decide) ndV_X0_kindOf (Nat.le_of_ble_eq_true rfl) dX0_kind_23 (fun S7 r8 h => ?_)
    refine jr_goto C 31 dX0_kind_26 (by decide) ?_
    exact jr_sub [] rfl (wk_X0_kind_31 C  h)
theorem m_X0_kind {l : Launch} (hl : l.stackTraces = false) {G : jG} {K : jS → Int32 → Prop} {S : jS} {x0 : Nat} {x1 : Int32} (h : wp_X0_kind S x0 x1 K) : jMet l G d_X0_kind yX0_kind (ws_ yX0_kind cX0_kind 2 (some .int)) [.ref x0, .int x1] S tvi K :=
  jMet.of hl rfl (by decide) (Nat.le_of_ble_eq_true rfl) (fun X C => jr_sub [0, 1] rfl (wk_X0_kind_0 C h))
theorem wk_X0_line_22 {X : jX} {G : jG} {K : jS → Int32 → Prop} (C : jC (X, G, 2, jA X G tvi K) d_X0_line cX0_line "Samovar" (some .int) yX0_line) {S : jS} {t0 : Int32}  (h : wp_X0_line_22 S t0 K) : jJ (X, G, 2, jA X G tvi K) S [] 22 [.int t0] := by
  unfold wp_X0_line_22 at h
  exact jr_ireturn C dX0_line_22 h
theorem wk_X0_line_0 {X : jX} {G : jG} {K : jS → Int32 → Prop} (C : jC (X, G, 2, jA X G tvi K) d_X0_line cX0_line "Samovar" (some .int) yX0_line) {S : jS} {x0 : Nat} {x1 : Int32}  (h : wp_X0_line S x0 x1 K) : jJ (X, G, 2, jA X G tvi K) S [(0, .ref x0), (1, .int x1)] 0 [] := by
  unfold wp_X0_line at h
  refine jr_aload_n C 1 rfl dX0_line_0 rfl 0 rfl ?_
  obtain ⟨⟨V, hb⟩, h⟩ := h
  refine jr_callVv (r0 := (RX0, TX0, 24)) (As := []) (st := []) C 4 rfl (m_X0_find C.2.2.2.2.2.2.2.2.2.2.2.2.2.2.2 h) rfl hb rfl q831 q833 qs10 q94 q834 (by decide) (by decide) ndV_X0_find (Nat.le_of_ble_eq_true rfl) dX0_line_1 (fun S1 _ h => ?_)
  refine jr_iload_n C 5 rfl dX0_line_4 rfl 1 rfl ?_
  refine jr_callSi (As := [.int x1]) (st := []) C 8 rfl (m_X0_isMinute C.2.2.2.2.2.2.2.2.2.2.2.2.2.2.2 h) rfl q775 q776 q94 q777 (by decide) (by decide) nd_X0_isMinute (Nat.le_of_ble_eq_true rfl) dX0_line_5 (fun S2 r3 h => ?_)
  refine jr_if_eq C 20 11 rfl dX0_line_8 (by decide) (fun c6 => ?_) (fun c6 => ?_)
  · have h := h.1 c6
    refine jr_bipush (v := (-2)) C 22 rfl dX0_line_20 (by decide) ?_
    exact jr_sub [] rfl (wk_X0_line_22 C  h)
  · have h := h.2 c6
    refine jr_aload_n C 12 rfl dX0_line_11 rfl 0 rfl ?_
    refine jr_getr C 15 rfl fo_0_15 q243 dX0_line_12 h (fun v4 h => ?_)
    refine jr_iload_n C 16 rfl dX0_line_15 rfl 1 rfl ?_
    refine jr_iald C 17 rfl dX0_line_16 h (fun v5 h => ?_)
    refine jr_goto C 22 dX0_line_17 (by decide) ?_
    exact jr_sub [] rfl (wk_X0_line_22 C  h)
theorem m_X0_line {l : Launch} (hl : l.stackTraces = false) {G : jG} {K : jS → Int32 → Prop} {S : jS} {x0 : Nat} {x1 : Int32} (h : wp_X0_line S x0 x1 K) : jMet l G d_X0_line yX0_line (ws_ yX0_line cX0_line 2 (some .int)) [.ref x0, .int x1] S tvi K :=
  jMet.of hl rfl (by decide) (Nat.le_of_ble_eq_true rfl) (fun X C => jr_sub [0, 1] rfl (wk_X0_line_0 C h))
theorem wk_X0_lose_0 {X : jX} {G : jG} {K : jS → Int32 → Prop} (C : jC (X, G, 3, jA X G tvi K) d_X0_lose cX0_lose "Samovar" (some .int) yX0_lose) {S : jS} {x0 : Nat} {x1 : Int32}  (h : wp_X0_lose S x0 x1 K) : jJ (X, G, 3, jA X G tvi K) S [(0, .ref x0), (1, .int x1)] 0 [] := by
  unfold wp_X0_lose at h
  refine jr_iload_n C 1 rfl dX0_lose_0 rfl 1 rfl ?_
  refine jr_callSi (As := [.int x1]) (st := []) C 4 rfl (m_X0_isSheet C.2.2.2.2.2.2.2.2.2.2.2.2.2.2.2 h) rfl q802 q803 q94 q804 (by decide) (by decide) nd_X0_isSheet (Nat.le_of_ble_eq_true rfl) dX0_lose_1 (fun S1 r2 h => ?_)
  refine jr_if_ne C 10 7 rfl dX0_lose_4 (by decide) (fun c17 => ?_) (fun c17 => ?_)
  · have h := h.1 c17
    refine jr_bipush (v := (-2)) C 9 rfl dX0_lose_7 (by decide) ?_
    exact jr_ireturn C dX0_lose_9 h
  · have h := h.2 c17
    refine jr_aload_n C 11 rfl dX0_lose_10 rfl 0 rfl ?_
    refine jr_getr C 14 rfl fo_0_23 q251 dX0_lose_11 h (fun v3 h => ?_)
    refine jr_iload_n C 15 rfl dX0_lose_14 rfl 1 rfl ?_
    refine jr_aaldn C 16 rfl (t := 9) rfl rfl dX0_lose_15 h (fun v4 h => ?_)
    refine jr_getoN C 19 rfl fo_6_0 (jx_g q223 rfl) dX0_lose_16 h (fun v5 h => ?_)
    refine jr_ifnonnull (x := v5) C 28 22 rfl dX0_lose_19 (by decide) (fun c16 => ?_) (fun c16 => ?_)
    · have h := h.1 c16
      refine jr_aload_n C 23 rfl dX0_lose_22 rfl 0 rfl ?_
      refine jr_iconst (v := 1) C 24 rfl dX0_lose_23 (by decide) ?_
      obtain ⟨⟨V, hb⟩, h⟩ := h
      refine jr_callVi (r0 := (RX0, TX0, 24)) (As := [.int 1]) (st := []) C 27 rfl (m_X0_met C.2.2.2.2.2.2.2.2.2.2.2.2.2.2.2 h) rfl hb rfl q806 q808 qs9 q94 q809 (by decide) (by decide) ndV_X0_met (Nat.le_of_ble_eq_true rfl) dX0_lose_24 (fun S6 r7 h => ?_)
      exact jr_ireturn C dX0_lose_27 h
    · obtain ⟨a8, c16⟩ := Option.ne_none_iff_exists'.mp c16
      replace h := h.2 a8 c16
      subst c16
      refine jr_aload_n C 29 rfl dX0_lose_28 rfl 0 rfl ?_
      refine jr_getr C 32 rfl fo_0_23 q251 dX0_lose_29 h (fun v9 h => ?_)
      refine jr_iload_n C 33 rfl dX0_lose_32 rfl 1 rfl ?_
      refine jr_aaldn C 34 rfl (t := 9) rfl rfl dX0_lose_33 h (fun v10 h => ?_)
      obtain ⟨⟨V, hb⟩, h⟩ := h
      refine jr_callVi (r0 := (RX4, TX4, 1)) (As := []) (st := []) C 37 rfl (m_X4_size C.2.2.2.2.2.2.2.2.2.2.2.2.2.2.2 h) rfl hb rfl q810 q811 q812 q101 q813 (by decide) (by decide) ndV_X4_size (Nat.le_of_ble_eq_true rfl) dX0_lose_34 (fun S11 r12 h => ?_)
      refine jr_istore_n (lv' := [(2, .int r12), (0, .ref x0), (1, .int x1)]) C 38 rfl dX0_lose_37 rfl (Nat.le_of_ble_eq_true rfl) rfl ?_
      refine jr_aload_n C 39 rfl dX0_lose_38 rfl 1 rfl ?_
      refine jr_getr C 42 rfl fo_0_23 q251 dX0_lose_39 h (fun v13 h => ?_)
      refine jr_iload_n C 43 rfl dX0_lose_42 rfl 2 rfl ?_
      refine jr_aaldn C 44 rfl (t := 9) rfl rfl dX0_lose_43 h (fun v14 h => ?_)
      refine jr_null C 45 rfl dX0_lose_44 ?_
      refine jr_putvN C 48 rfl fo_6_0 (by decide) (jx_g q223 rfl) dX0_lose_45 rfl rfl h (fun S15 h => ?_)
      refine jr_iload_n C 49 rfl dX0_lose_48 rfl 0 rfl ?_
      exact jr_ireturn C dX0_lose_49 h
theorem m_X0_lose {l : Launch} (hl : l.stackTraces = false) {G : jG} {K : jS → Int32 → Prop} {S : jS} {x0 : Nat} {x1 : Int32} (h : wp_X0_lose S x0 x1 K) : jMet l G d_X0_lose yX0_lose (ws_ yX0_lose cX0_lose 3 (some .int)) [.ref x0, .int x1] S tvi K :=
  jMet.of hl rfl (by decide) (Nat.le_of_ble_eq_true rfl) (fun X C => jr_sub [0, 1] rfl (wk_X0_lose_0 C h))
theorem wk_X0_never_0 {X : jX} {G : jG} {K : jS → Int32 → Prop} (C : jC (X, G, 1, jA X G tvi K) d_X0_never cX0_never "Samovar" (some .int) yX0_never) {S : jS} {x0 : Nat}  (h : wp_X0_never S x0 K) : jJ (X, G, 1, jA X G tvi K) S [(0, .ref x0)] 0 [] := by
  unfold wp_X0_never at h
  refine jr_aload_n C 1 rfl dX0_never_0 rfl 0 rfl ?_
  obtain ⟨⟨V, hb⟩, h⟩ := h
  refine jr_callVWi (r0 := (RX0, TX0, 24)) (As := []) (st := []) C 4 rfl (m_X0_neverNow C.2.2.2.2.2.2.2.2.2.2.2.2.2.2.2 h) rfl hb rfl q1067 q1069 qs28 q94 q1070 (by decide) (by decide) ndV_X0_neverNow (Nat.le_of_ble_eq_true rfl) dX0_never_1 (fun S1 r2 h => ?_)
  exact jr_ireturn C dX0_never_4 h
theorem m_X0_never {l : Launch} (hl : l.stackTraces = false) {G : jG} {K : jS → Int32 → Prop} {S : jS} {x0 : Nat} (h : wp_X0_never S x0 K) : jMet l G d_X0_never yX0_never (ws_ yX0_never cX0_never 1 (some .int)) [.ref x0] S tvi K :=
  jMet.of hl rfl (by decide) (Nat.le_of_ble_eq_true rfl) (fun X C => jr_sub [0] rfl (wk_X0_never_0 C h))
theorem wk_X0_piece_43 {X : jX} {G : jG} {K : jS → Int32 → Prop} (C : jC (X, G, 3, jA X G tvi K) d_X0_piece cX0_piece "Samovar" (some .int) yX0_piece) {S : jS} {t0 : Int32}  (h : wp_X0_piece_43 S t0 K) : jJ (X, G, 3, jA X G tvi K) S [] 43 [.int t0] := by
  unfold wp_X0_piece_43 at h
  exact jr_ireturn C dX0_piece_43 h
theorem wk_X0_piece_41 {X : jX} {G : jG} {K : jS → Int32 → Prop} (C : jC (X, G, 3, jA X G tvi K) d_X0_piece cX0_piece "Samovar" (some .int) yX0_piece) {S : jS}   (h : wp_X0_piece_41 S K) : jJ (X, G, 3, jA X G tvi K) S [] 41 [] := by
  unfold wp_X0_piece_41 at h
  refine jr_bipush (v := (-2)) C 43 rfl dX0_piece_41 (by decide) ?_
  exact (wk_X0_piece_43 C  h)
theorem wk_X0_piece_0 {X : jX} {G : jG} {K : jS → Int32 → Prop} (C : jC (X, G, 3, jA X G tvi K) d_X0_piece cX0_piece "Samovar" (some .int) yX0_piece) {S : jS} {x0 : Nat} {x1 : Int32} {x2 : Int32}  (h : wp_X0_piece S x0 x1 x2 K) : jJ (X, G, 3, jA X G tvi K) S [(0, .ref x0), (1, .int x1), (2, .int x2)] 0 [] := by
  unfold wp_X0_piece at h
  refine jr_aload_n C 1 rfl dX0_piece_0 rfl 0 rfl ?_
  refine jr_iload_n C 2 rfl dX0_piece_1 rfl 1 rfl ?_
  obtain ⟨⟨V, hb⟩, h⟩ := h
  refine jr_callVi (r0 := (RX0, TX0, 24)) (As := [.int x1]) (st := []) C 5 rfl (m_X0_isPiece C.2.2.2.2.2.2.2.2.2.2.2.2.2.2.2 h) rfl hb rfl q688 q690 qs4 q94 q691 (by decide) (by decide) ndV_X0_isPiece (Nat.le_of_ble_eq_true rfl) dX0_piece_2 (fun S1 r2 h => ?_)
  refine jr_if_eq C 41 8 rfl dX0_piece_5 (by decide) (fun c12 => ?_) (fun c12 => ?_)
  · have h := h.1 c12
    exact jr_sub [] rfl (wk_X0_piece_41 C  h)
  · have h := h.2 c12
    refine jr_iload_n C 9 rfl dX0_piece_8 rfl 2 rfl ?_
    refine jr_i2l C 10 rfl dX0_piece_9 ?_
    refine jr_lconst (v := 0) C 11 rfl dX0_piece_10 (by decide) ?_
    refine jr_ldc2 (v := 2) C 14 rfl dX0_piece_11 q701 ?_
    refine jr_callSi (As := [.long ((x2 : Int32).toInt64), .long 0, .long 2]) (st := []) C 17 rfl (m_X0_in C.2.2.2.2.2.2.2.2.2.2.2.2.2.2.2 h) rfl q308 q309 q94 q310 (by decide) (by decide) nd_X0_in (Nat.le_of_ble_eq_true rfl) dX0_piece_14 (fun S3 r4 h => ?_)
    refine jr_if_eq C 41 20 rfl dX0_piece_17 (by decide) (fun c11 => ?_) (fun c11 => ?_)
    · have h := h.1 c11
      exact jr_sub [] rfl (wk_X0_piece_41 C  h)
    · have h := h.2 c11
      refine jr_aload_n C 21 rfl dX0_piece_20 rfl 0 rfl ?_
      refine jr_getr C 24 rfl fo_0_1 q229 dX0_piece_21 h (fun v5 h => ?_)
      refine jr_getr C 27 rfl fo_1_5 q168 dX0_piece_24 h (fun v6 h => ?_)
      refine jr_iload_n C 28 rfl dX0_piece_27 rfl 1 rfl ?_
      obtain ⟨⟨V, hb⟩, h⟩ := h
      refine jr_callVr (r0 := (RJ2, TJ2, 3)) (As := [.int x1]) (st := []) C 31 rfl (m_J2_get C.2.2.2.2.2.2.2.2.2.2.2.2.2.2.2 h) rfl hb rfl q702 q703 q704 q99 q705 (by decide) (by decide) ndV_J2_get (Nat.le_of_ble_eq_true rfl) dX0_piece_28 (fun S7 r8 h => ?_)
      obtain ⟨hz, h⟩ := h
      refine jr_cast C 34 rfl (cs := [5]) can_Samovar_Piece (by decide) q716 dX0_piece_31 hz ?_
      refine jr_iload_n C 35 rfl dX0_piece_34 rfl 2 rfl ?_
      obtain ⟨⟨V, hb⟩, h⟩ := h
      refine jr_callVi (r0 := (RX8, TX8, 3)) (As := [.int x2]) (st := []) C 38 rfl (m_X8_by C.2.2.2.2.2.2.2.2.2.2.2.2.2.2.2 h) rfl hb rfl q717 q718 q719 q116 q720 (by decide) (by decide) ndV_X8_by (Nat.le_of_ble_eq_true rfl) dX0_piece_35 (fun S9 r10 h => ?_)
      refine jr_goto C 43 dX0_piece_38 (by decide) ?_
      exact jr_sub [] rfl (wk_X0_piece_43 C  h)
theorem m_X0_piece {l : Launch} (hl : l.stackTraces = false) {G : jG} {K : jS → Int32 → Prop} {S : jS} {x0 : Nat} {x1 : Int32} {x2 : Int32} (h : wp_X0_piece S x0 x1 x2 K) : jMet l G d_X0_piece yX0_piece (ws_ yX0_piece cX0_piece 3 (some .int)) [.ref x0, .int x1, .int x2] S tvi K :=
  jMet.of hl rfl (by decide) (Nat.le_of_ble_eq_true rfl) (fun X C => jr_sub [0, 1, 2] rfl (wk_X0_piece_0 C h))
theorem wk_X0_put_19 {X : jX} {G : jG} {K : jS → Int32 → Prop} (C : jC (X, G, 6, jA X G tvi K) d_X0_put cX0_put "Samovar" (some .int) yX0_put) (hT : (zc (X, G, 6, jA X G tvi K)).exceptionTable.toList = tableOf [((40), (54), (55), (415)), ((40), (54), (63), (417))]) {S : jS}   (h : wp_X0_put_19 S K) : jJ (X, G, 6, jA X G tvi K) S [] 19 [] := by
  unfold wp_X0_put_19 at h
  refine jr_bipush (v := (-2)) C 21 rfl dX0_put_19 (by decide) ?_
  exact jr_ireturn C dX0_put_21 h
theorem wk_X0_put_55 {X : jX} {G : jG} {K : jS → Int32 → Prop} (C : jC (X, G, 6, jA X G tvi K) d_X0_put cX0_put "Samovar" (some .int) yX0_put) (hT : (zc (X, G, 6, jA X G tvi K)).exceptionTable.toList = tableOf [((40), (54), (55), (415)), ((40), (54), (63), (417))]) {S : jS} {t0 : Nat} {x0 : Nat}  (h : wp_X0_put_55 S t0 x0 K) : jJ (X, G, 6, jA X G tvi K) S [(0, .ref x0)] 55 [.ref t0] := by
  unfold wp_X0_put_55 at h
  refine jr_astore (lv' := [(5, .ref t0), (0, .ref x0)]) C 57 rfl dX0_put_55 (Nat.le_of_ble_eq_true rfl) rfl ?_
  refine jr_aload_n C 58 rfl dX0_put_57 rfl 1 rfl ?_
  refine jr_iconst (v := 3) C 59 rfl dX0_put_58 (by decide) ?_
  obtain ⟨⟨V, hb⟩, h⟩ := h
  refine jr_callVi (r0 := (RX0, TX0, 24)) (As := [.int 3]) (st := []) C 62 rfl (m_X0_met C.2.2.2.2.2.2.2.2.2.2.2.2.2.2.2 h) rfl hb rfl q806 q808 qs9 q94 q809 (by decide) (by decide) ndV_X0_met (Nat.le_of_ble_eq_true rfl) dX0_put_59 (fun S1 r2 h => ?_)
  exact jr_ireturn C dX0_put_62 h
theorem wk_X0_put_63 {X : jX} {G : jG} {K : jS → Int32 → Prop} (C : jC (X, G, 6, jA X G tvi K) d_X0_put cX0_put "Samovar" (some .int) yX0_put) (hT : (zc (X, G, 6, jA X G tvi K)).exceptionTable.toList = tableOf [((40), (54), (55), (415)), ((40), (54), (63), (417))]) {S : jS} {t0 : Nat} {x0 : Nat}  (h : wp_X0_put_63 S t0 x0 K) : jJ (X, G, 6, jA X G tvi K) S [(0, .ref x0)] 63 [.ref t0] := by
  unfold wp_X0_put_63 at h
  refine jr_astore (lv' := [(5, .ref t0), (0, .ref x0)]) C 65 rfl dX0_put_63 (Nat.le_of_ble_eq_true rfl) rfl ?_
  refine jr_aload_n C 66 rfl dX0_put_65 rfl 1 rfl ?_
  refine jr_iconst (v := 2) C 67 rfl dX0_put_66 (by decide) ?_
  obtain ⟨⟨V, hb⟩, h⟩ := h
  refine jr_callVi (r0 := (RX0, TX0, 24)) (As := [.int 2]) (st := []) C 70 rfl (m_X0_met C.2.2.2.2.2.2.2.2.2.2.2.2.2.2.2 h) rfl hb rfl q806 q808 qs9 q94 q809 (by decide) (by decide) ndV_X0_met (Nat.le_of_ble_eq_true rfl) dX0_put_67 (fun S1 r2 h => ?_)
  exact jr_ireturn C dX0_put_70 h
theorem wk_X0_put_0 {X : jX} {G : jG} {K : jS → Int32 → Prop} (C : jC (X, G, 6, jA X G tvi K) d_X0_put cX0_put "Samovar" (some .int) yX0_put) (hT : (zc (X, G, 6, jA X G tvi K)).exceptionTable.toList = tableOf [((40), (54), (55), (415)), ((40), (54), (63), (417))]) {S : jS} {x0 : Nat} {x1 : Int32} {x2 : Int32} {x3 : Int32} {x4 : Int32}  (h : wp_X0_put S x0 x1 x2 x3 x4 K) : jJ (X, G, 6, jA X G tvi K) S [(0, .ref x0), (1, .int x1), (2, .int x2), (3, .int x3), (4, .int x4)] 0 [] := by
  unfold wp_X0_put at h
  refine jr_iload_n C 1 rfl dX0_put_0 rfl 1 rfl ?_
  refine jr_callSi (As := [.int x1]) (st := []) C 4 rfl (m_X0_isSheet C.2.2.2.2.2.2.2.2.2.2.2.2.2.2.2 h) rfl q802 q803 q94 q804 (by decide) (by decide) nd_X0_isSheet (Nat.le_of_ble_eq_true rfl) dX0_put_1 (fun S1 r2 h => ?_)
  refine jr_if_eq C 19 7 rfl dX0_put_4 (by decide) (fun c19 => ?_) (fun c19 => ?_)
  · have h := h.1 c19
    exact jr_sub [] rfl (wk_X0_put_19 C hT  h)
  · have h := h.2 c19
    refine jr_iload_n C 8 rfl dX0_put_7 rfl 2 rfl ?_
    refine jr_i2l C 9 rfl dX0_put_8 ?_
    refine jr_lconst (v := 0) C 10 rfl dX0_put_9 (by decide) ?_
    refine jr_ldc2 (v := 2) C 13 rfl dX0_put_10 q701 ?_
    refine jr_callSi (As := [.long ((x2 : Int32).toInt64), .long 0, .long 2]) (st := []) C 16 rfl (m_X0_in C.2.2.2.2.2.2.2.2.2.2.2.2.2.2.2 h) rfl q308 q309 q94 q310 (by decide) (by decide) nd_X0_in (Nat.le_of_ble_eq_true rfl) dX0_put_13 (fun S3 r4 h => ?_)
    refine jr_if_ne C 22 19 rfl dX0_put_16 (by decide) (fun c18 => ?_) (fun c18 => ?_)
    · have h := h.1 c18
      exact jr_sub [] rfl (wk_X0_put_19 C hT  h)
    · have h := h.2 c18
      refine jr_aload_n C 23 rfl dX0_put_22 rfl 0 rfl ?_
      refine jr_getr C 26 rfl fo_0_23 q251 dX0_put_23 h (fun v5 h => ?_)
      refine jr_iload_n C 27 rfl dX0_put_26 rfl 1 rfl ?_
      refine jr_aaldn C 28 rfl (t := 9) rfl rfl dX0_put_27 h (fun v6 h => ?_)
      refine jr_getoN C 31 rfl fo_6_0 (jx_g q223 rfl) dX0_put_28 h (fun v7 h => ?_)
      refine jr_ifnonnull (x := v7) C 40 34 rfl dX0_put_31 (by decide) (fun c17 => ?_) (fun c17 => ?_)
      · have h := h.1 c17
        refine jr_aload_n C 35 rfl dX0_put_34 rfl 0 rfl ?_
        refine jr_iconst (v := 1) C 36 rfl dX0_put_35 (by decide) ?_
        obtain ⟨⟨V, hb⟩, h⟩ := h
        refine jr_callVi (r0 := (RX0, TX0, 24)) (As := [.int 1]) (st := []) C 39 rfl (m_X0_met C.2.2.2.2.2.2.2.2.2.2.2.2.2.2.2 h) rfl hb rfl q806 q808 qs9 q94 q809 (by decide) (by decide) ndV_X0_met (Nat.le_of_ble_eq_true rfl) dX0_put_36 (fun S8 r9 h => ?_)
        exact jr_ireturn C dX0_put_39 h
      · obtain ⟨a10, c17⟩ := Option.ne_none_iff_exists'.mp c17
        replace h := h.2 a10 c17
        subst c17
        refine jr_aload_n C 41 rfl dX0_put_40 rfl 0 rfl ?_
        refine jr_getr C 44 rfl fo_0_23 q251 dX0_put_41 h (fun v11 h => ?_)
        refine jr_iload_n C 45 rfl dX0_put_44 rfl 1 rfl ?_
        refine jr_aaldn C 46 rfl (t := 9) rfl rfl dX0_put_45 h (fun v12 h => ?_)
        refine jr_iload_n C 47 rfl dX0_put_46 rfl 2 rfl ?_
        refine jr_iload_n C 48 rfl dX0_put_47 rfl 3 rfl ?_
        refine jr_iload C 50 rfl dX0_put_48 4 rfl ?_
        obtain ⟨⟨V, hb⟩, h⟩ := h
        refine jr_callXVv (r0 := (RX4, TX4, 1)) (As := [.int x2, .int x3, .int x4]) (st := []) C 53 rfl (m_X4_lay C.2.2.2.2.2.2.2.2.2.2.2.2.2.2.2 h) rfl hb rfl q1220 q1221 q1222 q101 q1223 (by decide) (by decide) ndV_X4_lay (Nat.le_of_ble_eq_true rfl) dX0_put_50 (fun S13 _ h => ?_) (fun S14 e15 q16 h => by
    rcases h with ⟨hE, h⟩ | ⟨hE, h⟩
    · subst hE
      exact jx_catch C (e := 1) rfl [] ⟨40, 54, 55, 415⟩ [⟨40, 54, 63, 417⟩] hT (fun z hz => by cases hz) (by decide) (by decide) q1187 (jx_g q1199 rfl) (jr_sub [0] rfl (wk_X0_put_55 C hT  h))
    · subst hE
      exact jx_catch C (e := 2) rfl [⟨40, 54, 55, 415⟩] ⟨40, 54, 63, 417⟩ [] hT (by intro z hz; rcases List.mem_singleton.mp hz with rfl; exact Or.inr ⟨by decide, _, q1187, by decide⟩) (by decide) (by decide) q1201 (jx_g q1216 rfl) (jr_sub [0] rfl (wk_X0_put_63 C hT  h)))
        refine jr_iconst (v := 1) C 54 rfl dX0_put_53 (by decide) ?_
        exact jr_ireturn C dX0_put_54 h
theorem m_X0_put {l : Launch} (hl : l.stackTraces = false) {G : jG} {K : jS → Int32 → Prop} {S : jS} {x0 : Nat} {x1 : Int32} {x2 : Int32} {x3 : Int32} {x4 : Int32} (h : wp_X0_put S x0 x1 x2 x3 x4 K) : jMet l G d_X0_put yX0_put (wsW_ yX0_put cX0_put 6 (some .int) [((40), (54), (55), (415)), ((40), (54), (63), (417))]) [.ref x0, .int x1, .int x2, .int x3, .int x4] S tvi K :=
  jMet.ofHT hl rfl (by decide) (Nat.le_of_ble_eq_true rfl) (fun X C hT => jr_sub [0, 1, 2, 3, 4] rfl (wk_X0_put_0 C hT h))
theorem wk_X0_read_94 {X : jX} {G : jG} {K : jS → Int32 → Prop} (C : jC (X, G, 4, jA X G tvi K) d_X0_read cX0_read "Samovar" (some .int) yX0_read) {S : jS} {x3 : Int32}  (h : wp_X0_read_94 S x3 K) : jJ (X, G, 4, jA X G tvi K) S [(3, .int x3)] 94 [] := by
  unfold wp_X0_read_94 at h
  refine jr_iload_n C 95 rfl dX0_read_94 rfl 0 rfl ?_
  exact jr_ireturn C dX0_read_95 h
theorem wk_X0_read_41 {X : jX} {G : jG} {K : jS → Int32 → Prop} (C : jC (X, G, 4, jA X G tvi K) d_X0_read cX0_read "Samovar" (some .int) yX0_read) {S : jS} {t0 : Int32} {t1 : Int32} {x0 : Nat} {x2 : Nat} {x3 : Int32} {Kc32 : jS × Int32 → Prop} (hc32 : ∀ z : jS × Int32, Kc32 z → jJ (X, G, 4, jA X G tvi K) z.1 [(0, .ref x0), (2, .ref x2), (3, .int z.2)] 32 []) (h : wp_X0_read_41 S t0 t1 x0 x2 x3 Kc32 K) : jJ (X, G, 4, jA X G tvi K) S [(0, .ref x0), (2, .ref x2), (3, .int x3)] 41 [.int t1, .int t0] := by
  unfold wp_X0_read_41 at h
  refine jr_icmp_gt C 94 44 rfl dX0_read_41 (by decide) (fun c25 => ?_) (fun c25 => ?_)
  · have h := h.1 c25
    exact jr_sub [2] rfl (wk_X0_read_94 C  h)
  · have h := h.2 c25
    refine jr_aload_n C 45 rfl dX0_read_44 rfl 0 rfl ?_
    refine jr_aload_n C 46 rfl dX0_read_45 rfl 1 rfl ?_
    refine jr_aload_n C 47 rfl dX0_read_46 rfl 1 rfl ?_
    obtain ⟨⟨V, hb⟩, h⟩ := h
    refine jr_callVi (r0 := (RX4, TX4, 1)) (As := []) (st := [.ref x2, .ref x0]) C 50 rfl (m_X4_type C.2.2.2.2.2.2.2.2.2.2.2.2.2.2.2 h) rfl hb rfl q821 q815 q816 q101 q817 (by decide) (by decide) ndV_X4_type (Nat.le_of_ble_eq_true rfl) dX0_read_47 (fun S1 r2 h => ?_)
    refine jr_iconst (v := 3) C 51 rfl dX0_read_50 (by decide) ?_
    refine jr_iload_n C 52 rfl dX0_read_51 rfl 2 rfl ?_
    refine jr_imul C 53 rfl dX0_read_52 ?_
    obtain ⟨⟨V, hb⟩, h⟩ := h
    refine jr_callXVi (r0 := (RX4, TX4, 1)) (As := [.int r2, .int (3 * x3)]) (st := [.ref x0]) C 56 rfl (m_X4_item C.2.2.2.2.2.2.2.2.2.2.2.2.2.2.2 h) rfl hb rfl q822 q823 q824 q101 q825 (by decide) (by decide) ndV_X4_item (Nat.le_of_ble_eq_true rfl) dX0_read_53 (fun S3 r4 h => ?_) (fun _ _ _ h => h.elim)
    refine jr_aload_n C 57 rfl dX0_read_56 rfl 1 rfl ?_
    refine jr_aload_n C 58 rfl dX0_read_57 rfl 1 rfl ?_
    obtain ⟨⟨V, hb⟩, h⟩ := h
    refine jr_callVi (r0 := (RX4, TX4, 1)) (As := []) (st := [.ref x2, .int r4, .ref x0]) C 61 rfl (m_X4_type C.2.2.2.2.2.2.2.2.2.2.2.2.2.2.2 h) rfl hb rfl q821 q815 q816 q101 q817 (by decide) (by decide) ndV_X4_type (Nat.le_of_ble_eq_true rfl) dX0_read_58 (fun S5 r6 h => ?_)
    refine jr_iconst (v := 3) C 62 rfl dX0_read_61 (by decide) ?_
    refine jr_iload_n C 63 rfl dX0_read_62 rfl 2 rfl ?_
    refine jr_imul C 64 rfl dX0_read_63 ?_
    refine jr_iconst (v := 1) C 65 rfl dX0_read_64 (by decide) ?_
    refine jr_iadd C 66 rfl dX0_read_65 ?_
    obtain ⟨⟨V, hb⟩, h⟩ := h
    refine jr_callXVi (r0 := (RX4, TX4, 1)) (As := [.int r6, .int ((3 * x3) + 1)]) (st := [.int r4, .ref x0]) C 69 rfl (m_X4_item C.2.2.2.2.2.2.2.2.2.2.2.2.2.2.2 h) rfl hb rfl q822 q823 q824 q101 q825 (by decide) (by decide) ndV_X4_item (Nat.le_of_ble_eq_true rfl) dX0_read_66 (fun S7 r8 h => ?_) (fun _ _ _ h => h.elim)
    refine jr_aload_n C 70 rfl dX0_read_69 rfl 1 rfl ?_
    refine jr_aload_n C 71 rfl dX0_read_70 rfl 1 rfl ?_
    obtain ⟨⟨V, hb⟩, h⟩ := h
    refine jr_callVi (r0 := (RX4, TX4, 1)) (As := []) (st := [.ref x2, .int r8, .int r4, .ref x0]) C 74 rfl (m_X4_type C.2.2.2.2.2.2.2.2.2.2.2.2.2.2.2 h) rfl hb rfl q821 q815 q816 q101 q817 (by decide) (by decide) ndV_X4_type (Nat.le_of_ble_eq_true rfl) dX0_read_71 (fun S9 r10 h => ?_)
    refine jr_iconst (v := 3) C 75 rfl dX0_read_74 (by decide) ?_
    refine jr_iload_n C 76 rfl dX0_read_75 rfl 2 rfl ?_
    refine jr_imul C 77 rfl dX0_read_76 ?_
    refine jr_iconst (v := 2) C 78 rfl dX0_read_77 (by decide) ?_
    refine jr_iadd C 79 rfl dX0_read_78 ?_
    obtain ⟨⟨V, hb⟩, h⟩ := h
    refine jr_callXVi (r0 := (RX4, TX4, 1)) (As := [.int r10, .int ((3 * x3) + 2)]) (st := [.int r8, .int r4, .ref x0]) C 82 rfl (m_X4_item C.2.2.2.2.2.2.2.2.2.2.2.2.2.2.2 h) rfl hb rfl q822 q823 q824 q101 q825 (by decide) (by decide) ndV_X4_item (Nat.le_of_ble_eq_true rfl) dX0_read_79 (fun S11 r12 h => ?_) (fun _ _ _ h => h.elim)
    obtain ⟨⟨V, hb⟩, h⟩ := h
    refine jr_callVi (r0 := (RX0, TX0, 24)) (As := [.int r4, .int r8, .int r12]) (st := []) C 85 rfl (m_X0_event C.2.2.2.2.2.2.2.2.2.2.2.2.2.2.2 h) rfl hb rfl q826 q772 q773 q94 q774 (by decide) (by decide) ndV_X0_event (Nat.le_of_ble_eq_true rfl) dX0_read_82 (fun S13 r14 h => ?_)
    refine jr_if_lt C 94 88 rfl dX0_read_85 (by decide) (fun c15 => ?_) (fun c15 => ?_)
    · have h := h.1 c15
      exact jr_sub [2] rfl (wk_X0_read_94 C  h)
    · have h := h.2 c15
      refine jr_iinc (v := (x3 + 1)) (lv' := [(3, .int (x3 + 1)), (0, .ref x0), (2, .ref x2)]) C 91 rfl dX0_read_88 2 rfl rfl (Nat.le_of_ble_eq_true rfl) rfl ?_
      refine jr_goto C 32 dX0_read_91 (by decide) ?_
      exact jr_sub [1, 2, 0] rfl (hc32 _ h)
theorem wk_X0_read_32 {X : jX} {G : jG} {K : jS → Int32 → Prop} (C : jC (X, G, 4, jA X G tvi K) d_X0_read cX0_read "Samovar" (some .int) yX0_read) {S : jS} {x0 : Nat} {x2 : Nat} {x3 : Int32} {Kc32 : jS × Int32 → Prop} (hc32 : ∀ z : jS × Int32, Kc32 z → jJ (X, G, 4, jA X G tvi K) z.1 [(0, .ref x0), (2, .ref x2), (3, .int z.2)] 32 []) (h : wp_X0_read_32 S x0 x2 x3 Kc32 K) : jJ (X, G, 4, jA X G tvi K) S [(0, .ref x0), (2, .ref x2), (3, .int x3)] 32 [] := by
  unfold wp_X0_read_32 at h
  refine jr_iconst (v := 3) C 33 rfl dX0_read_32 (by decide) ?_
  refine jr_iload_n C 34 rfl dX0_read_33 rfl 2 rfl ?_
  refine jr_imul C 35 rfl dX0_read_34 ?_
  refine jr_iconst (v := 3) C 36 rfl dX0_read_35 (by decide) ?_
  refine jr_iadd C 37 rfl dX0_read_36 ?_
  refine jr_aload_n C 38 rfl dX0_read_37 rfl 1 rfl ?_
  obtain ⟨⟨V, hb⟩, h⟩ := h
  refine jr_callVi (r0 := (RX4, TX4, 1)) (As := []) (st := [.int ((3 * x3) + 3)]) C 41 rfl (m_X4_size C.2.2.2.2.2.2.2.2.2.2.2.2.2.2.2 h) rfl hb rfl q810 q811 q812 q101 q813 (by decide) (by decide) ndV_X4_size (Nat.le_of_ble_eq_true rfl) dX0_read_38 (fun S1 r2 h => ?_)
  exact (wk_X0_read_41 C hc32 h)
theorem wk_X0_read_32_L {X : jX} {G : jG} {K : jS → Int32 → Prop} (C : jC (X, G, 4, jA X G tvi K) d_X0_read cX0_read "Samovar" (some .int) yX0_read) {x0 : Nat} {x2 : Nat}  : ∀ (n : Nat) (z : jS × Int32), jlp n (wp_X0_read_32_L x0 x2 K) z → jJ (X, G, 4, jA X G tvi K) z.1 [(0, .ref x0), (2, .ref x2), (3, .int z.2)] 32 [] := by
  intro n
  induction n with
  | zero => intro z h; exact h.elim
  | succ n ih => intro z h; exact wk_X0_read_32 C ih h
theorem wk_X0_read_0 {X : jX} {G : jG} {K : jS → Int32 → Prop} (C : jC (X, G, 4, jA X G tvi K) d_X0_read cX0_read "Samovar" (some .int) yX0_read) {S : jS} {x0 : Nat} {x1 : Int32}  (h : wp_X0_read S x0 x1 K) : jJ (X, G, 4, jA X G tvi K) S [(0, .ref x0), (1, .int x1)] 0 [] := by
  unfold wp_X0_read at h
  refine jr_iload_n C 1 rfl dX0_read_0 rfl 1 rfl ?_
  refine jr_callSi (As := [.int x1]) (st := []) C 4 rfl (m_X0_isSheet C.2.2.2.2.2.2.2.2.2.2.2.2.2.2.2 h) rfl q802 q803 q94 q804 (by decide) (by decide) nd_X0_isSheet (Nat.le_of_ble_eq_true rfl) dX0_read_1 (fun S1 r2 h => ?_)
  refine jr_if_ne C 10 7 rfl dX0_read_4 (by decide) (fun c10 => ?_) (fun c10 => ?_)
  · have h := h.1 c10
    refine jr_bipush (v := (-2)) C 9 rfl dX0_read_7 (by decide) ?_
    exact jr_ireturn C dX0_read_9 h
  · have h := h.2 c10
    refine jr_aload_n C 11 rfl dX0_read_10 rfl 0 rfl ?_
    refine jr_getr C 14 rfl fo_0_23 q251 dX0_read_11 h (fun v3 h => ?_)
    refine jr_iload_n C 15 rfl dX0_read_14 rfl 1 rfl ?_
    refine jr_aaldn C 16 rfl (t := 9) rfl rfl dX0_read_15 h (fun v4 h => ?_)
    refine jr_astore_n (lv' := [(2, .ref v4), (0, .ref x0), (1, .int x1)]) C 17 rfl dX0_read_16 rfl (Nat.le_of_ble_eq_true rfl) rfl ?_
    refine jr_aload_n C 18 rfl dX0_read_17 rfl 0 rfl ?_
    refine jr_getoN C 21 rfl fo_6_0 (jx_g q223 rfl) dX0_read_18 h (fun v5 h => ?_)
    refine jr_ifnonnull (x := v5) C 30 24 rfl dX0_read_21 (by decide) (fun c9 => ?_) (fun c9 => ?_)
    · have h := h.1 c9
      refine jr_aload_n C 25 rfl dX0_read_24 rfl 1 rfl ?_
      refine jr_iconst (v := 1) C 26 rfl dX0_read_25 (by decide) ?_
      obtain ⟨⟨V, hb⟩, h⟩ := h
      refine jr_callVi (r0 := (RX0, TX0, 24)) (As := [.int 1]) (st := []) C 29 rfl (m_X0_met C.2.2.2.2.2.2.2.2.2.2.2.2.2.2.2 h) rfl hb rfl q806 q808 qs9 q94 q809 (by decide) (by decide) ndV_X0_met (Nat.le_of_ble_eq_true rfl) dX0_read_26 (fun S6 r7 h => ?_)
      exact jr_ireturn C dX0_read_29 h
    · obtain ⟨a8, c9⟩ := Option.ne_none_iff_exists'.mp c9
      replace h := h.2 a8 c9
      subst c9
      refine jr_iconst (v := 0) C 31 rfl dX0_read_30 (by decide) ?_
      refine jr_istore_n (lv' := [(3, .int 0), (2, .ref v4), (0, .ref x0), (1, .int x1)]) C 32 rfl dX0_read_31 rfl (Nat.le_of_ble_eq_true rfl) rfl ?_
      obtain ⟨n, h⟩ := h
      exact jr_sub [2, 1, 0] rfl (wk_X0_read_32_L C  n _ h)
theorem m_X0_read {l : Launch} (hl : l.stackTraces = false) {G : jG} {K : jS → Int32 → Prop} {S : jS} {x0 : Nat} {x1 : Int32} (h : wp_X0_read S x0 x1 K) : jMet l G d_X0_read yX0_read (ws_ yX0_read cX0_read 4 (some .int)) [.ref x0, .int x1] S tvi K :=
  jMet.of hl rfl (by decide) (Nat.le_of_ble_eq_true rfl) (fun X C => jr_sub [0, 1] rfl (wk_X0_read_0 C h))
theorem wk_X0_seen_14 {X : jX} {G : jG} {K : jS → Int32 → Prop} (C : jC (X, G, 3, jA X G tvi K) d_X0_seen cX0_seen "Samovar" (some .int) yX0_seen) {S : jS}   (h : wp_X0_seen_14 S K) : jJ (X, G, 3, jA X G tvi K) S [] 14 [] := by
  unfold wp_X0_seen_14 at h
  refine jr_bipush (v := (-2)) C 16 rfl dX0_seen_14 (by decide) ?_
  exact jr_ireturn C dX0_seen_16 h
theorem wk_X0_seen_0 {X : jX} {G : jG} {K : jS → Int32 → Prop} (C : jC (X, G, 3, jA X G tvi K) d_X0_seen cX0_seen "Samovar" (some .int) yX0_seen) {S : jS} {x0 : Nat} {x1 : Int32} {x2 : Int32}  (h : wp_X0_seen S x0 x1 x2 K) : jJ (X, G, 3, jA X G tvi K) S [(0, .ref x0), (1, .int x1), (2, .int x2)] 0 [] := by
  unfold wp_X0_seen at h
  refine jr_iload_n C 1 rfl dX0_seen_0 rfl 1 rfl ?_
  refine jr_callSi (As := [.int x1]) (st := []) C 4 rfl (m_X0_isMinute C.2.2.2.2.2.2.2.2.2.2.2.2.2.2.2 h) rfl q775 q776 q94 q777 (by decide) (by decide) nd_X0_isMinute (Nat.le_of_ble_eq_true rfl) dX0_seen_1 (fun S1 r2 h => ?_)
  refine jr_if_eq C 14 7 rfl dX0_seen_4 (by decide) (fun c20 => ?_) (fun c20 => ?_)
  · have h := h.1 c20
    exact jr_sub [] rfl (wk_X0_seen_14 C  h)
  · have h := h.2 c20
    refine jr_iload_n C 8 rfl dX0_seen_7 rfl 2 rfl ?_
    refine jr_callSi (As := [.int x2]) (st := []) C 11 rfl (m_X0_isTwo C.2.2.2.2.2.2.2.2.2.2.2.2.2.2.2 h) rfl q305 q306 q94 q307 (by decide) (by decide) nd_X0_isTwo (Nat.le_of_ble_eq_true rfl) dX0_seen_8 (fun S3 r4 h => ?_)
    refine jr_if_ne C 17 14 rfl dX0_seen_11 (by decide) (fun c19 => ?_) (fun c19 => ?_)
    · have h := h.1 c19
      exact jr_sub [] rfl (wk_X0_seen_14 C  h)
    · have h := h.2 c19
      refine jr_aload_n C 18 rfl dX0_seen_17 rfl 0 rfl ?_
      refine jr_getr C 21 rfl fo_0_18 q246 dX0_seen_18 h (fun v5 h => ?_)
      obtain ⟨⟨V, hb⟩, h⟩ := h
      refine jr_callVi (r0 := (RJ2, TJ2, 3)) (As := []) (st := []) C 24 rfl (m_J2_size C.2.2.2.2.2.2.2.2.2.2.2.2.2.2.2 h) rfl hb rfl q700 q378 q379 q99 q380 (by decide) (by decide) ndV_J2_size (Nat.le_of_ble_eq_true rfl) dX0_seen_21 (fun S6 r7 h => ?_)
      refine jr_bipush (v := 8) C 26 rfl dX0_seen_24 (by decide) ?_
      refine jr_icmp_ne C 32 29 rfl dX0_seen_26 (by decide) (fun c18 => ?_) (fun c18 => ?_)
      · have h := h.1 c18
        refine jr_bipush (v := (-4)) C 31 rfl dX0_seen_29 (by decide) ?_
        exact jr_ireturn C dX0_seen_31 h
      · have h := h.2 c18
        refine jr_aload_n C 33 rfl dX0_seen_32 rfl 0 rfl ?_
        refine jr_getr C 36 rfl fo_0_18 q246 dX0_seen_33 h (fun v8 h => ?_)
        refine jr_iconst (v := 2) C 37 rfl dX0_seen_36 (by decide) ?_
        refine jr_newa C 39 rfl (t := 0) rfl (by decide) rfl rfl (by decide) q227 dX0_seen_37 h (fun S9 a10 h => ?_)
        refine jr_dup C 40 rfl dX0_seen_39 rfl ?_
        refine jr_iconst (v := 0) C 41 rfl dX0_seen_40 (by decide) ?_
        refine jr_iload_n C 42 rfl dX0_seen_41 rfl 1 rfl ?_
        refine jr_iast C 43 rfl dX0_seen_42 h (fun S11 h => ?_)
        refine jr_dup C 44 rfl dX0_seen_43 rfl ?_
        refine jr_iconst (v := 1) C 45 rfl dX0_seen_44 (by decide) ?_
        refine jr_iload_n C 46 rfl dX0_seen_45 rfl 2 rfl ?_
        refine jr_iast C 47 rfl dX0_seen_46 h (fun S12 h => ?_)
        obtain ⟨⟨V, hb⟩, h⟩ := h
        refine jr_callVi (r0 := (RJ2, TJ2, 3)) (As := [.ref a10]) (st := []) C 50 rfl (m_J2_add C.2.2.2.2.2.2.2.2.2.2.2.2.2.2.2 h) rfl hb rfl q780 q596 q597 q99 q598 (by decide) (by decide) ndV_J2_add (Nat.le_of_ble_eq_true rfl) dX0_seen_47 (fun S13 r14 h => ?_)
        refine jr_pop C 51 rfl dX0_seen_50 rfl ?_
        refine jr_aload_n C 52 rfl dX0_seen_51 rfl 0 rfl ?_
        refine jr_getr C 55 rfl fo_0_18 q246 dX0_seen_52 h (fun v15 h => ?_)
        obtain ⟨⟨V, hb⟩, h⟩ := h
        refine jr_callVi (r0 := (RJ2, TJ2, 3)) (As := []) (st := []) C 58 rfl (m_J2_size C.2.2.2.2.2.2.2.2.2.2.2.2.2.2.2 h) rfl hb rfl q700 q378 q379 q99 q380 (by decide) (by decide) ndV_J2_size (Nat.le_of_ble_eq_true rfl) dX0_seen_55 (fun S16 r17 h => ?_)
        exact jr_ireturn C dX0_seen_58 h
theorem m_X0_seen {l : Launch} (hl : l.stackTraces = false) {G : jG} {K : jS → Int32 → Prop} {S : jS} {x0 : Nat} {x1 : Int32} {x2 : Int32} (h : wp_X0_seen S x0 x1 x2 K) : jMet l G d_X0_seen yX0_seen (ws_ yX0_seen cX0_seen 3 (some .int)) [.ref x0, .int x1, .int x2] S tvi K :=
  jMet.of hl rfl (by decide) (Nat.le_of_ble_eq_true rfl) (fun X C => jr_sub [0, 1, 2] rfl (wk_X0_seen_0 C h))
theorem wk_X0_set_29 {X : jX} {G : jG} {K : jS → Int32 → Prop} (C : jC (X, G, 4, jA X G tvi K) d_X0_set cX0_set "Samovar" (some .int) yX0_set) {S : jS}   (h : wp_X0_set_29 S K) : jJ (X, G, 4, jA X G tvi K) S [] 29 [] := by
  unfold wp_X0_set_29 at h
  refine jr_bipush (v := (-2)) C 31 rfl dX0_set_29 (by decide) ?_
  exact jr_ireturn C dX0_set_31 h
theorem wk_X0_set_23 {X : jX} {G : jG} {K : jS → Int32 → Prop} (C : jC (X, G, 4, jA X G tvi K) d_X0_set cX0_set "Samovar" (some .int) yX0_set) {S : jS} {t0 : Int64} {t1 : Int64} {t2 : Int64} {x0 : Nat} {x1 : Int32} {x2 : Int32}  (h : wp_X0_set_23 S t0 t1 t2 x0 x1 x2 K) : jJ (X, G, 4, jA X G tvi K) S [(0, .ref x0), (1, .int x1), (2, .int x2)] 23 [.long t2, .long t1, .long t0] := by
  unfold wp_X0_set_23 at h
  refine jr_callSi (As := [.long t0, .long t1, .long t2]) (st := []) C 26 rfl (m_X0_in C.2.2.2.2.2.2.2.2.2.2.2.2.2.2.2 h) rfl q308 q309 q94 q310 (by decide) (by decide) nd_X0_in (Nat.le_of_ble_eq_true rfl) dX0_set_23 (fun S1 r2 h => ?_)
  refine jr_if_ne C 32 29 rfl dX0_set_26 (by decide) (fun c7 => ?_) (fun c7 => ?_)
  · have h := h.1 c7
    exact jr_sub [] rfl (wk_X0_set_29 C  h)
  · have h := h.2 c7
    refine jr_aload_n C 33 rfl dX0_set_32 rfl 0 rfl ?_
    refine jr_getr C 36 rfl fo_0_5 q233 dX0_set_33 h (fun v3 h => ?_)
    refine jr_iload_n C 37 rfl dX0_set_36 rfl 1 rfl ?_
    refine jr_iald C 38 rfl dX0_set_37 h (fun v4 h => ?_)
    refine jr_istore_n (lv' := [(3, .int v4), (0, .ref x0), (1, .int x1), (2, .int x2)]) C 39 rfl dX0_set_38 rfl (Nat.le_of_ble_eq_true rfl) rfl ?_
    refine jr_aload_n C 40 rfl dX0_set_39 rfl 1 rfl ?_
    refine jr_getr C 43 rfl fo_0_5 q233 dX0_set_40 h (fun v5 h => ?_)
    refine jr_iload_n C 44 rfl dX0_set_43 rfl 2 rfl ?_
    refine jr_iload_n C 45 rfl dX0_set_44 rfl 3 rfl ?_
    refine jr_iast C 46 rfl dX0_set_45 h (fun S6 h => ?_)
    refine jr_iload_n C 47 rfl dX0_set_46 rfl 0 rfl ?_
    exact jr_ireturn C dX0_set_47 h
theorem wk_X0_set_0 {X : jX} {G : jG} {K : jS → Int32 → Prop} (C : jC (X, G, 4, jA X G tvi K) d_X0_set cX0_set "Samovar" (some .int) yX0_set) {S : jS} {x0 : Nat} {x1 : Int32} {x2 : Int32}  (h : wp_X0_set S x0 x1 x2 K) : jJ (X, G, 4, jA X G tvi K) S [(0, .ref x0), (1, .int x1), (2, .int x2)] 0 [] := by
  unfold wp_X0_set at h
  refine jr_iload_n C 1 rfl dX0_set_0 rfl 1 rfl ?_
  refine jr_callSi (As := [.int x1]) (st := []) C 4 rfl (m_X0_isTwo C.2.2.2.2.2.2.2.2.2.2.2.2.2.2.2 h) rfl q305 q306 q94 q307 (by decide) (by decide) nd_X0_isTwo (Nat.le_of_ble_eq_true rfl) dX0_set_1 (fun S1 r2 h => ?_)
  refine jr_if_eq C 29 7 rfl dX0_set_4 (by decide) (fun c4 => ?_) (fun c4 => ?_)
  · have h := h.1 c4
    exact jr_sub [] rfl (wk_X0_set_29 C  h)
  · have h := h.2 c4
    refine jr_iload_n C 8 rfl dX0_set_7 rfl 2 rfl ?_
    refine jr_i2l C 9 rfl dX0_set_8 ?_
    refine jr_lconst (v := 0) C 10 rfl dX0_set_9 (by decide) ?_
    refine jr_iload_n C 11 rfl dX0_set_10 rfl 1 rfl ?_
    refine jr_if_ne C 20 14 rfl dX0_set_11 (by decide) (fun c3 => ?_) (fun c3 => ?_)
    · have h := h.1 c3
      refine jr_ldc2 (v := 30) C 17 rfl dX0_set_14 q769 ?_
      refine jr_goto C 23 dX0_set_17 (by decide) ?_
      exact (wk_X0_set_23 C  h)
    · have h := h.2 c3
      refine jr_ldc2 (v := 40) C 23 rfl dX0_set_20 q770 ?_
      exact (wk_X0_set_23 C  h)
theorem m_X0_set {l : Launch} (hl : l.stackTraces = false) {G : jG} {K : jS → Int32 → Prop} {S : jS} {x0 : Nat} {x1 : Int32} {x2 : Int32} (h : wp_X0_set S x0 x1 x2 K) : jMet l G d_X0_set yX0_set (ws_ yX0_set cX0_set 4 (some .int)) [.ref x0, .int x1, .int x2] S tvi K :=
  jMet.of hl rfl (by decide) (Nat.le_of_ble_eq_true rfl) (fun X C => jr_sub [0, 1, 2] rfl (wk_X0_set_0 C h))
theorem wk_X0_sheet_25 {X : jX} {G : jG} {K : jS → Int32 → Prop} (C : jC (X, G, 5, jA X G tvi K) d_X0_sheet cX0_sheet "Samovar" (some .int) yX0_sheet) (hT : (zc (X, G, 5, jA X G tvi K)).exceptionTable.toList = tableOf [((28), (43), (44), (409))]) {S : jS}   (h : wp_X0_sheet_25 S K) : jJ (X, G, 5, jA X G tvi K) S [] 25 [] := by
  unfold wp_X0_sheet_25 at h
  refine jr_bipush (v := (-2)) C 27 rfl dX0_sheet_25 (by decide) ?_
  exact jr_ireturn C dX0_sheet_27 h
theorem wk_X0_sheet_44 {X : jX} {G : jG} {K : jS → Int32 → Prop} (C : jC (X, G, 5, jA X G tvi K) d_X0_sheet cX0_sheet "Samovar" (some .int) yX0_sheet) (hT : (zc (X, G, 5, jA X G tvi K)).exceptionTable.toList = tableOf [((28), (43), (44), (409))]) {S : jS} {t0 : Nat} {x0 : Nat}  (h : wp_X0_sheet_44 S t0 x0 K) : jJ (X, G, 5, jA X G tvi K) S [(0, .ref x0)] 44 [.ref t0] := by
  unfold wp_X0_sheet_44 at h
  refine jr_astore (lv' := [(4, .ref t0), (0, .ref x0)]) C 46 rfl dX0_sheet_44 (Nat.le_of_ble_eq_true rfl) rfl ?_
  refine jr_aload_n C 47 rfl dX0_sheet_46 rfl 1 rfl ?_
  refine jr_iconst (v := 5) C 48 rfl dX0_sheet_47 (by decide) ?_
  obtain ⟨⟨V, hb⟩, h⟩ := h
  refine jr_callVi (r0 := (RX0, TX0, 24)) (As := [.int 5]) (st := []) C 51 rfl (m_X0_met C.2.2.2.2.2.2.2.2.2.2.2.2.2.2.2 h) rfl hb rfl q806 q808 qs9 q94 q809 (by decide) (by decide) ndV_X0_met (Nat.le_of_ble_eq_true rfl) dX0_sheet_48 (fun S1 r2 h => ?_)
  exact jr_ireturn C dX0_sheet_51 h
theorem wk_X0_sheet_0 {X : jX} {G : jG} {K : jS → Int32 → Prop} (C : jC (X, G, 5, jA X G tvi K) d_X0_sheet cX0_sheet "Samovar" (some .int) yX0_sheet) (hT : (zc (X, G, 5, jA X G tvi K)).exceptionTable.toList = tableOf [((28), (43), (44), (409))]) {S : jS} {x0 : Nat} {x1 : Int32} {x2 : Int32} {x3 : Int32}  (h : wp_X0_sheet S x0 x1 x2 x3 K) : jJ (X, G, 5, jA X G tvi K) S [(0, .ref x0), (1, .int x1), (2, .int x2), (3, .int x3)] 0 [] := by
  unfold wp_X0_sheet at h
  refine jr_iload_n C 1 rfl dX0_sheet_0 rfl 1 rfl ?_
  refine jr_callSi (As := [.int x1]) (st := []) C 4 rfl (m_X0_isSheet C.2.2.2.2.2.2.2.2.2.2.2.2.2.2.2 h) rfl q802 q803 q94 q804 (by decide) (by decide) nd_X0_isSheet (Nat.le_of_ble_eq_true rfl) dX0_sheet_1 (fun S1 r2 h => ?_)
  refine jr_if_eq C 25 7 rfl dX0_sheet_4 (by decide) (fun c15 => ?_) (fun c15 => ?_)
  · have h := h.1 c15
    exact jr_sub [] rfl (wk_X0_sheet_25 C hT  h)
  · have h := h.2 c15
    refine jr_iload_n C 8 rfl dX0_sheet_7 rfl 2 rfl ?_
    refine jr_i2l C 9 rfl dX0_sheet_8 ?_
    refine jr_lconst (v := 0) C 10 rfl dX0_sheet_9 (by decide) ?_
    refine jr_ldc2 (v := 2) C 13 rfl dX0_sheet_10 q701 ?_
    refine jr_callSi (As := [.long ((x2 : Int32).toInt64), .long 0, .long 2]) (st := []) C 16 rfl (m_X0_in C.2.2.2.2.2.2.2.2.2.2.2.2.2.2.2 h) rfl q308 q309 q94 q310 (by decide) (by decide) nd_X0_in (Nat.le_of_ble_eq_true rfl) dX0_sheet_13 (fun S3 r4 h => ?_)
    refine jr_if_eq C 25 19 rfl dX0_sheet_16 (by decide) (fun c14 => ?_) (fun c14 => ?_)
    · have h := h.1 c14
      exact jr_sub [] rfl (wk_X0_sheet_25 C hT  h)
    · have h := h.2 c14
      refine jr_iload_n C 20 rfl dX0_sheet_19 rfl 3 rfl ?_
      refine jr_bipush (v := 60) C 22 rfl dX0_sheet_20 (by decide) ?_
      refine jr_icmp_le C 28 25 rfl dX0_sheet_22 (by decide) (fun c13 => ?_) (fun c13 => ?_)
      · have h := h.1 c13
        refine jr_aload_n C 29 rfl dX0_sheet_28 rfl 0 rfl ?_
        refine jr_getr C 32 rfl fo_0_23 q251 dX0_sheet_29 h (fun v5 h => ?_)
        refine jr_iload_n C 33 rfl dX0_sheet_32 rfl 1 rfl ?_
        refine jr_aaldn C 34 rfl (t := 9) rfl rfl dX0_sheet_33 h (fun v6 h => ?_)
        refine jr_iload_n C 35 rfl dX0_sheet_34 rfl 2 rfl ?_
        refine jr_iload_n C 36 rfl dX0_sheet_35 rfl 3 rfl ?_
        refine jr_callXSr (As := [.int x2, .int x3]) (st := [.ref v6]) C 39 rfl (m_X0_rowOf C.2.2.2.2.2.2.2.2.2.2.2.2.2.2.2 h) rfl q1175 q1176 q94 q1177 (by decide) (by decide) nd_X0_rowOf (Nat.le_of_ble_eq_true rfl) dX0_sheet_36 (fun S7 r8 h => ?_) (fun S10 e11 q12 h => by
    obtain ⟨hE, h⟩ := h
    subst hE
    exact jx_catch C (e := 3) rfl [] ⟨28, 43, 44, 409⟩ [] hT (fun z hz => by cases hz) (by decide) (by decide) q1146 (jx_g q1166 rfl) (jr_sub [0] rfl (wk_X0_sheet_44 C hT  h)))
        refine jr_putvN C 42 rfl fo_6_0 (by decide) (jx_g q223 rfl) dX0_sheet_39 rfl rfl h (fun S9 h => ?_)
        refine jr_iload_n C 43 rfl dX0_sheet_42 rfl 3 rfl ?_
        exact jr_ireturn C dX0_sheet_43 h
      · have h := h.2 c13
        exact jr_sub [] rfl (wk_X0_sheet_25 C hT  h)
theorem m_X0_sheet {l : Launch} (hl : l.stackTraces = false) {G : jG} {K : jS → Int32 → Prop} {S : jS} {x0 : Nat} {x1 : Int32} {x2 : Int32} {x3 : Int32} (h : wp_X0_sheet S x0 x1 x2 x3 K) : jMet l G d_X0_sheet yX0_sheet (wsW_ yX0_sheet cX0_sheet 5 (some .int) [((28), (43), (44), (409))]) [.ref x0, .int x1, .int x2, .int x3] S tvi K :=
  jMet.ofHT hl rfl (by decide) (Nat.le_of_ble_eq_true rfl) (fun X C hT => jr_sub [0, 1, 2, 3] rfl (wk_X0_sheet_0 C hT h))
theorem wk_X0_spare_22 {X : jX} {G : jG} {K : jS → Int32 → Prop} (C : jC (X, G, 2, jA X G tvi K) d_X0_spare cX0_spare "Samovar" (some .int) yX0_spare) {S : jS} {t0 : Int32}  (h : wp_X0_spare_22 S t0 K) : jJ (X, G, 2, jA X G tvi K) S [] 22 [.int t0] := by
  unfold wp_X0_spare_22 at h
  exact jr_ireturn C dX0_spare_22 h
theorem wk_X0_spare_0 {X : jX} {G : jG} {K : jS → Int32 → Prop} (C : jC (X, G, 2, jA X G tvi K) d_X0_spare cX0_spare "Samovar" (some .int) yX0_spare) {S : jS} {x0 : Nat} {x1 : Int32}  (h : wp_X0_spare S x0 x1 K) : jJ (X, G, 2, jA X G tvi K) S [(0, .ref x0), (1, .int x1)] 0 [] := by
  unfold wp_X0_spare at h
  refine jr_iload_n C 1 rfl dX0_spare_0 rfl 1 rfl ?_
  refine jr_i2l C 2 rfl dX0_spare_1 ?_
  refine jr_ldc2 (v := (-1)) C 5 rfl dX0_spare_2 q1046 ?_
  refine jr_lconst (v := 1) C 6 rfl dX0_spare_5 (by decide) ?_
  refine jr_callSi (As := [.long ((x1 : Int32).toInt64), .long (-1), .long 1]) (st := []) C 9 rfl (m_X0_in C.2.2.2.2.2.2.2.2.2.2.2.2.2.2.2 h) rfl q308 q309 q94 q310 (by decide) (by decide) nd_X0_in (Nat.le_of_ble_eq_true rfl) dX0_spare_6 (fun S1 r2 h => ?_)
  refine jr_if_eq C 20 12 rfl dX0_spare_9 (by decide) (fun c5 => ?_) (fun c5 => ?_)
  · have h := h.1 c5
    refine jr_bipush (v := (-2)) C 22 rfl dX0_spare_20 (by decide) ?_
    exact jr_sub [] rfl (wk_X0_spare_22 C  h)
  · have h := h.2 c5
    refine jr_aload_n C 13 rfl dX0_spare_12 rfl 0 rfl ?_
    refine jr_iload_n C 14 rfl dX0_spare_13 rfl 1 rfl ?_
    obtain ⟨⟨V, hb⟩, h⟩ := h
    refine jr_callVi (r0 := (RX0, TX0, 24)) (As := [.int x1]) (st := []) C 17 rfl (m_X0_spareBy C.2.2.2.2.2.2.2.2.2.2.2.2.2.2.2 h) rfl hb rfl q1047 q1049 qs26 q94 q1050 (by decide) (by decide) ndV_X0_spareBy (Nat.le_of_ble_eq_true rfl) dX0_spare_14 (fun S3 r4 h => ?_)
    refine jr_goto C 22 dX0_spare_17 (by decide) ?_
    exact jr_sub [] rfl (wk_X0_spare_22 C  h)
theorem m_X0_spare {l : Launch} (hl : l.stackTraces = false) {G : jG} {K : jS → Int32 → Prop} {S : jS} {x0 : Nat} {x1 : Int32} (h : wp_X0_spare S x0 x1 K) : jMet l G d_X0_spare yX0_spare (ws_ yX0_spare cX0_spare 2 (some .int)) [.ref x0, .int x1] S tvi K :=
  jMet.of hl rfl (by decide) (Nat.le_of_ble_eq_true rfl) (fun X C => jr_sub [0, 1] rfl (wk_X0_spare_0 C h))
theorem wk_X0_sum_26 {X : jX} {G : jG} {K : jS → Int32 → Prop} (C : jC (X, G, 2, jA X G tvi K) d_X0_sum cX0_sum "Samovar" (some .int) yX0_sum) {S : jS} {t0 : Int32}  (h : wp_X0_sum_26 S t0 K) : jJ (X, G, 2, jA X G tvi K) S [] 26 [.int t0] := by
  unfold wp_X0_sum_26 at h
  exact jr_ireturn C dX0_sum_26 h
theorem wk_X0_sum_0 {X : jX} {G : jG} {K : jS → Int32 → Prop} (C : jC (X, G, 2, jA X G tvi K) d_X0_sum cX0_sum "Samovar" (some .int) yX0_sum) {S : jS} {x0 : Nat} {x1 : Int32}  (h : wp_X0_sum S x0 x1 K) : jJ (X, G, 2, jA X G tvi K) S [(0, .ref x0), (1, .int x1)] 0 [] := by
  unfold wp_X0_sum at h
  refine jr_aload_n C 1 rfl dX0_sum_0 rfl 0 rfl ?_
  obtain ⟨⟨V, hb⟩, h⟩ := h
  refine jr_callVv (r0 := (RX0, TX0, 24)) (As := []) (st := []) C 4 rfl (m_X0_find C.2.2.2.2.2.2.2.2.2.2.2.2.2.2.2 h) rfl hb rfl q831 q833 qs10 q94 q834 (by decide) (by decide) ndV_X0_find (Nat.le_of_ble_eq_true rfl) dX0_sum_1 (fun S1 _ h => ?_)
  refine jr_iload_n C 5 rfl dX0_sum_4 rfl 1 rfl ?_
  refine jr_i2l C 6 rfl dX0_sum_5 ?_
  refine jr_lconst (v := 0) C 7 rfl dX0_sum_6 (by decide) ?_
  refine jr_ldc2 (v := 4) C 10 rfl dX0_sum_7 q976 ?_
  refine jr_callSi (As := [.long ((x1 : Int32).toInt64), .long 0, .long 4]) (st := []) C 13 rfl (m_X0_in C.2.2.2.2.2.2.2.2.2.2.2.2.2.2.2 h) rfl q308 q309 q94 q310 (by decide) (by decide) nd_X0_in (Nat.le_of_ble_eq_true rfl) dX0_sum_10 (fun S2 r3 h => ?_)
  refine jr_if_eq C 24 16 rfl dX0_sum_13 (by decide) (fun c6 => ?_) (fun c6 => ?_)
  · have h := h.1 c6
    refine jr_bipush (v := (-2)) C 26 rfl dX0_sum_24 (by decide) ?_
    exact jr_sub [] rfl (wk_X0_sum_26 C  h)
  · have h := h.2 c6
    refine jr_aload_n C 17 rfl dX0_sum_16 rfl 0 rfl ?_
    refine jr_iload_n C 18 rfl dX0_sum_17 rfl 1 rfl ?_
    obtain ⟨⟨V, hb⟩, h⟩ := h
    refine jr_callVi (r0 := (RX0, TX0, 24)) (As := [.int x1]) (st := []) C 21 rfl (m_X0_sumBy C.2.2.2.2.2.2.2.2.2.2.2.2.2.2.2 h) rfl hb rfl q977 q979 qs17 q94 q980 (by decide) (by decide) ndV_X0_sumBy (Nat.le_of_ble_eq_true rfl) dX0_sum_18 (fun S4 r5 h => ?_)
    refine jr_goto C 26 dX0_sum_21 (by decide) ?_
    exact jr_sub [] rfl (wk_X0_sum_26 C  h)
theorem m_X0_sum {l : Launch} (hl : l.stackTraces = false) {G : jG} {K : jS → Int32 → Prop} {S : jS} {x0 : Nat} {x1 : Int32} (h : wp_X0_sum S x0 x1 K) : jMet l G d_X0_sum yX0_sum (ws_ yX0_sum cX0_sum 2 (some .int)) [.ref x0, .int x1] S tvi K :=
  jMet.of hl rfl (by decide) (Nat.le_of_ble_eq_true rfl) (fun X C => jr_sub [0, 1] rfl (wk_X0_sum_0 C h))
theorem wk_X0_thirst_0 {X : jX} {G : jG} {K : jS → Int32 → Prop} (C : jC (X, G, 1, jA X G tvi K) d_X0_thirst cX0_thirst "Samovar" (some .int) yX0_thirst) {S : jS} {x0 : Nat}  (h : wp_X0_thirst S x0 K) : jJ (X, G, 1, jA X G tvi K) S [(0, .ref x0)] 0 [] := by
  unfold wp_X0_thirst at h
  refine jr_aload_n C 1 rfl dX0_thirst_0 rfl 0 rfl ?_
  obtain ⟨⟨V, hb⟩, h⟩ := h
  refine jr_callVv (r0 := (RX0, TX0, 24)) (As := []) (st := []) C 4 rfl (m_X0_find C.2.2.2.2.2.2.2.2.2.2.2.2.2.2.2 h) rfl hb rfl q831 q833 qs10 q94 q834 (by decide) (by decide) ndV_X0_find (Nat.le_of_ble_eq_true rfl) dX0_thirst_1 (fun S1 _ h => ?_)
  refine jr_aload_n C 5 rfl dX0_thirst_4 rfl 0 rfl ?_
  obtain ⟨⟨V, hb⟩, h⟩ := h
  refine jr_callVi (r0 := (RX0, TX0, 24)) (As := []) (st := []) C 8 rfl (m_X0_thirstNow C.2.2.2.2.2.2.2.2.2.2.2.2.2.2.2 h) rfl hb rfl q1013 q1015 qs22 q94 q1016 (by decide) (by decide) ndV_X0_thirstNow (Nat.le_of_ble_eq_true rfl) dX0_thirst_5 (fun S2 r3 h => ?_)
  exact jr_ireturn C dX0_thirst_8 h
theorem m_X0_thirst {l : Launch} (hl : l.stackTraces = false) {G : jG} {K : jS → Int32 → Prop} {S : jS} {x0 : Nat} (h : wp_X0_thirst S x0 K) : jMet l G d_X0_thirst yX0_thirst (ws_ yX0_thirst cX0_thirst 1 (some .int)) [.ref x0] S tvi K :=
  jMet.of hl rfl (by decide) (Nat.le_of_ble_eq_true rfl) (fun X C => jr_sub [0] rfl (wk_X0_thirst_0 C h))
theorem ndD_Text_type_1_2 : ("Samovar$Text" : String) ≠ "java/lang/invoke/MethodHandle" ∧ ("Samovar$Text" : String) ≠ "java/lang/invoke/VarHandle" ∧ (parseMethodDescriptor "(I)I").map (fun d => d.parameters.length) = some 1 := by decide +kernel
theorem dr_Text_type_1_2 {Z : jZ} {d : Nat} {cc : ByteArray} {own : String} {ret : Option FieldType} {y : MethodName} {pc : Nat} {S : jS} {lv : List (Nat × Value)} {st As : List Value} (C : jC Z d cc own ret y) (pc' : Nat) (hp : pc + 3 = pc') {a : Nat} {x0 : Int32} {K : jS → Int32 → Prop} {stk : List Value} (h : wpD_Text_type_1_2 S a x0 K) (hstk : [.int x0].reverse ++ .ref a :: st = stk) {index : Nat} (q1 : Cond.methodLink own index (⟨"Samovar$Text", "type", "(I)I"⟩ : MethodName) ∈ lw_all) (hd : d_D_Text_type_1_2 + 1 ≤ d) (hst : (st.map fun v => v.category).sum ≤ 8) (hdg : decode cc pc = .ok (.invokevirtual index, 3)) (kk : ∀ (S1 : jS) (r : Int32), K S1 r → jJ Z S1 lv pc' (.int r :: st)) : jJ Z S lv pc stk := by
  unfold wpD_Text_type_1_2 at h
  rcases h with ⟨⟨V, hb⟩, h⟩ | ⟨⟨V, hb⟩, h⟩
  · exact jr_callUi (As := [.int x0]) (r0 := (RX2, TX2, 6)) (owner := "Samovar$Text") C pc' hp (m_X1_type C.2.2.2.2.2.2.2.2.2.2.2.2.2.2.2 h) hstk hb rfl (va_Decl.of (C.2.2.2.2.1 _ q313) (C.2.2.2.2.1 _ q317)) q1 q314 (C.2.2.2.2.1 _ q316) q313 q95 q317 (Nat.le_trans (Nat.le_of_ble_eq_true rfl) hd) (by decide) ndD_Text_type_1_2 hst hdg kk
  · exact jr_callUi (As := [.int x0]) (r0 := (RX3, TX3, 6)) (owner := "Samovar$Text") C pc' hp (m_X1_type C.2.2.2.2.2.2.2.2.2.2.2.2.2.2.2 h) hstk hb rfl (va_Decl.of (C.2.2.2.2.1 _ q313) (C.2.2.2.2.1 _ q317)) q1 q314 (C.2.2.2.2.1 _ q315) q313 q95 q317 (Nat.le_trans (Nat.le_of_ble_eq_true rfl) hd) (by decide) ndD_Text_type_1_2 hst hdg kk
theorem wk_X0_type_34 {X : jX} {G : jG} {K : jS → Int32 → Prop} (C : jC (X, G, 3, jA X G tvi K) d_X0_type cX0_type "Samovar" (some .int) yX0_type) {S : jS} {t0 : Int32}  (h : wp_X0_type_34 S t0 K) : jJ (X, G, 3, jA X G tvi K) S [] 34 [.int t0] := by
  unfold wp_X0_type_34 at h
  exact jr_ireturn C dX0_type_34 h
theorem wk_X0_type_32 {X : jX} {G : jG} {K : jS → Int32 → Prop} (C : jC (X, G, 3, jA X G tvi K) d_X0_type cX0_type "Samovar" (some .int) yX0_type) {S : jS}   (h : wp_X0_type_32 S K) : jJ (X, G, 3, jA X G tvi K) S [] 32 [] := by
  unfold wp_X0_type_32 at h
  refine jr_bipush (v := (-2)) C 34 rfl dX0_type_32 (by decide) ?_
  exact (wk_X0_type_34 C  h)
theorem wk_X0_type_0 {X : jX} {G : jG} {K : jS → Int32 → Prop} (C : jC (X, G, 3, jA X G tvi K) d_X0_type cX0_type "Samovar" (some .int) yX0_type) {S : jS} {x0 : Nat} {x1 : Int32} {x2 : Int32}  (h : wp_X0_type S x0 x1 x2 K) : jJ (X, G, 3, jA X G tvi K) S [(0, .ref x0), (1, .int x1), (2, .int x2)] 0 [] := by
  unfold wp_X0_type at h
  refine jr_iload_n C 1 rfl dX0_type_0 rfl 1 rfl ?_
  refine jr_callSi (As := [.int x1]) (st := []) C 4 rfl (m_X0_isTwo C.2.2.2.2.2.2.2.2.2.2.2.2.2.2.2 h) rfl q305 q306 q94 q307 (by decide) (by decide) nd_X0_isTwo (Nat.le_of_ble_eq_true rfl) dX0_type_1 (fun S1 r2 h => ?_)
  refine jr_if_eq C 32 7 rfl dX0_type_4 (by decide) (fun c10 => ?_) (fun c10 => ?_)
  · have h := h.1 c10
    exact jr_sub [] rfl (wk_X0_type_32 C  h)
  · have h := h.2 c10
    refine jr_iload_n C 8 rfl dX0_type_7 rfl 2 rfl ?_
    refine jr_i2l C 9 rfl dX0_type_8 ?_
    refine jr_lconst (v := 0) C 10 rfl dX0_type_9 (by decide) ?_
    refine jr_ldc2 (v := 255) C 13 rfl dX0_type_10 q311 ?_
    refine jr_callSi (As := [.long ((x2 : Int32).toInt64), .long 0, .long 255]) (st := []) C 16 rfl (m_X0_in C.2.2.2.2.2.2.2.2.2.2.2.2.2.2.2 h) rfl q308 q309 q94 q310 (by decide) (by decide) nd_X0_in (Nat.le_of_ble_eq_true rfl) dX0_type_13 (fun S3 r4 h => ?_)
    refine jr_if_eq C 32 19 rfl dX0_type_16 (by decide) (fun c9 => ?_) (fun c9 => ?_)
    · have h := h.1 c9
      exact jr_sub [] rfl (wk_X0_type_32 C  h)
    · have h := h.2 c9
      refine jr_aload_n C 20 rfl dX0_type_19 rfl 0 rfl ?_
      refine jr_getr C 23 rfl fo_0_3 q231 dX0_type_20 h (fun v5 h => ?_)
      refine jr_iload_n C 24 rfl dX0_type_23 rfl 1 rfl ?_
      refine jr_aaldn C 25 rfl (t := 5) rfl rfl dX0_type_24 h (fun v6 h => ?_)
      refine jr_iload_n C 26 rfl dX0_type_25 rfl 2 rfl ?_
      refine dr_Text_type_1_2 (As := [.int x2]) (st := []) C 29 rfl h rfl q312 (by decide) (Nat.le_of_ble_eq_true rfl) dX0_type_26 (fun S7 r8 h => ?_)
      refine jr_goto C 34 dX0_type_29 (by decide) ?_
      exact jr_sub [] rfl (wk_X0_type_34 C  h)
theorem m_X0_type {l : Launch} (hl : l.stackTraces = false) {G : jG} {K : jS → Int32 → Prop} {S : jS} {x0 : Nat} {x1 : Int32} {x2 : Int32} (h : wp_X0_type S x0 x1 x2 K) : jMet l G d_X0_type yX0_type (ws_ yX0_type cX0_type 3 (some .int)) [.ref x0, .int x1, .int x2] S tvi K :=
  jMet.of hl rfl (by decide) (Nat.le_of_ble_eq_true rfl) (fun X C => jr_sub [0, 1, 2] rfl (wk_X0_type_0 C h))
theorem ndD_Text_undo_1_2 : ("Samovar$Text" : String) ≠ "java/lang/invoke/MethodHandle" ∧ ("Samovar$Text" : String) ≠ "java/lang/invoke/VarHandle" ∧ (parseMethodDescriptor "()I").map (fun d => d.parameters.length) = some 0 := by decide +kernel
theorem dr_Text_undo_1_2 {Z : jZ} {d : Nat} {cc : ByteArray} {own : String} {ret : Option FieldType} {y : MethodName} {pc : Nat} {S : jS} {lv : List (Nat × Value)} {st As : List Value} (C : jC Z d cc own ret y) (pc' : Nat) (hp : pc + 3 = pc') {a : Nat}  {K : jS → Int32 → Prop} {stk : List Value} (h : wpD_Text_undo_1_2 S a  K) (hstk : [].reverse ++ .ref a :: st = stk) {index : Nat} (q1 : Cond.methodLink own index (⟨"Samovar$Text", "undo", "()I"⟩ : MethodName) ∈ lw_all) (hd : d_D_Text_undo_1_2 + 1 ≤ d) (hst : (st.map fun v => v.category).sum ≤ 8) (hdg : decode cc pc = .ok (.invokevirtual index, 3)) (kk : ∀ (S1 : jS) (r : Int32), K S1 r → jJ Z S1 lv pc' (.int r :: st)) : jJ Z S lv pc stk := by
  unfold wpD_Text_undo_1_2 at h
  rcases h with ⟨⟨V, hb⟩, h⟩ | ⟨⟨V, hb⟩, h⟩
  · exact jr_callUi (As := []) (r0 := (RX2, TX2, 6)) (owner := "Samovar$Text") C pc' hp (m_X1_undo C.2.2.2.2.2.2.2.2.2.2.2.2.2.2.2 h) hstk hb rfl (va_Decl.of (C.2.2.2.2.1 _ q333) (C.2.2.2.2.1 _ q337)) q1 q334 (C.2.2.2.2.1 _ q336) q333 q95 q337 (Nat.le_trans (Nat.le_of_ble_eq_true rfl) hd) (by decide) ndD_Text_undo_1_2 hst hdg kk
  · exact jr_callUi (As := []) (r0 := (RX3, TX3, 6)) (owner := "Samovar$Text") C pc' hp (m_X1_undo C.2.2.2.2.2.2.2.2.2.2.2.2.2.2.2 h) hstk hb rfl (va_Decl.of (C.2.2.2.2.1 _ q333) (C.2.2.2.2.1 _ q337)) q1 q334 (C.2.2.2.2.1 _ q335) q333 q95 q337 (Nat.le_trans (Nat.le_of_ble_eq_true rfl) hd) (by decide) ndD_Text_undo_1_2 hst hdg kk
theorem wk_X0_undo_21 {X : jX} {G : jG} {K : jS → Int32 → Prop} (C : jC (X, G, 2, jA X G tvi K) d_X0_undo cX0_undo "Samovar" (some .int) yX0_undo) {S : jS} {t0 : Int32}  (h : wp_X0_undo_21 S t0 K) : jJ (X, G, 2, jA X G tvi K) S [] 21 [.int t0] := by
  unfold wp_X0_undo_21 at h
  exact jr_ireturn C dX0_undo_21 h
theorem wk_X0_undo_0 {X : jX} {G : jG} {K : jS → Int32 → Prop} (C : jC (X, G, 2, jA X G tvi K) d_X0_undo cX0_undo "Samovar" (some .int) yX0_undo) {S : jS} {x0 : Nat} {x1 : Int32}  (h : wp_X0_undo S x0 x1 K) : jJ (X, G, 2, jA X G tvi K) S [(0, .ref x0), (1, .int x1)] 0 [] := by
  unfold wp_X0_undo at h
  refine jr_iload_n C 1 rfl dX0_undo_0 rfl 1 rfl ?_
  refine jr_callSi (As := [.int x1]) (st := []) C 4 rfl (m_X0_isTwo C.2.2.2.2.2.2.2.2.2.2.2.2.2.2.2 h) rfl q305 q306 q94 q307 (by decide) (by decide) nd_X0_isTwo (Nat.le_of_ble_eq_true rfl) dX0_undo_1 (fun S1 r2 h => ?_)
  refine jr_if_eq C 19 7 rfl dX0_undo_4 (by decide) (fun c7 => ?_) (fun c7 => ?_)
  · have h := h.1 c7
    refine jr_bipush (v := (-2)) C 21 rfl dX0_undo_19 (by decide) ?_
    exact jr_sub [] rfl (wk_X0_undo_21 C  h)
  · have h := h.2 c7
    refine jr_aload_n C 8 rfl dX0_undo_7 rfl 0 rfl ?_
    refine jr_getr C 11 rfl fo_0_3 q231 dX0_undo_8 h (fun v3 h => ?_)
    refine jr_iload_n C 12 rfl dX0_undo_11 rfl 1 rfl ?_
    refine jr_aaldn C 13 rfl (t := 5) rfl rfl dX0_undo_12 h (fun v4 h => ?_)
    refine dr_Text_undo_1_2 (As := []) (st := []) C 16 rfl h rfl q332 (by decide) (Nat.le_of_ble_eq_true rfl) dX0_undo_13 (fun S5 r6 h => ?_)
    refine jr_goto C 21 dX0_undo_16 (by decide) ?_
    exact jr_sub [] rfl (wk_X0_undo_21 C  h)
theorem m_X0_undo {l : Launch} (hl : l.stackTraces = false) {G : jG} {K : jS → Int32 → Prop} {S : jS} {x0 : Nat} {x1 : Int32} (h : wp_X0_undo S x0 x1 K) : jMet l G d_X0_undo yX0_undo (ws_ yX0_undo cX0_undo 2 (some .int)) [.ref x0, .int x1] S tvi K :=
  jMet.of hl rfl (by decide) (Nat.le_of_ble_eq_true rfl) (fun X C => jr_sub [0, 1] rfl (wk_X0_undo_0 C h))
theorem wk_X0_waited_31 {X : jX} {G : jG} {K : jS → Int32 → Prop} (C : jC (X, G, 2, jA X G tvi K) d_X0_waited cX0_waited "Samovar" (some .int) yX0_waited) {S : jS} {t0 : Int32}  (h : wp_X0_waited_31 S t0 K) : jJ (X, G, 2, jA X G tvi K) S [] 31 [.int t0] := by
  unfold wp_X0_waited_31 at h
  exact jr_ireturn C dX0_waited_31 h
theorem wk_X0_waited_0 {X : jX} {G : jG} {K : jS → Int32 → Prop} (C : jC (X, G, 2, jA X G tvi K) d_X0_waited cX0_waited "Samovar" (some .int) yX0_waited) {S : jS} {x0 : Nat} {x1 : Int32}  (h : wp_X0_waited S x0 x1 K) : jJ (X, G, 2, jA X G tvi K) S [(0, .ref x0), (1, .int x1)] 0 [] := by
  unfold wp_X0_waited at h
  refine jr_aload_n C 1 rfl dX0_waited_0 rfl 0 rfl ?_
  obtain ⟨⟨V, hb⟩, h⟩ := h
  refine jr_callVv (r0 := (RX0, TX0, 24)) (As := []) (st := []) C 4 rfl (m_X0_find C.2.2.2.2.2.2.2.2.2.2.2.2.2.2.2 h) rfl hb rfl q831 q833 qs10 q94 q834 (by decide) (by decide) ndV_X0_find (Nat.le_of_ble_eq_true rfl) dX0_waited_1 (fun S1 _ h => ?_)
  refine jr_aload_n C 5 rfl dX0_waited_4 rfl 0 rfl ?_
  refine jr_iload_n C 6 rfl dX0_waited_5 rfl 1 rfl ?_
  obtain ⟨⟨V, hb⟩, h⟩ := h
  refine jr_callVi (r0 := (RX0, TX0, 24)) (As := [.int x1]) (st := []) C 9 rfl (m_X0_isGuest C.2.2.2.2.2.2.2.2.2.2.2.2.2.2.2 h) rfl hb rfl q740 q742 qs6 q94 q743 (by decide) (by decide) ndV_X0_isGuest (Nat.le_of_ble_eq_true rfl) dX0_waited_6 (fun S2 r3 h => ?_)
  refine jr_if_eq C 29 12 rfl dX0_waited_9 (by decide) (fun c8 => ?_) (fun c8 => ?_)
  · have h := h.1 c8
    refine jr_bipush (v := (-2)) C 31 rfl dX0_waited_29 (by decide) ?_
    exact jr_sub [] rfl (wk_X0_waited_31 C  h)
  · have h := h.2 c8
    refine jr_aload_n C 13 rfl dX0_waited_12 rfl 0 rfl ?_
    refine jr_getr C 16 rfl fo_0_4 q232 dX0_waited_13 h (fun v4 h => ?_)
    refine jr_iload_n C 17 rfl dX0_waited_16 rfl 1 rfl ?_
    obtain ⟨⟨V, hb⟩, h⟩ := h
    refine jr_callVr (r0 := (RJ2, TJ2, 3)) (As := [.int x1]) (st := []) C 20 rfl (m_J2_get C.2.2.2.2.2.2.2.2.2.2.2.2.2.2.2 h) rfl hb rfl q702 q703 q704 q99 q705 (by decide) (by decide) ndV_J2_get (Nat.le_of_ble_eq_true rfl) dX0_waited_17 (fun S5 r6 h => ?_)
    obtain ⟨hz, h⟩ := h
    refine jr_cast C 23 rfl (cs := [4]) can_Samovar_Guest (by decide) q213 dX0_waited_20 hz ?_
    refine jr_getiN C 26 rfl fo_4_7 (jx_g q577 rfl) dX0_waited_23 h (fun v7 h => ?_)
    refine jr_goto C 31 dX0_waited_26 (by decide) ?_
    exact jr_sub [] rfl (wk_X0_waited_31 C  h)
theorem m_X0_waited {l : Launch} (hl : l.stackTraces = false) {G : jG} {K : jS → Int32 → Prop} {S : jS} {x0 : Nat} {x1 : Int32} (h : wp_X0_waited S x0 x1 K) : jMet l G d_X0_waited yX0_waited (ws_ yX0_waited cX0_waited 2 (some .int)) [.ref x0, .int x1] S tvi K :=
  jMet.of hl rfl (by decide) (Nat.le_of_ble_eq_true rfl) (fun X C => jr_sub [0, 1] rfl (wk_X0_waited_0 C h))
theorem wk_X0_waters_0 {X : jX} {G : jG} {K : jS → Int32 → Prop} (C : jC (X, G, 1, jA X G tvi K) d_X0_waters cX0_waters "Samovar" (some .int) yX0_waters) {S : jS} {x0 : Nat}  (h : wp_X0_waters S x0 K) : jJ (X, G, 1, jA X G tvi K) S [(0, .ref x0)] 0 [] := by
  unfold wp_X0_waters at h
  refine jr_aload_n C 1 rfl dX0_waters_0 rfl 0 rfl ?_
  obtain ⟨⟨V, hb⟩, h⟩ := h
  refine jr_callVWi (r0 := (RX0, TX0, 24)) (As := []) (st := []) C 4 rfl (m_X0_watersNow C.2.2.2.2.2.2.2.2.2.2.2.2.2.2.2 h) rfl hb rfl q1079 q1081 qs30 q94 q1082 (by decide) (by decide) ndV_X0_watersNow (Nat.le_of_ble_eq_true rfl) dX0_waters_1 (fun S1 r2 h => ?_)
  exact jr_ireturn C dX0_waters_4 h
theorem m_X0_waters {l : Launch} (hl : l.stackTraces = false) {G : jG} {K : jS → Int32 → Prop} {S : jS} {x0 : Nat} (h : wp_X0_waters S x0 K) : jMet l G d_X0_waters yX0_waters (ws_ yX0_waters cX0_waters 1 (some .int)) [.ref x0] S tvi K :=
  jMet.of hl rfl (by decide) (Nat.le_of_ble_eq_true rfl) (fun X C => jr_sub [0] rfl (wk_X0_waters_0 C h))
theorem ndD_Text_wipe_1_2 : ("Samovar$Text" : String) ≠ "java/lang/invoke/MethodHandle" ∧ ("Samovar$Text" : String) ≠ "java/lang/invoke/VarHandle" ∧ (parseMethodDescriptor "()I").map (fun d => d.parameters.length) = some 0 := by decide +kernel
theorem dr_Text_wipe_1_2 {Z : jZ} {d : Nat} {cc : ByteArray} {own : String} {ret : Option FieldType} {y : MethodName} {pc : Nat} {S : jS} {lv : List (Nat × Value)} {st As : List Value} (C : jC Z d cc own ret y) (pc' : Nat) (hp : pc + 3 = pc') {a : Nat}  {K : jS → Int32 → Prop} {stk : List Value} (h : wpD_Text_wipe_1_2 S a  K) (hstk : [].reverse ++ .ref a :: st = stk) {index : Nat} (q1 : Cond.methodLink own index (⟨"Samovar$Text", "wipe", "()I"⟩ : MethodName) ∈ lw_all) (hd : d_D_Text_wipe_1_2 + 1 ≤ d) (hst : (st.map fun v => v.category).sum ≤ 8) (hdg : decode cc pc = .ok (.invokevirtual index, 3)) (kk : ∀ (S1 : jS) (r : Int32), K S1 r → jJ Z S1 lv pc' (.int r :: st)) : jJ Z S lv pc stk := by
  unfold wpD_Text_wipe_1_2 at h
  rcases h with ⟨⟨V, hb⟩, h⟩ | ⟨⟨V, hb⟩, h⟩
  · exact jr_callUi (As := []) (r0 := (RX2, TX2, 6)) (owner := "Samovar$Text") C pc' hp (m_X1_wipe C.2.2.2.2.2.2.2.2.2.2.2.2.2.2.2 h) hstk hb rfl (va_Decl.of (C.2.2.2.2.1 _ q323) (C.2.2.2.2.1 _ q327)) q1 q324 (C.2.2.2.2.1 _ q326) q323 q95 q327 (Nat.le_trans (Nat.le_of_ble_eq_true rfl) hd) (by decide) ndD_Text_wipe_1_2 hst hdg kk
  · exact jr_callUi (As := []) (r0 := (RX3, TX3, 6)) (owner := "Samovar$Text") C pc' hp (m_X1_wipe C.2.2.2.2.2.2.2.2.2.2.2.2.2.2.2 h) hstk hb rfl (va_Decl.of (C.2.2.2.2.1 _ q323) (C.2.2.2.2.1 _ q327)) q1 q324 (C.2.2.2.2.1 _ q325) q323 q95 q327 (Nat.le_trans (Nat.le_of_ble_eq_true rfl) hd) (by decide) ndD_Text_wipe_1_2 hst hdg kk
theorem wk_X0_wipe_21 {X : jX} {G : jG} {K : jS → Int32 → Prop} (C : jC (X, G, 2, jA X G tvi K) d_X0_wipe cX0_wipe "Samovar" (some .int) yX0_wipe) {S : jS} {t0 : Int32}  (h : wp_X0_wipe_21 S t0 K) : jJ (X, G, 2, jA X G tvi K) S [] 21 [.int t0] := by
  unfold wp_X0_wipe_21 at h
  exact jr_ireturn C dX0_wipe_21 h
theorem wk_X0_wipe_0 {X : jX} {G : jG} {K : jS → Int32 → Prop} (C : jC (X, G, 2, jA X G tvi K) d_X0_wipe cX0_wipe "Samovar" (some .int) yX0_wipe) {S : jS} {x0 : Nat} {x1 : Int32}  (h : wp_X0_wipe S x0 x1 K) : jJ (X, G, 2, jA X G tvi K) S [(0, .ref x0), (1, .int x1)] 0 [] := by
  unfold wp_X0_wipe at h
  refine jr_iload_n C 1 rfl dX0_wipe_0 rfl 1 rfl ?_
  refine jr_callSi (As := [.int x1]) (st := []) C 4 rfl (m_X0_isTwo C.2.2.2.2.2.2.2.2.2.2.2.2.2.2.2 h) rfl q305 q306 q94 q307 (by decide) (by decide) nd_X0_isTwo (Nat.le_of_ble_eq_true rfl) dX0_wipe_1 (fun S1 r2 h => ?_)
  refine jr_if_eq C 19 7 rfl dX0_wipe_4 (by decide) (fun c7 => ?_) (fun c7 => ?_)
  · have h := h.1 c7
    refine jr_bipush (v := (-2)) C 21 rfl dX0_wipe_19 (by decide) ?_
    exact jr_sub [] rfl (wk_X0_wipe_21 C  h)
  · have h := h.2 c7
    refine jr_aload_n C 8 rfl dX0_wipe_7 rfl 0 rfl ?_
    refine jr_getr C 11 rfl fo_0_3 q231 dX0_wipe_8 h (fun v3 h => ?_)
    refine jr_iload_n C 12 rfl dX0_wipe_11 rfl 1 rfl ?_
    refine jr_aaldn C 13 rfl (t := 5) rfl rfl dX0_wipe_12 h (fun v4 h => ?_)
    refine dr_Text_wipe_1_2 (As := []) (st := []) C 16 rfl h rfl q322 (by decide) (Nat.le_of_ble_eq_true rfl) dX0_wipe_13 (fun S5 r6 h => ?_)
    refine jr_goto C 21 dX0_wipe_16 (by decide) ?_
    exact jr_sub [] rfl (wk_X0_wipe_21 C  h)
theorem m_X0_wipe {l : Launch} (hl : l.stackTraces = false) {G : jG} {K : jS → Int32 → Prop} {S : jS} {x0 : Nat} {x1 : Int32} (h : wp_X0_wipe S x0 x1 K) : jMet l G d_X0_wipe yX0_wipe (ws_ yX0_wipe cX0_wipe 2 (some .int)) [.ref x0, .int x1] S tvi K :=
  jMet.of hl rfl (by decide) (Nat.le_of_ble_eq_true rfl) (fun X C => jr_sub [0, 1] rfl (wk_X0_wipe_0 C h))
theorem wk_X0_write_19 {X : jX} {G : jG} {K : jS → Int32 → Prop} (C : jC (X, G, 6, jA X G tvi K) d_X0_write cX0_write "Samovar" (some .int) yX0_write) {S : jS}   (h : wp_X0_write_19 S K) : jJ (X, G, 6, jA X G tvi K) S [] 19 [] := by
  unfold wp_X0_write_19 at h
  refine jr_bipush (v := (-2)) C 21 rfl dX0_write_19 (by decide) ?_
  exact jr_ireturn C dX0_write_21 h
theorem wk_X0_write_83 {X : jX} {G : jG} {K : jS → Int32 → Prop} (C : jC (X, G, 6, jA X G tvi K) d_X0_write cX0_write "Samovar" (some .int) yX0_write) {S : jS} {t0 : Nat} {t1 : Int32} {t2 : Int32} {t3 : Int32} {x0 : Nat} {x1 : Int32} {x3 : Nat} {x4 : Int32} {x5 : Int32} {Kc60 : jS × Int32 → Prop} (hc60 : ∀ z : jS × Int32, Kc60 z → jJ (X, G, 6, jA X G tvi K) z.1 [(0, .ref x0), (1, .int x1), (3, .ref x3), (4, .int x4), (5, .int z.2)] 60 []) (h : wp_X0_write_83 S t0 t1 t2 t3 x0 x1 x3 x4 x5 Kc60 K) : jJ (X, G, 6, jA X G tvi K) S [(0, .ref x0), (1, .int x1), (3, .ref x3), (4, .int x4), (5, .int x5)] 83 [.int t3, .int t2, .int t1, .ref t0] := by
  unfold wp_X0_write_83 at h
  obtain ⟨⟨V, hb⟩, h⟩ := h
  refine jr_callXVv (r0 := (RX4, TX4, 1)) (As := [.int t1, .int t2, .int t3]) (st := []) C 86 rfl (m_X4_lay C.2.2.2.2.2.2.2.2.2.2.2.2.2.2.2 h) rfl hb rfl q1220 q1221 q1222 q101 q1223 (by decide) (by decide) ndV_X4_lay (Nat.le_of_ble_eq_true rfl) dX0_write_83 (fun S1 _ h => ?_) (fun _ _ _ h => h.elim)
  refine jr_iinc (v := (x5 + 1)) (lv' := [(5, .int (x5 + 1)), (0, .ref x0), (1, .int x1), (3, .ref x3), (4, .int x4)]) C 89 rfl dX0_write_86 4 rfl rfl (Nat.le_of_ble_eq_true rfl) rfl ?_
  refine jr_goto C 60 dX0_write_89 (by decide) ?_
  exact jr_sub [1, 2, 3, 4, 0] rfl (hc60 _ h)
theorem wk_X0_write_60 {X : jX} {G : jG} {K : jS → Int32 → Prop} (C : jC (X, G, 6, jA X G tvi K) d_X0_write cX0_write "Samovar" (some .int) yX0_write) {S : jS} {x0 : Nat} {x1 : Int32} {x3 : Nat} {x4 : Int32} {x5 : Int32} {Kc60 : jS × Int32 → Prop} (hc60 : ∀ z : jS × Int32, Kc60 z → jJ (X, G, 6, jA X G tvi K) z.1 [(0, .ref x0), (1, .int x1), (3, .ref x3), (4, .int x4), (5, .int z.2)] 60 []) (h : wp_X0_write_60 S x0 x1 x3 x4 x5 Kc60 K) : jJ (X, G, 6, jA X G tvi K) S [(0, .ref x0), (1, .int x1), (3, .ref x3), (4, .int x4), (5, .int x5)] 60 [] := by
  unfold wp_X0_write_60 at h
  refine jr_iload C 62 rfl dX0_write_60 4 rfl ?_
  refine jr_iload C 64 rfl dX0_write_62 3 rfl ?_
  refine jr_icmp_ge C 92 67 rfl dX0_write_64 (by decide) (fun c6 => ?_) (fun c6 => ?_)
  · have h := h.1 c6
    refine jr_iload C 94 rfl dX0_write_92 3 rfl ?_
    exact jr_ireturn C dX0_write_94 h
  · have h := h.2 c6
    refine jr_aload_n C 68 rfl dX0_write_67 rfl 2 rfl ?_
    refine jr_aload_n C 69 rfl dX0_write_68 rfl 2 rfl ?_
    obtain ⟨⟨V, hb⟩, h⟩ := h
    refine jr_callVi (r0 := (RX4, TX4, 1)) (As := []) (st := [.ref x3]) C 72 rfl (m_X4_type C.2.2.2.2.2.2.2.2.2.2.2.2.2.2.2 h) rfl hb rfl q821 q815 q816 q101 q817 (by decide) (by decide) ndV_X4_type (Nat.le_of_ble_eq_true rfl) dX0_write_69 (fun S1 r2 h => ?_)
    refine jr_iload C 74 rfl dX0_write_72 4 rfl ?_
    refine jr_aload_n C 75 rfl dX0_write_74 rfl 0 rfl ?_
    refine jr_getr C 78 rfl fo_0_14 q242 dX0_write_75 h (fun v3 h => ?_)
    refine jr_iload C 80 rfl dX0_write_78 4 rfl ?_
    refine jr_aaldn C 81 rfl (t := 6) rfl rfl dX0_write_80 h (fun v4 h => ?_)
    refine jr_iload_n C 82 rfl dX0_write_81 rfl 1 rfl ?_
    refine jr_iald C 83 rfl dX0_write_82 h (fun v5 h => ?_)
    exact (wk_X0_write_83 C hc60 h)
theorem wk_X0_write_60_L {X : jX} {G : jG} {K : jS → Int32 → Prop} (C : jC (X, G, 6, jA X G tvi K) d_X0_write cX0_write "Samovar" (some .int) yX0_write) {x0 : Nat} {x1 : Int32} {x3 : Nat} {x4 : Int32}  : ∀ (n : Nat) (z : jS × Int32), jlp n (wp_X0_write_60_L x0 x1 x3 x4 K) z → jJ (X, G, 6, jA X G tvi K) z.1 [(0, .ref x0), (1, .int x1), (3, .ref x3), (4, .int x4), (5, .int z.2)] 60 [] := by
  intro n
  induction n with
  | zero => intro z h; exact h.elim
  | succ n ih => intro z h; exact wk_X0_write_60 C ih h
theorem wk_X0_write_0 {X : jX} {G : jG} {K : jS → Int32 → Prop} (C : jC (X, G, 6, jA X G tvi K) d_X0_write cX0_write "Samovar" (some .int) yX0_write) {S : jS} {x0 : Nat} {x1 : Int32} {x2 : Int32}  (h : wp_X0_write S x0 x1 x2 K) : jJ (X, G, 6, jA X G tvi K) S [(0, .ref x0), (1, .int x1), (2, .int x2)] 0 [] := by
  unfold wp_X0_write at h
  refine jr_iload_n C 1 rfl dX0_write_0 rfl 1 rfl ?_
  refine jr_i2l C 2 rfl dX0_write_1 ?_
  refine jr_lconst (v := 0) C 3 rfl dX0_write_2 (by decide) ?_
  refine jr_ldc2 (v := 2) C 6 rfl dX0_write_3 q701 ?_
  refine jr_callSi (As := [.long ((x1 : Int32).toInt64), .long 0, .long 2]) (st := []) C 9 rfl (m_X0_in C.2.2.2.2.2.2.2.2.2.2.2.2.2.2.2 h) rfl q308 q309 q94 q310 (by decide) (by decide) nd_X0_in (Nat.le_of_ble_eq_true rfl) dX0_write_6 (fun S1 r2 h => ?_)
  refine jr_if_eq C 19 12 rfl dX0_write_9 (by decide) (fun c18 => ?_) (fun c18 => ?_)
  · have h := h.1 c18
    exact jr_sub [] rfl (wk_X0_write_19 C  h)
  · have h := h.2 c18
    refine jr_iload_n C 13 rfl dX0_write_12 rfl 2 rfl ?_
    refine jr_callSi (As := [.int x2]) (st := []) C 16 rfl (m_X0_isSheet C.2.2.2.2.2.2.2.2.2.2.2.2.2.2.2 h) rfl q802 q803 q94 q804 (by decide) (by decide) nd_X0_isSheet (Nat.le_of_ble_eq_true rfl) dX0_write_13 (fun S3 r4 h => ?_)
    refine jr_if_ne C 22 19 rfl dX0_write_16 (by decide) (fun c17 => ?_) (fun c17 => ?_)
    · have h := h.1 c17
      exact jr_sub [] rfl (wk_X0_write_19 C  h)
    · have h := h.2 c17
      refine jr_aload_n C 23 rfl dX0_write_22 rfl 0 rfl ?_
      refine jr_getr C 26 rfl fo_0_23 q251 dX0_write_23 h (fun v5 h => ?_)
      refine jr_iload_n C 27 rfl dX0_write_26 rfl 2 rfl ?_
      refine jr_aaldn C 28 rfl (t := 9) rfl rfl dX0_write_27 h (fun v6 h => ?_)
      refine jr_astore_n (lv' := [(3, .ref v6), (0, .ref x0), (1, .int x1), (2, .int x2)]) C 29 rfl dX0_write_28 rfl (Nat.le_of_ble_eq_true rfl) rfl ?_
      refine jr_aload_n C 30 rfl dX0_write_29 rfl 0 rfl ?_
      refine jr_getoN C 33 rfl fo_6_0 (jx_g q223 rfl) dX0_write_30 h (fun v7 h => ?_)
      refine jr_ifnonnull (x := v7) C 42 36 rfl dX0_write_33 (by decide) (fun c16 => ?_) (fun c16 => ?_)
      · have h := h.1 c16
        refine jr_aload_n C 37 rfl dX0_write_36 rfl 1 rfl ?_
        refine jr_iconst (v := 1) C 38 rfl dX0_write_37 (by decide) ?_
        obtain ⟨⟨V, hb⟩, h⟩ := h
        refine jr_callVi (r0 := (RX0, TX0, 24)) (As := [.int 1]) (st := []) C 41 rfl (m_X0_met C.2.2.2.2.2.2.2.2.2.2.2.2.2.2.2 h) rfl hb rfl q806 q808 qs9 q94 q809 (by decide) (by decide) ndV_X0_met (Nat.le_of_ble_eq_true rfl) dX0_write_38 (fun S8 r9 h => ?_)
        exact jr_ireturn C dX0_write_41 h
      · obtain ⟨a10, c16⟩ := Option.ne_none_iff_exists'.mp c16
        replace h := h.2 a10 c16
        subst c16
        refine jr_aload_n C 43 rfl dX0_write_42 rfl 1 rfl ?_
        obtain ⟨⟨V, hb⟩, h⟩ := h
        refine jr_callVv (r0 := (RX0, TX0, 24)) (As := []) (st := []) C 46 rfl (m_X0_find C.2.2.2.2.2.2.2.2.2.2.2.2.2.2.2 h) rfl hb rfl q831 q833 qs10 q94 q834 (by decide) (by decide) ndV_X0_find (Nat.le_of_ble_eq_true rfl) dX0_write_43 (fun S11 _ h => ?_)
        refine jr_bipush (v := 24) C 48 rfl dX0_write_46 (by decide) ?_
        refine jr_aload_n C 49 rfl dX0_write_48 rfl 0 rfl ?_
        obtain ⟨⟨V, hb⟩, h⟩ := h
        refine jr_callVi (r0 := (RX4, TX4, 1)) (As := []) (st := [.int 24]) C 52 rfl (m_X4_size C.2.2.2.2.2.2.2.2.2.2.2.2.2.2.2 h) rfl hb rfl q810 q811 q812 q101 q813 (by decide) (by decide) ndV_X4_size (Nat.le_of_ble_eq_true rfl) dX0_write_49 (fun S12 r13 h => ?_)
        refine jr_callSi (As := [.int 24, .int r13]) (st := []) C 55 rfl (m_J7_min C.2.2.2.2.2.2.2.2.2.2.2.2.2.2.2 h) rfl q852 q489 q108 q490 (by decide) (by decide) nd_J7_min (Nat.le_of_ble_eq_true rfl) dX0_write_52 (fun S14 r15 h => ?_)
        refine jr_istore (lv' := [(4, .int r15), (3, .ref v6), (0, .ref x0), (1, .int x1), (2, .int x2)]) C 57 rfl dX0_write_55 (Nat.le_of_ble_eq_true rfl) rfl ?_
        refine jr_iconst (v := 0) C 58 rfl dX0_write_57 (by decide) ?_
        refine jr_istore (lv' := [(5, .int 0), (4, .int r15), (3, .ref v6), (0, .ref x0), (1, .int x1), (2, .int x2)]) C 60 rfl dX0_write_58 (Nat.le_of_ble_eq_true rfl) rfl ?_
        obtain ⟨n, h⟩ := h
        exact jr_sub [3, 4, 2, 1, 0] rfl (wk_X0_write_60_L C  n _ h)
theorem m_X0_write {l : Launch} (hl : l.stackTraces = false) {G : jG} {K : jS → Int32 → Prop} {S : jS} {x0 : Nat} {x1 : Int32} {x2 : Int32} (h : wp_X0_write S x0 x1 x2 K) : jMet l G d_X0_write yX0_write (ws_ yX0_write cX0_write 6 (some .int)) [.ref x0, .int x1, .int x2] S tvi K :=
  jMet.of hl rfl (by decide) (Nat.le_of_ble_eq_true rfl) (fun X C => jr_sub [0, 1, 2] rfl (wk_X0_write_0 C h))
