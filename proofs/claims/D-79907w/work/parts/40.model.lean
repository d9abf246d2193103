theorem fo_8_0 : jFO [8] 0 "SamovarModel" "typed" "[I" (.array .int) true := jFO.one (T := TX5) (by decide) rfl in_X5 tyX5_ok nmX5 (by decide) rfl (tyX5_ok 0 (by decide)) (fun _ _ _ _ h => h)
theorem fo_8_0_d : ∀ c ∈ ([8] : List Nat), ∀ r : vw_C, jcl[c]? = some r → (r.2.1 0).1 = "SamovarModel" := jdecl1 rfl rfl
theorem fo_8_1 : jFO [8] 1 "SamovarModel" "texts" "[I" (.array .int) true := jFO.one (T := TX5) (by decide) rfl in_X5 tyX5_ok nmX5 (by decide) rfl (tyX5_ok 1 (by decide)) (fun _ _ _ _ h => h)
theorem fo_8_1_d : ∀ c ∈ ([8] : List Nat), ∀ r : vw_C, jcl[c]? = some r → (r.2.1 1).1 = "SamovarModel" := jdecl1 rfl rfl
theorem fo_8_10 : jFO [8] 10 "SamovarModel" "waterTold" "I" (.int) false := jFO.one (T := TX5) (by decide) rfl in_X5 tyX5_ok nmX5 (by decide) rfl (tyX5_ok 10 (by decide)) (fun _ _ _ _ h => h)
theorem fo_8_11 : jFO [8] 11 "SamovarModel" "brewTold" "I" (.int) false := jFO.one (T := TX5) (by decide) rfl in_X5 tyX5_ok nmX5 (by decide) rfl (tyX5_ok 11 (by decide)) (fun _ _ _ _ h => h)
theorem fo_8_12 : jFO [8] 12 "SamovarModel" "events" "I" (.int) false := jFO.one (T := TX5) (by decide) rfl in_X5 tyX5_ok nmX5 (by decide) rfl (tyX5_ok 12 (by decide)) (fun _ _ _ _ h => h)
theorem fo_8_13 : jFO [8] 13 "SamovarModel" "eventKind" "[I" (.array .int) true := jFO.one (T := TX5) (by decide) rfl in_X5 tyX5_ok nmX5 (by decide) rfl (tyX5_ok 13 (by decide)) (fun _ _ _ _ h => h)
theorem fo_8_13_d : ∀ c ∈ ([8] : List Nat), ∀ r : vw_C, jcl[c]? = some r → (r.2.1 13).1 = "SamovarModel" := jdecl1 rfl rfl
theorem fo_8_14 : jFO [8] 14 "SamovarModel" "eventAt" "[I" (.array .int) true := jFO.one (T := TX5) (by decide) rfl in_X5 tyX5_ok nmX5 (by decide) rfl (tyX5_ok 14 (by decide)) (fun _ _ _ _ h => h)
theorem fo_8_14_d : ∀ c ∈ ([8] : List Nat), ∀ r : vw_C, jcl[c]? = some r → (r.2.1 14).1 = "SamovarModel" := jdecl1 rfl rfl
theorem fo_8_15 : jFO [8] 15 "SamovarModel" "eventNumber" "[I" (.array .int) true := jFO.one (T := TX5) (by decide) rfl in_X5 tyX5_ok nmX5 (by decide) rfl (tyX5_ok 15 (by decide)) (fun _ _ _ _ h => h)
theorem fo_8_15_d : ∀ c ∈ ([8] : List Nat), ∀ r : vw_C, jcl[c]? = some r → (r.2.1 15).1 = "SamovarModel" := jdecl1 rfl rfl
theorem fo_8_16 : jFO [8] 16 "SamovarModel" "guestsNow" "I" (.int) false := jFO.one (T := TX5) (by decide) rfl in_X5 tyX5_ok nmX5 (by decide) rfl (tyX5_ok 16 (by decide)) (fun _ _ _ _ h => h)
theorem fo_8_17 : jFO [8] 17 "SamovarModel" "comeNow" "[I" (.array .int) true := jFO.one (T := TX5) (by decide) rfl in_X5 tyX5_ok nmX5 (by decide) rfl (tyX5_ok 17 (by decide)) (fun _ _ _ _ h => h)
theorem fo_8_17_d : ∀ c ∈ ([8] : List Nat), ∀ r : vw_C, jcl[c]? = some r → (r.2.1 17).1 = "SamovarModel" := jdecl1 rfl rfl
theorem fo_8_18 : jFO [8] 18 "SamovarModel" "darkNow" "[I" (.array .int) true := jFO.one (T := TX5) (by decide) rfl in_X5 tyX5_ok nmX5 (by decide) rfl (tyX5_ok 18 (by decide)) (fun _ _ _ _ h => h)
theorem fo_8_18_d : ∀ c ∈ ([8] : List Nat), ∀ r : vw_C, jcl[c]? = some r → (r.2.1 18).1 = "SamovarModel" := jdecl1 rfl rfl
theorem fo_8_19 : jFO [8] 19 "SamovarModel" "allNow" "[I" (.array .int) true := jFO.one (T := TX5) (by decide) rfl in_X5 tyX5_ok nmX5 (by decide) rfl (tyX5_ok 19 (by decide)) (fun _ _ _ _ h => h)
theorem fo_8_19_d : ∀ c ∈ ([8] : List Nat), ∀ r : vw_C, jcl[c]? = some r → (r.2.1 19).1 = "SamovarModel" := jdecl1 rfl rfl
theorem fo_8_2 : jFO [8] 2 "SamovarModel" "pieces" "I" (.int) false := jFO.one (T := TX5) (by decide) rfl in_X5 tyX5_ok nmX5 (by decide) rfl (tyX5_ok 2 (by decide)) (fun _ _ _ _ h => h)
theorem fo_8_20 : jFO [8] 20 "SamovarModel" "waterNow" "I" (.int) false := jFO.one (T := TX5) (by decide) rfl in_X5 tyX5_ok nmX5 (by decide) rfl (tyX5_ok 20 (by decide)) (fun _ _ _ _ h => h)
theorem fo_8_21 : jFO [8] 21 "SamovarModel" "notEvents" "I" (.int) false := jFO.one (T := TX5) (by decide) rfl in_X5 tyX5_ok nmX5 (by decide) rfl (tyX5_ok 21 (by decide)) (fun _ _ _ _ h => h)
theorem fo_8_22 : jFO [8] 22 "SamovarModel" "heat" "I" (.int) false := jFO.one (T := TX5) (by decide) rfl in_X5 tyX5_ok nmX5 (by decide) rfl (tyX5_ok 22 (by decide)) (fun _ _ _ _ h => h)
theorem fo_8_23 : jFO [8] 23 "SamovarModel" "water" "I" (.int) false := jFO.one (T := TX5) (by decide) rfl in_X5 tyX5_ok nmX5 (by decide) rfl (tyX5_ok 23 (by decide)) (fun _ _ _ _ h => h)
theorem fo_8_24 : jFO [8] 24 "SamovarModel" "brew" "I" (.int) false := jFO.one (T := TX5) (by decide) rfl in_X5 tyX5_ok nmX5 (by decide) rfl (tyX5_ok 24 (by decide)) (fun _ _ _ _ h => h)
theorem fo_8_25 : jFO [8] 25 "SamovarModel" "boot" "I" (.int) false := jFO.one (T := TX5) (by decide) rfl in_X5 tyX5_ok nmX5 (by decide) rfl (tyX5_ok 25 (by decide)) (fun _ _ _ _ h => h)
theorem fo_8_26 : jFO [8] 26 "SamovarModel" "steamed" "I" (.int) false := jFO.one (T := TX5) (by decide) rfl in_X5 tyX5_ok nmX5 (by decide) rfl (tyX5_ok 26 (by decide)) (fun _ _ _ _ h => h)
theorem fo_8_27 : jFO [8] 27 "SamovarModel" "boiled" "I" (.int) false := jFO.one (T := TX5) (by decide) rfl in_X5 tyX5_ok nmX5 (by decide) rfl (tyX5_ok 27 (by decide)) (fun _ _ _ _ h => h)
theorem fo_8_28 : jFO [8] 28 "SamovarModel" "firstBoil" "I" (.int) false := jFO.one (T := TX5) (by decide) rfl in_X5 tyX5_ok nmX5 (by decide) rfl (tyX5_ok 28 (by decide)) (fun _ _ _ _ h => h)
theorem fo_8_29 : jFO [8] 29 "SamovarModel" "lineMany" "I" (.int) false := jFO.one (T := TX5) (by decide) rfl in_X5 tyX5_ok nmX5 (by decide) rfl (tyX5_ok 29 (by decide)) (fun _ _ _ _ h => h)
theorem fo_8_3 : jFO [8] 3 "SamovarModel" "pieceAt" "[I" (.array .int) true := jFO.one (T := TX5) (by decide) rfl in_X5 tyX5_ok nmX5 (by decide) rfl (tyX5_ok 3 (by decide)) (fun _ _ _ _ h => h)
theorem fo_8_3_d : ∀ c ∈ ([8] : List Nat), ∀ r : vw_C, jcl[c]? = some r → (r.2.1 3).1 = "SamovarModel" := jdecl1 rfl rfl
theorem fo_8_30 : jFO [8] 30 "SamovarModel" "line" "[I" (.array .int) true := jFO.one (T := TX5) (by decide) rfl in_X5 tyX5_ok nmX5 (by decide) rfl (tyX5_ok 30 (by decide)) (fun _ _ _ _ h => h)
theorem fo_8_30_d : ∀ c ∈ ([8] : List Nat), ∀ r : vw_C, jcl[c]? = some r → (r.2.1 30).1 = "SamovarModel" := jdecl1 rfl rfl
theorem fo_8_31 : jFO [8] 31 "SamovarModel" "state" "[I" (.array .int) true := jFO.one (T := TX5) (by decide) rfl in_X5 tyX5_ok nmX5 (by decide) rfl (tyX5_ok 31 (by decide)) (fun _ _ _ _ h => h)
theorem fo_8_31_d : ∀ c ∈ ([8] : List Nat), ∀ r : vw_C, jcl[c]? = some r → (r.2.1 31).1 = "SamovarModel" := jdecl1 rfl rfl
theorem fo_8_32 : jFO [8] 32 "SamovarModel" "had" "[I" (.array .int) true := jFO.one (T := TX5) (by decide) rfl in_X5 tyX5_ok nmX5 (by decide) rfl (tyX5_ok 32 (by decide)) (fun _ _ _ _ h => h)
theorem fo_8_32_d : ∀ c ∈ ([8] : List Nat), ∀ r : vw_C, jcl[c]? = some r → (r.2.1 32).1 = "SamovarModel" := jdecl1 rfl rfl
theorem fo_8_33 : jFO [8] 33 "SamovarModel" "backAt" "[I" (.array .int) true := jFO.one (T := TX5) (by decide) rfl in_X5 tyX5_ok nmX5 (by decide) rfl (tyX5_ok 33 (by decide)) (fun _ _ _ _ h => h)
theorem fo_8_33_d : ∀ c ∈ ([8] : List Nat), ∀ r : vw_C, jcl[c]? = some r → (r.2.1 33).1 = "SamovarModel" := jdecl1 rfl rfl
theorem fo_8_34 : jFO [8] 34 "SamovarModel" "since" "[I" (.array .int) true := jFO.one (T := TX5) (by decide) rfl in_X5 tyX5_ok nmX5 (by decide) rfl (tyX5_ok 34 (by decide)) (fun _ _ _ _ h => h)
theorem fo_8_34_d : ∀ c ∈ ([8] : List Nat), ∀ r : vw_C, jcl[c]? = some r → (r.2.1 34).1 = "SamovarModel" := jdecl1 rfl rfl
theorem fo_8_35 : jFO [8] 35 "SamovarModel" "waits" "[I" (.array .int) true := jFO.one (T := TX5) (by decide) rfl in_X5 tyX5_ok nmX5 (by decide) rfl (tyX5_ok 35 (by decide)) (fun _ _ _ _ h => h)
theorem fo_8_35_d : ∀ c ∈ ([8] : List Nat), ∀ r : vw_C, jcl[c]? = some r → (r.2.1 35).1 = "SamovarModel" := jdecl1 rfl rfl
theorem fo_8_36 : jFO [8] 36 "SamovarModel" "tells" "[I" (.array .int) true := jFO.one (T := TX5) (by decide) rfl in_X5 tyX5_ok nmX5 (by decide) rfl (tyX5_ok 36 (by decide)) (fun _ _ _ _ h => h)
theorem fo_8_36_d : ∀ c ∈ ([8] : List Nat), ∀ r : vw_C, jcl[c]? = some r → (r.2.1 36).1 = "SamovarModel" := jdecl1 rfl rfl
theorem fo_8_37 : jFO [8] 37 "SamovarModel" "lineAt" "[I" (.array .int) true := jFO.one (T := TX5) (by decide) rfl in_X5 tyX5_ok nmX5 (by decide) rfl (tyX5_ok 37 (by decide)) (fun _ _ _ _ h => h)
theorem fo_8_37_d : ∀ c ∈ ([8] : List Nat), ∀ r : vw_C, jcl[c]? = some r → (r.2.1 37).1 = "SamovarModel" := jdecl1 rfl rfl
theorem fo_8_38 : jFO [8] 38 "SamovarModel" "stateAt" "[I" (.array .int) true := jFO.one (T := TX5) (by decide) rfl in_X5 tyX5_ok nmX5 (by decide) rfl (tyX5_ok 38 (by decide)) (fun _ _ _ _ h => h)
theorem fo_8_38_d : ∀ c ∈ ([8] : List Nat), ∀ r : vw_C, jcl[c]? = some r → (r.2.1 38).1 = "SamovarModel" := jdecl1 rfl rfl
theorem fo_8_39 : jFO [8] 39 "SamovarModel" "hadAt" "[I" (.array .int) true := jFO.one (T := TX5) (by decide) rfl in_X5 tyX5_ok nmX5 (by decide) rfl (tyX5_ok 39 (by decide)) (fun _ _ _ _ h => h)
theorem fo_8_39_d : ∀ c ∈ ([8] : List Nat), ∀ r : vw_C, jcl[c]? = some r → (r.2.1 39).1 = "SamovarModel" := jdecl1 rfl rfl
theorem fo_8_4 : jFO [8] 4 "SamovarModel" "pieceKind" "[I" (.array .int) true := jFO.one (T := TX5) (by decide) rfl in_X5 tyX5_ok nmX5 (by decide) rfl (tyX5_ok 4 (by decide)) (fun _ _ _ _ h => h)
theorem fo_8_4_d : ∀ c ∈ ([8] : List Nat), ∀ r : vw_C, jcl[c]? = some r → (r.2.1 4).1 = "SamovarModel" := jdecl1 rfl rfl
theorem fo_8_40 : jFO [8] 40 "SamovarModel" "bestNow" "I" (.int) false := jFO.one (T := TX5) (by decide) rfl in_X5 tyX5_ok nmX5 (by decide) rfl (tyX5_ok 40 (by decide)) (fun _ _ _ _ h => h)
theorem fo_8_41 : jFO [8] 41 "SamovarModel" "mostNow" "I" (.int) false := jFO.one (T := TX5) (by decide) rfl in_X5 tyX5_ok nmX5 (by decide) rfl (tyX5_ok 41 (by decide)) (fun _ _ _ _ h => h)
theorem fo_8_42 : jFO [8] 42 "SamovarModel" "planRow" "[I" (.array .int) true := jFO.one (T := TX5) (by decide) rfl in_X5 tyX5_ok nmX5 (by decide) rfl (tyX5_ok 42 (by decide)) (fun _ _ _ _ h => h)
theorem fo_8_42_d : ∀ c ∈ ([8] : List Nat), ∀ r : vw_C, jcl[c]? = some r → (r.2.1 42).1 = "SamovarModel" := jdecl1 rfl rfl
theorem fo_8_43 : jFO [8] 43 "SamovarModel" "seens" "I" (.int) false := jFO.one (T := TX5) (by decide) rfl in_X5 tyX5_ok nmX5 (by decide) rfl (tyX5_ok 43 (by decide)) (fun _ _ _ _ h => h)
theorem fo_8_44 : jFO [8] 44 "SamovarModel" "seenAt" "[I" (.array .int) true := jFO.one (T := TX5) (by decide) rfl in_X5 tyX5_ok nmX5 (by decide) rfl (tyX5_ok 44 (by decide)) (fun _ _ _ _ h => h)
theorem fo_8_44_d : ∀ c ∈ ([8] : List Nat), ∀ r : vw_C, jcl[c]? = some r → (r.2.1 44).1 = "SamovarModel" := jdecl1 rfl rfl
theorem fo_8_45 : jFO [8] 45 "SamovarModel" "seenIs" "[I" (.array .int) true := jFO.one (T := TX5) (by decide) rfl in_X5 tyX5_ok nmX5 (by decide) rfl (tyX5_ok 45 (by decide)) (fun _ _ _ _ h => h)
theorem fo_8_45_d : ∀ c ∈ ([8] : List Nat), ∀ r : vw_C, jcl[c]? = some r → (r.2.1 45).1 = "SamovarModel" := jdecl1 rfl rfl
theorem fo_8_46 : jFO [8] 46 "SamovarModel" "boilsBy" "[I" (.array .int) true := jFO.one (T := TX5) (by decide) rfl in_X5 tyX5_ok nmX5 (by decide) rfl (tyX5_ok 46 (by decide)) (fun _ _ _ _ h => h)
theorem fo_8_46_d : ∀ c ∈ ([8] : List Nat), ∀ r : vw_C, jcl[c]? = some r → (r.2.1 46).1 = "SamovarModel" := jdecl1 rfl rfl
theorem fo_8_47 : jFO [8] 47 "SamovarModel" "isThere" "[Z" (.array .boolean) true := jFO.one (T := TX5) (by decide) rfl in_X5 tyX5_ok nmX5 (by decide) rfl (tyX5_ok 47 (by decide)) (fun _ _ _ _ h => h)
theorem fo_8_47_d : ∀ c ∈ ([8] : List Nat), ∀ r : vw_C, jcl[c]? = some r → (r.2.1 47).1 = "SamovarModel" := jdecl1 rfl rfl
theorem fo_8_48 : jFO [8] 48 "SamovarModel" "forms" "[I" (.array .int) true := jFO.one (T := TX5) (by decide) rfl in_X5 tyX5_ok nmX5 (by decide) rfl (tyX5_ok 48 (by decide)) (fun _ _ _ _ h => h)
theorem fo_8_48_d : ∀ c ∈ ([8] : List Nat), ∀ r : vw_C, jcl[c]? = some r → (r.2.1 48).1 = "SamovarModel" := jdecl1 rfl rfl
theorem fo_8_49 : jFO [8] 49 "SamovarModel" "sizes" "[I" (.array .int) true := jFO.one (T := TX5) (by decide) rfl in_X5 tyX5_ok nmX5 (by decide) rfl (tyX5_ok 49 (by decide)) (fun _ _ _ _ h => h)
theorem fo_8_49_d : ∀ c ∈ ([8] : List Nat), ∀ r : vw_C, jcl[c]? = some r → (r.2.1 49).1 = "SamovarModel" := jdecl1 rfl rfl
theorem fo_8_5 : jFO [8] 5 "SamovarModel" "pieceMany" "[I" (.array .int) true := jFO.one (T := TX5) (by decide) rfl in_X5 tyX5_ok nmX5 (by decide) rfl (tyX5_ok 5 (by decide)) (fun _ _ _ _ h => h)
theorem fo_8_5_d : ∀ c ∈ ([8] : List Nat), ∀ r : vw_C, jcl[c]? = some r → (r.2.1 5).1 = "SamovarModel" := jdecl1 rfl rfl
theorem fo_8_50 : jFO [8] 50 "SamovarModel" "items" "[I" (.array .int) true := jFO.one (T := TX5) (by decide) rfl in_X5 tyX5_ok nmX5 (by decide) rfl (tyX5_ok 50 (by decide)) (fun _ _ _ _ h => h)
theorem fo_8_50_d : ∀ c ∈ ([8] : List Nat), ∀ r : vw_C, jcl[c]? = some r → (r.2.1 50).1 = "SamovarModel" := jdecl1 rfl rfl
theorem fo_8_51 : jFO [8] 51 "SamovarModel" "moved" "[I" (.array .int) true := jFO.one (T := TX5) (by decide) rfl in_X5 tyX5_ok nmX5 (by decide) rfl (tyX5_ok 51 (by decide)) (fun _ _ _ _ h => h)
theorem fo_8_51_d : ∀ c ∈ ([8] : List Nat), ∀ r : vw_C, jcl[c]? = some r → (r.2.1 51).1 = "SamovarModel" := jdecl1 rfl rfl
theorem fo_8_52 : jFO [8] 52 "SamovarModel" "finding" "I" (.int) false := jFO.one (T := TX5) (by decide) rfl in_X5 tyX5_ok nmX5 (by decide) rfl (tyX5_ok 52 (by decide)) (fun _ _ _ _ h => h)
theorem fo_8_6 : jFO [8] 6 "SamovarModel" "guests" "I" (.int) false := jFO.one (T := TX5) (by decide) rfl in_X5 tyX5_ok nmX5 (by decide) rfl (tyX5_ok 6 (by decide)) (fun _ _ _ _ h => h)
theorem fo_8_7 : jFO [8] 7 "SamovarModel" "guestAt" "[I" (.array .int) true := jFO.one (T := TX5) (by decide) rfl in_X5 tyX5_ok nmX5 (by decide) rfl (tyX5_ok 7 (by decide)) (fun _ _ _ _ h => h)
theorem fo_8_7_d : ∀ c ∈ ([8] : List Nat), ∀ r : vw_C, jcl[c]? = some r → (r.2.1 7).1 = "SamovarModel" := jdecl1 rfl rfl
theorem fo_8_8 : jFO [8] 8 "SamovarModel" "guestDark" "[I" (.array .int) true := jFO.one (T := TX5) (by decide) rfl in_X5 tyX5_ok nmX5 (by decide) rfl (tyX5_ok 8 (by decide)) (fun _ _ _ _ h => h)
theorem fo_8_8_d : ∀ c ∈ ([8] : List Nat), ∀ r : vw_C, jcl[c]? = some r → (r.2.1 8).1 = "SamovarModel" := jdecl1 rfl rfl
theorem fo_8_9 : jFO [8] 9 "SamovarModel" "guestAll" "[I" (.array .int) true := jFO.one (T := TX5) (by decide) rfl in_X5 tyX5_ok nmX5 (by decide) rfl (tyX5_ok 9 (by decide)) (fun _ _ _ _ h => h)
theorem fo_8_9_d : ∀ c ∈ ([8] : List Nat), ∀ r : vw_C, jcl[c]? = some r → (r.2.1 9).1 = "SamovarModel" := jdecl1 rfl rfl
theorem nd_X5_asTold : yX5_asTold.cls ≠ "java/lang/invoke/MethodHandle" ∧ yX5_asTold.cls ≠ "java/lang/invoke/VarHandle" ∧ (parseMethodDescriptor yX5_asTold.desc).map (fun d => d.parameters.length) = some 0 := by decide +kernel
theorem ndV_X5_asTold : yX5_asTold.cls = ((RX5, TX5, 53) : vw_C).1 ∧ yX5_asTold.cls ≠ "java/lang/invoke/MethodHandle" ∧ yX5_asTold.cls ≠ "java/lang/invoke/VarHandle" ∧ (parseMethodDescriptor yX5_asTold.desc).map (fun d => d.parameters.length) = some 0 := ⟨rfl, nd_X5_asTold⟩
theorem nd_X5_askOf : yX5_askOf.cls ≠ "java/lang/invoke/MethodHandle" ∧ yX5_askOf.cls ≠ "java/lang/invoke/VarHandle" ∧ (parseMethodDescriptor yX5_askOf.desc).map (fun d => d.parameters.length) = some 0 := by decide +kernel
theorem ndV_X5_askOf : yX5_askOf.cls = ((RX5, TX5, 53) : vw_C).1 ∧ yX5_askOf.cls ≠ "java/lang/invoke/MethodHandle" ∧ yX5_askOf.cls ≠ "java/lang/invoke/VarHandle" ∧ (parseMethodDescriptor yX5_askOf.desc).map (fun d => d.parameters.length) = some 0 := ⟨rfl, nd_X5_askOf⟩
theorem nd_X5_atOf : yX5_atOf.cls ≠ "java/lang/invoke/MethodHandle" ∧ yX5_atOf.cls ≠ "java/lang/invoke/VarHandle" ∧ (parseMethodDescriptor yX5_atOf.desc).map (fun d => d.parameters.length) = some 2 := by decide +kernel
theorem ndV_X5_atOf : yX5_atOf.cls = ((RX5, TX5, 53) : vw_C).1 ∧ yX5_atOf.cls ≠ "java/lang/invoke/MethodHandle" ∧ yX5_atOf.cls ≠ "java/lang/invoke/VarHandle" ∧ (parseMethodDescriptor yX5_atOf.desc).map (fun d => d.parameters.length) = some 2 := ⟨rfl, nd_X5_atOf⟩
theorem nd_X5_befalls : yX5_befalls.cls ≠ "java/lang/invoke/MethodHandle" ∧ yX5_befalls.cls ≠ "java/lang/invoke/VarHandle" ∧ (parseMethodDescriptor yX5_befalls.desc).map (fun d => d.parameters.length) = some 1 := by decide +kernel
theorem ndV_X5_befalls : yX5_befalls.cls = ((RX5, TX5, 53) : vw_C).1 ∧ yX5_befalls.cls ≠ "java/lang/invoke/MethodHandle" ∧ yX5_befalls.cls ≠ "java/lang/invoke/VarHandle" ∧ (parseMethodDescriptor yX5_befalls.desc).map (fun d => d.parameters.length) = some 1 := ⟨rfl, nd_X5_befalls⟩
theorem nd_X5_betterOf : yX5_betterOf.cls ≠ "java/lang/invoke/MethodHandle" ∧ yX5_betterOf.cls ≠ "java/lang/invoke/VarHandle" ∧ (parseMethodDescriptor yX5_betterOf.desc).map (fun d => d.parameters.length) = some 2 := by decide +kernel
theorem ndV_X5_betterOf : yX5_betterOf.cls = ((RX5, TX5, 53) : vw_C).1 ∧ yX5_betterOf.cls ≠ "java/lang/invoke/MethodHandle" ∧ yX5_betterOf.cls ≠ "java/lang/invoke/VarHandle" ∧ (parseMethodDescriptor yX5_betterOf.desc).map (fun d => d.parameters.length) = some 2 := ⟨rfl, nd_X5_betterOf⟩
theorem nd_X5_byteAt : yX5_byteAt.cls ≠ "java/lang/invoke/MethodHandle" ∧ yX5_byteAt.cls ≠ "java/lang/invoke/VarHandle" ∧ (parseMethodDescriptor yX5_byteAt.desc).map (fun d => d.parameters.length) = some 2 := by decide +kernel
theorem ndV_X5_byteAt : yX5_byteAt.cls = ((RX5, TX5, 53) : vw_C).1 ∧ yX5_byteAt.cls ≠ "java/lang/invoke/MethodHandle" ∧ yX5_byteAt.cls ≠ "java/lang/invoke/VarHandle" ∧ (parseMethodDescriptor yX5_byteAt.desc).map (fun d => d.parameters.length) = some 2 := ⟨rfl, nd_X5_byteAt⟩
theorem nd_X5_chanceOf : yX5_chanceOf.cls ≠ "java/lang/invoke/MethodHandle" ∧ yX5_chanceOf.cls ≠ "java/lang/invoke/VarHandle" ∧ (parseMethodDescriptor yX5_chanceOf.desc).map (fun d => d.parameters.length) = some 3 := by decide +kernel
theorem ndV_X5_chanceOf : yX5_chanceOf.cls = ((RX5, TX5, 53) : vw_C).1 ∧ yX5_chanceOf.cls ≠ "java/lang/invoke/MethodHandle" ∧ yX5_chanceOf.cls ≠ "java/lang/invoke/VarHandle" ∧ (parseMethodDescriptor yX5_chanceOf.desc).map (fun d => d.parameters.length) = some 3 := ⟨rfl, nd_X5_chanceOf⟩
theorem nd_X5_comeOf : yX5_comeOf.cls ≠ "java/lang/invoke/MethodHandle" ∧ yX5_comeOf.cls ≠ "java/lang/invoke/VarHandle" ∧ (parseMethodDescriptor yX5_comeOf.desc).map (fun d => d.parameters.length) = some 2 := by decide +kernel
theorem ndV_X5_comeOf : yX5_comeOf.cls = ((RX5, TX5, 53) : vw_C).1 ∧ yX5_comeOf.cls ≠ "java/lang/invoke/MethodHandle" ∧ yX5_comeOf.cls ≠ "java/lang/invoke/VarHandle" ∧ (parseMethodDescriptor yX5_comeOf.desc).map (fun d => d.parameters.length) = some 2 := ⟨rfl, nd_X5_comeOf⟩
theorem nd_X5_comes : yX5_comes.cls ≠ "java/lang/invoke/MethodHandle" ∧ yX5_comes.cls ≠ "java/lang/invoke/VarHandle" ∧ (parseMethodDescriptor yX5_comes.desc).map (fun d => d.parameters.length) = some 1 := by decide +kernel
theorem ndV_X5_comes : yX5_comes.cls = ((RX5, TX5, 53) : vw_C).1 ∧ yX5_comes.cls ≠ "java/lang/invoke/MethodHandle" ∧ yX5_comes.cls ≠ "java/lang/invoke/VarHandle" ∧ (parseMethodDescriptor yX5_comes.desc).map (fun d => d.parameters.length) = some 1 := ⟨rfl, nd_X5_comes⟩
theorem nd_X5_count : yX5_count.cls ≠ "java/lang/invoke/MethodHandle" ∧ yX5_count.cls ≠ "java/lang/invoke/VarHandle" ∧ (parseMethodDescriptor yX5_count.desc).map (fun d => d.parameters.length) = some 1 := by decide +kernel
theorem ndV_X5_count : yX5_count.cls = ((RX5, TX5, 53) : vw_C).1 ∧ yX5_count.cls ≠ "java/lang/invoke/MethodHandle" ∧ yX5_count.cls ≠ "java/lang/invoke/VarHandle" ∧ (parseMethodDescriptor yX5_count.desc).map (fun d => d.parameters.length) = some 1 := ⟨rfl, nd_X5_count⟩
theorem nd_X5_drunkNow : yX5_drunkNow.cls ≠ "java/lang/invoke/MethodHandle" ∧ yX5_drunkNow.cls ≠ "java/lang/invoke/VarHandle" ∧ (parseMethodDescriptor yX5_drunkNow.desc).map (fun d => d.parameters.length) = some 0 := by decide +kernel
theorem ndV_X5_drunkNow : yX5_drunkNow.cls = ((RX5, TX5, 53) : vw_C).1 ∧ yX5_drunkNow.cls ≠ "java/lang/invoke/MethodHandle" ∧ yX5_drunkNow.cls ≠ "java/lang/invoke/VarHandle" ∧ (parseMethodDescriptor yX5_drunkNow.desc).map (fun d => d.parameters.length) = some 0 := ⟨rfl, nd_X5_drunkNow⟩
theorem nd_X5_eveningsOf : yX5_eveningsOf.cls ≠ "java/lang/invoke/MethodHandle" ∧ yX5_eveningsOf.cls ≠ "java/lang/invoke/VarHandle" ∧ (parseMethodDescriptor yX5_eveningsOf.desc).map (fun d => d.parameters.length) = some 3 := by decide +kernel
theorem ndV_X5_eveningsOf : yX5_eveningsOf.cls = ((RX5, TX5, 53) : vw_C).1 ∧ yX5_eveningsOf.cls ≠ "java/lang/invoke/MethodHandle" ∧ yX5_eveningsOf.cls ≠ "java/lang/invoke/VarHandle" ∧ (parseMethodDescriptor yX5_eveningsOf.desc).map (fun d => d.parameters.length) = some 3 := ⟨rfl, nd_X5_eveningsOf⟩
theorem nd_X5_event : yX5_event.cls ≠ "java/lang/invoke/MethodHandle" ∧ yX5_event.cls ≠ "java/lang/invoke/VarHandle" ∧ (parseMethodDescriptor yX5_event.desc).map (fun d => d.parameters.length) = some 3 := by decide +kernel
theorem ndV_X5_event : yX5_event.cls = ((RX5, TX5, 53) : vw_C).1 ∧ yX5_event.cls ≠ "java/lang/invoke/MethodHandle" ∧ yX5_event.cls ≠ "java/lang/invoke/VarHandle" ∧ (parseMethodDescriptor yX5_event.desc).map (fun d => d.parameters.length) = some 3 := ⟨rfl, nd_X5_event⟩
theorem nd_X5_faultOf : yX5_faultOf.cls ≠ "java/lang/invoke/MethodHandle" ∧ yX5_faultOf.cls ≠ "java/lang/invoke/VarHandle" ∧ (parseMethodDescriptor yX5_faultOf.desc).map (fun d => d.parameters.length) = some 1 := by decide +kernel
theorem ndV_X5_faultOf : yX5_faultOf.cls = ((RX5, TX5, 53) : vw_C).1 ∧ yX5_faultOf.cls ≠ "java/lang/invoke/MethodHandle" ∧ yX5_faultOf.cls ≠ "java/lang/invoke/VarHandle" ∧ (parseMethodDescriptor yX5_faultOf.desc).map (fun d => d.parameters.length) = some 1 := ⟨rfl, nd_X5_faultOf⟩
theorem nd_X5_fillOf : yX5_fillOf.cls ≠ "java/lang/invoke/MethodHandle" ∧ yX5_fillOf.cls ≠ "java/lang/invoke/VarHandle" ∧ (parseMethodDescriptor yX5_fillOf.desc).map (fun d => d.parameters.length) = some 1 := by decide +kernel
theorem ndV_X5_fillOf : yX5_fillOf.cls = ((RX5, TX5, 53) : vw_C).1 ∧ yX5_fillOf.cls ≠ "java/lang/invoke/MethodHandle" ∧ yX5_fillOf.cls ≠ "java/lang/invoke/VarHandle" ∧ (parseMethodDescriptor yX5_fillOf.desc).map (fun d => d.parameters.length) = some 1 := ⟨rfl, nd_X5_fillOf⟩
theorem nd_X5_fireAt : yX5_fireAt.cls ≠ "java/lang/invoke/MethodHandle" ∧ yX5_fireAt.cls ≠ "java/lang/invoke/VarHandle" ∧ (parseMethodDescriptor yX5_fireAt.desc).map (fun d => d.parameters.length) = some 1 := by decide +kernel
theorem ndV_X5_fireAt : yX5_fireAt.cls = ((RX5, TX5, 53) : vw_C).1 ∧ yX5_fireAt.cls ≠ "java/lang/invoke/MethodHandle" ∧ yX5_fireAt.cls ≠ "java/lang/invoke/VarHandle" ∧ (parseMethodDescriptor yX5_fireAt.desc).map (fun d => d.parameters.length) = some 1 := ⟨rfl, nd_X5_fireAt⟩
theorem nd_X5_firstOf : yX5_firstOf.cls ≠ "java/lang/invoke/MethodHandle" ∧ yX5_firstOf.cls ≠ "java/lang/invoke/VarHandle" ∧ (parseMethodDescriptor yX5_firstOf.desc).map (fun d => d.parameters.length) = some 0 := by decide +kernel
theorem ndV_X5_firstOf : yX5_firstOf.cls = ((RX5, TX5, 53) : vw_C).1 ∧ yX5_firstOf.cls ≠ "java/lang/invoke/MethodHandle" ∧ yX5_firstOf.cls ≠ "java/lang/invoke/VarHandle" ∧ (parseMethodDescriptor yX5_firstOf.desc).map (fun d => d.parameters.length) = some 0 := ⟨rfl, nd_X5_firstOf⟩
theorem nd_X5_goAway : yX5_goAway.cls ≠ "java/lang/invoke/MethodHandle" ∧ yX5_goAway.cls ≠ "java/lang/invoke/VarHandle" ∧ (parseMethodDescriptor yX5_goAway.desc).map (fun d => d.parameters.length) = some 1 := by decide +kernel
theorem ndV_X5_goAway : yX5_goAway.cls = ((RX5, TX5, 53) : vw_C).1 ∧ yX5_goAway.cls ≠ "java/lang/invoke/MethodHandle" ∧ yX5_goAway.cls ≠ "java/lang/invoke/VarHandle" ∧ (parseMethodDescriptor yX5_goAway.desc).map (fun d => d.parameters.length) = some 1 := ⟨rfl, nd_X5_goAway⟩
theorem nd_X5_goesBy : yX5_goesBy.cls ≠ "java/lang/invoke/MethodHandle" ∧ yX5_goesBy.cls ≠ "java/lang/invoke/VarHandle" ∧ (parseMethodDescriptor yX5_goesBy.desc).map (fun d => d.parameters.length) = some 1 := by decide +kernel
theorem ndV_X5_goesBy : yX5_goesBy.cls = ((RX5, TX5, 53) : vw_C).1 ∧ yX5_goesBy.cls ≠ "java/lang/invoke/MethodHandle" ∧ yX5_goesBy.cls ≠ "java/lang/invoke/VarHandle" ∧ (parseMethodDescriptor yX5_goesBy.desc).map (fun d => d.parameters.length) = some 1 := ⟨rfl, nd_X5_goesBy⟩
theorem nd_X5_guestDigest : yX5_guestDigest.cls ≠ "java/lang/invoke/MethodHandle" ∧ yX5_guestDigest.cls ≠ "java/lang/invoke/VarHandle" ∧ (parseMethodDescriptor yX5_guestDigest.desc).map (fun d => d.parameters.length) = some 2 := by decide +kernel
theorem ndV_X5_guestDigest : yX5_guestDigest.cls = ((RX5, TX5, 53) : vw_C).1 ∧ yX5_guestDigest.cls ≠ "java/lang/invoke/MethodHandle" ∧ yX5_guestDigest.cls ≠ "java/lang/invoke/VarHandle" ∧ (parseMethodDescriptor yX5_guestDigest.desc).map (fun d => d.parameters.length) = some 2 := ⟨rfl, nd_X5_guestDigest⟩
theorem nd_X5_guestOf : yX5_guestOf.cls ≠ "java/lang/invoke/MethodHandle" ∧ yX5_guestOf.cls ≠ "java/lang/invoke/VarHandle" ∧ (parseMethodDescriptor yX5_guestOf.desc).map (fun d => d.parameters.length) = some 2 := by decide +kernel
theorem ndV_X5_guestOf : yX5_guestOf.cls = ((RX5, TX5, 53) : vw_C).1 ∧ yX5_guestOf.cls ≠ "java/lang/invoke/MethodHandle" ∧ yX5_guestOf.cls ≠ "java/lang/invoke/VarHandle" ∧ (parseMethodDescriptor yX5_guestOf.desc).map (fun d => d.parameters.length) = some 2 := ⟨rfl, nd_X5_guestOf⟩
theorem nd_X5_hottestOf : yX5_hottestOf.cls ≠ "java/lang/invoke/MethodHandle" ∧ yX5_hottestOf.cls ≠ "java/lang/invoke/VarHandle" ∧ (parseMethodDescriptor yX5_hottestOf.desc).map (fun d => d.parameters.length) = some 1 := by decide +kernel
theorem ndV_X5_hottestOf : yX5_hottestOf.cls = ((RX5, TX5, 53) : vw_C).1 ∧ yX5_hottestOf.cls ≠ "java/lang/invoke/MethodHandle" ∧ yX5_hottestOf.cls ≠ "java/lang/invoke/VarHandle" ∧ (parseMethodDescriptor yX5_hottestOf.desc).map (fun d => d.parameters.length) = some 1 := ⟨rfl, nd_X5_hottestOf⟩
theorem nd_X5_in : yX5_in.cls ≠ "java/lang/invoke/MethodHandle" ∧ yX5_in.cls ≠ "java/lang/invoke/VarHandle" ∧ (parseMethodDescriptor yX5_in.desc).map (fun d => d.parameters.length) = some 3 := by decide +kernel
theorem nd_X5_isDigest : yX5_isDigest.cls ≠ "java/lang/invoke/MethodHandle" ∧ yX5_isDigest.cls ≠ "java/lang/invoke/VarHandle" ∧ (parseMethodDescriptor yX5_isDigest.desc).map (fun d => d.parameters.length) = some 3 := by decide +kernel
theorem ndV_X5_isDigest : yX5_isDigest.cls = ((RX5, TX5, 53) : vw_C).1 ∧ yX5_isDigest.cls ≠ "java/lang/invoke/MethodHandle" ∧ yX5_isDigest.cls ≠ "java/lang/invoke/VarHandle" ∧ (parseMethodDescriptor yX5_isDigest.desc).map (fun d => d.parameters.length) = some 3 := ⟨rfl, nd_X5_isDigest⟩
theorem nd_X5_isGuest : yX5_isGuest.cls ≠ "java/lang/invoke/MethodHandle" ∧ yX5_isGuest.cls ≠ "java/lang/invoke/VarHandle" ∧ (parseMethodDescriptor yX5_isGuest.desc).map (fun d => d.parameters.length) = some 1 := by decide +kernel
theorem ndV_X5_isGuest : yX5_isGuest.cls = ((RX5, TX5, 53) : vw_C).1 ∧ yX5_isGuest.cls ≠ "java/lang/invoke/MethodHandle" ∧ yX5_isGuest.cls ≠ "java/lang/invoke/VarHandle" ∧ (parseMethodDescriptor yX5_isGuest.desc).map (fun d => d.parameters.length) = some 1 := ⟨rfl, nd_X5_isGuest⟩
theorem nd_X5_isIn : yX5_isIn.cls ≠ "java/lang/invoke/MethodHandle" ∧ yX5_isIn.cls ≠ "java/lang/invoke/VarHandle" ∧ (parseMethodDescriptor yX5_isIn.desc).map (fun d => d.parameters.length) = some 2 := by decide +kernel
theorem nd_X5_isMinute : yX5_isMinute.cls ≠ "java/lang/invoke/MethodHandle" ∧ yX5_isMinute.cls ≠ "java/lang/invoke/VarHandle" ∧ (parseMethodDescriptor yX5_isMinute.desc).map (fun d => d.parameters.length) = some 1 := by decide +kernel
theorem nd_X5_isOf : yX5_isOf.cls ≠ "java/lang/invoke/MethodHandle" ∧ yX5_isOf.cls ≠ "java/lang/invoke/VarHandle" ∧ (parseMethodDescriptor yX5_isOf.desc).map (fun d => d.parameters.length) = some 3 := by decide +kernel
theorem ndV_X5_isOf : yX5_isOf.cls = ((RX5, TX5, 53) : vw_C).1 ∧ yX5_isOf.cls ≠ "java/lang/invoke/MethodHandle" ∧ yX5_isOf.cls ≠ "java/lang/invoke/VarHandle" ∧ (parseMethodDescriptor yX5_isOf.desc).map (fun d => d.parameters.length) = some 3 := ⟨rfl, nd_X5_isOf⟩
theorem nd_X5_isPiece : yX5_isPiece.cls ≠ "java/lang/invoke/MethodHandle" ∧ yX5_isPiece.cls ≠ "java/lang/invoke/VarHandle" ∧ (parseMethodDescriptor yX5_isPiece.desc).map (fun d => d.parameters.length) = some 1 := by decide +kernel
theorem ndV_X5_isPiece : yX5_isPiece.cls = ((RX5, TX5, 53) : vw_C).1 ∧ yX5_isPiece.cls ≠ "java/lang/invoke/MethodHandle" ∧ yX5_isPiece.cls ≠ "java/lang/invoke/VarHandle" ∧ (parseMethodDescriptor yX5_isPiece.desc).map (fun d => d.parameters.length) = some 1 := ⟨rfl, nd_X5_isPiece⟩
theorem nd_X5_isSeen : yX5_isSeen.cls ≠ "java/lang/invoke/MethodHandle" ∧ yX5_isSeen.cls ≠ "java/lang/invoke/VarHandle" ∧ (parseMethodDescriptor yX5_isSeen.desc).map (fun d => d.parameters.length) = some 0 := by decide +kernel
theorem ndV_X5_isSeen : yX5_isSeen.cls = ((RX5, TX5, 53) : vw_C).1 ∧ yX5_isSeen.cls ≠ "java/lang/invoke/MethodHandle" ∧ yX5_isSeen.cls ≠ "java/lang/invoke/VarHandle" ∧ (parseMethodDescriptor yX5_isSeen.desc).map (fun d => d.parameters.length) = some 0 := ⟨rfl, nd_X5_isSeen⟩
theorem nd_X5_isSheet : yX5_isSheet.cls ≠ "java/lang/invoke/MethodHandle" ∧ yX5_isSheet.cls ≠ "java/lang/invoke/VarHandle" ∧ (parseMethodDescriptor yX5_isSheet.desc).map (fun d => d.parameters.length) = some 1 := by decide +kernel
theorem nd_X5_isSpared : yX5_isSpared.cls ≠ "java/lang/invoke/MethodHandle" ∧ yX5_isSpared.cls ≠ "java/lang/invoke/VarHandle" ∧ (parseMethodDescriptor yX5_isSpared.desc).map (fun d => d.parameters.length) = some 1 := by decide +kernel
theorem ndV_X5_isSpared : yX5_isSpared.cls = ((RX5, TX5, 53) : vw_C).1 ∧ yX5_isSpared.cls ≠ "java/lang/invoke/MethodHandle" ∧ yX5_isSpared.cls ≠ "java/lang/invoke/VarHandle" ∧ (parseMethodDescriptor yX5_isSpared.desc).map (fun d => d.parameters.length) = some 1 := ⟨rfl, nd_X5_isSpared⟩
theorem nd_X5_isThree : yX5_isThree.cls ≠ "java/lang/invoke/MethodHandle" ∧ yX5_isThree.cls ≠ "java/lang/invoke/VarHandle" ∧ (parseMethodDescriptor yX5_isThree.desc).map (fun d => d.parameters.length) = some 1 := by decide +kernel
theorem nd_X5_isTwo : yX5_isTwo.cls ≠ "java/lang/invoke/MethodHandle" ∧ yX5_isTwo.cls ≠ "java/lang/invoke/VarHandle" ∧ (parseMethodDescriptor yX5_isTwo.desc).map (fun d => d.parameters.length) = some 1 := by decide +kernel
theorem nd_X5_joins : yX5_joins.cls ≠ "java/lang/invoke/MethodHandle" ∧ yX5_joins.cls ≠ "java/lang/invoke/VarHandle" ∧ (parseMethodDescriptor yX5_joins.desc).map (fun d => d.parameters.length) = some 2 := by decide +kernel
theorem ndV_X5_joins : yX5_joins.cls = ((RX5, TX5, 53) : vw_C).1 ∧ yX5_joins.cls ≠ "java/lang/invoke/MethodHandle" ∧ yX5_joins.cls ≠ "java/lang/invoke/VarHandle" ∧ (parseMethodDescriptor yX5_joins.desc).map (fun d => d.parameters.length) = some 2 := ⟨rfl, nd_X5_joins⟩
theorem nd_X5_keep : yX5_keep.cls ≠ "java/lang/invoke/MethodHandle" ∧ yX5_keep.cls ≠ "java/lang/invoke/VarHandle" ∧ (parseMethodDescriptor yX5_keep.desc).map (fun d => d.parameters.length) = some 3 := by decide +kernel
theorem ndV_X5_keep : yX5_keep.cls = ((RX5, TX5, 53) : vw_C).1 ∧ yX5_keep.cls ≠ "java/lang/invoke/MethodHandle" ∧ yX5_keep.cls ≠ "java/lang/invoke/VarHandle" ∧ (parseMethodDescriptor yX5_keep.desc).map (fun d => d.parameters.length) = some 3 := ⟨rfl, nd_X5_keep⟩
theorem nd_X5_kindsBy : yX5_kindsBy.cls ≠ "java/lang/invoke/MethodHandle" ∧ yX5_kindsBy.cls ≠ "java/lang/invoke/VarHandle" ∧ (parseMethodDescriptor yX5_kindsBy.desc).map (fun d => d.parameters.length) = some 1 := by decide +kernel
theorem ndV_X5_kindsBy : yX5_kindsBy.cls = ((RX5, TX5, 53) : vw_C).1 ∧ yX5_kindsBy.cls ≠ "java/lang/invoke/MethodHandle" ∧ yX5_kindsBy.cls ≠ "java/lang/invoke/VarHandle" ∧ (parseMethodDescriptor yX5_kindsBy.desc).map (fun d => d.parameters.length) = some 1 := ⟨rfl, nd_X5_kindsBy⟩
theorem nd_X5_lacks : yX5_lacks.cls ≠ "java/lang/invoke/MethodHandle" ∧ yX5_lacks.cls ≠ "java/lang/invoke/VarHandle" ∧ (parseMethodDescriptor yX5_lacks.desc).map (fun d => d.parameters.length) = some 3 := by decide +kernel
theorem ndV_X5_lacks : yX5_lacks.cls = ((RX5, TX5, 53) : vw_C).1 ∧ yX5_lacks.cls ≠ "java/lang/invoke/MethodHandle" ∧ yX5_lacks.cls ≠ "java/lang/invoke/VarHandle" ∧ (parseMethodDescriptor yX5_lacks.desc).map (fun d => d.parameters.length) = some 3 := ⟨rfl, nd_X5_lacks⟩
theorem nd_X5_leaves : yX5_leaves.cls ≠ "java/lang/invoke/MethodHandle" ∧ yX5_leaves.cls ≠ "java/lang/invoke/VarHandle" ∧ (parseMethodDescriptor yX5_leaves.desc).map (fun d => d.parameters.length) = some 1 := by decide +kernel
theorem ndV_X5_leaves : yX5_leaves.cls = ((RX5, TX5, 53) : vw_C).1 ∧ yX5_leaves.cls ≠ "java/lang/invoke/MethodHandle" ∧ yX5_leaves.cls ≠ "java/lang/invoke/VarHandle" ∧ (parseMethodDescriptor yX5_leaves.desc).map (fun d => d.parameters.length) = some 1 := ⟨rfl, nd_X5_leaves⟩
theorem nd_X5_less : yX5_less.cls ≠ "java/lang/invoke/MethodHandle" ∧ yX5_less.cls ≠ "java/lang/invoke/VarHandle" ∧ (parseMethodDescriptor yX5_less.desc).map (fun d => d.parameters.length) = some 2 := by decide +kernel
theorem nd_X5_lineOf : yX5_lineOf.cls ≠ "java/lang/invoke/MethodHandle" ∧ yX5_lineOf.cls ≠ "java/lang/invoke/VarHandle" ∧ (parseMethodDescriptor yX5_lineOf.desc).map (fun d => d.parameters.length) = some 1 := by decide +kernel
theorem ndV_X5_lineOf : yX5_lineOf.cls = ((RX5, TX5, 53) : vw_C).1 ∧ yX5_lineOf.cls ≠ "java/lang/invoke/MethodHandle" ∧ yX5_lineOf.cls ≠ "java/lang/invoke/VarHandle" ∧ (parseMethodDescriptor yX5_lineOf.desc).map (fun d => d.parameters.length) = some 1 := ⟨rfl, nd_X5_lineOf⟩
theorem nd_X5_lowest : yX5_lowest.cls ≠ "java/lang/invoke/MethodHandle" ∧ yX5_lowest.cls ≠ "java/lang/invoke/VarHandle" ∧ (parseMethodDescriptor yX5_lowest.desc).map (fun d => d.parameters.length) = some 3 := by decide +kernel
theorem nd_X5_many : yX5_many.cls ≠ "java/lang/invoke/MethodHandle" ∧ yX5_many.cls ≠ "java/lang/invoke/VarHandle" ∧ (parseMethodDescriptor yX5_many.desc).map (fun d => d.parameters.length) = some 1 := by decide +kernel
theorem nd_X5_manyOf : yX5_manyOf.cls ≠ "java/lang/invoke/MethodHandle" ∧ yX5_manyOf.cls ≠ "java/lang/invoke/VarHandle" ∧ (parseMethodDescriptor yX5_manyOf.desc).map (fun d => d.parameters.length) = some 1 := by decide +kernel
theorem ndV_X5_manyOf : yX5_manyOf.cls = ((RX5, TX5, 53) : vw_C).1 ∧ yX5_manyOf.cls ≠ "java/lang/invoke/MethodHandle" ∧ yX5_manyOf.cls ≠ "java/lang/invoke/VarHandle" ∧ (parseMethodDescriptor yX5_manyOf.desc).map (fun d => d.parameters.length) = some 1 := ⟨rfl, nd_X5_manyOf⟩
theorem nd_X5_meets : yX5_meets.cls ≠ "java/lang/invoke/MethodHandle" ∧ yX5_meets.cls ≠ "java/lang/invoke/VarHandle" ∧ (parseMethodDescriptor yX5_meets.desc).map (fun d => d.parameters.length) = some 1 := by decide +kernel
theorem ndV_X5_meets : yX5_meets.cls = ((RX5, TX5, 53) : vw_C).1 ∧ yX5_meets.cls ≠ "java/lang/invoke/MethodHandle" ∧ yX5_meets.cls ≠ "java/lang/invoke/VarHandle" ∧ (parseMethodDescriptor yX5_meets.desc).map (fun d => d.parameters.length) = some 1 := ⟨rfl, nd_X5_meets⟩
theorem nd_X5_neverNow : yX5_neverNow.cls ≠ "java/lang/invoke/MethodHandle" ∧ yX5_neverNow.cls ≠ "java/lang/invoke/VarHandle" ∧ (parseMethodDescriptor yX5_neverNow.desc).map (fun d => d.parameters.length) = some 0 := by decide +kernel
theorem ndV_X5_neverNow : yX5_neverNow.cls = ((RX5, TX5, 53) : vw_C).1 ∧ yX5_neverNow.cls ≠ "java/lang/invoke/MethodHandle" ∧ yX5_neverNow.cls ≠ "java/lang/invoke/VarHandle" ∧ (parseMethodDescriptor yX5_neverNow.desc).map (fun d => d.parameters.length) = some 0 := ⟨rfl, nd_X5_neverNow⟩
theorem nd_X5_no : yX5_no.cls ≠ "java/lang/invoke/MethodHandle" ∧ yX5_no.cls ≠ "java/lang/invoke/VarHandle" ∧ (parseMethodDescriptor yX5_no.desc).map (fun d => d.parameters.length) = some 1 := by decide +kernel
theorem nd_X5_ofRow : yX5_ofRow.cls ≠ "java/lang/invoke/MethodHandle" ∧ yX5_ofRow.cls ≠ "java/lang/invoke/VarHandle" ∧ (parseMethodDescriptor yX5_ofRow.desc).map (fun d => d.parameters.length) = some 2 := by decide +kernel
theorem ndV_X5_ofRow : yX5_ofRow.cls = ((RX5, TX5, 53) : vw_C).1 ∧ yX5_ofRow.cls ≠ "java/lang/invoke/MethodHandle" ∧ yX5_ofRow.cls ≠ "java/lang/invoke/VarHandle" ∧ (parseMethodDescriptor yX5_ofRow.desc).map (fun d => d.parameters.length) = some 2 := ⟨rfl, nd_X5_ofRow⟩
theorem nd_X5_pieceDigest : yX5_pieceDigest.cls ≠ "java/lang/invoke/MethodHandle" ∧ yX5_pieceDigest.cls ≠ "java/lang/invoke/VarHandle" ∧ (parseMethodDescriptor yX5_pieceDigest.desc).map (fun d => d.parameters.length) = some 2 := by decide +kernel
theorem ndV_X5_pieceDigest : yX5_pieceDigest.cls = ((RX5, TX5, 53) : vw_C).1 ∧ yX5_pieceDigest.cls ≠ "java/lang/invoke/MethodHandle" ∧ yX5_pieceDigest.cls ≠ "java/lang/invoke/VarHandle" ∧ (parseMethodDescriptor yX5_pieceDigest.desc).map (fun d => d.parameters.length) = some 2 := ⟨rfl, nd_X5_pieceDigest⟩
theorem nd_X5_pieceOf : yX5_pieceOf.cls ≠ "java/lang/invoke/MethodHandle" ∧ yX5_pieceOf.cls ≠ "java/lang/invoke/VarHandle" ∧ (parseMethodDescriptor yX5_pieceOf.desc).map (fun d => d.parameters.length) = some 2 := by decide +kernel
theorem ndV_X5_pieceOf : yX5_pieceOf.cls = ((RX5, TX5, 53) : vw_C).1 ∧ yX5_pieceOf.cls ≠ "java/lang/invoke/MethodHandle" ∧ yX5_pieceOf.cls ≠ "java/lang/invoke/VarHandle" ∧ (parseMethodDescriptor yX5_pieceOf.desc).map (fun d => d.parameters.length) = some 2 := ⟨rfl, nd_X5_pieceOf⟩
theorem nd_X5_reads : yX5_reads.cls ≠ "java/lang/invoke/MethodHandle" ∧ yX5_reads.cls ≠ "java/lang/invoke/VarHandle" ∧ (parseMethodDescriptor yX5_reads.desc).map (fun d => d.parameters.length) = some 0 := by decide +kernel
theorem ndV_X5_reads : yX5_reads.cls = ((RX5, TX5, 53) : vw_C).1 ∧ yX5_reads.cls ≠ "java/lang/invoke/MethodHandle" ∧ yX5_reads.cls ≠ "java/lang/invoke/VarHandle" ∧ (parseMethodDescriptor yX5_reads.desc).map (fun d => d.parameters.length) = some 0 := ⟨rfl, nd_X5_reads⟩
theorem nd_X5_readsPart : yX5_readsPart.cls ≠ "java/lang/invoke/MethodHandle" ∧ yX5_readsPart.cls ≠ "java/lang/invoke/VarHandle" ∧ (parseMethodDescriptor yX5_readsPart.desc).map (fun d => d.parameters.length) = some 3 := by decide +kernel
theorem ndV_X5_readsPart : yX5_readsPart.cls = ((RX5, TX5, 53) : vw_C).1 ∧ yX5_readsPart.cls ≠ "java/lang/invoke/MethodHandle" ∧ yX5_readsPart.cls ≠ "java/lang/invoke/VarHandle" ∧ (parseMethodDescriptor yX5_readsPart.desc).map (fun d => d.parameters.length) = some 3 := ⟨rfl, nd_X5_readsPart⟩
theorem nd_X5_readsText : yX5_readsText.cls ≠ "java/lang/invoke/MethodHandle" ∧ yX5_readsText.cls ≠ "java/lang/invoke/VarHandle" ∧ (parseMethodDescriptor yX5_readsText.desc).map (fun d => d.parameters.length) = some 1 := by decide +kernel
theorem ndV_X5_readsText : yX5_readsText.cls = ((RX5, TX5, 53) : vw_C).1 ∧ yX5_readsText.cls ≠ "java/lang/invoke/MethodHandle" ∧ yX5_readsText.cls ≠ "java/lang/invoke/VarHandle" ∧ (parseMethodDescriptor yX5_readsText.desc).map (fun d => d.parameters.length) = some 1 := ⟨rfl, nd_X5_readsText⟩
theorem nd_X5_runs : yX5_runs.cls ≠ "java/lang/invoke/MethodHandle" ∧ yX5_runs.cls ≠ "java/lang/invoke/VarHandle" ∧ (parseMethodDescriptor yX5_runs.desc).map (fun d => d.parameters.length) = some 0 := by decide +kernel
theorem ndV_X5_runs : yX5_runs.cls = ((RX5, TX5, 53) : vw_C).1 ∧ yX5_runs.cls ≠ "java/lang/invoke/MethodHandle" ∧ yX5_runs.cls ≠ "java/lang/invoke/VarHandle" ∧ (parseMethodDescriptor yX5_runs.desc).map (fun d => d.parameters.length) = some 0 := ⟨rfl, nd_X5_runs⟩
theorem nd_X5_runsTold : yX5_runsTold.cls ≠ "java/lang/invoke/MethodHandle" ∧ yX5_runsTold.cls ≠ "java/lang/invoke/VarHandle" ∧ (parseMethodDescriptor yX5_runsTold.desc).map (fun d => d.parameters.length) = some 0 := by decide +kernel
theorem ndV_X5_runsTold : yX5_runsTold.cls = ((RX5, TX5, 53) : vw_C).1 ∧ yX5_runsTold.cls ≠ "java/lang/invoke/MethodHandle" ∧ yX5_runsTold.cls ≠ "java/lang/invoke/VarHandle" ∧ (parseMethodDescriptor yX5_runsTold.desc).map (fun d => d.parameters.length) = some 0 := ⟨rfl, nd_X5_runsTold⟩
theorem nd_X5_serves : yX5_serves.cls ≠ "java/lang/invoke/MethodHandle" ∧ yX5_serves.cls ≠ "java/lang/invoke/VarHandle" ∧ (parseMethodDescriptor yX5_serves.desc).map (fun d => d.parameters.length) = some 1 := by decide +kernel
theorem ndV_X5_serves : yX5_serves.cls = ((RX5, TX5, 53) : vw_C).1 ∧ yX5_serves.cls ≠ "java/lang/invoke/MethodHandle" ∧ yX5_serves.cls ≠ "java/lang/invoke/VarHandle" ∧ (parseMethodDescriptor yX5_serves.desc).map (fun d => d.parameters.length) = some 1 := ⟨rfl, nd_X5_serves⟩
theorem nd_X5_spareBy : yX5_spareBy.cls ≠ "java/lang/invoke/MethodHandle" ∧ yX5_spareBy.cls ≠ "java/lang/invoke/VarHandle" ∧ (parseMethodDescriptor yX5_spareBy.desc).map (fun d => d.parameters.length) = some 0 := by decide +kernel
theorem ndV_X5_spareBy : yX5_spareBy.cls = ((RX5, TX5, 53) : vw_C).1 ∧ yX5_spareBy.cls ≠ "java/lang/invoke/MethodHandle" ∧ yX5_spareBy.cls ≠ "java/lang/invoke/VarHandle" ∧ (parseMethodDescriptor yX5_spareBy.desc).map (fun d => d.parameters.length) = some 0 := ⟨rfl, nd_X5_spareBy⟩
theorem nd_X5_starts : yX5_starts.cls ≠ "java/lang/invoke/MethodHandle" ∧ yX5_starts.cls ≠ "java/lang/invoke/VarHandle" ∧ (parseMethodDescriptor yX5_starts.desc).map (fun d => d.parameters.length) = some 0 := by decide +kernel
theorem ndV_X5_starts : yX5_starts.cls = ((RX5, TX5, 53) : vw_C).1 ∧ yX5_starts.cls ≠ "java/lang/invoke/MethodHandle" ∧ yX5_starts.cls ≠ "java/lang/invoke/VarHandle" ∧ (parseMethodDescriptor yX5_starts.desc).map (fun d => d.parameters.length) = some 0 := ⟨rfl, nd_X5_starts⟩
theorem nd_X5_sumOf : yX5_sumOf.cls ≠ "java/lang/invoke/MethodHandle" ∧ yX5_sumOf.cls ≠ "java/lang/invoke/VarHandle" ∧ (parseMethodDescriptor yX5_sumOf.desc).map (fun d => d.parameters.length) = some 1 := by decide +kernel
theorem ndV_X5_sumOf : yX5_sumOf.cls = ((RX5, TX5, 53) : vw_C).1 ∧ yX5_sumOf.cls ≠ "java/lang/invoke/MethodHandle" ∧ yX5_sumOf.cls ≠ "java/lang/invoke/VarHandle" ∧ (parseMethodDescriptor yX5_sumOf.desc).map (fun d => d.parameters.length) = some 1 := ⟨rfl, nd_X5_sumOf⟩
theorem nd_X5_tellOf : yX5_tellOf.cls ≠ "java/lang/invoke/MethodHandle" ∧ yX5_tellOf.cls ≠ "java/lang/invoke/VarHandle" ∧ (parseMethodDescriptor yX5_tellOf.desc).map (fun d => d.parameters.length) = some 1 := by decide +kernel
theorem ndV_X5_tellOf : yX5_tellOf.cls = ((RX5, TX5, 53) : vw_C).1 ∧ yX5_tellOf.cls ≠ "java/lang/invoke/MethodHandle" ∧ yX5_tellOf.cls ≠ "java/lang/invoke/VarHandle" ∧ (parseMethodDescriptor yX5_tellOf.desc).map (fun d => d.parameters.length) = some 1 := ⟨rfl, nd_X5_tellOf⟩
theorem nd_X5_thirstOf : yX5_thirstOf.cls ≠ "java/lang/invoke/MethodHandle" ∧ yX5_thirstOf.cls ≠ "java/lang/invoke/VarHandle" ∧ (parseMethodDescriptor yX5_thirstOf.desc).map (fun d => d.parameters.length) = some 0 := by decide +kernel
theorem ndV_X5_thirstOf : yX5_thirstOf.cls = ((RX5, TX5, 53) : vw_C).1 ∧ yX5_thirstOf.cls ≠ "java/lang/invoke/MethodHandle" ∧ yX5_thirstOf.cls ≠ "java/lang/invoke/VarHandle" ∧ (parseMethodDescriptor yX5_thirstOf.desc).map (fun d => d.parameters.length) = some 0 := ⟨rfl, nd_X5_thirstOf⟩
theorem nd_X5_tries : yX5_tries.cls ≠ "java/lang/invoke/MethodHandle" ∧ yX5_tries.cls ≠ "java/lang/invoke/VarHandle" ∧ (parseMethodDescriptor yX5_tries.desc).map (fun d => d.parameters.length) = some 1 := by decide +kernel
theorem ndV_X5_tries : yX5_tries.cls = ((RX5, TX5, 53) : vw_C).1 ∧ yX5_tries.cls ≠ "java/lang/invoke/MethodHandle" ∧ yX5_tries.cls ≠ "java/lang/invoke/VarHandle" ∧ (parseMethodDescriptor yX5_tries.desc).map (fun d => d.parameters.length) = some 1 := ⟨rfl, nd_X5_tries⟩
theorem nd_X5_waitedOf : yX5_waitedOf.cls ≠ "java/lang/invoke/MethodHandle" ∧ yX5_waitedOf.cls ≠ "java/lang/invoke/VarHandle" ∧ (parseMethodDescriptor yX5_waitedOf.desc).map (fun d => d.parameters.length) = some 1 := by decide +kernel
theorem ndV_X5_waitedOf : yX5_waitedOf.cls = ((RX5, TX5, 53) : vw_C).1 ∧ yX5_waitedOf.cls ≠ "java/lang/invoke/MethodHandle" ∧ yX5_waitedOf.cls ≠ "java/lang/invoke/VarHandle" ∧ (parseMethodDescriptor yX5_waitedOf.desc).map (fun d => d.parameters.length) = some 1 := ⟨rfl, nd_X5_waitedOf⟩
theorem nd_X5_watersBy : yX5_watersBy.cls ≠ "java/lang/invoke/MethodHandle" ∧ yX5_watersBy.cls ≠ "java/lang/invoke/VarHandle" ∧ (parseMethodDescriptor yX5_watersBy.desc).map (fun d => d.parameters.length) = some 0 := by decide +kernel
theorem ndV_X5_watersBy : yX5_watersBy.cls = ((RX5, TX5, 53) : vw_C).1 ∧ yX5_watersBy.cls ≠ "java/lang/invoke/MethodHandle" ∧ yX5_watersBy.cls ≠ "java/lang/invoke/VarHandle" ∧ (parseMethodDescriptor yX5_watersBy.desc).map (fun d => d.parameters.length) = some 0 := ⟨rfl, nd_X5_watersBy⟩
abbrev d_X5_byteAt : Nat := 1
def wp_X5_byteAt_25 (S : jS) (t0 : Int32) (K : jS → Int32 → Prop) : Prop :=
  K S t0
def wp_X5_byteAt (S : jS) (x0 : Nat) (x1 : Int32) (x2 : Int32) (K : jS → Int32 → Prop) : Prop :=
  jgr [8] 0 S x0 (fun v1 => jal 0 S v1 x1 (fun v2 => ((v2 ≤ x2) → wp_X5_byteAt_25 S (-1) K) ∧ ((¬ (v2 ≤ x2)) → jgr [8] 1 S x0 (fun v3 => jal 0 S v3 ((31 * x1) + x2) (fun v4 => wp_X5_byteAt_25 S v4 K)))))
abbrev d_X5_in : Nat := 1
def wp_X5_in_15 (S : jS) (t0 : Int32) (K : jS → Int32 → Prop) : Prop :=
  ((t0 = 0 ∨ t0 = 1) ∧ K S t0)
def wp_X5_in_14 (S : jS) (K : jS → Int32 → Prop) : Prop :=
  wp_X5_in_15 S 0 K
def wp_X5_in (S : jS) (x0 : Int32) (x1 : Int32) (x2 : Int32) (K : jS → Int32 → Prop) : Prop :=
  ((x0 < x1) → wp_X5_in_14 S K) ∧ ((¬ (x0 < x1)) → ((x2 < x0) → wp_X5_in_14 S K) ∧ ((¬ (x2 < x0)) → wp_X5_in_15 S 1 K))
abbrev d_X5_isMinute : Nat := 2
def wp_X5_isMinute (S : jS) (x0 : Int32) (K : jS → Int32 → Prop) : Prop :=
  wp_X5_in S x0 0 23 (fun S1 r2 => ((r2 = 0 ∨ r2 = 1) ∧ K S1 r2))
abbrev d_X5_readsPart : Nat := 3
def wp_X5_readsPart_114 (S : jS) (K : jS → Int32 → Prop) : Prop :=
  K S 0
def wp_X5_readsPart_199 (S : jS) (K : jS → Int32 → Prop) : Prop :=
  K S 3
def wp_X5_readsPart_136 (S : jS) (t0 : Int32) (t1 : Int32) (t2 : Int32) (x0 : Nat) (x1 : Int32) (x2 : Int32) (x4 : Int32) (x6 : Int32) (x7 : Int32) (K : jS → Int32 → Prop) : Prop :=
  wp_X5_in S t0 t1 t2 (fun S1 r2 => ((r2 = 0) → K S1 2) ∧ ((¬ (r2 = 0)) → ((x1 = 0) → jgr [8] 3 S1 x0 (fun v3 => jas 0 S1 v3 x2 x4 (fun S4 => jgr [8] 4 S4 x0 (fun v5 => jas 0 S4 v5 x2 x6 (fun S6 => jgr [8] 5 S6 x0 (fun v7 => jas 0 S6 v7 x2 x7 (fun S8 => wp_X5_readsPart_199 S8 K))))))) ∧ ((¬ (x1 = 0)) → jgr [8] 7 S1 x0 (fun v9 => jas 0 S1 v9 x2 x4 (fun S10 => jgr [8] 8 S10 x0 (fun v11 => jas 0 S10 v11 x2 x6 (fun S12 => jgr [8] 9 S12 x0 (fun v13 => jas 0 S12 v13 x2 x7 (fun S14 => wp_X5_readsPart_199 S14 K)))))))))
def wp_X5_readsPart_85 (S : jS) (t0 : Int32) (x0 : Nat) (x1 : Int32) (x2 : Int32) (x3 : Int32) (x4 : Int32) (K : jS → Int32 → Prop) : Prop :=
  jis 8 S x0 ∧ wp_X5_byteAt S x0 x1 (x3 + 2) (fun S1 r2 => ((x2 = 8) → wp_X5_readsPart_114 S1 K) ∧ ((¬ (x2 = 8)) → wp_X5_isMinute S1 x4 (fun S3 r4 => ((r4 = 0) → wp_X5_readsPart_114 S3 K) ∧ ((¬ (r4 = 0)) → ((t0 = (-1)) → K S3 1) ∧ ((¬ (t0 = (-1))) → ((x1 = 0) → wp_X5_readsPart_136 S3 (r2 - 48) 1 3 x0 x1 x2 x4 t0 (r2 - 48) K) ∧ ((¬ (x1 = 0)) → wp_X5_readsPart_136 S3 (r2 - 48) 1 4 x0 x1 x2 x4 t0 (r2 - 48) K))))))
def wp_X5_readsPart (S : jS) (x0 : Nat) (x1 : Int32) (x2 : Int32) (x3 : Int32) (K : jS → Int32 → Prop) : Prop :=
  jis 8 S x0 ∧ wp_X5_byteAt S x0 x1 x3 (fun S1 r2 => jis 8 S1 x0 ∧ wp_X5_byteAt S1 x0 x1 (x3 + 1) (fun S3 r4 => ((x1 = 0) → ((r4 = 107) → wp_X5_readsPart_85 S3 0 x0 x1 x2 x3 (r2 - 97) K) ∧ ((¬ (r4 = 107)) → ((r4 = 98) → wp_X5_readsPart_85 S3 1 x0 x1 x2 x3 (r2 - 97) K) ∧ ((¬ (r4 = 98)) → ((r4 = 99) → wp_X5_readsPart_85 S3 2 x0 x1 x2 x3 (r2 - 97) K) ∧ ((¬ (r4 = 99)) → wp_X5_readsPart_85 S3 (-1) x0 x1 x2 x3 (r2 - 97) K)))) ∧ ((¬ (x1 = 0)) → ((r4 = 119) → wp_X5_readsPart_85 S3 0 x0 x1 x2 x3 (r2 - 97) K) ∧ ((¬ (r4 = 119)) → ((r4 = 100) → wp_X5_readsPart_85 S3 1 x0 x1 x2 x3 (r2 - 97) K) ∧ ((¬ (r4 = 100)) → wp_X5_readsPart_85 S3 (-1) x0 x1 x2 x3 (r2 - 97) K)))))
abbrev d_X5_readsText : Nat := 4
def wp_X5_readsText_117 (S : jS) (t0 : Nat) (t1 : Int32) (K : jS → Int32 → Prop) : Prop :=
  jpi [8] 6 S t0 t1 (fun S1 => K S1 (-1))
def wp_X5_readsText_100 (S : jS) (t0 : Nat) (t1 : Int32) (x0 : Nat) (x1 : Int32) (x2 : Int32) (K : jS → Int32 → Prop) : Prop :=
  jpi [8] 2 S t0 t1 (fun S1 => ((x1 = 1) → wp_X5_readsText_117 S1 x0 x2 K) ∧ ((¬ (x1 = 1)) → jgi [8] 6 S1 x0 (fun v2 => wp_X5_readsText_117 S1 x0 v2 K)))
def wp_X5_readsText_51 (S : jS) (x0 : Nat) (x1 : Int32) (x2 : Int32) (x3 : Int32) (Kc37 : jS × Int32 × Int32 → Prop) (K : jS → Int32 → Prop) : Prop :=
  jis 8 S x0 ∧ wp_X5_readsPart S x0 x1 x2 x3 (fun S1 r2 => ((3 ≤ r2) → jgr [8] 0 S1 x0 (fun v3 => jal 0 S1 v3 x1 (fun v4 => (((x3 + 3) = v4) → ((x1 = 0) → wp_X5_readsText_100 S1 x0 (x2 + 1) x0 x1 (x2 + 1) K) ∧ ((¬ (x1 = 0)) → jgi [8] 2 S1 x0 (fun v5 => wp_X5_readsText_100 S1 x0 v5 x0 x1 (x2 + 1) K))) ∧ ((¬ ((x3 + 3) = v4)) → jis 8 S1 x0 ∧ wp_X5_byteAt S1 x0 x1 (x3 + 3) (fun S7 r8 => ((r8 = 59) → Kc37 (S7, (x2 + 1), ((x3 + 3) + 1))) ∧ ((¬ (r8 = 59)) → K S7 (x3 + 3))))))) ∧ ((¬ (3 ≤ r2)) → K S1 (x3 + r2)))
def wp_X5_readsText_37 (S : jS) (x0 : Nat) (x1 : Int32) (x2 : Int32) (x3 : Int32) (Kc37 : jS × Int32 × Int32 → Prop) (K : jS → Int32 → Prop) : Prop :=
  jgr [8] 0 S x0 (fun v1 => jal 0 S v1 x1 (fun v2 => ((x3 < v2) → wp_X5_readsText_51 S x0 x1 x2 x3 Kc37 K) ∧ ((¬ (x3 < v2)) → ((x3 ≤ 0) → K S (-1)) ∧ ((¬ (x3 ≤ 0)) → wp_X5_readsText_51 S x0 x1 x2 x3 Kc37 K))))
def wp_X5_readsText_37_L (x0 : Nat) (x1 : Int32) (K : jS → Int32 → Prop) : (jS × Int32 × Int32) → ((jS × Int32 × Int32) → Prop) → Prop := fun z Kc37 => wp_X5_readsText_37 z.1 x0 x1 z.2.1 z.2.2 Kc37 K
def wp_X5_readsText_34 (S : jS) (t0 : Nat) (t1 : Int32) (x0 : Nat) (x1 : Int32) (x2 : Int32) (x3 : Int32) (K : jS → Int32 → Prop) : Prop :=
  jpi [8] 6 S t0 t1 (fun S1 => ∃ n : Nat, jlp n (wp_X5_readsText_37_L x0 x1 K) (S1, x2, x3))
def wp_X5_readsText_17 (S : jS) (t0 : Nat) (t1 : Int32) (x0 : Nat) (x1 : Int32) (x2 : Int32) (x3 : Int32) (K : jS → Int32 → Prop) : Prop :=
  jpi [8] 2 S t0 t1 (fun S1 => ((x1 = 1) → wp_X5_readsText_34 S1 x0 0 x0 x1 x2 x3 K) ∧ ((¬ (x1 = 1)) → jgi [8] 6 S1 x0 (fun v2 => wp_X5_readsText_34 S1 x0 v2 x0 x1 x2 x3 K)))
def wp_X5_readsText (S : jS) (x0 : Nat) (x1 : Int32) (K : jS → Int32 → Prop) : Prop :=
  ((x1 = 0) → wp_X5_readsText_17 S x0 0 x0 x1 0 0 K) ∧ ((¬ (x1 = 0)) → jgi [8] 2 S x0 (fun v1 => wp_X5_readsText_17 S x0 v1 x0 x1 0 0 K))
abbrev d_X5_faultOf : Nat := 5
def wp_X5_faultOf_21 (S : jS) (t0 : Int32) (K : jS → Int32 → Prop) : Prop :=
  K S t0
def wp_X5_faultOf (S : jS) (x0 : Nat) (x1 : Int32) (K : jS → Int32 → Prop) : Prop :=
  jis 8 S x0 ∧ wp_X5_readsText S x0 0 (fun S1 r2 => jis 8 S1 x0 ∧ wp_X5_readsText S1 x0 1 (fun S3 r4 => ((x1 = 0) → wp_X5_faultOf_21 S3 r2 K) ∧ ((¬ (x1 = 0)) → wp_X5_faultOf_21 S3 r4 K)))
abbrev d_X5_reads : Nat := 6
def wp_X5_reads (S : jS) (x0 : Nat) (K : jS → Unit → Prop) : Prop :=
  jis 8 S x0 ∧ wp_X5_faultOf S x0 0 (fun S1 r2 => K S1 ())
abbrev d_X5_asTold : Nat := 7
def wp_X5_asTold_39 (S : jS) (t0 : Nat) (t1 : Int32) (x0 : Nat) (x1 : Int32) (Kc14 : jS × Int32 → Prop) (K : jS → Unit → Prop) : Prop :=
  jgr [8] 8 S x0 (fun v1 => jal 0 S v1 x1 (fun v2 => jas 0 S t0 t1 v2 (fun S3 => jgr [8] 19 S3 x0 (fun v4 => jgr [8] 9 S3 x0 (fun v5 => jal 0 S3 v5 x1 (fun v6 => jas 0 S3 v4 x1 v6 (fun S7 => Kc14 (S7, (x1 + 1)))))))))
def wp_X5_asTold_14 (S : jS) (x0 : Nat) (x1 : Int32) (Kc14 : jS × Int32 → Prop) (K : jS → Unit → Prop) : Prop :=
  jgi [8] 6 S x0 (fun v1 => ((v1 ≤ x1) → jgi [8] 10 S x0 (fun v2 => jpi [8] 20 S x0 v2 (fun S3 => jpi [8] 21 S3 x0 0 (fun S4 => K S4 ())))) ∧ ((¬ (v1 ≤ x1)) → jgr [8] 17 S x0 (fun v5 => jgr [8] 7 S x0 (fun v6 => jal 0 S v6 x1 (fun v7 => jas 0 S v5 x1 v7 (fun S8 => jgr [8] 18 S8 x0 (fun v9 => wp_X5_asTold_39 S8 v9 x1 x0 x1 Kc14 K)))))))
def wp_X5_asTold_14_L (x0 : Nat) (K : jS → Unit → Prop) : (jS × Int32) → ((jS × Int32) → Prop) → Prop := fun z Kc14 => wp_X5_asTold_14 z.1 x0 z.2 Kc14 K
def wp_X5_asTold (S : jS) (x0 : Nat) (K : jS → Unit → Prop) : Prop :=
  jis 8 S x0 ∧ wp_X5_reads S x0 (fun S1 _ => jgi [8] 6 S1 x0 (fun v2 => jpi [8] 16 S1 x0 v2 (fun S3 => ∃ n : Nat, jlp n (wp_X5_asTold_14_L x0 K) (S3, 0))))
abbrev d_X5_isIn : Nat := 1
def wp_X5_isIn_14 (S : jS) (t0 : Int32) (K : jS → Int32 → Prop) : Prop :=
  ((t0 = 0 ∨ t0 = 1) ∧ K S t0)
def wp_X5_isIn (S : jS) (x0 : Int32) (x1 : Int32) (K : jS → Int32 → Prop) : Prop :=
  ((((x0 >>> (x1 &&& 31)) &&& 1) = 1) → wp_X5_isIn_14 S 1 K) ∧ ((¬ (((x0 >>> (x1 &&& 31)) &&& 1) = 1)) → wp_X5_isIn_14 S 0 K)
abbrev d_X5_many : Nat := 2
def wp_X5_many_24 (S : jS) (t0 : Int32) (t1 : Int32) (x0 : Int32) (x2 : Int32) (Kc4 : jS × Int32 × Int32 → Prop) (K : jS → Int32 → Prop) : Prop :=
  Kc4 (S, (t0 + t1), (x2 + 1))
def wp_X5_many_4 (S : jS) (x0 : Int32) (x1 : Int32) (x2 : Int32) (Kc4 : jS × Int32 × Int32 → Prop) (K : jS → Int32 → Prop) : Prop :=
  ((30 < x2) → K S x1) ∧ ((¬ (30 < x2)) → wp_X5_isIn S x0 x2 (fun S1 r2 => ((r2 = 0) → wp_X5_many_24 S1 x1 0 x0 x2 Kc4 K) ∧ ((¬ (r2 = 0)) → wp_X5_many_24 S1 x1 1 x0 x2 Kc4 K)))
def wp_X5_many_4_L (x0 : Int32) (K : jS → Int32 → Prop) : (jS × Int32 × Int32) → ((jS × Int32 × Int32) → Prop) → Prop := fun z Kc4 => wp_X5_many_4 z.1 x0 z.2.1 z.2.2 Kc4 K
def wp_X5_many (S : jS) (x0 : Int32) (K : jS → Int32 → Prop) : Prop :=
  ∃ n : Nat, jlp n (wp_X5_many_4_L x0 K) (S, 0, 0)
abbrev d_X5_less : Nat := 1
def wp_X5_less_10 (S : jS) (t0 : Int32) (K : jS → Int32 → Prop) : Prop :=
  K S t0
def wp_X5_less (S : jS) (x0 : Int32) (x1 : Int32) (K : jS → Int32 → Prop) : Prop :=
  ((x1 ≤ x0) → wp_X5_less_10 S x1 K) ∧ ((¬ (x1 ≤ x0)) → wp_X5_less_10 S x0 K)
abbrev d_X5_befalls : Nat := 2
def wp_X5_befalls_161 (S : jS) (x0 : Nat) (x1 : Int32) (x2 : Int32) (Kc7 : jS × Int32 → Prop) (K : jS → Unit → Prop) : Prop :=
  Kc7 (S, (x2 + 1))
def wp_X5_befalls_158 (S : jS) (t0 : Nat) (t1 : Int32) (x0 : Nat) (x1 : Int32) (x2 : Int32) (Kc7 : jS × Int32 → Prop) (K : jS → Unit → Prop) : Prop :=
  jpi [8] 25 S t0 t1 (fun S1 => wp_X5_befalls_161 S1 x0 x1 x2 Kc7 K)
def wp_X5_befalls_136 (S : jS) (t0 : Nat) (t1 : Int32) (x0 : Nat) (x1 : Int32) (x2 : Int32) (Kc7 : jS × Int32 → Prop) (K : jS → Unit → Prop) : Prop :=
  jpi [8] 24 S t0 t1 (fun S1 => jgr [8] 13 S1 x0 (fun v2 => jal 0 S1 v2 x2 (fun v3 => ((v3 = 2) → wp_X5_befalls_158 S1 x0 1 x0 x1 x2 Kc7 K) ∧ ((¬ (v3 = 2)) → jgi [8] 25 S1 x0 (fun v4 => wp_X5_befalls_158 S1 x0 v4 x0 x1 x2 Kc7 K)))))
def wp_X5_befalls_99 (S : jS) (t0 : Nat) (t1 : Int32) (x0 : Nat) (x1 : Int32) (x2 : Int32) (Kc7 : jS × Int32 → Prop) (K : jS → Unit → Prop) : Prop :=
  jpi [8] 22 S t0 t1 (fun S1 => jgr [8] 13 S1 x0 (fun v2 => jal 0 S1 v2 x2 (fun v3 => ((v3 = 1) → jgi [8] 24 S1 x0 (fun v4 => jgr [8] 15 S1 x0 (fun v5 => jal 0 S1 v5 x2 (fun v6 => wp_X5_less S1 (v4 + v6) 40 (fun S7 r8 => wp_X5_befalls_136 S7 x0 r8 x0 x1 x2 Kc7 K))))) ∧ ((¬ (v3 = 1)) → jgi [8] 24 S1 x0 (fun v9 => wp_X5_befalls_136 S1 x0 v9 x0 x1 x2 Kc7 K)))))
def wp_X5_befalls_65 (S : jS) (t0 : Int32) (x0 : Nat) (x1 : Int32) (x2 : Int32) (Kc7 : jS × Int32 → Prop) (K : jS → Unit → Prop) : Prop :=
  jgi [8] 23 S x0 (fun v1 => jpi [8] 23 S x0 (v1 + t0) (fun S2 => jgi [8] 22 S2 x0 (fun v3 => (((4 * t0) ≤ v3) → jgi [8] 22 S2 x0 (fun v4 => wp_X5_befalls_99 S2 x0 (v4 - (4 * t0)) x0 x1 x2 Kc7 K)) ∧ ((¬ ((4 * t0) ≤ v3)) → wp_X5_befalls_99 S2 x0 0 x0 x1 x2 Kc7 K))))
def wp_X5_befalls_7 (S : jS) (x0 : Nat) (x1 : Int32) (x2 : Int32) (Kc7 : jS × Int32 → Prop) (K : jS → Unit → Prop) : Prop :=
  jgi [8] 12 S x0 (fun v1 => ((v1 ≤ x2) → K S ()) ∧ ((¬ (v1 ≤ x2)) → jgr [8] 14 S x0 (fun v2 => jal 0 S v2 x2 (fun v3 => ((v3 = x1) → jgi [8] 21 S x0 (fun v4 => wp_X5_isIn S v4 x2 (fun S5 r6 => ((r6 = 0) → jgr [8] 13 S5 x0 (fun v7 => jal 0 S5 v7 x2 (fun v8 => ((v8 = 0) → jgr [8] 15 S5 x0 (fun v9 => jal 0 S5 v9 x2 (fun v10 => jgi [8] 23 S5 x0 (fun v11 => wp_X5_less S5 v10 (30 - v11) (fun S12 r13 => wp_X5_befalls_65 S12 r13 x0 x1 x2 Kc7 K))))) ∧ ((¬ (v8 = 0)) → wp_X5_befalls_65 S5 0 x0 x1 x2 Kc7 K)))) ∧ ((¬ (r6 = 0)) → wp_X5_befalls_161 S5 x0 x1 x2 Kc7 K)))) ∧ ((¬ (v3 = x1)) → wp_X5_befalls_161 S x0 x1 x2 Kc7 K)))))
def wp_X5_befalls_7_L (x0 : Nat) (x1 : Int32) (K : jS → Unit → Prop) : (jS × Int32) → ((jS × Int32) → Prop) → Prop := fun z Kc7 => wp_X5_befalls_7 z.1 x0 x1 z.2 Kc7 K
def wp_X5_befalls (S : jS) (x0 : Nat) (x1 : Int32) (K : jS → Unit → Prop) : Prop :=
  jpi [8] 25 S x0 0 (fun S1 => ∃ n : Nat, jlp n (wp_X5_befalls_7_L x0 x1 K) (S1, 0))
abbrev d_X5_joins : Nat := 1
def wp_X5_joins (S : jS) (x0 : Nat) (x1 : Int32) (x2 : Int32) (K : jS → Unit → Prop) : Prop :=
  jgr [8] 30 S x0 (fun v1 => jgi [8] 29 S x0 (fun v2 => jas 0 S v1 v2 x1 (fun S3 => jgi [8] 29 S3 x0 (fun v4 => jpi [8] 29 S3 x0 (v4 + 1) (fun S5 => jgr [8] 31 S5 x0 (fun v6 => jas 0 S5 v6 x1 1 (fun S7 => jgr [8] 34 S7 x0 (fun v8 => jas 0 S7 v8 x1 x2 (fun S9 => K S9 ())))))))))
abbrev d_X5_comes : Nat := 2
def wp_X5_comes_26 (S : jS) (x0 : Nat) (x1 : Int32) (x2 : Int32) (Kc2 : jS × Int32 → Prop) (K : jS → Unit → Prop) : Prop :=
  Kc2 (S, (x2 + 1))
def wp_X5_comes_68 (S : jS) (x0 : Nat) (x1 : Int32) (x2 : Int32) (Kc34 : jS × Int32 → Prop) (K : jS → Unit → Prop) : Prop :=
  Kc34 (S, (x2 + 1))
def wp_X5_comes_34 (S : jS) (x0 : Nat) (x1 : Int32) (x2 : Int32) (Kc34 : jS × Int32 → Prop) (K : jS → Unit → Prop) : Prop :=
  jgi [8] 16 S x0 (fun v1 => ((v1 ≤ x2) → K S ()) ∧ ((¬ (v1 ≤ x2)) → jgr [8] 31 S x0 (fun v2 => jal 0 S v2 x2 (fun v3 => ((v3 = 2) → jgr [8] 33 S x0 (fun v4 => jal 0 S v4 x2 (fun v5 => ((v5 = x1) → jis 8 S x0 ∧ wp_X5_joins S x0 x2 x1 (fun S6 _ => wp_X5_comes_68 S6 x0 x1 x2 Kc34 K)) ∧ ((¬ (v5 = x1)) → wp_X5_comes_68 S x0 x1 x2 Kc34 K)))) ∧ ((¬ (v3 = 2)) → wp_X5_comes_68 S x0 x1 x2 Kc34 K)))))
def wp_X5_comes_34_L (x0 : Nat) (x1 : Int32) (K : jS → Unit → Prop) : (jS × Int32) → ((jS × Int32) → Prop) → Prop := fun z Kc34 => wp_X5_comes_34 z.1 x0 x1 z.2 Kc34 K
def wp_X5_comes_2 (S : jS) (x0 : Nat) (x1 : Int32) (x2 : Int32) (Kc2 : jS × Int32 → Prop) (K : jS → Unit → Prop) : Prop :=
  jgi [8] 16 S x0 (fun v1 => ((v1 ≤ x2) → ∃ n : Nat, jlp n (wp_X5_comes_34_L x0 x1 K) (S, 0)) ∧ ((¬ (v1 ≤ x2)) → jgr [8] 17 S x0 (fun v2 => jal 0 S v2 x2 (fun v3 => ((v3 = x1) → jis 8 S x0 ∧ wp_X5_joins S x0 x2 x1 (fun S4 _ => wp_X5_comes_26 S4 x0 x1 x2 Kc2 K)) ∧ ((¬ (v3 = x1)) → wp_X5_comes_26 S x0 x1 x2 Kc2 K)))))
def wp_X5_comes_2_L (x0 : Nat) (x1 : Int32) (K : jS → Unit → Prop) : (jS × Int32) → ((jS × Int32) → Prop) → Prop := fun z Kc2 => wp_X5_comes_2 z.1 x0 x1 z.2 Kc2 K
def wp_X5_comes (S : jS) (x0 : Nat) (x1 : Int32) (K : jS → Unit → Prop) : Prop :=
  ∃ n : Nat, jlp n (wp_X5_comes_2_L x0 x1 K) (S, 0)
abbrev d_X5_fireAt : Nat := 2
def wp_X5_fireAt_93 (S : jS) (t0 : Int32) (t1 : Int32) (x0 : Nat) (x1 : Int32) (x3 : Int32) (Kc4 : jS × Int32 × Int32 → Prop) (K : jS → Int32 → Prop) : Prop :=
  Kc4 (S, (t0 + t1), (x3 + 1))
def wp_X5_fireAt_88 (S : jS) (t0 : Int32) (t1 : Int32) (t2 : Int32) (x0 : Nat) (x1 : Int32) (x3 : Int32) (Kc4 : jS × Int32 × Int32 → Prop) (K : jS → Int32 → Prop) : Prop :=
  wp_X5_fireAt_93 S t0 (t1 * t2) x0 x1 x3 Kc4 K
def wp_X5_fireAt_51 (S : jS) (t0 : Int32) (x0 : Nat) (x1 : Int32) (x2 : Int32) (x3 : Int32) (x4 : Int32) (Kc4 : jS × Int32 × Int32 → Prop) (K : jS → Int32 → Prop) : Prop :=
  wp_X5_in S x4 0 (t0 - 1) (fun S1 r2 => ((r2 = 0) → wp_X5_fireAt_93 S1 x2 0 x0 x1 x3 Kc4 K) ∧ ((¬ (r2 = 0)) → jgr [8] 5 S1 x0 (fun v3 => jal 0 S1 v3 x3 (fun v4 => jgr [8] 4 S1 x0 (fun v5 => jal 0 S1 v5 x3 (fun v6 => ((v6 = 1) → wp_X5_fireAt_88 S1 x2 v4 4 x0 x1 x3 Kc4 K) ∧ ((¬ (v6 = 1)) → wp_X5_fireAt_88 S1 x2 v4 3 x0 x1 x3 Kc4 K)))))))
def wp_X5_fireAt_116 (S : jS) (t0 : Int32) (K : jS → Int32 → Prop) : Prop :=
  K S t0
def wp_X5_fireAt_4 (S : jS) (x0 : Nat) (x1 : Int32) (x2 : Int32) (x3 : Int32) (Kc4 : jS × Int32 × Int32 → Prop) (K : jS → Int32 → Prop) : Prop :=
  jgi [8] 2 S x0 (fun v1 => ((v1 ≤ x3) → jgi [8] 25 S x0 (fun v2 => ((v2 = 1) → wp_X5_fireAt_116 S (2 * x2) K) ∧ ((¬ (v2 = 1)) → wp_X5_fireAt_116 S x2 K))) ∧ ((¬ (v1 ≤ x3)) → jgr [8] 3 S x0 (fun v4 => jal 0 S v4 x3 (fun v5 => jgr [8] 4 S x0 (fun v6 => jal 0 S v6 x3 (fun v7 => ((v7 = 0) → wp_X5_fireAt_51 S 3 x0 x1 x2 x3 (x1 - v5) Kc4 K) ∧ ((¬ (v7 = 0)) → jgr [8] 4 S x0 (fun v8 => jal 0 S v8 x3 (fun v9 => ((v9 = 1) → wp_X5_fireAt_51 S 5 x0 x1 x2 x3 (x1 - v5) Kc4 K) ∧ ((¬ (v9 = 1)) → wp_X5_fireAt_51 S 9 x0 x1 x2 x3 (x1 - v5) Kc4 K))))))))))
def wp_X5_fireAt_4_L (x0 : Nat) (x1 : Int32) (K : jS → Int32 → Prop) : (jS × Int32 × Int32) → ((jS × Int32 × Int32) → Prop) → Prop := fun z Kc4 => wp_X5_fireAt_4 z.1 x0 x1 z.2.1 z.2.2 Kc4 K
def wp_X5_fireAt (S : jS) (x0 : Nat) (x1 : Int32) (K : jS → Int32 → Prop) : Prop :=
  ∃ n : Nat, jlp n (wp_X5_fireAt_4_L x0 x1 K) (S, 0, 0)
abbrev d_X5_leaves : Nat := 1
def wp_X5_leaves_17 (S : jS) (t0 : Nat) (t1 : Int32) (x0 : Nat) (x2 : Int32) (Kc2 : jS × Int32 → Prop) (K : jS → Unit → Prop) : Prop :=
  jgr [8] 30 S x0 (fun v1 => jal 0 S v1 (x2 + 1) (fun v2 => jas 0 S t0 t1 v2 (fun S3 => Kc2 (S3, (x2 + 1)))))
def wp_X5_leaves_37 (S : jS) (t0 : Nat) (t1 : Int32) (K : jS → Unit → Prop) : Prop :=
  jpi [8] 29 S t0 (t1 - 1) (fun S1 => K S1 ())
def wp_X5_leaves_2 (S : jS) (x0 : Nat) (x2 : Int32) (Kc2 : jS × Int32 → Prop) (K : jS → Unit → Prop) : Prop :=
  jgi [8] 29 S x0 (fun v1 => ((v1 ≤ (x2 + 1)) → jgi [8] 29 S x0 (fun v2 => wp_X5_leaves_37 S x0 v2 K)) ∧ ((¬ (v1 ≤ (x2 + 1))) → jgr [8] 30 S x0 (fun v3 => wp_X5_leaves_17 S v3 x2 x0 x2 Kc2 K)))
def wp_X5_leaves_2_L (x0 : Nat) (K : jS → Unit → Prop) : (jS × Int32) → ((jS × Int32) → Prop) → Prop := fun z Kc2 => wp_X5_leaves_2 z.1 x0 z.2 Kc2 K
def wp_X5_leaves (S : jS) (x0 : Nat) (x1 : Int32) (K : jS → Unit → Prop) : Prop :=
  ∃ n : Nat, jlp n (wp_X5_leaves_2_L x0 K) (S, x1)
abbrev d_X5_goAway : Nat := 2
def wp_X5_goAway_42 (S : jS) (x0 : Nat) (x1 : Int32) (x2 : Int32) (Kc7 : jS × Int32 → Prop) (K : jS → Unit → Prop) : Prop :=
  Kc7 (S, (x2 + (-1)))
def wp_X5_goAway_7 (S : jS) (x0 : Nat) (x1 : Int32) (x2 : Int32) (Kc7 : jS × Int32 → Prop) (K : jS → Unit → Prop) : Prop :=
  ((x2 < 0) → K S ()) ∧ ((¬ (x2 < 0)) → jgr [8] 30 S x0 (fun v1 => jal 0 S v1 x2 (fun v2 => jgr [8] 34 S x0 (fun v3 => jal 0 S v3 v2 (fun v4 => (((x1 - v4) < 5) → wp_X5_goAway_42 S x0 x1 x2 Kc7 K) ∧ ((¬ ((x1 - v4) < 5)) → jgr [8] 31 S x0 (fun v5 => jas 0 S v5 v2 4 (fun S6 => jis 8 S6 x0 ∧ wp_X5_leaves S6 x0 x2 (fun S7 _ => wp_X5_goAway_42 S7 x0 x1 x2 Kc7 K)))))))))
def wp_X5_goAway_7_L (x0 : Nat) (x1 : Int32) (K : jS → Unit → Prop) : (jS × Int32) → ((jS × Int32) → Prop) → Prop := fun z Kc7 => wp_X5_goAway_7 z.1 x0 x1 z.2 Kc7 K
def wp_X5_goAway (S : jS) (x0 : Nat) (x1 : Int32) (K : jS → Unit → Prop) : Prop :=
  jgi [8] 29 S x0 (fun v1 => ∃ n : Nat, jlp n (wp_X5_goAway_7_L x0 x1 K) (S, (v1 - 1)))
abbrev d_X5_serves : Nat := 2
def wp_X5_serves_121 (S : jS) (t0 : Nat) (t1 : Int32) (t2 : Int32) (t3 : Int32) (x0 : Nat) (x2 : Int32) (x3 : Int32) (K : jS → Int32 → Prop) : Prop :=
  jas 0 S t0 t1 (t2 + t3) (fun S1 => jis 8 S1 x0 ∧ wp_X5_leaves S1 x0 x2 (fun S2 _ => K S2 x3))
def wp_X5_serves_99 (S : jS) (t0 : Nat) (t1 : Int32) (t2 : Int32) (x0 : Nat) (x1 : Int32) (x2 : Int32) (x3 : Int32) (K : jS → Int32 → Prop) : Prop :=
  jas 0 S t0 t1 t2 (fun S1 => jgr [8] 33 S1 x0 (fun v2 => jgr [8] 18 S1 x0 (fun v3 => jal 0 S1 v3 x3 (fun v4 => ((v4 = 1) → wp_X5_serves_121 S1 v2 x3 x1 4 x0 x2 x3 K) ∧ ((¬ (v4 = 1)) → wp_X5_serves_121 S1 v2 x3 x1 3 x0 x2 x3 K)))))
def wp_X5_serves_32 (S : jS) (t0 : Int32) (x0 : Nat) (x1 : Int32) (x2 : Int32) (x3 : Int32) (Kc2 : jS × Int32 → Prop) (K : jS → Int32 → Prop) : Prop :=
  jgi [8] 24 S x0 (fun v1 => ((v1 < t0) → Kc2 (S, (x2 + 1))) ∧ ((¬ (v1 < t0)) → jgi [8] 24 S x0 (fun v2 => jpi [8] 24 S x0 (v2 - t0) (fun S3 => jgi [8] 23 S3 x0 (fun v4 => jpi [8] 23 S3 x0 (v4 - 1) (fun S5 => jgr [8] 32 S5 x0 (fun v6 => jal 0 S5 v6 x3 (fun v7 => jas 0 S5 v6 x3 (v7 + 1) (fun S8 => jgr [8] 31 S8 x0 (fun v9 => jgr [8] 32 S8 x0 (fun v10 => jal 0 S8 v10 x3 (fun v11 => jgr [8] 19 S8 x0 (fun v12 => jal 0 S8 v12 x3 (fun v13 => ((v11 = v13) → wp_X5_serves_99 S8 v9 x3 3 x0 x1 x2 x3 K) ∧ ((¬ (v11 = v13)) → wp_X5_serves_99 S8 v9 x3 2 x0 x1 x2 x3 K)))))))))))))))
def wp_X5_serves_2 (S : jS) (x0 : Nat) (x1 : Int32) (x2 : Int32) (Kc2 : jS × Int32 → Prop) (K : jS → Int32 → Prop) : Prop :=
  jgi [8] 29 S x0 (fun v1 => ((v1 ≤ x2) → K S (-1)) ∧ ((¬ (v1 ≤ x2)) → jgr [8] 30 S x0 (fun v2 => jal 0 S v2 x2 (fun v3 => jgr [8] 18 S x0 (fun v4 => jal 0 S v4 v3 (fun v5 => ((v5 = 1) → wp_X5_serves_32 S 3 x0 x1 x2 v3 Kc2 K) ∧ ((¬ (v5 = 1)) → wp_X5_serves_32 S 1 x0 x1 x2 v3 Kc2 K)))))))
def wp_X5_serves_2_L (x0 : Nat) (x1 : Int32) (K : jS → Int32 → Prop) : (jS × Int32) → ((jS × Int32) → Prop) → Prop := fun z Kc2 => wp_X5_serves_2 z.1 x0 x1 z.2 Kc2 K
def wp_X5_serves (S : jS) (x0 : Nat) (x1 : Int32) (K : jS → Int32 → Prop) : Prop :=
  ∃ n : Nat, jlp n (wp_X5_serves_2_L x0 x1 K) (S, 0)
abbrev d_X5_goesBy : Nat := 3
def wp_X5_goesBy_354 (S : jS) (t0 : Nat) (t1 : Int32) (t2 : Int32) (t3 : Int32) (x0 : Nat) (x1 : Int32) (x6 : Int32) (Kc283 : jS × Int32 → Prop) (K : jS → Unit → Prop) : Prop :=
  jas 0 S t0 t1 (t2 + t3) (fun S1 => Kc283 (S1, (x6 + 1)))
def wp_X5_goesBy_283 (S : jS) (x0 : Nat) (x1 : Int32) (x6 : Int32) (Kc283 : jS × Int32 → Prop) (K : jS → Unit → Prop) : Prop :=
  jgi [8] 16 S x0 (fun v1 => ((v1 ≤ x6) → K S ()) ∧ ((¬ (v1 ≤ x6)) → jgr [8] 38 S x0 (fun v2 => jgr [8] 31 S x0 (fun v3 => jal 0 S v3 x6 (fun v4 => jas 0 S v2 ((8 * x1) + x6) v4 (fun S5 => jgr [8] 39 S5 x0 (fun v6 => jgr [8] 32 S5 x0 (fun v7 => jal 0 S5 v7 x6 (fun v8 => jas 0 S5 v6 ((8 * x1) + x6) v8 (fun S9 => jgr [8] 35 S9 x0 (fun v10 => jal 0 S9 v10 x6 (fun v11 => jgr [8] 31 S9 x0 (fun v12 => jal 0 S9 v12 x6 (fun v13 => ((v13 = 1) → wp_X5_goesBy_354 S9 v10 x6 v11 1 x0 x1 x6 Kc283 K) ∧ ((¬ (v13 = 1)) → wp_X5_goesBy_354 S9 v10 x6 v11 0 x0 x1 x6 Kc283 K)))))))))))))))
def wp_X5_goesBy_283_L (x0 : Nat) (x1 : Int32) (K : jS → Unit → Prop) : (jS × Int32) → ((jS × Int32) → Prop) → Prop := fun z Kc283 => wp_X5_goesBy_283 z.1 x0 x1 z.2 Kc283 K
def wp_X5_goesBy_258 (S : jS) (t0 : Nat) (t1 : Int32) (t2 : Int32) (x0 : Nat) (x1 : Int32) (x4 : Int32) (x5 : Int32) (K : jS → Unit → Prop) : Prop :=
  jas 0 S t0 t1 t2 (fun S1 => jgr [8] 36 S1 x0 (fun v2 => jas 0 S1 v2 (x5 + 5) x4 (fun S3 => jgr [8] 37 S3 x0 (fun v4 => jgi [8] 29 S3 x0 (fun v5 => jas 0 S3 v4 x1 v5 (fun S6 => ∃ n : Nat, jlp n (wp_X5_goesBy_283_L x0 x1 K) (S6, 0)))))))
def wp_X5_goesBy_254 (S : jS) (t0 : Nat) (t1 : Int32) (t2 : Int32) (x0 : Nat) (x1 : Int32) (x4 : Int32) (x5 : Int32) (K : jS → Unit → Prop) : Prop :=
  wp_X5_goesBy_258 S t0 t1 t2 x0 x1 x4 x5 K
def wp_X5_goesBy_181 (S : jS) (t0 : Int32) (x0 : Nat) (x1 : Int32) (x2 : Int32) (x3 : Int32) (K : jS → Unit → Prop) : Prop :=
  jis 8 S x0 ∧ wp_X5_goAway S x0 x1 (fun S1 _ => jgr [8] 36 S1 x0 (fun v2 => jgi [8] 22 S1 x0 (fun v3 => jas 0 S1 v2 (6 * x1) v3 (fun S4 => jgr [8] 36 S4 x0 (fun v5 => jgi [8] 23 S4 x0 (fun v6 => jas 0 S4 v5 ((6 * x1) + 1) v6 (fun S7 => jgr [8] 36 S7 x0 (fun v8 => jgi [8] 24 S7 x0 (fun v9 => jas 0 S7 v8 ((6 * x1) + 2) v9 (fun S10 => jgr [8] 36 S10 x0 (fun v11 => jas 0 S10 v11 ((6 * x1) + 3) x2 (fun S12 => jgr [8] 36 S12 x0 (fun v13 => ((x3 = 0) → wp_X5_goesBy_258 S12 v13 ((6 * x1) + 4) 0 x0 x1 t0 (6 * x1) K) ∧ ((¬ (x3 = 0)) → wp_X5_goesBy_254 S12 v13 ((6 * x1) + 4) 1 x0 x1 t0 (6 * x1) K))))))))))))))
def wp_X5_goesBy_160 (S : jS) (t0 : Nat) (t1 : Int32) (x0 : Nat) (x1 : Int32) (x2 : Int32) (x3 : Int32) (K : jS → Unit → Prop) : Prop :=
  jpi [8] 28 S t0 t1 (fun S1 => jis 8 S1 x0 ∧ wp_X5_comes S1 x0 x1 (fun S2 _ => ((x3 = 0) → wp_X5_goesBy_181 S2 (-1) x0 x1 x2 x3 K) ∧ ((¬ (x3 = 0)) → jis 8 S2 x0 ∧ wp_X5_serves S2 x0 x1 (fun S3 r4 => wp_X5_goesBy_181 S3 r4 x0 x1 x2 x3 K))))
def wp_X5_goesBy_156 (S : jS) (t0 : Nat) (x0 : Nat) (x1 : Int32) (x2 : Int32) (x3 : Int32) (K : jS → Unit → Prop) : Prop :=
  jgi [8] 28 S x0 (fun v1 => wp_X5_goesBy_160 S t0 v1 x0 x1 x2 x3 K)
def wp_X5_goesBy_135 (S : jS) (t0 : Nat) (t1 : Int32) (t2 : Int32) (x0 : Nat) (x1 : Int32) (x2 : Int32) (x3 : Int32) (K : jS → Unit → Prop) : Prop :=
  jpi [8] 27 S t0 (t1 + t2) (fun S1 => ((x3 = 0) → wp_X5_goesBy_156 S1 x0 x0 x1 x2 x3 K) ∧ ((¬ (x3 = 0)) → jgi [8] 28 S1 x0 (fun v2 => ((v2 = (-1)) → wp_X5_goesBy_160 S1 x0 x1 x0 x1 x2 x3 K) ∧ ((¬ (v2 = (-1))) → wp_X5_goesBy_156 S1 x0 x0 x1 x2 x3 K))))
def wp_X5_goesBy_120 (S : jS) (t0 : Int32) (x0 : Nat) (x1 : Int32) (x2 : Int32) (K : jS → Unit → Prop) : Prop :=
  jgi [8] 27 S x0 (fun v1 => ((t0 = 0) → wp_X5_goesBy_135 S x0 v1 0 x0 x1 x2 t0 K) ∧ ((¬ (t0 = 0)) → wp_X5_goesBy_135 S x0 v1 1 x0 x1 x2 t0 K))
def wp_X5_goesBy_119 (S : jS) (x0 : Nat) (x1 : Int32) (x2 : Int32) (K : jS → Unit → Prop) : Prop :=
  wp_X5_goesBy_120 S 0 x0 x1 x2 K
def wp_X5_goesBy_99 (S : jS) (x0 : Nat) (x1 : Int32) (x2 : Int32) (K : jS → Unit → Prop) : Prop :=
  jgi [8] 22 S x0 (fun v1 => ((v1 < 80) → wp_X5_goesBy_119 S x0 x1 x2 K) ∧ ((¬ (v1 < 80)) → jgi [8] 23 S x0 (fun v2 => ((v2 ≤ 0) → wp_X5_goesBy_119 S x0 x1 x2 K) ∧ ((¬ (v2 ≤ 0)) → wp_X5_goesBy_120 S 1 x0 x1 x2 K))))
def wp_X5_goesBy_60 (S : jS) (t0 : Nat) (t1 : Int32) (x0 : Nat) (x1 : Int32) (x2 : Int32) (K : jS → Unit → Prop) : Prop :=
  jpi [8] 22 S t0 t1 (fun S1 => jgi [8] 22 S1 x0 (fun v2 => ((v2 = 100) → jgi [8] 23 S1 x0 (fun v3 => ((v3 ≤ 0) → wp_X5_goesBy_99 S1 x0 x1 x2 K) ∧ ((¬ (v3 ≤ 0)) → jgi [8] 23 S1 x0 (fun v4 => jpi [8] 23 S1 x0 (v4 - 1) (fun S5 => jgi [8] 26 S5 x0 (fun v6 => jpi [8] 26 S5 x0 (v6 + 1) (fun S7 => wp_X5_goesBy_99 S7 x0 x1 x2 K))))))) ∧ ((¬ (v2 = 100)) → wp_X5_goesBy_99 S1 x0 x1 x2 K)))
def wp_X5_goesBy (S : jS) (x0 : Nat) (x1 : Int32) (K : jS → Unit → Prop) : Prop :=
  jis 8 S x0 ∧ wp_X5_befalls S x0 x1 (fun S1 _ => jis 8 S1 x0 ∧ wp_X5_fireAt S1 x0 x1 (fun S2 r3 => jgi [8] 22 S2 x0 (fun v4 => jgi [8] 23 S2 x0 (fun v5 => (¬ (5 : Int32) = 0) ∧ (jpi [8] 22 S2 x0 (v4 + ((r3 - 2) - (v5 / 5))) (fun S6 => jgi [8] 22 S6 x0 (fun v7 => ((0 ≤ v7) → jgi [8] 22 S6 x0 (fun v8 => ((v8 ≤ 100) → jgi [8] 22 S6 x0 (fun v9 => wp_X5_goesBy_60 S6 x0 v9 x0 x1 r3 K)) ∧ ((¬ (v8 ≤ 100)) → wp_X5_goesBy_60 S6 x0 100 x0 x1 r3 K))) ∧ ((¬ (0 ≤ v7)) → wp_X5_goesBy_60 S6 x0 0 x0 x1 r3 K))))))))
abbrev d_X5_runs : Nat := 4
def wp_X5_runs_67 (S : jS) (t0 : Nat) (x0 : Nat) (x1 : Int32) (Kc43 : jS × Int32 → Prop) (K : jS → Unit → Prop) : Prop :=
  jas 0 S t0 x1 (-1) (fun S1 => jgr [8] 34 S1 x0 (fun v2 => jas 0 S1 v2 x1 0 (fun S3 => jgr [8] 35 S3 x0 (fun v4 => jas 0 S3 v4 x1 0 (fun S5 => Kc43 (S5, (x1 + 1)))))))
def wp_X5_runs_100 (S : jS) (t0 : Nat) (t1 : Int32) (x0 : Nat) (x1 : Int32) (Kc92 : jS × Int32 → Prop) (K : jS → Unit → Prop) : Prop :=
  jis 8 S t0 ∧ wp_X5_goesBy S t0 t1 (fun S1 _ => Kc92 (S1, (x1 + 1)))
def wp_X5_runs_92 (S : jS) (x0 : Nat) (x1 : Int32) (Kc92 : jS × Int32 → Prop) (K : jS → Unit → Prop) : Prop :=
  ((24 ≤ x1) → K S ()) ∧ ((¬ (24 ≤ x1)) → wp_X5_runs_100 S x0 x1 x0 x1 Kc92 K)
def wp_X5_runs_92_L (x0 : Nat) (K : jS → Unit → Prop) : (jS × Int32) → ((jS × Int32) → Prop) → Prop := fun z Kc92 => wp_X5_runs_92 z.1 x0 z.2 Kc92 K
def wp_X5_runs_43 (S : jS) (x0 : Nat) (x1 : Int32) (Kc43 : jS × Int32 → Prop) (K : jS → Unit → Prop) : Prop :=
  ((8 ≤ x1) → ∃ n : Nat, jlp n (wp_X5_runs_92_L x0 K) (S, 0)) ∧ ((¬ (8 ≤ x1)) → jgr [8] 31 S x0 (fun v1 => jas 0 S v1 x1 0 (fun S2 => jgr [8] 32 S2 x0 (fun v3 => jas 0 S2 v3 x1 0 (fun S4 => jgr [8] 33 S4 x0 (fun v5 => wp_X5_runs_67 S4 v5 x0 x1 Kc43 K))))))
def wp_X5_runs_43_L (x0 : Nat) (K : jS → Unit → Prop) : (jS × Int32) → ((jS × Int32) → Prop) → Prop := fun z Kc43 => wp_X5_runs_43 z.1 x0 z.2 Kc43 K
def wp_X5_runs (S : jS) (x0 : Nat) (K : jS → Unit → Prop) : Prop :=
  jpi [8] 22 S x0 0 (fun S1 => jgi [8] 20 S1 x0 (fun v2 => jpi [8] 23 S1 x0 v2 (fun S3 => jgi [8] 11 S3 x0 (fun v4 => jpi [8] 24 S3 x0 v4 (fun S5 => jpi [8] 26 S5 x0 0 (fun S6 => jpi [8] 27 S6 x0 0 (fun S7 => jpi [8] 28 S7 x0 (-1) (fun S8 => jpi [8] 29 S8 x0 0 (fun S9 => ∃ n : Nat, jlp n (wp_X5_runs_43_L x0 K) (S9, 0))))))))))
abbrev d_X5_isSeen : Nat := 5
def wp_X5_isSeen_50 (S : jS) (t0 : Int32) (x0 : Nat) (x2 : Int32) (Kc8 : jS × Int32 × Int32 → Prop) (K : jS → Int32 → Prop) : Prop :=
  Kc8 (S, t0, (x2 + 1))
def wp_X5_isSeen_57 (S : jS) (x1 : Int32) (K : jS → Int32 → Prop) : Prop :=
  ((x1 = 0 ∨ x1 = 1) ∧ K S x1)
def wp_X5_isSeen_8 (S : jS) (x0 : Nat) (x1 : Int32) (x2 : Int32) (Kc8 : jS × Int32 × Int32 → Prop) (K : jS → Int32 → Prop) : Prop :=
  jgi [8] 43 S x0 (fun v1 => ((v1 ≤ x2) → wp_X5_isSeen_57 S x1 K) ∧ ((¬ (v1 ≤ x2)) → ((x1 = 0) → wp_X5_isSeen_57 S x1 K) ∧ ((¬ (x1 = 0)) → jgr [8] 36 S x0 (fun v2 => jgr [8] 44 S x0 (fun v3 => jal 0 S v3 x2 (fun v4 => jal 0 S v2 ((6 * v4) + 4) (fun v5 => jgr [8] 45 S x0 (fun v6 => jal 0 S v6 x2 (fun v7 => ((v5 = v7) → wp_X5_isSeen_50 S 1 x0 x2 Kc8 K) ∧ ((¬ (v5 = v7)) → wp_X5_isSeen_50 S 0 x0 x2 Kc8 K))))))))))
def wp_X5_isSeen_8_L (x0 : Nat) (K : jS → Int32 → Prop) : (jS × Int32 × Int32) → ((jS × Int32 × Int32) → Prop) → Prop := fun z Kc8 => wp_X5_isSeen_8 z.1 x0 z.2.1 z.2.2 Kc8 K
def wp_X5_isSeen (S : jS) (x0 : Nat) (K : jS → Int32 → Prop) : Prop :=
  jis 8 S x0 ∧ wp_X5_runs S x0 (fun S1 _ => ∃ n : Nat, jlp n (wp_X5_isSeen_8_L x0 K) (S1, 1, 0))
abbrev d_X5_watersBy : Nat := 8
def wp_X5_watersBy_18 (S : jS) (t0 : Nat) (x0 : Nat) (x1 : Int32) (x2 : Int32) (Kc8 : jS × Int32 → Prop) (K : jS → Int32 → Prop) : Prop :=
  jas 0 S t0 x2 0 (fun S1 => Kc8 (S1, (x2 + 1)))
def wp_X5_watersBy_94 (S : jS) (t0 : Nat) (t1 : Int32) (t2 : Int32) (t3 : Int32) (x0 : Nat) (x1 : Int32) (x2 : Int32) (x3 : Int32) (Kc29 : jS × Int32 × Int32 → Prop) (Kc59 : jS × Int32 → Prop) (K : jS → Int32 → Prop) : Prop :=
  jas 0 S t0 t1 (t2 ||| t3) (fun S1 => Kc59 (S1, (x3 + 1)))
def wp_X5_watersBy_59 (S : jS) (x0 : Nat) (x1 : Int32) (x2 : Int32) (x3 : Int32) (Kc29 : jS × Int32 × Int32 → Prop) (Kc59 : jS × Int32 → Prop) (K : jS → Int32 → Prop) : Prop :=
  ((24 ≤ x3) → Kc29 (S, x1, (x2 + 1))) ∧ ((¬ (24 ≤ x3)) → jgr [8] 46 S x0 (fun v1 => jal 0 S v1 x3 (fun v2 => jgr [8] 36 S x0 (fun v3 => jal 0 S v3 ((6 * x3) + 4) (fun v4 => ((v4 = 1) → wp_X5_watersBy_94 S v1 x3 v2 (1 <<< (x2 &&& 31)) x0 x1 x2 x3 Kc29 Kc59 K) ∧ ((¬ (v4 = 1)) → wp_X5_watersBy_94 S v1 x3 v2 0 x0 x1 x2 x3 Kc29 Kc59 K))))))
def wp_X5_watersBy_59_L (x0 : Nat) (x1 : Int32) (x2 : Int32) (Kc29 : jS × Int32 × Int32 → Prop) (K : jS → Int32 → Prop) : (jS × Int32) → ((jS × Int32) → Prop) → Prop := fun z Kc59 => wp_X5_watersBy_59 z.1 x0 x1 x2 z.2 Kc29 Kc59 K
def wp_X5_watersBy_55 (S : jS) (t0 : Int32) (t1 : Int32) (x0 : Nat) (x2 : Int32) (Kc29 : jS × Int32 × Int32 → Prop) (K : jS → Int32 → Prop) : Prop :=
  ∃ n : Nat, jlp n (wp_X5_watersBy_59_L x0 (t0 ||| t1) x2 Kc29 K) (S, 0)
def wp_X5_watersBy_29 (S : jS) (x0 : Nat) (x1 : Int32) (x2 : Int32) (Kc29 : jS × Int32 × Int32 → Prop) (K : jS → Int32 → Prop) : Prop :=
  ((30 < x2) → K S x1) ∧ ((¬ (30 < x2)) → jpi [8] 20 S x0 x2 (fun S1 => jis 8 S1 x0 ∧ wp_X5_isSeen S1 x0 (fun S2 r3 => ((r3 = 0) → wp_X5_watersBy_55 S2 x1 0 x0 x2 Kc29 K) ∧ ((¬ (r3 = 0)) → wp_X5_watersBy_55 S2 x1 (1 <<< (x2 &&& 31)) x0 x2 Kc29 K))))
def wp_X5_watersBy_29_L (x0 : Nat) (K : jS → Int32 → Prop) : (jS × Int32 × Int32) → ((jS × Int32 × Int32) → Prop) → Prop := fun z Kc29 => wp_X5_watersBy_29 z.1 x0 z.2.1 z.2.2 Kc29 K
def wp_X5_watersBy_8 (S : jS) (x0 : Nat) (x1 : Int32) (x2 : Int32) (Kc8 : jS × Int32 → Prop) (K : jS → Int32 → Prop) : Prop :=
  ((24 ≤ x2) → ∃ n : Nat, jlp n (wp_X5_watersBy_29_L x0 K) (S, x1, 0)) ∧ ((¬ (24 ≤ x2)) → jgr [8] 46 S x0 (fun v1 => wp_X5_watersBy_18 S v1 x0 x1 x2 Kc8 K))
def wp_X5_watersBy_8_L (x0 : Nat) (x1 : Int32) (K : jS → Int32 → Prop) : (jS × Int32) → ((jS × Int32) → Prop) → Prop := fun z Kc8 => wp_X5_watersBy_8 z.1 x0 x1 z.2 Kc8 K
def wp_X5_watersBy (S : jS) (x0 : Nat) (K : jS → Int32 → Prop) : Prop :=
  jis 8 S x0 ∧ wp_X5_asTold S x0 (fun S1 _ => ∃ n : Nat, jlp n (wp_X5_watersBy_8_L x0 0 K) (S1, 0))
abbrev d_X5_askOf : Nat := 9
def wp_X5_askOf_106 (S : jS) (t0 : Int32) (x0 : Nat) (x1 : Int32) (x2 : Int32) (x4 : Int32) (Kc12 : jS × Int32 × Int32 × Int32 → Prop) (K : jS → Int32 → Prop) : Prop :=
  Kc12 (S, x2, t0, (x4 + 1))
def wp_X5_askOf_94 (S : jS) (t0 : Int32) (x0 : Nat) (x1 : Int32) (x3 : Int32) (x4 : Int32) (x7 : Int32) (x8 : Int32) (Kc12 : jS × Int32 × Int32 × Int32 → Prop) (K : jS → Int32 → Prop) : Prop :=
  ((x8 = 0) → wp_X5_askOf_106 S x3 x0 x1 t0 x4 Kc12 K) ∧ ((¬ (x8 = 0)) → wp_X5_askOf_106 S x7 x0 x1 t0 x4 Kc12 K)
def wp_X5_askOf_81 (S : jS) (t0 : Int32) (x0 : Nat) (x1 : Int32) (x2 : Int32) (x3 : Int32) (x4 : Int32) (x7 : Int32) (Kc12 : jS × Int32 × Int32 × Int32 → Prop) (K : jS → Int32 → Prop) : Prop :=
  ((t0 = 0) → wp_X5_askOf_94 S x2 x0 x1 x3 x4 x7 t0 Kc12 K) ∧ ((¬ (t0 = 0)) → wp_X5_askOf_94 S x4 x0 x1 x3 x4 x7 t0 Kc12 K)
def wp_X5_askOf_76 (S : jS) (x0 : Nat) (x1 : Int32) (x2 : Int32) (x3 : Int32) (x4 : Int32) (x7 : Int32) (Kc12 : jS × Int32 × Int32 × Int32 → Prop) (K : jS → Int32 → Prop) : Prop :=
  wp_X5_askOf_81 S 1 x0 x1 x2 x3 x4 x7 Kc12 K
def wp_X5_askOf_63 (S : jS) (t0 : Int32) (x0 : Nat) (x1 : Int32) (x2 : Int32) (x3 : Int32) (x4 : Int32) (Kc12 : jS × Int32 × Int32 × Int32 → Prop) (K : jS → Int32 → Prop) : Prop :=
  ((x2 = (-1)) → wp_X5_askOf_76 S x0 x1 x2 x3 x4 t0 Kc12 K) ∧ ((¬ (x2 = (-1))) → ((x3 ≤ t0) → wp_X5_askOf_81 S 0 x0 x1 x2 x3 x4 t0 Kc12 K) ∧ ((¬ (x3 ≤ t0)) → wp_X5_askOf_76 S x0 x1 x2 x3 x4 t0 Kc12 K))
def wp_X5_askOf_12 (S : jS) (x0 : Nat) (x1 : Int32) (x2 : Int32) (x3 : Int32) (x4 : Int32) (Kc12 : jS × Int32 × Int32 × Int32 → Prop) (K : jS → Int32 → Prop) : Prop :=
  ((24 ≤ x4) → K S x2) ∧ ((¬ (24 ≤ x4)) → jgr [8] 46 S x0 (fun v1 => jal 0 S v1 x4 (fun v2 => wp_X5_many S (x1 &&& v2) (fun S3 r4 => jgr [8] 46 S3 x0 (fun v5 => jal 0 S3 v5 x4 (fun v6 => wp_X5_many S3 (x1 &&& (v6 ^^^ (-1))) (fun S7 r8 => ((r4 ≤ r8) → wp_X5_askOf_63 S7 r8 x0 x1 x2 x3 x4 Kc12 K) ∧ ((¬ (r4 ≤ r8)) → wp_X5_askOf_63 S7 r4 x0 x1 x2 x3 x4 Kc12 K))))))))
def wp_X5_askOf_12_L (x0 : Nat) (x1 : Int32) (K : jS → Int32 → Prop) : (jS × Int32 × Int32 × Int32) → ((jS × Int32 × Int32 × Int32) → Prop) → Prop := fun z Kc12 => wp_X5_askOf_12 z.1 x0 x1 z.2.1 z.2.2.1 z.2.2.2 Kc12 K
def wp_X5_askOf (S : jS) (x0 : Nat) (K : jS → Int32 → Prop) : Prop :=
  jis 8 S x0 ∧ wp_X5_watersBy S x0 (fun S1 r2 => ∃ n : Nat, jlp n (wp_X5_askOf_12_L x0 r2 K) (S1, (-1), 0, 0))
abbrev d_X5_ask : Nat := 10
def wp_X5_ask (S : jS) (x0 : Nat) (K : jS → Int32 → Prop) : Prop :=
  jis 8 S x0 ∧ wp_X5_askOf S x0 (fun S1 r2 => K S1 r2)
abbrev d_X5_runsTold : Nat := 8
def wp_X5_runsTold (S : jS) (x0 : Nat) (K : jS → Unit → Prop) : Prop :=
  jis 8 S x0 ∧ wp_X5_asTold S x0 (fun S1 _ => jis 8 S1 x0 ∧ wp_X5_runs S1 x0 (fun S2 _ => K S2 ()))
abbrev d_X5_atOf : Nat := 9
def wp_X5_atOf (S : jS) (x0 : Nat) (x1 : Int32) (x2 : Int32) (K : jS → Int32 → Prop) : Prop :=
  jis 8 S x0 ∧ wp_X5_runsTold S x0 (fun S1 _ => jgr [8] 36 S1 x0 (fun v2 => jal 0 S1 v2 ((6 * x1) + x2) (fun v3 => K S1 v3)))
abbrev d_X5_at : Nat := 10
def wp_X5_at_27 (S : jS) (t0 : Int32) (K : jS → Int32 → Prop) : Prop :=
  K S t0
def wp_X5_at_25 (S : jS) (K : jS → Int32 → Prop) : Prop :=
  wp_X5_at_27 S (-2) K
def wp_X5_at (S : jS) (x0 : Nat) (x1 : Int32) (x2 : Int32) (K : jS → Int32 → Prop) : Prop :=
  wp_X5_isMinute S x1 (fun S1 r2 => ((r2 = 0) → wp_X5_at_25 S1 K) ∧ ((¬ (r2 = 0)) → wp_X5_in S1 x2 0 5 (fun S3 r4 => ((r4 = 0) → wp_X5_at_25 S3 K) ∧ ((¬ (r4 = 0)) → jis 8 S3 x0 ∧ wp_X5_atOf S3 x0 x1 x2 (fun S5 r6 => wp_X5_at_27 S5 r6 K)))))
abbrev d_X5_back : Nat := 1
def wp_X5_back (S : jS) (x0 : Nat) (K : jS → Int32 → Prop) : Prop :=
  jgi [8] 12 S x0 (fun v1 => ((v1 = 0) → K S (-3)) ∧ ((¬ (v1 = 0)) → jgi [8] 12 S x0 (fun v2 => jpi [8] 12 S x0 (v2 - 1) (fun S3 => jgi [8] 12 S3 x0 (fun v4 => K S3 v4)))))
abbrev d_X5_starts : Nat := 8
def wp_X5_starts (S : jS) (x0 : Nat) (K : jS → Unit → Prop) : Prop :=
  jis 8 S x0 ∧ wp_X5_asTold S x0 (fun S1 _ => jpi [8] 40 S1 x0 (-1) (fun S2 => jpi [8] 41 S2 x0 (-1) (fun S3 => K S3 ())))
abbrev d_X5_drunkNow : Nat := 1
def wp_X5_drunkNow_14 (S : jS) (t0 : Int32) (t1 : Nat) (x0 : Nat) (x2 : Int32) (Kc4 : jS × Int32 × Int32 → Prop) (K : jS → Int32 → Prop) : Prop :=
  jgr [8] 32 S t1 (fun v1 => jal 0 S v1 x2 (fun v2 => Kc4 (S, (t0 + v2), (x2 + 1))))
def wp_X5_drunkNow_4 (S : jS) (x0 : Nat) (x1 : Int32) (x2 : Int32) (Kc4 : jS × Int32 × Int32 → Prop) (K : jS → Int32 → Prop) : Prop :=
  jgi [8] 16 S x0 (fun v1 => ((v1 ≤ x2) → K S x1) ∧ ((¬ (v1 ≤ x2)) → wp_X5_drunkNow_14 S x1 x0 x0 x2 Kc4 K))
def wp_X5_drunkNow_4_L (x0 : Nat) (K : jS → Int32 → Prop) : (jS × Int32 × Int32) → ((jS × Int32 × Int32) → Prop) → Prop := fun z Kc4 => wp_X5_drunkNow_4 z.1 x0 z.2.1 z.2.2 Kc4 K
def wp_X5_drunkNow (S : jS) (x0 : Nat) (K : jS → Int32 → Prop) : Prop :=
  ∃ n : Nat, jlp n (wp_X5_drunkNow_4_L x0 K) (S, 0, 0)
abbrev d_X5_tries : Nat := 5
def wp_X5_tries_46 (S : jS) (t0 : Nat) (t1 : Int32) (K : jS → Unit → Prop) : Prop :=
  jpi [8] 41 S t0 t1 (fun S1 => K S1 ())
def wp_X5_tries_26 (S : jS) (t0 : Nat) (t1 : Int32) (x0 : Nat) (x2 : Int32) (K : jS → Unit → Prop) : Prop :=
  jpi [8] 40 S t0 t1 (fun S1 => jgi [8] 41 S1 x0 (fun v2 => ((x2 ≤ v2) → jgi [8] 41 S1 x0 (fun v3 => wp_X5_tries_46 S1 x0 v3 K)) ∧ ((¬ (x2 ≤ v2)) → wp_X5_tries_46 S1 x0 x2 K)))
def wp_X5_tries (S : jS) (x0 : Nat) (x1 : Int32) (K : jS → Unit → Prop) : Prop :=
  jis 8 S x0 ∧ wp_X5_runs S x0 (fun S1 _ => jis 8 S1 x0 ∧ wp_X5_drunkNow S1 x0 (fun S2 r3 => jgi [8] 41 S2 x0 (fun v4 => ((r3 ≤ v4) → jgi [8] 40 S2 x0 (fun v5 => wp_X5_tries_26 S2 x0 v5 x0 r3 K)) ∧ ((¬ (r3 ≤ v4)) → wp_X5_tries_26 S2 x0 x1 x0 r3 K))))
abbrev d_X5_betterOf : Nat := 9
def wp_X5_betterOf_25 (S : jS) (t0 : Nat) (t1 : Int32) (x0 : Nat) (x1 : Int32) (x2 : Int32) (x3 : Int32) (x4 : Int32) (Kc14 : jS × Int32 → Prop) (K : jS → Int32 → Prop) : Prop :=
  jas 0 S t0 t1 x4 (fun S1 => jis 8 S1 x0 ∧ wp_X5_tries S1 x0 x4 (fun S2 _ => Kc14 (S2, (x4 + 1))))
def wp_X5_betterOf_62 (S : jS) (t0 : Int32) (K : jS → Int32 → Prop) : Prop :=
  K S t0
def wp_X5_betterOf_45 (S : jS) (t0 : Nat) (t1 : Int32) (x0 : Nat) (x2 : Int32) (x3 : Int32) (K : jS → Int32 → Prop) : Prop :=
  jas 0 S t0 t1 x3 (fun S1 => ((x2 = 0) → jgi [8] 40 S1 x0 (fun v2 => wp_X5_betterOf_62 S1 v2 K)) ∧ ((¬ (x2 = 0)) → jgi [8] 41 S1 x0 (fun v3 => wp_X5_betterOf_62 S1 v3 K)))
def wp_X5_betterOf_14 (S : jS) (x0 : Nat) (x1 : Int32) (x2 : Int32) (x3 : Int32) (x4 : Int32) (Kc14 : jS × Int32 → Prop) (K : jS → Int32 → Prop) : Prop :=
  ((3 ≤ x4) → jgr [8] 4 S x0 (fun v1 => wp_X5_betterOf_45 S v1 x1 x0 x2 x3 K)) ∧ ((¬ (3 ≤ x4)) → jgr [8] 4 S x0 (fun v2 => wp_X5_betterOf_25 S v2 x1 x0 x1 x2 x3 x4 Kc14 K))
def wp_X5_betterOf_14_L (x0 : Nat) (x1 : Int32) (x2 : Int32) (x3 : Int32) (K : jS → Int32 → Prop) : (jS × Int32) → ((jS × Int32) → Prop) → Prop := fun z Kc14 => wp_X5_betterOf_14 z.1 x0 x1 x2 x3 z.2 Kc14 K
def wp_X5_betterOf (S : jS) (x0 : Nat) (x1 : Int32) (x2 : Int32) (K : jS → Int32 → Prop) : Prop :=
  jis 8 S x0 ∧ wp_X5_starts S x0 (fun S1 _ => jgr [8] 4 S1 x0 (fun v2 => jal 0 S1 v2 x1 (fun v3 => ∃ n : Nat, jlp n (wp_X5_betterOf_14_L x0 x1 x2 v3 K) (S1, 0))))
abbrev d_X5_isPiece : Nat := 7
def wp_X5_isPiece (S : jS) (x0 : Nat) (x1 : Int32) (K : jS → Int32 → Prop) : Prop :=
  jis 8 S x0 ∧ wp_X5_reads S x0 (fun S1 _ => jgi [8] 2 S1 x0 (fun v2 => wp_X5_in S1 x1 0 (v2 - 1) (fun S3 r4 => ((r4 = 0 ∨ r4 = 1) ∧ K S3 r4))))
abbrev d_X5_isTwo : Nat := 2
def wp_X5_isTwo (S : jS) (x0 : Int32) (K : jS → Int32 → Prop) : Prop :=
  wp_X5_in S x0 0 1 (fun S1 r2 => ((r2 = 0 ∨ r2 = 1) ∧ K S1 r2))
abbrev d_X5_better : Nat := 10
def wp_X5_better_26 (S : jS) (t0 : Int32) (K : jS → Int32 → Prop) : Prop :=
  K S t0
def wp_X5_better_24 (S : jS) (K : jS → Int32 → Prop) : Prop :=
  wp_X5_better_26 S (-2) K
def wp_X5_better (S : jS) (x0 : Nat) (x1 : Int32) (x2 : Int32) (K : jS → Int32 → Prop) : Prop :=
  jis 8 S x0 ∧ wp_X5_isPiece S x0 x1 (fun S1 r2 => ((r2 = 0) → wp_X5_better_24 S1 K) ∧ ((¬ (r2 = 0)) → wp_X5_isTwo S1 x2 (fun S3 r4 => ((r4 = 0) → wp_X5_better_24 S3 K) ∧ ((¬ (r4 = 0)) → jis 8 S3 x0 ∧ wp_X5_betterOf S3 x0 x1 x2 (fun S5 r6 => wp_X5_better_26 S5 r6 K)))))
abbrev d_X5_lowest : Nat := 1
def wp_X5_lowest_17 (S : jS) (t0 : Int64) (t1 : Int64) (x0 : Int64) (x2 : Int64) (x4 : Int32) (x7 : Int64) (Kc6 : jS × Int64 × Int64 → Prop) (K : jS → Int64 → Prop) : Prop :=
  (¬ (t1 : Int64) = 0) ∧ (Kc6 (S, x7, (t0 - t0 / t1 * t1)))
def wp_X5_lowest_47 (S : jS) (t0 : Int64) (K : jS → Int64 → Prop) : Prop :=
  K S t0
def wp_X5_lowest_36 (S : jS) (x0 : Int64) (x5 : Int64) (K : jS → Int64 → Prop) : Prop :=
  (¬ (x5 : Int64) = 0) ∧ (wp_X5_lowest_47 S (x0 / x5) K)
def wp_X5_lowest_43 (S : jS) (x2 : Int64) (x5 : Int64) (K : jS → Int64 → Prop) : Prop :=
  (¬ (x5 : Int64) = 0) ∧ (wp_X5_lowest_47 S (x2 / x5) K)
def wp_X5_lowest_6 (S : jS) (x0 : Int64) (x2 : Int64) (x4 : Int32) (x5 : Int64) (x7 : Int64) (Kc6 : jS × Int64 × Int64 → Prop) (K : jS → Int64 → Prop) : Prop :=
  (((lg_cmp x7 0) = 0) → ((x4 = 0) → wp_X5_lowest_36 S x0 x5 K) ∧ ((¬ (x4 = 0)) → wp_X5_lowest_43 S x2 x5 K)) ∧ ((¬ ((lg_cmp x7 0) = 0)) → wp_X5_lowest_17 S x5 x7 x0 x2 x4 x7 Kc6 K)
def wp_X5_lowest_6_L (x0 : Int64) (x2 : Int64) (x4 : Int32) (K : jS → Int64 → Prop) : (jS × Int64 × Int64) → ((jS × Int64 × Int64) → Prop) → Prop := fun z Kc6 => wp_X5_lowest_6 z.1 x0 x2 x4 z.2.1 z.2.2 Kc6 K
def wp_X5_lowest (S : jS) (x0 : Int64) (x2 : Int64) (x4 : Int32) (K : jS → Int64 → Prop) : Prop :=
  ∃ n : Nat, jlp n (wp_X5_lowest_6_L x0 x2 x4 K) (S, x0, x2)
abbrev d_X5_chanceOf : Nat := 8
def wp_X5_chanceOf_58 (S : jS) (t0 : Int64) (t1 : Int64) (x0 : Nat) (x1 : Int32) (x2 : Int32) (x3 : Int32) (x4 : Int64) (x6 : Int32) (x9 : Int32) (Kc10 : jS × Int64 × Int32 → Prop) (Kc27 : jS × Int64 × Int32 → Prop) (K : jS → Int64 → Prop) : Prop :=
  Kc27 (S, (t0 * t1), (x9 + 1))
def wp_X5_chanceOf_105 (S : jS) (x0 : Nat) (x1 : Int32) (x2 : Int32) (x3 : Int32) (x4 : Int64) (x6 : Int32) (Kc10 : jS × Int64 × Int32 → Prop) (K : jS → Int64 → Prop) : Prop :=
  Kc10 (S, x4, (x6 + 1))
def wp_X5_chanceOf_102 (S : jS) (t0 : Int64) (t1 : Int64) (x0 : Nat) (x1 : Int32) (x2 : Int32) (x3 : Int32) (x6 : Int32) (Kc10 : jS × Int64 × Int32 → Prop) (K : jS → Int64 → Prop) : Prop :=
  wp_X5_chanceOf_105 S x0 x1 x2 x3 (t0 + t1) x6 Kc10 K
def wp_X5_chanceOf_27 (S : jS) (x0 : Nat) (x1 : Int32) (x2 : Int32) (x3 : Int32) (x4 : Int64) (x6 : Int32) (x7 : Int64) (x9 : Int32) (Kc10 : jS × Int64 × Int32 → Prop) (Kc27 : jS × Int64 × Int32 → Prop) (K : jS → Int64 → Prop) : Prop :=
  jgi [8] 12 S x0 (fun v1 => ((v1 ≤ x9) → (((lg_cmp x7 0) ≤ 0) → wp_X5_chanceOf_105 S x0 x1 x2 x3 x4 x6 Kc10 K) ∧ ((¬ ((lg_cmp x7 0) ≤ 0)) → jpi [8] 21 S x0 x6 (fun S2 => jis 8 S2 x0 ∧ wp_X5_runs S2 x0 (fun S3 _ => jgr [8] 31 S3 x0 (fun v4 => jal 0 S3 v4 x2 (fun v5 => ((v5 = 3) → wp_X5_chanceOf_102 S3 x4 x7 x0 x1 x2 x3 x6 Kc10 K) ∧ ((¬ (v5 = 3)) → wp_X5_chanceOf_102 S3 x4 0 x0 x1 x2 x3 x6 Kc10 K))))))) ∧ ((¬ (v1 ≤ x9)) → wp_X5_isIn S x6 x9 (fun S8 r9 => ((r9 = 0) → wp_X5_chanceOf_58 S8 x7 ((x1 : Int32).toInt64) x0 x1 x2 x3 x4 x6 x9 Kc10 Kc27 K) ∧ ((¬ (r9 = 0)) → wp_X5_chanceOf_58 S8 x7 (((16 - x1) : Int32).toInt64) x0 x1 x2 x3 x4 x6 x9 Kc10 Kc27 K))))
def wp_X5_chanceOf_27_L (x0 : Nat) (x1 : Int32) (x2 : Int32) (x3 : Int32) (x4 : Int64) (x6 : Int32) (Kc10 : jS × Int64 × Int32 → Prop) (K : jS → Int64 → Prop) : (jS × Int64 × Int32) → ((jS × Int64 × Int32) → Prop) → Prop := fun z Kc27 => wp_X5_chanceOf_27 z.1 x0 x1 x2 x3 x4 x6 z.2.1 z.2.2 Kc10 Kc27 K
def wp_X5_chanceOf_10 (S : jS) (x0 : Nat) (x1 : Int32) (x2 : Int32) (x3 : Int32) (x4 : Int64) (x6 : Int32) (Kc10 : jS × Int64 × Int32 → Prop) (K : jS → Int64 → Prop) : Prop :=
  jgi [8] 12 S x0 (fun v1 => (((1 <<< (v1 &&& 31)) ≤ x6) → jgi [8] 12 S x0 (fun v2 => wp_X5_lowest S x4 (1 <<< (((4 * v2) : Int32).toInt64 &&& 63)) x3 (fun S3 r4 => K S3 r4))) ∧ ((¬ ((1 <<< (v1 &&& 31)) ≤ x6)) → ∃ n : Nat, jlp n (wp_X5_chanceOf_27_L x0 x1 x2 x3 x4 x6 Kc10 K) (S, 1, 0)))
def wp_X5_chanceOf_10_L (x0 : Nat) (x1 : Int32) (x2 : Int32) (x3 : Int32) (K : jS → Int64 → Prop) : (jS × Int64 × Int32) → ((jS × Int64 × Int32) → Prop) → Prop := fun z Kc10 => wp_X5_chanceOf_10 z.1 x0 x1 x2 x3 z.2.1 z.2.2 Kc10 K
def wp_X5_chanceOf (S : jS) (x0 : Nat) (x1 : Int32) (x2 : Int32) (x3 : Int32) (K : jS → Int64 → Prop) : Prop :=
  jis 8 S x0 ∧ wp_X5_asTold S x0 (fun S1 _ => ∃ n : Nat, jlp n (wp_X5_chanceOf_10_L x0 x1 x2 x3 K) (S1, 0, 0))
abbrev d_X5_isGuest : Nat := 7
def wp_X5_isGuest (S : jS) (x0 : Nat) (x1 : Int32) (K : jS → Int32 → Prop) : Prop :=
  jis 8 S x0 ∧ wp_X5_reads S x0 (fun S1 _ => jgi [8] 6 S1 x0 (fun v2 => wp_X5_in S1 x1 0 (v2 - 1) (fun S3 r4 => ((r4 = 0 ∨ r4 = 1) ∧ K S3 r4))))
abbrev d_X5_no : Nat := 1
def wp_X5_no (S : jS) (x0 : Int32) (K : jS → Int64 → Prop) : Prop :=
  K S ((-9223372036854775808) - ((x0 : Int32).toInt64))
abbrev d_X5_chance : Nat := 9
def wp_X5_chance_40 (S : jS) (t0 : Int64) (K : jS → Int64 → Prop) : Prop :=
  K S t0
def wp_X5_chance_35 (S : jS) (K : jS → Int64 → Prop) : Prop :=
  wp_X5_no S (-2) (fun S1 r2 => wp_X5_chance_40 S1 r2 K)
def wp_X5_chance (S : jS) (x0 : Nat) (x1 : Int32) (x2 : Int32) (x3 : Int32) (K : jS → Int64 → Prop) : Prop :=
  wp_X5_in S x1 0 16 (fun S1 r2 => ((r2 = 0) → wp_X5_chance_35 S1 K) ∧ ((¬ (r2 = 0)) → jis 8 S1 x0 ∧ wp_X5_isGuest S1 x0 x2 (fun S3 r4 => ((r4 = 0) → wp_X5_chance_35 S3 K) ∧ ((¬ (r4 = 0)) → wp_X5_isTwo S3 x3 (fun S5 r6 => ((r6 = 0) → wp_X5_chance_35 S5 K) ∧ ((¬ (r6 = 0)) → jis 8 S5 x0 ∧ wp_X5_chanceOf S5 x0 x1 x2 x3 (fun S7 r8 => wp_X5_chance_40 S7 r8 K)))))))
abbrev d_X5_comeOf : Nat := 9
def wp_X5_comeOf_17 (S : jS) (t0 : Nat) (t1 : Int32) (x0 : Nat) (x1 : Int32) (x2 : Int32) (x3 : Int32) (Kc6 : jS × Int32 → Prop) (K : jS → Int32 → Prop) : Prop :=
  jas 0 S t0 t1 x3 (fun S1 => jis 8 S1 x0 ∧ wp_X5_tries S1 x0 x3 (fun S2 _ => Kc6 (S2, (x3 + 1))))
def wp_X5_comeOf_45 (S : jS) (t0 : Int32) (K : jS → Int32 → Prop) : Prop :=
  K S t0
def wp_X5_comeOf_35 (S : jS) (t0 : Nat) (K : jS → Int32 → Prop) : Prop :=
  jgi [8] 40 S t0 (fun v1 => wp_X5_comeOf_45 S v1 K)
def wp_X5_comeOf_42 (S : jS) (t0 : Nat) (K : jS → Int32 → Prop) : Prop :=
  jgi [8] 41 S t0 (fun v1 => wp_X5_comeOf_45 S v1 K)
def wp_X5_comeOf_6 (S : jS) (x0 : Nat) (x1 : Int32) (x2 : Int32) (x3 : Int32) (Kc6 : jS × Int32 → Prop) (K : jS → Int32 → Prop) : Prop :=
  ((24 ≤ x3) → ((x2 = 0) → wp_X5_comeOf_35 S x0 K) ∧ ((¬ (x2 = 0)) → wp_X5_comeOf_42 S x0 K)) ∧ ((¬ (24 ≤ x3)) → jgr [8] 17 S x0 (fun v2 => wp_X5_comeOf_17 S v2 x1 x0 x1 x2 x3 Kc6 K))
def wp_X5_comeOf_6_L (x0 : Nat) (x1 : Int32) (x2 : Int32) (K : jS → Int32 → Prop) : (jS × Int32) → ((jS × Int32) → Prop) → Prop := fun z Kc6 => wp_X5_comeOf_6 z.1 x0 x1 x2 z.2 Kc6 K
def wp_X5_comeOf (S : jS) (x0 : Nat) (x1 : Int32) (x2 : Int32) (K : jS → Int32 → Prop) : Prop :=
  jis 8 S x0 ∧ wp_X5_starts S x0 (fun S1 _ => ∃ n : Nat, jlp n (wp_X5_comeOf_6_L x0 x1 x2 K) (S1, 0))
abbrev d_X5_come : Nat := 10
def wp_X5_come_26 (S : jS) (t0 : Int32) (K : jS → Int32 → Prop) : Prop :=
  K S t0
def wp_X5_come_24 (S : jS) (K : jS → Int32 → Prop) : Prop :=
  wp_X5_come_26 S (-2) K
def wp_X5_come (S : jS) (x0 : Nat) (x1 : Int32) (x2 : Int32) (K : jS → Int32 → Prop) : Prop :=
  jis 8 S x0 ∧ wp_X5_isGuest S x0 x1 (fun S1 r2 => ((r2 = 0) → wp_X5_come_24 S1 K) ∧ ((¬ (r2 = 0)) → wp_X5_isTwo S1 x2 (fun S3 r4 => ((r4 = 0) → wp_X5_come_24 S3 K) ∧ ((¬ (r4 = 0)) → jis 8 S3 x0 ∧ wp_X5_comeOf S3 x0 x1 x2 (fun S5 r6 => wp_X5_come_26 S5 r6 K)))))
abbrev d_X5_isSheet : Nat := 2
def wp_X5_isSheet (S : jS) (x0 : Int32) (K : jS → Int32 → Prop) : Prop :=
  wp_X5_in S x0 0 3 (fun S1 r2 => ((r2 = 0 ∨ r2 = 1) ∧ K S1 r2))
abbrev d_X5_meets : Nat := 1
def wp_X5_meets (S : jS) (x0 : Nat) (x1 : Int32) (K : jS → Int32 → Prop) : Prop :=
  jpi [8] 52 S x0 x1 (fun S1 => K S1 ((-10) - x1))
abbrev d_X5_copy : Nat := 3
def wp_X5_copy_14 (S : jS) (K : jS → Int32 → Prop) : Prop :=
  K S (-2)
def wp_X5_copy_35 (S : jS) (x0 : Nat) (K : jS → Int32 → Prop) : Prop :=
  jis 8 S x0 ∧ wp_X5_meets S x0 1 (fun S1 r2 => K S1 r2)
def wp_X5_copy_111 (S : jS) (x0 : Nat) (K : jS → Int32 → Prop) : Prop :=
  jis 8 S x0 ∧ wp_X5_meets S x0 2 (fun S1 r2 => K S1 r2)
def wp_X5_copy_134 (S : jS) (t0 : Nat) (t1 : Int32) (t2 : Nat) (x0 : Nat) (x1 : Int32) (x2 : Int32) (x3 : Int32) (x4 : Int32) (x5 : Int32) (x6 : Int32) (Kc120 : jS × Int32 → Prop) (K : jS → Int32 → Prop) : Prop :=
  jgr [8] 50 S t2 (fun v1 => jal 0 S v1 (((60 * x1) + x2) + x6) (fun v2 => jas 0 S t0 t1 v2 (fun S3 => Kc120 (S3, (x6 + 1)))))
def wp_X5_copy_171 (S : jS) (t0 : Nat) (t1 : Int32) (t2 : Int32) (x0 : Nat) (x3 : Int32) (x4 : Int32) (x5 : Int32) (x6 : Int32) (Kc157 : jS × Int32 → Prop) (K : jS → Int32 → Prop) : Prop :=
  jgr [8] 51 S x0 (fun v1 => jal 0 S v1 x6 (fun v2 => jas 0 S t0 (((t1 * t2) + x4) + x6) v2 (fun S3 => Kc157 (S3, (x6 + 1)))))
def wp_X5_copy_157 (S : jS) (x0 : Nat) (x3 : Int32) (x4 : Int32) (x5 : Int32) (x6 : Int32) (Kc157 : jS × Int32 → Prop) (K : jS → Int32 → Prop) : Prop :=
  ((x5 ≤ x6) → K S 1) ∧ ((¬ (x5 ≤ x6)) → jgr [8] 50 S x0 (fun v1 => wp_X5_copy_171 S v1 60 x3 x0 x3 x4 x5 x6 Kc157 K))
def wp_X5_copy_157_L (x0 : Nat) (x3 : Int32) (x4 : Int32) (x5 : Int32) (K : jS → Int32 → Prop) : (jS × Int32) → ((jS × Int32) → Prop) → Prop := fun z Kc157 => wp_X5_copy_157 z.1 x0 x3 x4 x5 z.2 Kc157 K
def wp_X5_copy_120 (S : jS) (x0 : Nat) (x1 : Int32) (x2 : Int32) (x3 : Int32) (x4 : Int32) (x5 : Int32) (x6 : Int32) (Kc120 : jS × Int32 → Prop) (K : jS → Int32 → Prop) : Prop :=
  ((x5 ≤ x6) → ∃ n : Nat, jlp n (wp_X5_copy_157_L x0 x3 x4 x5 K) (S, 0)) ∧ ((¬ (x5 ≤ x6)) → jgr [8] 51 S x0 (fun v1 => wp_X5_copy_134 S v1 x6 x0 x0 x1 x2 x3 x4 x5 x6 Kc120 K))
def wp_X5_copy_120_L (x0 : Nat) (x1 : Int32) (x2 : Int32) (x3 : Int32) (x4 : Int32) (x5 : Int32) (K : jS → Int32 → Prop) : (jS × Int32) → ((jS × Int32) → Prop) → Prop := fun z Kc120 => wp_X5_copy_120 z.1 x0 x1 x2 x3 x4 x5 z.2 Kc120 K
def wp_X5_copy_96 (S : jS) (t0 : Int64) (x0 : Nat) (x1 : Int32) (x2 : Int32) (x3 : Int32) (x4 : Int32) (x5 : Int32) (K : jS → Int32 → Prop) : Prop :=
  jgr [8] 49 S x0 (fun v1 => jal 0 S v1 x3 (fun v2 => (((lg_cmp (t0 + ((x5 : Int32).toInt64)) ((v2 : Int32).toInt64)) ≤ 0) → ∃ n : Nat, jlp n (wp_X5_copy_120_L x0 x1 x2 x3 x4 x5 K) (S, 0)) ∧ ((¬ ((lg_cmp (t0 + ((x5 : Int32).toInt64)) ((v2 : Int32).toInt64)) ≤ 0)) → wp_X5_copy_111 S x0 K)))
def wp_X5_copy (S : jS) (x0 : Nat) (x1 : Int32) (x2 : Int32) (x3 : Int32) (x4 : Int32) (x5 : Int32) (K : jS → Int32 → Prop) : Prop :=
  wp_X5_isSheet S x1 (fun S1 r2 => ((r2 = 0) → wp_X5_copy_14 S1 K) ∧ ((¬ (r2 = 0)) → wp_X5_isSheet S1 x3 (fun S3 r4 => ((r4 = 0) → wp_X5_copy_14 S3 K) ∧ ((¬ (r4 = 0)) → jgr [8] 47 S3 x0 (fun v5 => jal 3 S3 v5 x1 (fun v6 => ((v6 = 0) → wp_X5_copy_35 S3 x0 K) ∧ ((¬ (v6 = 0)) → jgr [8] 47 S3 x0 (fun v7 => jal 3 S3 v7 x3 (fun v8 => ((v8 = 0) → wp_X5_copy_35 S3 x0 K) ∧ ((¬ (v8 = 0)) → jgr [8] 48 S3 x0 (fun v9 => jal 0 S3 v9 x1 (fun v10 => jgr [8] 48 S3 x0 (fun v11 => jal 0 S3 v11 x3 (fun v12 => ((v10 = v12) → ((x2 < 0) → wp_X5_copy_111 S3 x0 K) ∧ ((¬ (x2 < 0)) → ((x4 < 0) → wp_X5_copy_111 S3 x0 K) ∧ ((¬ (x4 < 0)) → ((x5 < 0) → wp_X5_copy_111 S3 x0 K) ∧ ((¬ (x5 < 0)) → jgr [8] 49 S3 x0 (fun v13 => jal 0 S3 v13 x1 (fun v14 => ((0 < (lg_cmp (((x2 : Int32).toInt64) + ((x5 : Int32).toInt64)) ((v14 : Int32).toInt64))) → wp_X5_copy_111 S3 x0 K) ∧ ((¬ (0 < (lg_cmp (((x2 : Int32).toInt64) + ((x5 : Int32).toInt64)) ((v14 : Int32).toInt64)))) → wp_X5_copy_96 S3 ((x4 : Int32).toInt64) x0 x1 x2 x3 x4 x5 K))))))) ∧ ((¬ (v10 = v12)) → jis 8 S3 x0 ∧ wp_X5_meets S3 x0 4 (fun S19 r20 => K S19 r20))))))))))))))))
abbrev d_X5_manyOf : Nat := 1
def wp_X5_manyOf_28 (S : jS) (t0 : Int32) (t1 : Int32) (x0 : Nat) (x1 : Int32) (x3 : Int32) (Kc4 : jS × Int32 × Int32 → Prop) (K : jS → Int32 → Prop) : Prop :=
  Kc4 (S, (t0 + t1), (x3 + 1))
def wp_X5_manyOf_4 (S : jS) (x0 : Nat) (x1 : Int32) (x2 : Int32) (x3 : Int32) (Kc4 : jS × Int32 × Int32 → Prop) (K : jS → Int32 → Prop) : Prop :=
  jgi [8] 16 S x0 (fun v1 => ((v1 ≤ x3) → K S x2) ∧ ((¬ (v1 ≤ x3)) → jgr [8] 31 S x0 (fun v2 => jal 0 S v2 x3 (fun v3 => ((v3 = x1) → wp_X5_manyOf_28 S x2 1 x0 x1 x3 Kc4 K) ∧ ((¬ (v3 = x1)) → wp_X5_manyOf_28 S x2 0 x0 x1 x3 Kc4 K)))))
def wp_X5_manyOf_4_L (x0 : Nat) (x1 : Int32) (K : jS → Int32 → Prop) : (jS × Int32 × Int32) → ((jS × Int32 × Int32) → Prop) → Prop := fun z Kc4 => wp_X5_manyOf_4 z.1 x0 x1 z.2.1 z.2.2 Kc4 K
def wp_X5_manyOf (S : jS) (x0 : Nat) (x1 : Int32) (K : jS → Int32 → Prop) : Prop :=
  ∃ n : Nat, jlp n (wp_X5_manyOf_4_L x0 x1 K) (S, 0, 0)
abbrev d_X5_sumOf : Nat := 9
def wp_X5_sumOf (S : jS) (x0 : Nat) (x1 : Int32) (K : jS → Int32 → Prop) : Prop :=
  jis 8 S x0 ∧ wp_X5_runsTold S x0 (fun S1 _ => ((x1 = 0) → jis 8 S1 x0 ∧ wp_X5_drunkNow S1 x0 (fun S3 r4 => K S3 r4)) ∧ ((¬ (x1 = 0)) → ((x1 = 1) → jis 8 S1 x0 ∧ wp_X5_manyOf S1 x0 3 (fun S6 r7 => K S6 r7)) ∧ ((¬ (x1 = 1)) → ((x1 = 2) → jis 8 S1 x0 ∧ wp_X5_manyOf S1 x0 4 (fun S9 r10 => K S9 r10)) ∧ ((¬ (x1 = 2)) → ((x1 = 3) → jgi [8] 26 S1 x0 (fun v12 => K S1 v12)) ∧ ((¬ (x1 = 3)) → jgi [8] 27 S1 x0 (fun v13 => K S1 v13))))))
abbrev d_X5_tellOf : Nat := 7
def wp_X5_tellOf_19 (S : jS) (t0 : Int32) (K : jS → Int32 → Prop) : Prop :=
  K S t0
def wp_X5_tellOf (S : jS) (x0 : Nat) (x1 : Int32) (K : jS → Int32 → Prop) : Prop :=
  jis 8 S x0 ∧ wp_X5_reads S x0 (fun S1 _ => ((x1 = 0) → jgi [8] 2 S1 x0 (fun v2 => wp_X5_tellOf_19 S1 v2 K)) ∧ ((¬ (x1 = 0)) → jgi [8] 6 S1 x0 (fun v3 => wp_X5_tellOf_19 S1 v3 K)))
abbrev d_X5_count : Nat := 10
def wp_X5_count_52 (S : jS) (x0 : Nat) (x1 : Int32) (K : jS → Int32 → Prop) : Prop :=
  jis 8 S x0 ∧ wp_X5_tellOf S x0 x1 (fun S1 r2 => K S1 r2)
def wp_X5_count (S : jS) (x0 : Nat) (x1 : Int32) (K : jS → Int32 → Prop) : Prop :=
  ((x1 = 0) → wp_X5_count_52 S x0 x1 K) ∧ ((¬ (x1 = 0)) → ((x1 = 1) → wp_X5_count_52 S x0 x1 K) ∧ ((¬ (x1 = 1)) → ((x1 = 2) → jgr [8] 0 S x0 (fun v4 => jal 0 S v4 0 (fun v5 => jgr [8] 0 S x0 (fun v6 => jal 0 S v6 1 (fun v7 => K S (v5 + v7)))))) ∧ ((¬ (x1 = 2)) → ((x1 = 3) → jgi [8] 12 S x0 (fun v9 => K S v9)) ∧ ((¬ (x1 = 3)) → ((x1 = 4) → jis 8 S x0 ∧ wp_X5_sumOf S x0 0 (fun S11 r12 => K S11 r12)) ∧ ((¬ (x1 = 4)) → ((x1 = 5) → jgi [8] 10 S x0 (fun v14 => K S v14)) ∧ ((¬ (x1 = 5)) → ((x1 = 6) → jgi [8] 11 S x0 (fun v16 => K S v16)) ∧ ((¬ (x1 = 6)) → ((x1 = 7) → jgi [8] 43 S x0 (fun v18 => K S v18)) ∧ ((¬ (x1 = 7)) → ((x1 = 8) → jgi [8] 52 S x0 (fun v20 => K S v20)) ∧ ((¬ (x1 = 8)) → K S (-2))))))))))
abbrev d_X5_eveningsOf : Nat := 8
def wp_X5_eveningsOf_97 (S : jS) (t0 : Nat) (t1 : Int32) (t2 : Int32) (x0 : Nat) (x2 : Int32) (x3 : Int32) (x4 : Int32) (x5 : Int32) (Kc15 : jS × Int32 × Int32 → Prop) (K : jS → Int32 → Prop) : Prop :=
  (¬ (4 : Int32) = 0) ∧ (jas 0 S t0 t1 ((t2 - t2 / 4 * 4) + 1) (fun S1 => Kc15 (S1, x4, (x5 + 1))))
def wp_X5_eveningsOf_128 (S : jS) (t0 : Int32) (K : jS → Int32 → Prop) : Prop :=
  K S t0
def wp_X5_eveningsOf_15 (S : jS) (x0 : Nat) (x2 : Int32) (x3 : Int32) (x4 : Int32) (x5 : Int32) (Kc15 : jS × Int32 × Int32 → Prop) (K : jS → Int32 → Prop) : Prop :=
  ((x2 ≤ x5) → jis 8 S x0 ∧ wp_X5_runs S x0 (fun S1 _ => ((x3 = 0) → jis 8 S1 x0 ∧ wp_X5_drunkNow S1 x0 (fun S2 r3 => wp_X5_eveningsOf_128 S2 r3 K)) ∧ ((¬ (x3 = 0)) → jis 8 S1 x0 ∧ wp_X5_manyOf S1 x0 4 (fun S4 r5 => wp_X5_eveningsOf_128 S4 r5 K)))) ∧ ((¬ (x2 ≤ x5)) → jgr [8] 17 S x0 (fun v7 => (¬ (24 : Int32) = 0) ∧ (jas 0 S v7 x5 (((((1103515245 * x4) + 12345).toUInt32 >>> ((16 : Int32).toUInt32 &&& Int32.toUInt32 31)).toInt32) - ((((1103515245 * x4) + 12345).toUInt32 >>> ((16 : Int32).toUInt32 &&& Int32.toUInt32 31)).toInt32) / 24 * 24) (fun S8 => jgr [8] 18 S8 x0 (fun v9 => (¬ (2 : Int32) = 0) ∧ (jas 0 S8 v9 x5 (((((1103515245 * ((1103515245 * x4) + 12345)) + 12345).toUInt32 >>> ((16 : Int32).toUInt32 &&& Int32.toUInt32 31)).toInt32) - ((((1103515245 * ((1103515245 * x4) + 12345)) + 12345).toUInt32 >>> ((16 : Int32).toUInt32 &&& Int32.toUInt32 31)).toInt32) / 2 * 2) (fun S10 => jgr [8] 19 S10 x0 (fun v11 => wp_X5_eveningsOf_97 S10 v11 x5 ((((1103515245 * ((1103515245 * ((1103515245 * x4) + 12345)) + 12345)) + 12345).toUInt32 >>> ((16 : Int32).toUInt32 &&& Int32.toUInt32 31)).toInt32) x0 x2 x3 ((1103515245 * ((1103515245 * ((1103515245 * x4) + 12345)) + 12345)) + 12345) x5 Kc15 K))))))))
def wp_X5_eveningsOf_15_L (x0 : Nat) (x2 : Int32) (x3 : Int32) (K : jS → Int32 → Prop) : (jS × Int32 × Int32) → ((jS × Int32 × Int32) → Prop) → Prop := fun z Kc15 => wp_X5_eveningsOf_15 z.1 x0 x2 x3 z.2.1 z.2.2 Kc15 K
def wp_X5_eveningsOf (S : jS) (x0 : Nat) (x1 : Int32) (x2 : Int32) (x3 : Int32) (K : jS → Int32 → Prop) : Prop :=
  jis 8 S x0 ∧ wp_X5_asTold S x0 (fun S1 _ => jpi [8] 16 S1 x0 x2 (fun S2 => ∃ n : Nat, jlp n (wp_X5_eveningsOf_15_L x0 x2 x3 K) (S2, x1, 0)))
abbrev d_X5_fillOf : Nat := 9
def wp_X5_fillOf_43 (S : jS) (t0 : Int32) (K : jS → Int32 → Prop) : Prop :=
  K S t0
def wp_X5_fillOf_7 (S : jS) (t0 : Int32) (x0 : Nat) (x1 : Int32) (x2 : Int32) (Kc6 : jS × Int32 → Prop) (K : jS → Int32 → Prop) : Prop :=
  ((30 < t0) → ((x1 = 0) → jgi [8] 40 S x0 (fun v1 => wp_X5_fillOf_43 S v1 K)) ∧ ((¬ (x1 = 0)) → jgi [8] 41 S x0 (fun v2 => wp_X5_fillOf_43 S v2 K))) ∧ ((¬ (30 < t0)) → jpi [8] 20 S x0 x2 (fun S4 => jis 8 S4 x0 ∧ wp_X5_tries S4 x0 x2 (fun S5 _ => Kc6 (S5, (x2 + 1)))))
def wp_X5_fillOf_6 (S : jS) (x0 : Nat) (x1 : Int32) (x2 : Int32) (Kc6 : jS × Int32 → Prop) (K : jS → Int32 → Prop) : Prop :=
  wp_X5_fillOf_7 S x2 x0 x1 x2 Kc6 K
def wp_X5_fillOf_6_L (x0 : Nat) (x1 : Int32) (K : jS → Int32 → Prop) : (jS × Int32) → ((jS × Int32) → Prop) → Prop := fun z Kc6 => wp_X5_fillOf_6 z.1 x0 x1 z.2 Kc6 K
def wp_X5_fillOf (S : jS) (x0 : Nat) (x1 : Int32) (K : jS → Int32 → Prop) : Prop :=
  jis 8 S x0 ∧ wp_X5_starts S x0 (fun S1 _ => ∃ n : Nat, jlp n (wp_X5_fillOf_6_L x0 x1 K) (S1, 0))
abbrev d_X5_firstOf : Nat := 9
def wp_X5_firstOf (S : jS) (x0 : Nat) (K : jS → Int32 → Prop) : Prop :=
  jis 8 S x0 ∧ wp_X5_runsTold S x0 (fun S1 _ => jgi [8] 28 S1 x0 (fun v2 => K S1 v2))
abbrev d_X5_guestOf : Nat := 1
def wp_X5_guestOf_33 (S : jS) (t0 : Int32) (K : jS → Int32 → Prop) : Prop :=
  K S t0
def wp_X5_guestOf (S : jS) (x0 : Nat) (x1 : Int32) (x2 : Int32) (K : jS → Int32 → Prop) : Prop :=
  ((x2 = 0) → jgr [8] 7 S x0 (fun v1 => jal 0 S v1 x1 (fun v2 => wp_X5_guestOf_33 S v2 K))) ∧ ((¬ (x2 = 0)) → ((x2 = 1) → jgr [8] 8 S x0 (fun v3 => jal 0 S v3 x1 (fun v4 => wp_X5_guestOf_33 S v4 K))) ∧ ((¬ (x2 = 1)) → jgr [8] 9 S x0 (fun v5 => jal 0 S v5 x1 (fun v6 => wp_X5_guestOf_33 S v6 K))))
abbrev d_X5_isOf : Nat := 9
def wp_X5_isOf_33 (S : jS) (t0 : Int32) (K : jS → Int32 → Prop) : Prop :=
  K S t0
def wp_X5_isOf (S : jS) (x0 : Nat) (x1 : Int32) (x2 : Int32) (x3 : Int32) (K : jS → Int32 → Prop) : Prop :=
  jis 8 S x0 ∧ wp_X5_runsTold S x0 (fun S1 _ => ((x3 = 0) → jgr [8] 38 S1 x0 (fun v2 => jal 0 S1 v2 ((8 * x1) + x2) (fun v3 => wp_X5_isOf_33 S1 v3 K))) ∧ ((¬ (x3 = 0)) → jgr [8] 39 S1 x0 (fun v4 => jal 0 S1 v4 ((8 * x1) + x2) (fun v5 => wp_X5_isOf_33 S1 v5 K))))
abbrev d_X5_isDigest : Nat := 10
def wp_X5_isDigest (S : jS) (x0 : Nat) (x1 : Int64) (x3 : Int32) (x4 : Int32) (K : jS → Int64 → Prop) : Prop :=
  jis 8 S x0 ∧ wp_X5_isOf S x0 x3 x4 0 (fun S1 r2 => jis 8 S1 x0 ∧ wp_X5_isOf S1 x0 x3 x4 1 (fun S3 r4 => K S3 ((31 * ((31 * x1) + ((r2 : Int32).toInt64))) + ((r4 : Int32).toInt64))))
abbrev d_X5_waitedOf : Nat := 9
def wp_X5_waitedOf (S : jS) (x0 : Nat) (x1 : Int32) (K : jS → Int32 → Prop) : Prop :=
  jis 8 S x0 ∧ wp_X5_runsTold S x0 (fun S1 _ => jgr [8] 35 S1 x0 (fun v2 => jal 0 S1 v2 x1 (fun v3 => K S1 v3)))
abbrev d_X5_guestDigest : Nat := 11
def wp_X5_guestDigest_130 (S : jS) (x0 : Nat) (x3 : Int32) (x4 : Int64) (K : jS → Int64 → Prop) : Prop :=
  jis 8 S x0 ∧ wp_X5_chanceOf S x0 5 x3 1 (fun S1 r2 => K S1 ((31 * x4) + r2))
def wp_X5_guestDigest_56 (S : jS) (x0 : Nat) (x3 : Int32) (x4 : Int64) (K : jS → Int64 → Prop) : Prop :=
  jis 8 S x0 ∧ wp_X5_isDigest S x0 x4 23 x3 (fun S1 r2 => jis 8 S1 x0 ∧ wp_X5_waitedOf S1 x0 x3 (fun S3 r4 => jis 8 S3 x0 ∧ wp_X5_comeOf S3 x0 x3 0 (fun S5 r6 => jis 8 S5 x0 ∧ wp_X5_comeOf S5 x0 x3 1 (fun S7 r8 => jis 8 S7 x0 ∧ wp_X5_chanceOf S7 x0 5 x3 0 (fun S9 r10 => wp_X5_guestDigest_130 S9 x0 x3 ((31 * ((31 * ((31 * ((31 * r2) + ((r4 : Int32).toInt64))) + ((r6 : Int32).toInt64))) + ((r8 : Int32).toInt64))) + r10) K)))))
def wp_X5_guestDigest_6 (S : jS) (x0 : Nat) (x3 : Int32) (x4 : Int64) (x6 : Int32) (Kc6 : jS × Int64 × Int32 → Prop) (K : jS → Int64 → Prop) : Prop :=
  ((3 ≤ x6) → jis 8 S x0 ∧ wp_X5_isDigest S x0 x4 4 x3 (fun S1 r2 => jis 8 S1 x0 ∧ wp_X5_isDigest S1 x0 r2 11 x3 (fun S3 r4 => wp_X5_guestDigest_56 S3 x0 x3 r4 K))) ∧ ((¬ (3 ≤ x6)) → jis 8 S x0 ∧ wp_X5_guestOf S x0 x3 x6 (fun S5 r6 => Kc6 (S5, ((31 * x4) + ((r6 : Int32).toInt64)), (x6 + 1))))
def wp_X5_guestDigest_6_L (x0 : Nat) (x3 : Int32) (K : jS → Int64 → Prop) : (jS × Int64 × Int32) → ((jS × Int64 × Int32) → Prop) → Prop := fun z Kc6 => wp_X5_guestDigest_6 z.1 x0 x3 z.2.1 z.2.2 Kc6 K
def wp_X5_guestDigest (S : jS) (x0 : Nat) (x1 : Int64) (x3 : Int32) (K : jS → Int64 → Prop) : Prop :=
  ∃ n : Nat, jlp n (wp_X5_guestDigest_6_L x0 x3 K) (S, x1, 0)
abbrev d_X5_hottestOf : Nat := 9
def wp_X5_hottestOf_40 (S : jS) (t0 : Int32) (x0 : Nat) (x1 : Int32) (x3 : Int32) (Kc8 : jS × Int32 × Int32 → Prop) (K : jS → Int32 → Prop) : Prop :=
  Kc8 (S, t0, (x3 + 1))
def wp_X5_hottestOf_64 (S : jS) (t0 : Int32) (K : jS → Int32 → Prop) : Prop :=
  K S t0
def wp_X5_hottestOf_8 (S : jS) (x0 : Nat) (x1 : Int32) (x2 : Int32) (x3 : Int32) (Kc8 : jS × Int32 × Int32 → Prop) (K : jS → Int32 → Prop) : Prop :=
  ((24 ≤ x3) → ((x1 = 0) → wp_X5_hottestOf_64 S x2 K) ∧ ((¬ (x1 = 0)) → jgr [8] 36 S x0 (fun v1 => jal 0 S v1 (6 * x2) (fun v2 => wp_X5_hottestOf_64 S v2 K)))) ∧ ((¬ (24 ≤ x3)) → jgr [8] 36 S x0 (fun v4 => jal 0 S v4 (6 * x3) (fun v5 => jgr [8] 36 S x0 (fun v6 => jal 0 S v6 (6 * x2) (fun v7 => ((v5 ≤ v7) → wp_X5_hottestOf_40 S x2 x0 x1 x3 Kc8 K) ∧ ((¬ (v5 ≤ v7)) → wp_X5_hottestOf_40 S x3 x0 x1 x3 Kc8 K))))))
def wp_X5_hottestOf_8_L (x0 : Nat) (x1 : Int32) (K : jS → Int32 → Prop) : (jS × Int32 × Int32) → ((jS × Int32 × Int32) → Prop) → Prop := fun z Kc8 => wp_X5_hottestOf_8 z.1 x0 x1 z.2.1 z.2.2 Kc8 K
def wp_X5_hottestOf (S : jS) (x0 : Nat) (x1 : Int32) (K : jS → Int32 → Prop) : Prop :=
  jis 8 S x0 ∧ wp_X5_runsTold S x0 (fun S1 _ => ∃ n : Nat, jlp n (wp_X5_hottestOf_8_L x0 x1 K) (S1, 0, 1))
abbrev d_X5_lineOf : Nat := 9
def wp_X5_lineOf (S : jS) (x0 : Nat) (x1 : Int32) (K : jS → Int32 → Prop) : Prop :=
  jis 8 S x0 ∧ wp_X5_runsTold S x0 (fun S1 _ => jgr [8] 37 S1 x0 (fun v2 => jal 0 S1 v2 x1 (fun v3 => K S1 v3)))
abbrev d_X5_neverNow : Nat := 8
def wp_X5_neverNow_38 (S : jS) (t0 : Int32) (t1 : Int32) (x0 : Nat) (x2 : Int32) (Kc8 : jS × Int32 × Int32 → Prop) (K : jS → Int32 → Prop) : Prop :=
  Kc8 (S, (t0 ||| t1), (x2 + 1))
def wp_X5_neverNow_8 (S : jS) (x0 : Nat) (x1 : Int32) (x2 : Int32) (Kc8 : jS × Int32 × Int32 → Prop) (K : jS → Int32 → Prop) : Prop :=
  jgi [8] 12 S x0 (fun v1 => ((v1 ≤ x2) → K S x1) ∧ ((¬ (v1 ≤ x2)) → jpi [8] 21 S x0 (1 <<< (x2 &&& 31)) (fun S2 => jis 8 S2 x0 ∧ wp_X5_isSeen S2 x0 (fun S3 r4 => ((r4 = 0) → wp_X5_neverNow_38 S3 x1 0 x0 x2 Kc8 K) ∧ ((¬ (r4 = 0)) → wp_X5_neverNow_38 S3 x1 (1 <<< (x2 &&& 31)) x0 x2 Kc8 K)))))
def wp_X5_neverNow_8_L (x0 : Nat) (K : jS → Int32 → Prop) : (jS × Int32 × Int32) → ((jS × Int32 × Int32) → Prop) → Prop := fun z Kc8 => wp_X5_neverNow_8 z.1 x0 z.2.1 z.2.2 Kc8 K
def wp_X5_neverNow (S : jS) (x0 : Nat) (K : jS → Int32 → Prop) : Prop :=
  jis 8 S x0 ∧ wp_X5_asTold S x0 (fun S1 _ => ∃ n : Nat, jlp n (wp_X5_neverNow_8_L x0 K) (S1, 0, 0))
abbrev d_X5_ofRow : Nat := 1
def wp_X5_ofRow_24 (S : jS) (t0 : Int32) (K : jS → Int32 → Prop) : Prop :=
  K S t0
def wp_X5_ofRow (S : jS) (x0 : Nat) (x1 : Int32) (x2 : Int32) (K : jS → Int32 → Prop) : Prop :=
  ((x2 = (-1)) → wp_X5_ofRow_24 S x1 K) ∧ ((¬ (x2 = (-1))) → ((x1 ≤ x2) → wp_X5_ofRow_24 S (-1) K) ∧ ((¬ (x1 ≤ x2)) → jgr [8] 42 S x0 (fun v1 => jal 0 S v1 x2 (fun v2 => wp_X5_ofRow_24 S v2 K))))
abbrev d_X5_kindsBy : Nat := 8
def wp_X5_kindsBy_46 (S : jS) (t0 : Int32) (t1 : Int32) (x0 : Nat) (x1 : Int32) (x2 : Int32) (x4 : Int32) (Kc16 : jS × Int32 × Int32 → Prop) (K : jS → Int32 → Prop) : Prop :=
  Kc16 (S, (t0 ||| t1), (x4 + 1))
def wp_X5_kindsBy_16 (S : jS) (x0 : Nat) (x1 : Int32) (x2 : Int32) (x3 : Int32) (x4 : Int32) (Kc16 : jS × Int32 × Int32 → Prop) (K : jS → Int32 → Prop) : Prop :=
  ((3 ≤ x4) → jgr [8] 4 S x0 (fun v1 => jas 0 S v1 x1 x2 (fun S2 => K S2 x3))) ∧ ((¬ (3 ≤ x4)) → jgr [8] 4 S x0 (fun v3 => jas 0 S v3 x1 x4 (fun S4 => jis 8 S4 x0 ∧ wp_X5_isSeen S4 x0 (fun S5 r6 => ((r6 = 0) → wp_X5_kindsBy_46 S5 x3 0 x0 x1 x2 x4 Kc16 K) ∧ ((¬ (r6 = 0)) → wp_X5_kindsBy_46 S5 x3 (1 <<< (x4 &&& 31)) x0 x1 x2 x4 Kc16 K)))))
def wp_X5_kindsBy_16_L (x0 : Nat) (x1 : Int32) (x2 : Int32) (K : jS → Int32 → Prop) : (jS × Int32 × Int32) → ((jS × Int32 × Int32) → Prop) → Prop := fun z Kc16 => wp_X5_kindsBy_16 z.1 x0 x1 x2 z.2.1 z.2.2 Kc16 K
def wp_X5_kindsBy (S : jS) (x0 : Nat) (x1 : Int32) (K : jS → Int32 → Prop) : Prop :=
  jis 8 S x0 ∧ wp_X5_asTold S x0 (fun S1 _ => jgr [8] 4 S1 x0 (fun v2 => jal 0 S1 v2 x1 (fun v3 => ∃ n : Nat, jlp n (wp_X5_kindsBy_16_L x0 x1 v3 K) (S1, 0, 0))))
abbrev d_X5_pieceOf : Nat := 1
def wp_X5_pieceOf_33 (S : jS) (t0 : Int32) (K : jS → Int32 → Prop) : Prop :=
  K S t0
def wp_X5_pieceOf (S : jS) (x0 : Nat) (x1 : Int32) (x2 : Int32) (K : jS → Int32 → Prop) : Prop :=
  ((x2 = 0) → jgr [8] 3 S x0 (fun v1 => jal 0 S v1 x1 (fun v2 => wp_X5_pieceOf_33 S v2 K))) ∧ ((¬ (x2 = 0)) → ((x2 = 1) → jgr [8] 4 S x0 (fun v3 => jal 0 S v3 x1 (fun v4 => wp_X5_pieceOf_33 S v4 K))) ∧ ((¬ (x2 = 1)) → jgr [8] 5 S x0 (fun v5 => jal 0 S v5 x1 (fun v6 => wp_X5_pieceOf_33 S v6 K))))
abbrev d_X5_pieceDigest : Nat := 10
def wp_X5_pieceDigest_56 (S : jS) (t0 : Int64) (t1 : Int64) (x0 : Nat) (x3 : Int32) (K : jS → Int64 → Prop) : Prop :=
  jis 8 S x0 ∧ wp_X5_betterOf S x0 x3 1 (fun S1 r2 => jis 8 S1 x0 ∧ wp_X5_kindsBy S1 x0 x3 (fun S3 r4 => K S3 ((31 * ((t0 * t1) + ((r2 : Int32).toInt64))) + ((r4 : Int32).toInt64))))
def wp_X5_pieceDigest_6 (S : jS) (x0 : Nat) (x3 : Int32) (x4 : Int64) (x6 : Int32) (Kc6 : jS × Int64 × Int32 → Prop) (K : jS → Int64 → Prop) : Prop :=
  ((3 ≤ x6) → jis 8 S x0 ∧ wp_X5_betterOf S x0 x3 0 (fun S1 r2 => wp_X5_pieceDigest_56 S1 31 ((31 * x4) + ((r2 : Int32).toInt64)) x0 x3 K)) ∧ ((¬ (3 ≤ x6)) → jis 8 S x0 ∧ wp_X5_pieceOf S x0 x3 x6 (fun S3 r4 => Kc6 (S3, ((31 * x4) + ((r4 : Int32).toInt64)), (x6 + 1))))
def wp_X5_pieceDigest_6_L (x0 : Nat) (x3 : Int32) (K : jS → Int64 → Prop) : (jS × Int64 × Int32) → ((jS × Int64 × Int32) → Prop) → Prop := fun z Kc6 => wp_X5_pieceDigest_6 z.1 x0 x3 z.2.1 z.2.2 Kc6 K
def wp_X5_pieceDigest (S : jS) (x0 : Nat) (x1 : Int64) (x3 : Int32) (K : jS → Int64 → Prop) : Prop :=
  ∃ n : Nat, jlp n (wp_X5_pieceDigest_6_L x0 x3 K) (S, x1, 0)
abbrev d_X5_isSpared : Nat := 5
def wp_X5_isSpared_22 (S : jS) (t0 : Int32) (K : jS → Int32 → Prop) : Prop :=
  ((t0 = 0 ∨ t0 = 1) ∧ K S t0)
def wp_X5_isSpared (S : jS) (x0 : Nat) (x1 : Int32) (K : jS → Int32 → Prop) : Prop :=
  jpi [8] 21 S x0 x1 (fun S1 => jis 8 S1 x0 ∧ wp_X5_runs S1 x0 (fun S2 _ => jis 8 S2 x0 ∧ wp_X5_manyOf S2 x0 4 (fun S3 r4 => ((r4 = 0) → wp_X5_isSpared_22 S3 1 K) ∧ ((¬ (r4 = 0)) → wp_X5_isSpared_22 S3 0 K))))
abbrev d_X5_spareBy : Nat := 8
def wp_X5_spareBy_33 (S : jS) (t0 : Nat) (t1 : Int32) (x0 : Nat) (x1 : Int32) (Kc16 : jS × Int32 → Prop) (K : jS → Int32 → Prop) : Prop :=
  jis 8 S t0 ∧ wp_X5_isSpared S t0 (t1 <<< (x1 &&& 31)) (fun S1 r2 => ((r2 = 0) → Kc16 (S1, (x1 + 1))) ∧ ((¬ (r2 = 0)) → K S1 1))
def wp_X5_spareBy_90 (S : jS) (t0 : Nat) (t1 : Int32) (t2 : Int32) (x0 : Nat) (x1 : Int32) (x2 : Int32) (Kc51 : jS × Int32 → Prop) (Kc63 : jS × Int32 → Prop) (K : jS → Int32 → Prop) : Prop :=
  jis 8 S t0 ∧ wp_X5_isSpared S t0 (t1 ||| (t2 <<< (x2 &&& 31))) (fun S1 r2 => ((r2 = 0) → Kc63 (S1, (x2 + 1))) ∧ ((¬ (r2 = 0)) → K S1 2))
def wp_X5_spareBy_63 (S : jS) (x0 : Nat) (x1 : Int32) (x2 : Int32) (Kc51 : jS × Int32 → Prop) (Kc63 : jS × Int32 → Prop) (K : jS → Int32 → Prop) : Prop :=
  jgi [8] 12 S x0 (fun v1 => ((v1 ≤ x2) → Kc51 (S, (x1 + 1))) ∧ ((¬ (v1 ≤ x2)) → jgr [8] 42 S x0 (fun v2 => jas 0 S v2 0 x1 (fun S3 => jgr [8] 42 S3 x0 (fun v4 => jas 0 S3 v4 1 x2 (fun S5 => wp_X5_spareBy_90 S5 x0 (1 <<< (x1 &&& 31)) 1 x0 x1 x2 Kc51 Kc63 K))))))
def wp_X5_spareBy_63_L (x0 : Nat) (x1 : Int32) (Kc51 : jS × Int32 → Prop) (K : jS → Int32 → Prop) : (jS × Int32) → ((jS × Int32) → Prop) → Prop := fun z Kc63 => wp_X5_spareBy_63 z.1 x0 x1 z.2 Kc51 Kc63 K
def wp_X5_spareBy_51 (S : jS) (x0 : Nat) (x1 : Int32) (Kc51 : jS × Int32 → Prop) (K : jS → Int32 → Prop) : Prop :=
  jgi [8] 12 S x0 (fun v1 => ((v1 ≤ x1) → K S (-1)) ∧ ((¬ (v1 ≤ x1)) → ∃ n : Nat, jlp n (wp_X5_spareBy_63_L x0 x1 Kc51 K) (S, (x1 + 1))))
def wp_X5_spareBy_51_L (x0 : Nat) (K : jS → Int32 → Prop) : (jS × Int32) → ((jS × Int32) → Prop) → Prop := fun z Kc51 => wp_X5_spareBy_51 z.1 x0 z.2 Kc51 K
def wp_X5_spareBy_16 (S : jS) (x0 : Nat) (x1 : Int32) (Kc16 : jS × Int32 → Prop) (K : jS → Int32 → Prop) : Prop :=
  jgi [8] 12 S x0 (fun v1 => ((v1 ≤ x1) → ∃ n : Nat, jlp n (wp_X5_spareBy_51_L x0 K) (S, 0)) ∧ ((¬ (v1 ≤ x1)) → jgr [8] 42 S x0 (fun v2 => jas 0 S v2 0 x1 (fun S3 => wp_X5_spareBy_33 S3 x0 1 x0 x1 Kc16 K))))
def wp_X5_spareBy_16_L (x0 : Nat) (K : jS → Int32 → Prop) : (jS × Int32) → ((jS × Int32) → Prop) → Prop := fun z Kc16 => wp_X5_spareBy_16 z.1 x0 z.2 Kc16 K
def wp_X5_spareBy (S : jS) (x0 : Nat) (K : jS → Int32 → Prop) : Prop :=
  jis 8 S x0 ∧ wp_X5_asTold S x0 (fun S1 _ => jis 8 S1 x0 ∧ wp_X5_isSpared S1 x0 0 (fun S2 r3 => ((r3 = 0) → ∃ n : Nat, jlp n (wp_X5_spareBy_16_L x0 K) (S2, 0)) ∧ ((¬ (r3 = 0)) → K S2 0)))
abbrev d_X5_thirstOf : Nat := 9
def wp_X5_thirstOf_39 (S : jS) (t0 : Int32) (t1 : Int32) (x0 : Nat) (x2 : Int32) (Kc8 : jS × Int32 × Int32 → Prop) (K : jS → Int32 → Prop) : Prop :=
  Kc8 (S, (t0 ||| t1), (x2 + 1))
def wp_X5_thirstOf_8 (S : jS) (x0 : Nat) (x1 : Int32) (x2 : Int32) (Kc8 : jS × Int32 × Int32 → Prop) (K : jS → Int32 → Prop) : Prop :=
  jgi [8] 6 S x0 (fun v1 => ((v1 ≤ x2) → K S x1) ∧ ((¬ (v1 ≤ x2)) → jgr [8] 32 S x0 (fun v2 => jal 0 S v2 x2 (fun v3 => jgr [8] 9 S x0 (fun v4 => jal 0 S v4 x2 (fun v5 => ((v5 ≤ v3) → wp_X5_thirstOf_39 S x1 0 x0 x2 Kc8 K) ∧ ((¬ (v5 ≤ v3)) → wp_X5_thirstOf_39 S x1 (1 <<< (x2 &&& 31)) x0 x2 Kc8 K)))))))
def wp_X5_thirstOf_8_L (x0 : Nat) (K : jS → Int32 → Prop) : (jS × Int32 × Int32) → ((jS × Int32 × Int32) → Prop) → Prop := fun z Kc8 => wp_X5_thirstOf_8 z.1 x0 z.2.1 z.2.2 Kc8 K
def wp_X5_thirstOf (S : jS) (x0 : Nat) (K : jS → Int32 → Prop) : Prop :=
  jis 8 S x0 ∧ wp_X5_runsTold S x0 (fun S1 _ => ∃ n : Nat, jlp n (wp_X5_thirstOf_8_L x0 K) (S1, 0, 0))
abbrev d_X5_digest : Nat := 12
def wp_X5_digest_12 (S : jS) (x0 : Nat) (x1 : Int64) (x3 : Int32) (Kc6 : jS × Int64 × Int32 → Prop) (K : jS → Int64 → Prop) : Prop :=
  jis 8 S x0 ∧ wp_X5_count S x0 x3 (fun S1 r2 => Kc6 (S1, ((31 * x1) + ((r2 : Int32).toInt64)), (x3 + 1)))
def wp_X5_digest_68 (S : jS) (x0 : Nat) (x1 : Int64) (x3 : Int32) (x4 : Int32) (Kc59 : jS × Int64 × Int32 → Prop) (Kc68 : jS × Int64 × Int32 → Prop) (K : jS → Int64 → Prop) : Prop :=
  ((6 ≤ x4) → jis 8 S x0 ∧ wp_X5_lineOf S x0 x3 (fun S1 r2 => Kc59 (S1, ((31 * x1) + ((r2 : Int32).toInt64)), (x3 + 1)))) ∧ ((¬ (6 ≤ x4)) → jis 8 S x0 ∧ wp_X5_atOf S x0 x3 x4 (fun S3 r4 => Kc68 (S3, ((31 * x1) + ((r4 : Int32).toInt64)), (x4 + 1))))
def wp_X5_digest_68_L (x0 : Nat) (x3 : Int32) (Kc59 : jS × Int64 × Int32 → Prop) (K : jS → Int64 → Prop) : (jS × Int64 × Int32) → ((jS × Int64 × Int32) → Prop) → Prop := fun z Kc68 => wp_X5_digest_68 z.1 x0 z.2.1 x3 z.2.2 Kc59 Kc68 K
def wp_X5_digest_168 (S : jS) (x0 : Nat) (x1 : Int64) (x3 : Int32) (Kc163 : jS × Int64 × Int32 → Prop) (K : jS → Int64 → Prop) : Prop :=
  jis 8 S x0 ∧ wp_X5_sumOf S x0 x3 (fun S1 r2 => Kc163 (S1, ((31 * x1) + ((r2 : Int32).toInt64)), (x3 + 1)))
def wp_X5_digest_319 (S : jS) (t0 : Int64) (t1 : Int64) (x0 : Nat) (K : jS → Int64 → Prop) : Prop :=
  jis 8 S x0 ∧ wp_X5_askOf S x0 (fun S1 r2 => jis 8 S1 x0 ∧ wp_X5_eveningsOf S1 x0 7 6 0 (fun S3 r4 => jis 8 S3 x0 ∧ wp_X5_eveningsOf S3 x0 7 6 1 (fun S5 r6 => K S5 ((31 * ((31 * ((t0 * t1) + ((r2 : Int32).toInt64))) + ((r4 : Int32).toInt64))) + ((r6 : Int32).toInt64)))))
def wp_X5_digest_254 (S : jS) (t0 : Int64) (t1 : Int64) (x0 : Nat) (K : jS → Int64 → Prop) : Prop :=
  jis 8 S x0 ∧ wp_X5_fillOf S x0 1 (fun S1 r2 => jis 8 S1 x0 ∧ wp_X5_spareBy S1 x0 (fun S3 r4 => jis 8 S3 x0 ∧ wp_X5_ofRow S3 x0 r4 0 (fun S5 r6 => jis 8 S5 x0 ∧ wp_X5_neverNow S5 x0 (fun S7 r8 => jis 8 S7 x0 ∧ wp_X5_watersBy S7 x0 (fun S9 r10 => wp_X5_digest_319 S9 31 ((31 * ((31 * ((31 * ((31 * ((t0 * t1) + ((r2 : Int32).toInt64))) + ((r4 : Int32).toInt64))) + ((r6 : Int32).toInt64))) + ((r8 : Int32).toInt64))) + ((r10 : Int32).toInt64)) x0 K)))))
def wp_X5_digest_187 (S : jS) (x0 : Nat) (x1 : Int64) (K : jS → Int64 → Prop) : Prop :=
  jis 8 S x0 ∧ wp_X5_firstOf S x0 (fun S1 r2 => jis 8 S1 x0 ∧ wp_X5_hottestOf S1 x0 0 (fun S3 r4 => jis 8 S3 x0 ∧ wp_X5_hottestOf S3 x0 1 (fun S5 r6 => jis 8 S5 x0 ∧ wp_X5_thirstOf S5 x0 (fun S7 r8 => jis 8 S7 x0 ∧ wp_X5_fillOf S7 x0 0 (fun S9 r10 => wp_X5_digest_254 S9 31 ((31 * ((31 * ((31 * ((31 * ((31 * x1) + ((r2 : Int32).toInt64))) + ((r4 : Int32).toInt64))) + ((r6 : Int32).toInt64))) + ((r8 : Int32).toInt64))) + ((r10 : Int32).toInt64)) x0 K)))))
def wp_X5_digest_163 (S : jS) (x0 : Nat) (x1 : Int64) (x3 : Int32) (Kc163 : jS × Int64 × Int32 → Prop) (K : jS → Int64 → Prop) : Prop :=
  ((5 ≤ x3) → wp_X5_digest_187 S x0 x1 K) ∧ ((¬ (5 ≤ x3)) → wp_X5_digest_168 S x0 x1 x3 Kc163 K)
def wp_X5_digest_163_L (x0 : Nat) (K : jS → Int64 → Prop) : (jS × Int64 × Int32) → ((jS × Int64 × Int32) → Prop) → Prop := fun z Kc163 => wp_X5_digest_163 z.1 x0 z.2.1 z.2.2 Kc163 K
def wp_X5_digest_141 (S : jS) (t0 : Int32) (x0 : Nat) (x1 : Int64) (x3 : Int32) (Kc140 : jS × Int64 × Int32 → Prop) (K : jS → Int64 → Prop) : Prop :=
  jgi [8] 6 S x0 (fun v1 => ((v1 ≤ t0) → ∃ n : Nat, jlp n (wp_X5_digest_163_L x0 K) (S, x1, 0)) ∧ ((¬ (v1 ≤ t0)) → jis 8 S x0 ∧ wp_X5_guestDigest S x0 x1 x3 (fun S2 r3 => Kc140 (S2, r3, (x3 + 1)))))
def wp_X5_digest_140 (S : jS) (x0 : Nat) (x1 : Int64) (x3 : Int32) (Kc140 : jS × Int64 × Int32 → Prop) (K : jS → Int64 → Prop) : Prop :=
  wp_X5_digest_141 S x3 x0 x1 x3 Kc140 K
def wp_X5_digest_140_L (x0 : Nat) (K : jS → Int64 → Prop) : (jS × Int64 × Int32) → ((jS × Int64 × Int32) → Prop) → Prop := fun z Kc140 => wp_X5_digest_140 z.1 x0 z.2.1 z.2.2 Kc140 K
def wp_X5_digest_118 (S : jS) (t0 : Int32) (x0 : Nat) (x1 : Int64) (x3 : Int32) (Kc117 : jS × Int64 × Int32 → Prop) (K : jS → Int64 → Prop) : Prop :=
  jgi [8] 2 S x0 (fun v1 => ((v1 ≤ t0) → ∃ n : Nat, jlp n (wp_X5_digest_140_L x0 K) (S, x1, 0)) ∧ ((¬ (v1 ≤ t0)) → jis 8 S x0 ∧ wp_X5_pieceDigest S x0 x1 x3 (fun S2 r3 => Kc117 (S2, r3, (x3 + 1)))))
def wp_X5_digest_117 (S : jS) (x0 : Nat) (x1 : Int64) (x3 : Int32) (Kc117 : jS × Int64 × Int32 → Prop) (K : jS → Int64 → Prop) : Prop :=
  wp_X5_digest_118 S x3 x0 x1 x3 Kc117 K
def wp_X5_digest_117_L (x0 : Nat) (K : jS → Int64 → Prop) : (jS × Int64 × Int32) → ((jS × Int64 × Int32) → Prop) → Prop := fun z Kc117 => wp_X5_digest_117 z.1 x0 z.2.1 z.2.2 Kc117 K
def wp_X5_digest_59 (S : jS) (x0 : Nat) (x1 : Int64) (x3 : Int32) (Kc59 : jS × Int64 × Int32 → Prop) (K : jS → Int64 → Prop) : Prop :=
  ((24 ≤ x3) → ∃ n : Nat, jlp n (wp_X5_digest_117_L x0 K) (S, x1, 0)) ∧ ((¬ (24 ≤ x3)) → ∃ n : Nat, jlp n (wp_X5_digest_68_L x0 x3 Kc59 K) (S, x1, 0))
def wp_X5_digest_59_L (x0 : Nat) (K : jS → Int64 → Prop) : (jS × Int64 × Int32) → ((jS × Int64 × Int32) → Prop) → Prop := fun z Kc59 => wp_X5_digest_59 z.1 x0 z.2.1 z.2.2 Kc59 K
def wp_X5_digest_31 (S : jS) (x0 : Nat) (x1 : Int64) (K : jS → Int64 → Prop) : Prop :=
  jis 8 S x0 ∧ wp_X5_faultOf S x0 0 (fun S1 r2 => jis 8 S1 x0 ∧ wp_X5_faultOf S1 x0 1 (fun S3 r4 => ∃ n : Nat, jlp n (wp_X5_digest_59_L x0 K) (S3, ((31 * ((31 * x1) + ((r2 : Int32).toInt64))) + ((r4 : Int32).toInt64)), 0)))
def wp_X5_digest_6 (S : jS) (x0 : Nat) (x1 : Int64) (x3 : Int32) (Kc6 : jS × Int64 × Int32 → Prop) (K : jS → Int64 → Prop) : Prop :=
  ((8 ≤ x3) → wp_X5_digest_31 S x0 x1 K) ∧ ((¬ (8 ≤ x3)) → wp_X5_digest_12 S x0 x1 x3 Kc6 K)
def wp_X5_digest_6_L (x0 : Nat) (K : jS → Int64 → Prop) : (jS × Int64 × Int32) → ((jS × Int64 × Int32) → Prop) → Prop := fun z Kc6 => wp_X5_digest_6 z.1 x0 z.2.1 z.2.2 Kc6 K
def wp_X5_digest (S : jS) (x0 : Nat) (K : jS → Int64 → Prop) : Prop :=
  ∃ n : Nat, jlp n (wp_X5_digest_6_L x0 K) (S, 17, 0)
abbrev d_X5_evenings : Nat := 9
def wp_X5_evenings_29 (S : jS) (t0 : Int32) (K : jS → Int32 → Prop) : Prop :=
  K S t0
def wp_X5_evenings_27 (S : jS) (K : jS → Int32 → Prop) : Prop :=
  wp_X5_evenings_29 S (-2) K
def wp_X5_evenings (S : jS) (x0 : Nat) (x1 : Int32) (x2 : Int32) (x3 : Int32) (K : jS → Int32 → Prop) : Prop :=
  wp_X5_in S x2 0 8 (fun S1 r2 => ((r2 = 0) → wp_X5_evenings_27 S1 K) ∧ ((¬ (r2 = 0)) → wp_X5_isTwo S1 x3 (fun S3 r4 => ((r4 = 0) → wp_X5_evenings_27 S3 K) ∧ ((¬ (r4 = 0)) → jis 8 S3 x0 ∧ wp_X5_eveningsOf S3 x0 x1 x2 x3 (fun S5 r6 => wp_X5_evenings_29 S5 r6 K)))))
abbrev d_X5_isThree : Nat := 2
def wp_X5_isThree (S : jS) (x0 : Int32) (K : jS → Int32 → Prop) : Prop :=
  wp_X5_in S x0 0 2 (fun S1 r2 => ((r2 = 0 ∨ r2 = 1) ∧ K S1 r2))
abbrev d_X5_event : Nat := 3
def wp_X5_event_24 (S : jS) (K : jS → Int32 → Prop) : Prop :=
  K S (-2)
def wp_X5_event (S : jS) (x0 : Nat) (x1 : Int32) (x2 : Int32) (x3 : Int32) (K : jS → Int32 → Prop) : Prop :=
  wp_X5_isThree S x1 (fun S1 r2 => ((r2 = 0) → wp_X5_event_24 S1 K) ∧ ((¬ (r2 = 0)) → wp_X5_isMinute S1 x2 (fun S3 r4 => ((r4 = 0) → wp_X5_event_24 S3 K) ∧ ((¬ (r4 = 0)) → wp_X5_in S3 x3 0 9 (fun S5 r6 => ((r6 = 0) → wp_X5_event_24 S5 K) ∧ ((¬ (r6 = 0)) → jgi [8] 12 S5 x0 (fun v7 => ((v7 = 8) → K S5 (-4)) ∧ ((¬ (v7 = 8)) → jgr [8] 13 S5 x0 (fun v8 => jgi [8] 12 S5 x0 (fun v9 => jas 0 S5 v8 v9 x1 (fun S10 => jgr [8] 14 S10 x0 (fun v11 => jgi [8] 12 S10 x0 (fun v12 => jas 0 S10 v11 v12 x2 (fun S13 => jgr [8] 15 S13 x0 (fun v14 => jgi [8] 12 S13 x0 (fun v15 => jas 0 S13 v14 v15 x3 (fun S16 => jgi [8] 12 S16 x0 (fun v17 => jpi [8] 12 S16 x0 (v17 + 1) (fun S18 => jgi [8] 12 S18 x0 (fun v19 => K S18 v19))))))))))))))))))))
abbrev d_X5_fault : Nat := 6
def wp_X5_fault_17 (S : jS) (t0 : Int32) (K : jS → Int32 → Prop) : Prop :=
  K S t0
def wp_X5_fault (S : jS) (x0 : Nat) (x1 : Int32) (K : jS → Int32 → Prop) : Prop :=
  wp_X5_isTwo S x1 (fun S1 r2 => ((r2 = 0) → wp_X5_fault_17 S1 (-2) K) ∧ ((¬ (r2 = 0)) → jis 8 S1 x0 ∧ wp_X5_faultOf S1 x0 x1 (fun S3 r4 => wp_X5_fault_17 S3 r4 K)))
abbrev d_X5_fill : Nat := 10
def wp_X5_fill_17 (S : jS) (t0 : Int32) (K : jS → Int32 → Prop) : Prop :=
  K S t0
def wp_X5_fill (S : jS) (x0 : Nat) (x1 : Int32) (K : jS → Int32 → Prop) : Prop :=
  wp_X5_isTwo S x1 (fun S1 r2 => ((r2 = 0) → wp_X5_fill_17 S1 (-2) K) ∧ ((¬ (r2 = 0)) → jis 8 S1 x0 ∧ wp_X5_fillOf S1 x0 x1 (fun S3 r4 => wp_X5_fill_17 S3 r4 K)))
abbrev d_X5_first : Nat := 10
def wp_X5_first (S : jS) (x0 : Nat) (K : jS → Int32 → Prop) : Prop :=
  jis 8 S x0 ∧ wp_X5_firstOf S x0 (fun S1 r2 => K S1 r2)
abbrev d_X5_forget : Nat := 1
def wp_X5_forget (S : jS) (x0 : Nat) (K : jS → Int32 → Prop) : Prop :=
  jgi [8] 43 S x0 (fun v1 => jpi [8] 43 S x0 0 (fun S2 => K S2 v1))
abbrev d_X5_lacks : Nat := 2
def wp_X5_lacks_48 (S : jS) (t0 : Int32) (K : jS → Int32 → Prop) : Prop :=
  K S t0
def wp_X5_lacks (S : jS) (x0 : Nat) (x1 : Int32) (x2 : Int32) (x3 : Int32) (K : jS → Int32 → Prop) : Prop :=
  jgr [8] 47 S x0 (fun v1 => jal 3 S v1 x1 (fun v2 => ((v2 = 0) → wp_X5_lacks_48 S 1 K) ∧ ((¬ (v2 = 0)) → jgr [8] 48 S x0 (fun v3 => jal 0 S v3 x1 (fun v4 => ((v4 = x2) → jgr [8] 49 S x0 (fun v5 => jal 0 S v5 x1 (fun v6 => wp_X5_in S x3 0 (v6 - 1) (fun S7 r8 => ((r8 = 0) → wp_X5_lacks_48 S7 2 K) ∧ ((¬ (r8 = 0)) → wp_X5_lacks_48 S7 0 K))))) ∧ ((¬ (v4 = x2)) → wp_X5_lacks_48 S 3 K))))))
abbrev d_X5_get : Nat := 3
def wp_X5_get_16 (S : jS) (K : jS → Int32 → Prop) : Prop :=
  K S (-2147483648)
def wp_X5_get (S : jS) (x0 : Nat) (x1 : Int32) (x2 : Int32) (x3 : Int32) (K : jS → Int32 → Prop) : Prop :=
  wp_X5_isSheet S x1 (fun S1 r2 => ((r2 = 0) → wp_X5_get_16 S1 K) ∧ ((¬ (r2 = 0)) → wp_X5_in S1 x2 0 2 (fun S3 r4 => ((r4 = 0) → wp_X5_get_16 S3 K) ∧ ((¬ (r4 = 0)) → jis 8 S3 x0 ∧ wp_X5_lacks S3 x0 x1 x2 x3 (fun S5 r6 => ((r6 ≤ 0) → jgr [8] 50 S5 x0 (fun v7 => jal 0 S5 v7 ((60 * x1) + x3) (fun v8 => K S5 v8))) ∧ ((¬ (r6 ≤ 0)) → jpi [8] 52 S5 x0 r6 (fun S9 => K S9 (-2147483648))))))))
abbrev d_X5_guest : Nat := 8
def wp_X5_guest_26 (S : jS) (t0 : Int32) (K : jS → Int32 → Prop) : Prop :=
  K S t0
def wp_X5_guest_24 (S : jS) (K : jS → Int32 → Prop) : Prop :=
  wp_X5_guest_26 S (-2) K
def wp_X5_guest (S : jS) (x0 : Nat) (x1 : Int32) (x2 : Int32) (K : jS → Int32 → Prop) : Prop :=
  jis 8 S x0 ∧ wp_X5_isGuest S x0 x1 (fun S1 r2 => ((r2 = 0) → wp_X5_guest_24 S1 K) ∧ ((¬ (r2 = 0)) → wp_X5_isThree S1 x2 (fun S3 r4 => ((r4 = 0) → wp_X5_guest_24 S3 K) ∧ ((¬ (r4 = 0)) → jis 8 S3 x0 ∧ wp_X5_guestOf S3 x0 x1 x2 (fun S5 r6 => wp_X5_guest_26 S5 r6 K)))))
abbrev d_X5_hottest : Nat := 10
def wp_X5_hottest_17 (S : jS) (t0 : Int32) (K : jS → Int32 → Prop) : Prop :=
  K S t0
def wp_X5_hottest (S : jS) (x0 : Nat) (x1 : Int32) (K : jS → Int32 → Prop) : Prop :=
  wp_X5_isTwo S x1 (fun S1 r2 => ((r2 = 0) → wp_X5_hottest_17 S1 (-2) K) ∧ ((¬ (r2 = 0)) → jis 8 S1 x0 ∧ wp_X5_hottestOf S1 x0 x1 (fun S3 r4 => wp_X5_hottest_17 S3 r4 K)))
abbrev d_X5_init : Nat := 1
def wp_X5_init_268 (S : jS) (t0 : Nat) (x0 : Nat) (K : jS → Unit → Prop) : Prop :=
  jpi [8] 10 S t0 16 (fun S1 => jpi [8] 11 S1 x0 16 (fun S2 => K S2 ()))
def wp_X5_init_180 (S : jS) (x0 : Nat) (K : jS → Unit → Prop) : Prop :=
  jnewa 0 S 192 (fun S1 a2 => jpr [8] 38 S1 x0 (some a2) (fun S3 => jnewa 0 S3 192 (fun S4 a5 => jpr [8] 39 S4 x0 (some a5) (fun S6 => jnewa 0 S6 2 (fun S7 a8 => jpr [8] 42 S7 x0 (some a8) (fun S9 => jnewa 0 S9 8 (fun S10 a11 => jpr [8] 44 S10 x0 (some a11) (fun S12 => jnewa 0 S12 8 (fun S13 a14 => jpr [8] 45 S13 x0 (some a14) (fun S15 => jnewa 0 S15 24 (fun S16 a17 => jpr [8] 46 S16 x0 (some a17) (fun S18 => jnewa 3 S18 4 (fun S19 a20 => jpr [8] 47 S19 x0 (some a20) (fun S21 => jnewa 0 S21 4 (fun S22 a23 => jpr [8] 48 S22 x0 (some a23) (fun S24 => jnewa 0 S24 4 (fun S25 a26 => jpr [8] 49 S25 x0 (some a26) (fun S27 => jnewa 0 S27 240 (fun S28 a29 => jpr [8] 50 S28 x0 (some a29) (fun S30 => jnewa 0 S30 60 (fun S31 a32 => jpr [8] 51 S31 x0 (some a32) (fun S33 => wp_X5_init_268 S33 x0 x0 K))))))))))))))))))))))
def wp_X5_init_88 (S : jS) (t0 : Nat) (t1 : Nat) (x0 : Nat) (K : jS → Unit → Prop) : Prop :=
  jpr [8] 15 S t0 (some t1) (fun S1 => jnewa 0 S1 8 (fun S2 a3 => jpr [8] 17 S2 x0 (some a3) (fun S4 => jnewa 0 S4 8 (fun S5 a6 => jpr [8] 18 S5 x0 (some a6) (fun S7 => jnewa 0 S7 8 (fun S8 a9 => jpr [8] 19 S8 x0 (some a9) (fun S10 => jnewa 0 S10 8 (fun S11 a12 => jpr [8] 30 S11 x0 (some a12) (fun S13 => jnewa 0 S13 8 (fun S14 a15 => jpr [8] 31 S14 x0 (some a15) (fun S16 => jnewa 0 S16 8 (fun S17 a18 => jpr [8] 32 S17 x0 (some a18) (fun S19 => jnewa 0 S19 8 (fun S20 a21 => jpr [8] 33 S20 x0 (some a21) (fun S22 => jnewa 0 S22 8 (fun S23 a24 => jpr [8] 34 S23 x0 (some a24) (fun S25 => jnewa 0 S25 8 (fun S26 a27 => jpr [8] 35 S26 x0 (some a27) (fun S28 => jnewa 0 S28 144 (fun S29 a30 => jpr [8] 36 S29 x0 (some a30) (fun S31 => jnewa 0 S31 24 (fun S32 a33 => jpr [8] 37 S32 x0 (some a33) (fun S34 => wp_X5_init_180 S34 x0 K)))))))))))))))))))))))
def wp_X5_init (S : jS) (x0 : Nat) (K : jS → Unit → Prop) : Prop :=
  jnewa 0 S 2 (fun S1 a2 => jpr [8] 0 S1 x0 (some a2) (fun S3 => jnewa 0 S3 62 (fun S4 a5 => jpr [8] 1 S4 x0 (some a5) (fun S6 => jnewa 0 S6 9 (fun S7 a8 => jpr [8] 3 S7 x0 (some a8) (fun S9 => jnewa 0 S9 9 (fun S10 a11 => jpr [8] 4 S10 x0 (some a11) (fun S12 => jnewa 0 S12 9 (fun S13 a14 => jpr [8] 5 S13 x0 (some a14) (fun S15 => jnewa 0 S15 9 (fun S16 a17 => jpr [8] 7 S16 x0 (some a17) (fun S18 => jnewa 0 S18 9 (fun S19 a20 => jpr [8] 8 S19 x0 (some a20) (fun S21 => jnewa 0 S21 9 (fun S22 a23 => jpr [8] 9 S22 x0 (some a23) (fun S24 => jnewa 0 S24 8 (fun S25 a26 => jpr [8] 13 S25 x0 (some a26) (fun S27 => jnewa 0 S27 8 (fun S28 a29 => jpr [8] 14 S28 x0 (some a29) (fun S30 => jnewa 0 S30 8 (fun S31 a32 => wp_X5_init_88 S31 x0 a32 x0 K)))))))))))))))))))))
abbrev d_X5_is : Nat := 10
def wp_X5_is_34 (S : jS) (t0 : Int32) (K : jS → Int32 → Prop) : Prop :=
  K S t0
def wp_X5_is_32 (S : jS) (K : jS → Int32 → Prop) : Prop :=
  wp_X5_is_34 S (-2) K
def wp_X5_is (S : jS) (x0 : Nat) (x1 : Int32) (x2 : Int32) (x3 : Int32) (K : jS → Int32 → Prop) : Prop :=
  wp_X5_isMinute S x1 (fun S1 r2 => ((r2 = 0) → wp_X5_is_32 S1 K) ∧ ((¬ (r2 = 0)) → jis 8 S1 x0 ∧ wp_X5_isGuest S1 x0 x2 (fun S3 r4 => ((r4 = 0) → wp_X5_is_32 S3 K) ∧ ((¬ (r4 = 0)) → wp_X5_isTwo S3 x3 (fun S5 r6 => ((r6 = 0) → wp_X5_is_32 S5 K) ∧ ((¬ (r6 = 0)) → jis 8 S5 x0 ∧ wp_X5_isOf S5 x0 x1 x2 x3 (fun S7 r8 => wp_X5_is_34 S7 r8 K)))))))
abbrev d_X5_keep : Nat := 1
def wp_X5_keep_40 (S : jS) (t0 : Nat) (t1 : Int32) (t2 : Int32) (K : jS → Unit → Prop) : Prop :=
  jas 0 S t0 t1 t2 (fun S1 => K S1 ())
def wp_X5_keep (S : jS) (x0 : Nat) (x1 : Int32) (x2 : Int32) (x3 : Int32) (K : jS → Unit → Prop) : Prop :=
  jgr [8] 50 S x0 (fun v1 => jgr [8] 48 S x0 (fun v2 => jal 0 S v2 x1 (fun v3 => ((v3 = 0) → wp_X5_keep_40 S v1 ((60 * x1) + x2) ((x3 : Int32).toInt8.toInt32) K) ∧ ((¬ (v3 = 0)) → jgr [8] 48 S x0 (fun v4 => jal 0 S v4 x1 (fun v5 => ((v5 = 1) → wp_X5_keep_40 S v1 ((60 * x1) + x2) ((x3 : Int32).toInt16.toInt32) K) ∧ ((¬ (v5 = 1)) → wp_X5_keep_40 S v1 ((60 * x1) + x2) x3 K)))))))
abbrev d_X5_kind : Nat := 9
def wp_X5_kind_18 (S : jS) (t0 : Int32) (K : jS → Int32 → Prop) : Prop :=
  K S t0
def wp_X5_kind (S : jS) (x0 : Nat) (x1 : Int32) (K : jS → Int32 → Prop) : Prop :=
  jis 8 S x0 ∧ wp_X5_isPiece S x0 x1 (fun S1 r2 => ((r2 = 0) → wp_X5_kind_18 S1 (-2) K) ∧ ((¬ (r2 = 0)) → jis 8 S1 x0 ∧ wp_X5_kindsBy S1 x0 x1 (fun S3 r4 => wp_X5_kind_18 S3 r4 K)))
abbrev d_X5_line : Nat := 10
def wp_X5_line_17 (S : jS) (t0 : Int32) (K : jS → Int32 → Prop) : Prop :=
  K S t0
def wp_X5_line (S : jS) (x0 : Nat) (x1 : Int32) (K : jS → Int32 → Prop) : Prop :=
  wp_X5_isMinute S x1 (fun S1 r2 => ((r2 = 0) → wp_X5_line_17 S1 (-2) K) ∧ ((¬ (r2 = 0)) → jis 8 S1 x0 ∧ wp_X5_lineOf S1 x0 x1 (fun S3 r4 => wp_X5_line_17 S3 r4 K)))
abbrev d_X5_lose : Nat := 3
def wp_X5_lose (S : jS) (x0 : Nat) (x1 : Int32) (K : jS → Int32 → Prop) : Prop :=
  wp_X5_isSheet S x1 (fun S1 r2 => ((r2 = 0) → K S1 (-2)) ∧ ((¬ (r2 = 0)) → jgr [8] 47 S1 x0 (fun v3 => jal 3 S1 v3 x1 (fun v4 => ((v4 = 0) → jis 8 S1 x0 ∧ wp_X5_meets S1 x0 1 (fun S5 r6 => K S5 r6)) ∧ ((¬ (v4 = 0)) → jgr [8] 47 S1 x0 (fun v7 => jas 3 S1 v7 x1 0 (fun S8 => jgr [8] 49 S8 x0 (fun v9 => jal 0 S8 v9 x1 (fun v10 => K S8 v10)))))))))
abbrev d_X5_never : Nat := 9
def wp_X5_never (S : jS) (x0 : Nat) (K : jS → Int32 → Prop) : Prop :=
  jis 8 S x0 ∧ wp_X5_neverNow S x0 (fun S1 r2 => K S1 r2)
abbrev d_X5_piece : Nat := 8
def wp_X5_piece_26 (S : jS) (t0 : Int32) (K : jS → Int32 → Prop) : Prop :=
  K S t0
def wp_X5_piece_24 (S : jS) (K : jS → Int32 → Prop) : Prop :=
  wp_X5_piece_26 S (-2) K
def wp_X5_piece (S : jS) (x0 : Nat) (x1 : Int32) (x2 : Int32) (K : jS → Int32 → Prop) : Prop :=
  jis 8 S x0 ∧ wp_X5_isPiece S x0 x1 (fun S1 r2 => ((r2 = 0) → wp_X5_piece_24 S1 K) ∧ ((¬ (r2 = 0)) → wp_X5_isThree S1 x2 (fun S3 r4 => ((r4 = 0) → wp_X5_piece_24 S3 K) ∧ ((¬ (r4 = 0)) → jis 8 S3 x0 ∧ wp_X5_pieceOf S3 x0 x1 x2 (fun S5 r6 => wp_X5_piece_26 S5 r6 K)))))
abbrev d_X5_put : Nat := 3
def wp_X5_put_16 (S : jS) (K : jS → Int32 → Prop) : Prop :=
  K S (-2)
def wp_X5_put (S : jS) (x0 : Nat) (x1 : Int32) (x2 : Int32) (x3 : Int32) (x4 : Int32) (K : jS → Int32 → Prop) : Prop :=
  wp_X5_isSheet S x1 (fun S1 r2 => ((r2 = 0) → wp_X5_put_16 S1 K) ∧ ((¬ (r2 = 0)) → wp_X5_in S1 x2 0 2 (fun S3 r4 => ((r4 = 0) → wp_X5_put_16 S3 K) ∧ ((¬ (r4 = 0)) → jis 8 S3 x0 ∧ wp_X5_lacks S3 x0 x1 x2 x3 (fun S5 r6 => ((r6 ≤ 0) → jis 8 S5 x0 ∧ wp_X5_keep S5 x0 x1 x3 x4 (fun S7 _ => K S7 1)) ∧ ((¬ (r6 ≤ 0)) → jis 8 S5 x0 ∧ wp_X5_meets S5 x0 r6 (fun S8 r9 => K S8 r9)))))))
abbrev d_X5_read : Nat := 4
def wp_X5_read_93 (S : jS) (x2 : Int32) (K : jS → Int32 → Prop) : Prop :=
  K S x2
def wp_X5_read_34 (S : jS) (t0 : Int32) (t1 : Int32) (x0 : Nat) (x1 : Int32) (x2 : Int32) (x3 : Int32) (Kc32 : jS × Int32 → Prop) (K : jS → Int32 → Prop) : Prop :=
  jgr [8] 49 S x0 (fun v1 => jal 0 S v1 x1 (fun v2 => ((v2 ≤ ((t0 * t1) + 2)) → wp_X5_read_93 S x2 K) ∧ ((¬ (v2 ≤ ((t0 * t1) + 2))) → jgr [8] 50 S x0 (fun v3 => jal 0 S v3 (x3 + (3 * x2)) (fun v4 => jgr [8] 50 S x0 (fun v5 => jal 0 S v5 ((x3 + (3 * x2)) + 1) (fun v6 => jgr [8] 50 S x0 (fun v7 => jal 0 S v7 ((x3 + (3 * x2)) + 2) (fun v8 => jis 8 S x0 ∧ wp_X5_event S x0 v4 v6 v8 (fun S9 r10 => ((r10 ≤ 0) → wp_X5_read_93 S9 x2 K) ∧ ((¬ (r10 ≤ 0)) → Kc32 (S9, (x2 + 1)))))))))))))
def wp_X5_read_32 (S : jS) (x0 : Nat) (x1 : Int32) (x2 : Int32) (x3 : Int32) (Kc32 : jS × Int32 → Prop) (K : jS → Int32 → Prop) : Prop :=
  wp_X5_read_34 S 3 x2 x0 x1 x2 x3 Kc32 K
def wp_X5_read_32_L (x0 : Nat) (x1 : Int32) (x3 : Int32) (K : jS → Int32 → Prop) : (jS × Int32) → ((jS × Int32) → Prop) → Prop := fun z Kc32 => wp_X5_read_32 z.1 x0 x1 z.2 x3 Kc32 K
def wp_X5_read (S : jS) (x0 : Nat) (x1 : Int32) (K : jS → Int32 → Prop) : Prop :=
  wp_X5_isSheet S x1 (fun S1 r2 => ((r2 = 0) → K S1 (-2)) ∧ ((¬ (r2 = 0)) → jgr [8] 47 S1 x0 (fun v3 => jal 3 S1 v3 x1 (fun v4 => ((v4 = 0) → jis 8 S1 x0 ∧ wp_X5_meets S1 x0 1 (fun S5 r6 => K S5 r6)) ∧ ((¬ (v4 = 0)) → ∃ n : Nat, jlp n (wp_X5_read_32_L x0 x1 (60 * x1) K) (S1, 0))))))
abbrev d_X5_seen : Nat := 3
def wp_X5_seen_14 (S : jS) (K : jS → Int32 → Prop) : Prop :=
  K S (-2)
def wp_X5_seen (S : jS) (x0 : Nat) (x1 : Int32) (x2 : Int32) (K : jS → Int32 → Prop) : Prop :=
  wp_X5_isMinute S x1 (fun S1 r2 => ((r2 = 0) → wp_X5_seen_14 S1 K) ∧ ((¬ (r2 = 0)) → wp_X5_isTwo S1 x2 (fun S3 r4 => ((r4 = 0) → wp_X5_seen_14 S3 K) ∧ ((¬ (r4 = 0)) → jgi [8] 43 S3 x0 (fun v5 => ((v5 = 8) → K S3 (-4)) ∧ ((¬ (v5 = 8)) → jgr [8] 44 S3 x0 (fun v6 => jgi [8] 43 S3 x0 (fun v7 => jas 0 S3 v6 v7 x1 (fun S8 => jgr [8] 45 S8 x0 (fun v9 => jgi [8] 43 S8 x0 (fun v10 => jas 0 S8 v9 v10 x2 (fun S11 => jgi [8] 43 S11 x0 (fun v12 => jpi [8] 43 S11 x0 (v12 + 1) (fun S13 => jgi [8] 43 S13 x0 (fun v14 => K S13 v14)))))))))))))))
abbrev d_X5_set : Nat := 3
def wp_X5_set_26 (S : jS) (K : jS → Int32 → Prop) : Prop :=
  K S (-2)
def wp_X5_set_75 (S : jS) (t0 : Nat) (t1 : Int32) (x3 : Int32) (K : jS → Int32 → Prop) : Prop :=
  jpi [8] 11 S t0 t1 (fun S1 => K S1 x3)
def wp_X5_set_58 (S : jS) (t0 : Nat) (t1 : Int32) (x0 : Nat) (x1 : Int32) (x2 : Int32) (x3 : Int32) (K : jS → Int32 → Prop) : Prop :=
  jpi [8] 10 S t0 t1 (fun S1 => ((x1 = 1) → wp_X5_set_75 S1 x0 x2 x3 K) ∧ ((¬ (x1 = 1)) → jgi [8] 11 S1 x0 (fun v2 => wp_X5_set_75 S1 x0 v2 x3 K)))
def wp_X5_set_44 (S : jS) (t0 : Int32) (x0 : Nat) (x1 : Int32) (x2 : Int32) (K : jS → Int32 → Prop) : Prop :=
  ((x1 = 0) → wp_X5_set_58 S x0 x2 x0 x1 x2 t0 K) ∧ ((¬ (x1 = 0)) → jgi [8] 10 S x0 (fun v1 => wp_X5_set_58 S x0 v1 x0 x1 x2 t0 K))
def wp_X5_set_20 (S : jS) (t0 : Int32) (t1 : Int32) (t2 : Int32) (x0 : Nat) (x1 : Int32) (x2 : Int32) (K : jS → Int32 → Prop) : Prop :=
  wp_X5_in S t0 t1 t2 (fun S1 r2 => ((r2 = 0) → wp_X5_set_26 S1 K) ∧ ((¬ (r2 = 0)) → ((x1 = 0) → jgi [8] 10 S1 x0 (fun v3 => wp_X5_set_44 S1 v3 x0 x1 x2 K)) ∧ ((¬ (x1 = 0)) → jgi [8] 11 S1 x0 (fun v4 => wp_X5_set_44 S1 v4 x0 x1 x2 K))))
def wp_X5_set (S : jS) (x0 : Nat) (x1 : Int32) (x2 : Int32) (K : jS → Int32 → Prop) : Prop :=
  wp_X5_isTwo S x1 (fun S1 r2 => ((r2 = 0) → wp_X5_set_26 S1 K) ∧ ((¬ (r2 = 0)) → ((x1 = 0) → wp_X5_set_20 S1 x2 0 30 x0 x1 x2 K) ∧ ((¬ (x1 = 0)) → wp_X5_set_20 S1 x2 0 40 x0 x1 x2 K)))
abbrev d_X5_sheet : Nat := 3
def wp_X5_sheet_22 (S : jS) (K : jS → Int32 → Prop) : Prop :=
  K S (-2)
def wp_X5_sheet_66 (S : jS) (x0 : Nat) (x1 : Int32) (x3 : Int32) (x4 : Int32) (Kc59 : jS × Int32 → Prop) (K : jS → Int32 → Prop) : Prop :=
  jgr [8] 50 S x0 (fun v1 => jas 0 S v1 ((60 * x1) + x4) 0 (fun S2 => Kc59 (S2, (x4 + 1))))
def wp_X5_sheet_85 (S : jS) (x3 : Int32) (K : jS → Int32 → Prop) : Prop :=
  K S x3
def wp_X5_sheet_59 (S : jS) (x0 : Nat) (x1 : Int32) (x3 : Int32) (x4 : Int32) (Kc59 : jS × Int32 → Prop) (K : jS → Int32 → Prop) : Prop :=
  ((60 ≤ x4) → wp_X5_sheet_85 S x3 K) ∧ ((¬ (60 ≤ x4)) → wp_X5_sheet_66 S x0 x1 x3 x4 Kc59 K)
def wp_X5_sheet_59_L (x0 : Nat) (x1 : Int32) (x3 : Int32) (K : jS → Int32 → Prop) : (jS × Int32) → ((jS × Int32) → Prop) → Prop := fun z Kc59 => wp_X5_sheet_59 z.1 x0 x1 x3 z.2 Kc59 K
def wp_X5_sheet (S : jS) (x0 : Nat) (x1 : Int32) (x2 : Int32) (x3 : Int32) (K : jS → Int32 → Prop) : Prop :=
  wp_X5_isSheet S x1 (fun S1 r2 => ((r2 = 0) → wp_X5_sheet_22 S1 K) ∧ ((¬ (r2 = 0)) → wp_X5_in S1 x2 0 2 (fun S3 r4 => ((r4 = 0) → wp_X5_sheet_22 S3 K) ∧ ((¬ (r4 = 0)) → ((x3 ≤ 60) → ((0 ≤ x3) → jgr [8] 47 S3 x0 (fun v5 => jas 3 S3 v5 x1 1 (fun S6 => jgr [8] 48 S6 x0 (fun v7 => jas 0 S6 v7 x1 x2 (fun S8 => jgr [8] 49 S8 x0 (fun v9 => jas 0 S8 v9 x1 x3 (fun S10 => ∃ n : Nat, jlp n (wp_X5_sheet_59_L x0 x1 x3 K) (S10, 0)))))))) ∧ ((¬ (0 ≤ x3)) → jis 8 S3 x0 ∧ wp_X5_meets S3 x0 5 (fun S11 r12 => K S11 r12))) ∧ ((¬ (x3 ≤ 60)) → wp_X5_sheet_22 S3 K)))))
abbrev d_X5_spare : Nat := 9
def wp_X5_spare_23 (S : jS) (t0 : Int32) (K : jS → Int32 → Prop) : Prop :=
  K S t0
def wp_X5_spare (S : jS) (x0 : Nat) (x1 : Int32) (K : jS → Int32 → Prop) : Prop :=
  wp_X5_in S x1 (-1) 1 (fun S1 r2 => ((r2 = 0) → wp_X5_spare_23 S1 (-2) K) ∧ ((¬ (r2 = 0)) → jis 8 S1 x0 ∧ wp_X5_spareBy S1 x0 (fun S3 r4 => jis 8 S3 x0 ∧ wp_X5_ofRow S3 x0 r4 x1 (fun S5 r6 => wp_X5_spare_23 S5 r6 K))))
abbrev d_X5_sum : Nat := 10
def wp_X5_sum_19 (S : jS) (t0 : Int32) (K : jS → Int32 → Prop) : Prop :=
  K S t0
def wp_X5_sum (S : jS) (x0 : Nat) (x1 : Int32) (K : jS → Int32 → Prop) : Prop :=
  wp_X5_in S x1 0 4 (fun S1 r2 => ((r2 = 0) → wp_X5_sum_19 S1 (-2) K) ∧ ((¬ (r2 = 0)) → jis 8 S1 x0 ∧ wp_X5_sumOf S1 x0 x1 (fun S3 r4 => wp_X5_sum_19 S3 r4 K)))
abbrev d_X5_thirst : Nat := 10
def wp_X5_thirst (S : jS) (x0 : Nat) (K : jS → Int32 → Prop) : Prop :=
  jis 8 S x0 ∧ wp_X5_thirstOf S x0 (fun S1 r2 => K S1 r2)
abbrev d_X5_type : Nat := 3
def wp_X5_type_18 (S : jS) (K : jS → Int32 → Prop) : Prop :=
  K S (-2)
def wp_X5_type (S : jS) (x0 : Nat) (x1 : Int32) (x2 : Int32) (K : jS → Int32 → Prop) : Prop :=
  wp_X5_isTwo S x1 (fun S1 r2 => ((r2 = 0) → wp_X5_type_18 S1 K) ∧ ((¬ (r2 = 0)) → wp_X5_in S1 x2 0 255 (fun S3 r4 => ((r4 = 0) → wp_X5_type_18 S3 K) ∧ ((¬ (r4 = 0)) → jgr [8] 0 S3 x0 (fun v5 => jal 0 S3 v5 x1 (fun v6 => ((v6 = 31) → K S3 (-4)) ∧ ((¬ (v6 = 31)) → jgr [8] 1 S3 x0 (fun v7 => jgr [8] 0 S3 x0 (fun v8 => jal 0 S3 v8 x1 (fun v9 => jas 0 S3 v7 ((31 * x1) + v9) x2 (fun S10 => jgr [8] 0 S10 x0 (fun v11 => jal 0 S10 v11 x1 (fun v12 => jas 0 S10 v11 x1 (v12 + 1) (fun S13 => jgr [8] 0 S13 x0 (fun v14 => jal 0 S13 v14 x1 (fun v15 => K S13 v15))))))))))))))))
abbrev d_X5_undo : Nat := 3
def wp_X5_undo (S : jS) (x0 : Nat) (x1 : Int32) (K : jS → Int32 → Prop) : Prop :=
  wp_X5_isTwo S x1 (fun S1 r2 => ((r2 = 0) → K S1 (-2)) ∧ ((¬ (r2 = 0)) → jgr [8] 0 S1 x0 (fun v3 => jal 0 S1 v3 x1 (fun v4 => ((v4 = 0) → K S1 (-3)) ∧ ((¬ (v4 = 0)) → jgr [8] 0 S1 x0 (fun v5 => jal 0 S1 v5 x1 (fun v6 => jas 0 S1 v5 x1 (v6 - 1) (fun S7 => jgr [8] 0 S7 x0 (fun v8 => jal 0 S7 v8 x1 (fun v9 => K S7 v9))))))))))
abbrev d_X5_waited : Nat := 10
def wp_X5_waited_18 (S : jS) (t0 : Int32) (K : jS → Int32 → Prop) : Prop :=
  K S t0
def wp_X5_waited (S : jS) (x0 : Nat) (x1 : Int32) (K : jS → Int32 → Prop) : Prop :=
  jis 8 S x0 ∧ wp_X5_isGuest S x0 x1 (fun S1 r2 => ((r2 = 0) → wp_X5_waited_18 S1 (-2) K) ∧ ((¬ (r2 = 0)) → jis 8 S1 x0 ∧ wp_X5_waitedOf S1 x0 x1 (fun S3 r4 => wp_X5_waited_18 S3 r4 K)))
abbrev d_X5_waters : Nat := 9
def wp_X5_waters (S : jS) (x0 : Nat) (K : jS → Int32 → Prop) : Prop :=
  jis 8 S x0 ∧ wp_X5_watersBy S x0 (fun S1 r2 => K S1 r2)
abbrev d_X5_wipe : Nat := 3
def wp_X5_wipe (S : jS) (x0 : Nat) (x1 : Int32) (K : jS → Int32 → Prop) : Prop :=
  wp_X5_isTwo S x1 (fun S1 r2 => ((r2 = 0) → K S1 (-2)) ∧ ((¬ (r2 = 0)) → jgr [8] 0 S1 x0 (fun v3 => jal 0 S1 v3 x1 (fun v4 => jgr [8] 0 S1 x0 (fun v5 => jas 0 S1 v5 x1 0 (fun S6 => K S6 v4))))))
abbrev d_X5_write : Nat := 9
def wp_X5_write_14 (S : jS) (K : jS → Int32 → Prop) : Prop :=
  K S (-2)
def wp_X5_write_74 (S : jS) (x0 : Nat) (x1 : Int32) (x2 : Int32) (x3 : Int32) (Kc38 : jS × Int32 → Prop) (K : jS → Int32 → Prop) : Prop :=
  Kc38 (S, x3)
def wp_X5_write_77 (S : jS) (x3 : Int32) (K : jS → Int32 → Prop) : Prop :=
  K S x3
def wp_X5_write_38 (S : jS) (x0 : Nat) (x1 : Int32) (x2 : Int32) (x3 : Int32) (Kc38 : jS × Int32 → Prop) (K : jS → Int32 → Prop) : Prop :=
  jgr [8] 49 S x0 (fun v1 => jal 0 S v1 x2 (fun v2 => ((v2 ≤ x3) → wp_X5_write_77 S x3 K) ∧ ((¬ (v2 ≤ x3)) → ((24 ≤ x3) → wp_X5_write_77 S x3 K) ∧ ((¬ (24 ≤ x3)) → jgr [8] 36 S x0 (fun v3 => jal 0 S v3 ((6 * x3) + x1) (fun v4 => jis 8 S x0 ∧ wp_X5_keep S x0 x2 x3 v4 (fun S5 _ => wp_X5_write_74 S5 x0 x1 x2 (x3 + 1) Kc38 K)))))))
def wp_X5_write_38_L (x0 : Nat) (x1 : Int32) (x2 : Int32) (K : jS → Int32 → Prop) : (jS × Int32) → ((jS × Int32) → Prop) → Prop := fun z Kc38 => wp_X5_write_38 z.1 x0 x1 x2 z.2 Kc38 K
def wp_X5_write (S : jS) (x0 : Nat) (x1 : Int32) (x2 : Int32) (K : jS → Int32 → Prop) : Prop :=
  wp_X5_isThree S x1 (fun S1 r2 => ((r2 = 0) → wp_X5_write_14 S1 K) ∧ ((¬ (r2 = 0)) → wp_X5_isSheet S1 x2 (fun S3 r4 => ((r4 = 0) → wp_X5_write_14 S3 K) ∧ ((¬ (r4 = 0)) → jgr [8] 47 S3 x0 (fun v5 => jal 3 S3 v5 x2 (fun v6 => ((v6 = 0) → jis 8 S3 x0 ∧ wp_X5_meets S3 x0 1 (fun S7 r8 => K S7 r8)) ∧ ((¬ (v6 = 0)) → jis 8 S3 x0 ∧ wp_X5_runsTold S3 x0 (fun S9 _ => ∃ n : Nat, jlp n (wp_X5_write_38_L x0 x1 x2 K) (S9, 0)))))))))
theorem wk_X5_byteAt_25 {X : jX} {G : jG} {K : jS → Int32 → Prop} (C : jC (X, G, 3, jA X G tvi K) d_X5_byteAt cX5_byteAt "SamovarModel" (some .int) yX5_byteAt) {S : jS} {t0 : Int32}  (h : wp_X5_byteAt_25 S t0 K) : jJ (X, G, 3, jA X G tvi K) S [] 25 [.int t0] := by
  unfold wp_X5_byteAt_25 at h
  exact jr_ireturn C dX5_byteAt_25 h
theorem wk_X5_byteAt_0 {X : jX} {G : jG} {K : jS → Int32 → Prop} (C : jC (X, G, 3, jA X G tvi K) d_X5_byteAt cX5_byteAt "SamovarModel" (some .int) yX5_byteAt) {S : jS} {x0 : Nat} {x1 : Int32} {x2 : Int32}  (h : wp_X5_byteAt S x0 x1 x2 K) : jJ (X, G, 3, jA X G tvi K) S [(0, .ref x0), (1, .int x1), (2, .int x2)] 0 [] := by
  unfold wp_X5_byteAt at h
  refine jr_iload_n C 1 rfl dX5_byteAt_0 rfl 2 rfl ?_
  refine jr_aload_n C 2 rfl dX5_byteAt_1 rfl 0 rfl ?_
  refine jr_getr C 5 rfl fo_8_0 q1277 dX5_byteAt_2 h (fun v1 h => ?_)
  refine jr_iload_n C 6 rfl dX5_byteAt_5 rfl 1 rfl ?_
  refine jr_iald C 7 rfl dX5_byteAt_6 h (fun v2 h => ?_)
  refine jr_icmp_ge C 24 10 rfl dX5_byteAt_7 (by decide) (fun c5 => ?_) (fun c5 => ?_)
  · have h := h.1 c5
    refine jr_iconst (v := (-1)) C 25 rfl dX5_byteAt_24 (by decide) ?_
    exact jr_sub [] rfl (wk_X5_byteAt_25 C  h)
  · have h := h.2 c5
    refine jr_aload_n C 11 rfl dX5_byteAt_10 rfl 0 rfl ?_
    refine jr_getr C 14 rfl fo_8_1 q1278 dX5_byteAt_11 h (fun v3 h => ?_)
    refine jr_bipush (v := 31) C 16 rfl dX5_byteAt_14 (by decide) ?_
    refine jr_iload_n C 17 rfl dX5_byteAt_16 rfl 1 rfl ?_
    refine jr_imul C 18 rfl dX5_byteAt_17 ?_
    refine jr_iload_n C 19 rfl dX5_byteAt_18 rfl 2 rfl ?_
    refine jr_iadd C 20 rfl dX5_byteAt_19 ?_
    refine jr_iald C 21 rfl dX5_byteAt_20 h (fun v4 h => ?_)
    refine jr_goto C 25 dX5_byteAt_21 (by decide) ?_
    exact jr_sub [] rfl (wk_X5_byteAt_25 C  h)
theorem m_X5_byteAt {l : Launch} (hl : l.stackTraces = false) {G : jG} {K : jS → Int32 → Prop} {S : jS} {x0 : Nat} {x1 : Int32} {x2 : Int32} (h : wp_X5_byteAt S x0 x1 x2 K) : jMet l G d_X5_byteAt yX5_byteAt (ws_ yX5_byteAt cX5_byteAt 3 (some .int)) [.ref x0, .int x1, .int x2] S tvi K :=
  jMet.of hl rfl (by decide) (Nat.le_of_ble_eq_true rfl) (fun X C => jr_sub [0, 1, 2] rfl (wk_X5_byteAt_0 C h))
theorem wk_X5_in_15 {X : jX} {G : jG} {K : jS → Int32 → Prop} (C : jC (X, G, 3, jA X G tvi K) d_X5_in cX5_in "SamovarModel" (some .boolean) yX5_in) {S : jS} {t0 : Int32}  (h : wp_X5_in_15 S t0 K) : jJ (X, G, 3, jA X G tvi K) S [] 15 [.int t0] := by
  unfold wp_X5_in_15 at h
  exact jr_zreturn C dX5_in_15 h
theorem wk_X5_in_14 {X : jX} {G : jG} {K : jS → Int32 → Prop} (C : jC (X, G, 3, jA X G tvi K) d_X5_in cX5_in "SamovarModel" (some .boolean) yX5_in) {S : jS}   (h : wp_X5_in_14 S K) : jJ (X, G, 3, jA X G tvi K) S [] 14 [] := by
  unfold wp_X5_in_14 at h
  refine jr_iconst (v := 0) C 15 rfl dX5_in_14 (by decide) ?_
  exact (wk_X5_in_15 C  h)
theorem wk_X5_in_0 {X : jX} {G : jG} {K : jS → Int32 → Prop} (C : jC (X, G, 3, jA X G tvi K) d_X5_in cX5_in "SamovarModel" (some .boolean) yX5_in) {S : jS} {x0 : Int32} {x1 : Int32} {x2 : Int32}  (h : wp_X5_in S x0 x1 x2 K) : jJ (X, G, 3, jA X G tvi K) S [(0, .int x0), (1, .int x1), (2, .int x2)] 0 [] := by
  unfold wp_X5_in at h
  refine jr_iload_n C 1 rfl dX5_in_0 rfl 0 rfl ?_
  refine jr_iload_n C 2 rfl dX5_in_1 rfl 1 rfl ?_
  refine jr_icmp_lt C 14 5 rfl dX5_in_2 (by decide) (fun c2 => ?_) (fun c2 => ?_)
  · have h := h.1 c2
    exact jr_sub [] rfl (wk_X5_in_14 C  h)
  · have h := h.2 c2
    refine jr_iload_n C 6 rfl dX5_in_5 rfl 0 rfl ?_
    refine jr_iload_n C 7 rfl dX5_in_6 rfl 2 rfl ?_
    refine jr_icmp_gt C 14 10 rfl dX5_in_7 (by decide) (fun c1 => ?_) (fun c1 => ?_)
    · have h := h.1 c1
      exact jr_sub [] rfl (wk_X5_in_14 C  h)
    · have h := h.2 c1
      refine jr_iconst (v := 1) C 11 rfl dX5_in_10 (by decide) ?_
      refine jr_goto C 15 dX5_in_11 (by decide) ?_
      exact jr_sub [] rfl (wk_X5_in_15 C  h)
theorem m_X5_in {l : Launch} (hl : l.stackTraces = false) {G : jG} {K : jS → Int32 → Prop} {S : jS} {x0 : Int32} {x1 : Int32} {x2 : Int32} (h : wp_X5_in S x0 x1 x2 K) : jMet l G d_X5_in yX5_in (ws_ yX5_in cX5_in 3 (some .boolean)) [.int x0, .int x1, .int x2] S tvi K :=
  jMet.of hl rfl (by decide) (Nat.le_of_ble_eq_true rfl) (fun X C => jr_sub [0, 1, 2] rfl (wk_X5_in_0 C h))
theorem wk_X5_isMinute_0 {X : jX} {G : jG} {K : jS → Int32 → Prop} (C : jC (X, G, 1, jA X G tvi K) d_X5_isMinute cX5_isMinute "SamovarModel" (some .boolean) yX5_isMinute) {S : jS} {x0 : Int32}  (h : wp_X5_isMinute S x0 K) : jJ (X, G, 1, jA X G tvi K) S [(0, .int x0)] 0 [] := by
  unfold wp_X5_isMinute at h
  refine jr_iload_n C 1 rfl dX5_isMinute_0 rfl 0 rfl ?_
  refine jr_iconst (v := 0) C 2 rfl dX5_isMinute_1 (by decide) ?_
  refine jr_bipush (v := 23) C 4 rfl dX5_isMinute_2 (by decide) ?_
  refine jr_callSi (As := [.int x0, .int 0, .int 23]) (st := []) C 7 rfl (m_X5_in C.2.2.2.2.2.2.2.2.2.2.2.2.2.2.2 h) rfl q1445 q1446 q102 q1447 (by decide) (by decide) nd_X5_in (Nat.le_of_ble_eq_true rfl) dX5_isMinute_4 (fun S1 r2 h => ?_)
  exact jr_zreturn C dX5_isMinute_7 h
theorem m_X5_isMinute {l : Launch} (hl : l.stackTraces = false) {G : jG} {K : jS → Int32 → Prop} {S : jS} {x0 : Int32} (h : wp_X5_isMinute S x0 K) : jMet l G d_X5_isMinute yX5_isMinute (ws_ yX5_isMinute cX5_isMinute 1 (some .boolean)) [.int x0] S tvi K :=
  jMet.of hl rfl (by decide) (Nat.le_of_ble_eq_true rfl) (fun X C => jr_sub [0] rfl (wk_X5_isMinute_0 C h))
theorem wk_X5_readsPart_114 {X : jX} {G : jG} {K : jS → Int32 → Prop} (C : jC (X, G, 8, jA X G tvi K) d_X5_readsPart cX5_readsPart "SamovarModel" (some .int) yX5_readsPart) {S : jS}   (h : wp_X5_readsPart_114 S K) : jJ (X, G, 8, jA X G tvi K) S [] 114 [] := by
  unfold wp_X5_readsPart_114 at h
  refine jr_iconst (v := 0) C 115 rfl dX5_readsPart_114 (by decide) ?_
  exact jr_ireturn C dX5_readsPart_115 h
theorem wk_X5_readsPart_199 {X : jX} {G : jG} {K : jS → Int32 → Prop} (C : jC (X, G, 8, jA X G tvi K) d_X5_readsPart cX5_readsPart "SamovarModel" (some .int) yX5_readsPart) {S : jS}   (h : wp_X5_readsPart_199 S K) : jJ (X, G, 8, jA X G tvi K) S [] 199 [] := by
  unfold wp_X5_readsPart_199 at h
  refine jr_iconst (v := 3) C 200 rfl dX5_readsPart_199 (by decide) ?_
  exact jr_ireturn C dX5_readsPart_200 h
theorem wk_X5_readsPart_136 {X : jX} {G : jG} {K : jS → Int32 → Prop} (C : jC (X, G, 8, jA X G tvi K) d_X5_readsPart cX5_readsPart "SamovarModel" (some .int) yX5_readsPart) {S : jS} {t0 : Int32} {t1 : Int32} {t2 : Int32} {x0 : Nat} {x1 : Int32} {x2 : Int32} {x4 : Int32} {x6 : Int32} {x7 : Int32}  (h : wp_X5_readsPart_136 S t0 t1 t2 x0 x1 x2 x4 x6 x7 K) : jJ (X, G, 8, jA X G tvi K) S [(0, .ref x0), (1, .int x1), (2, .int x2), (4, .int x4), (6, .int x6), (7, .int x7)] 136 [.int t2, .int t1, .int t0] := by
  unfold wp_X5_readsPart_136 at h
  refine jr_callSi (As := [.int t0, .int t1, .int t2]) (st := []) C 139 rfl (m_X5_in C.2.2.2.2.2.2.2.2.2.2.2.2.2.2.2 h) rfl q1445 q1446 q102 q1447 (by decide) (by decide) nd_X5_in (Nat.le_of_ble_eq_true rfl) dX5_readsPart_136 (fun S1 r2 h => ?_)
  refine jr_if_ne C 144 142 rfl dX5_readsPart_139 (by decide) (fun c16 => ?_) (fun c16 => ?_)
  · have h := h.1 c16
    refine jr_iconst (v := 2) C 143 rfl dX5_readsPart_142 (by decide) ?_
    exact jr_ireturn C dX5_readsPart_143 h
  · have h := h.2 c16
    refine jr_iload_n C 145 rfl dX5_readsPart_144 rfl 1 rfl ?_
    refine jr_if_ne C 175 148 rfl dX5_readsPart_145 (by decide) (fun c15 => ?_) (fun c15 => ?_)
    · have h := h.1 c15
      refine jr_aload_n C 149 rfl dX5_readsPart_148 rfl 0 rfl ?_
      refine jr_getr C 152 rfl fo_8_3 q1280 dX5_readsPart_149 h (fun v3 h => ?_)
      refine jr_iload_n C 153 rfl dX5_readsPart_152 rfl 2 rfl ?_
      refine jr_iload C 155 rfl dX5_readsPart_153 3 rfl ?_
      refine jr_iast C 156 rfl dX5_readsPart_155 h (fun S4 h => ?_)
      refine jr_aload_n C 157 rfl dX5_readsPart_156 rfl 0 rfl ?_
      refine jr_getr C 160 rfl fo_8_4 q1281 dX5_readsPart_157 h (fun v5 h => ?_)
      refine jr_iload_n C 161 rfl dX5_readsPart_160 rfl 2 rfl ?_
      refine jr_iload C 163 rfl dX5_readsPart_161 4 rfl ?_
      refine jr_iast C 164 rfl dX5_readsPart_163 h (fun S6 h => ?_)
      refine jr_aload_n C 165 rfl dX5_readsPart_164 rfl 0 rfl ?_
      refine jr_getr C 168 rfl fo_8_5 q1282 dX5_readsPart_165 h (fun v7 h => ?_)
      refine jr_iload_n C 169 rfl dX5_readsPart_168 rfl 2 rfl ?_
      refine jr_iload C 171 rfl dX5_readsPart_169 5 rfl ?_
      refine jr_iast C 172 rfl dX5_readsPart_171 h (fun S8 h => ?_)
      refine jr_goto C 199 dX5_readsPart_172 (by decide) ?_
      exact jr_sub [] rfl (wk_X5_readsPart_199 C  h)
    · have h := h.2 c15
      refine jr_aload_n C 176 rfl dX5_readsPart_175 rfl 0 rfl ?_
      refine jr_getr C 179 rfl fo_8_7 q1284 dX5_readsPart_176 h (fun v9 h => ?_)
      refine jr_iload_n C 180 rfl dX5_readsPart_179 rfl 2 rfl ?_
      refine jr_iload C 182 rfl dX5_readsPart_180 3 rfl ?_
      refine jr_iast C 183 rfl dX5_readsPart_182 h (fun S10 h => ?_)
      refine jr_aload_n C 184 rfl dX5_readsPart_183 rfl 0 rfl ?_
      refine jr_getr C 187 rfl fo_8_8 q1285 dX5_readsPart_184 h (fun v11 h => ?_)
      refine jr_iload_n C 188 rfl dX5_readsPart_187 rfl 2 rfl ?_
      refine jr_iload C 190 rfl dX5_readsPart_188 4 rfl ?_
      refine jr_iast C 191 rfl dX5_readsPart_190 h (fun S12 h => ?_)
      refine jr_aload_n C 192 rfl dX5_readsPart_191 rfl 0 rfl ?_
      refine jr_getr C 195 rfl fo_8_9 q1286 dX5_readsPart_192 h (fun v13 h => ?_)
      refine jr_iload_n C 196 rfl dX5_readsPart_195 rfl 2 rfl ?_
      refine jr_iload C 198 rfl dX5_readsPart_196 5 rfl ?_
      refine jr_iast C 199 rfl dX5_readsPart_198 h (fun S14 h => ?_)
      exact jr_sub [] rfl (wk_X5_readsPart_199 C  h)
theorem wk_X5_readsPart_85 {X : jX} {G : jG} {K : jS → Int32 → Prop} (C : jC (X, G, 8, jA X G tvi K) d_X5_readsPart cX5_readsPart "SamovarModel" (some .int) yX5_readsPart) {S : jS} {t0 : Int32} {x0 : Nat} {x1 : Int32} {x2 : Int32} {x3 : Int32} {x4 : Int32}  (h : wp_X5_readsPart_85 S t0 x0 x1 x2 x3 x4 K) : jJ (X, G, 8, jA X G tvi K) S [(0, .ref x0), (1, .int x1), (2, .int x2), (3, .int x3), (4, .int x4)] 85 [.int t0] := by
  unfold wp_X5_readsPart_85 at h
  refine jr_istore (lv' := [(6, .int t0), (0, .ref x0), (1, .int x1), (2, .int x2), (3, .int x3), (4, .int x4)]) C 87 rfl dX5_readsPart_85 (Nat.le_of_ble_eq_true rfl) rfl ?_
  refine jr_aload_n C 88 rfl dX5_readsPart_87 rfl 1 rfl ?_
  refine jr_iload_n C 89 rfl dX5_readsPart_88 rfl 2 rfl ?_
  refine jr_iload_n C 90 rfl dX5_readsPart_89 rfl 4 rfl ?_
  refine jr_iconst (v := 2) C 91 rfl dX5_readsPart_90 (by decide) ?_
  refine jr_iadd C 92 rfl dX5_readsPart_91 ?_
  obtain ⟨⟨V, hb⟩, h⟩ := h
  refine jr_callVi (r0 := (RX5, TX5, 53)) (As := [.int x1, .int (x3 + 2)]) (st := []) C 95 rfl (m_X5_byteAt C.2.2.2.2.2.2.2.2.2.2.2.2.2.2.2 h) rfl hb rfl q1472 q1474 qs44 q102 q1475 (by decide) (by decide) ndV_X5_byteAt (Nat.le_of_ble_eq_true rfl) dX5_readsPart_92 (fun S1 r2 h => ?_)
  refine jr_bipush (v := 48) C 97 rfl dX5_readsPart_95 (by decide) ?_
  refine jr_isub C 98 rfl dX5_readsPart_97 ?_
  refine jr_istore (lv' := [(7, .int (r2 - 48)), (6, .int t0), (0, .ref x0), (1, .int x1), (2, .int x2), (3, .int x3), (4, .int x4)]) C 100 rfl dX5_readsPart_98 (Nat.le_of_ble_eq_true rfl) rfl ?_
  refine jr_iload_n C 101 rfl dX5_readsPart_100 rfl 4 rfl ?_
  refine jr_bipush (v := 8) C 103 rfl dX5_readsPart_101 (by decide) ?_
  refine jr_icmp_eq C 114 106 rfl dX5_readsPart_103 (by decide) (fun c8 => ?_) (fun c8 => ?_)
  · have h := h.1 c8
    exact jr_sub [] rfl (wk_X5_readsPart_114 C  h)
  · have h := h.2 c8
    refine jr_iload C 108 rfl dX5_readsPart_106 6 rfl ?_
    refine jr_callSi (As := [.int x4]) (st := []) C 111 rfl (m_X5_isMinute C.2.2.2.2.2.2.2.2.2.2.2.2.2.2.2 h) rfl q1476 q1477 q102 q1478 (by decide) (by decide) nd_X5_isMinute (Nat.le_of_ble_eq_true rfl) dX5_readsPart_108 (fun S3 r4 h => ?_)
    refine jr_if_ne C 116 114 rfl dX5_readsPart_111 (by decide) (fun c7 => ?_) (fun c7 => ?_)
    · have h := h.1 c7
      exact jr_sub [] rfl (wk_X5_readsPart_114 C  h)
    · have h := h.2 c7
      refine jr_iload C 118 rfl dX5_readsPart_116 1 rfl ?_
      refine jr_iconst (v := (-1)) C 119 rfl dX5_readsPart_118 (by decide) ?_
      refine jr_icmp_ne C 124 122 rfl dX5_readsPart_119 (by decide) (fun c6 => ?_) (fun c6 => ?_)
      · have h := h.1 c6
        refine jr_iconst (v := 1) C 123 rfl dX5_readsPart_122 (by decide) ?_
        exact jr_ireturn C dX5_readsPart_123 h
      · have h := h.2 c6
        refine jr_iload C 126 rfl dX5_readsPart_124 0 rfl ?_
        refine jr_iconst (v := 1) C 127 rfl dX5_readsPart_126 (by decide) ?_
        refine jr_iload_n C 128 rfl dX5_readsPart_127 rfl 3 rfl ?_
        refine jr_if_ne C 135 131 rfl dX5_readsPart_128 (by decide) (fun c5 => ?_) (fun c5 => ?_)
        · have h := h.1 c5
          refine jr_iconst (v := 3) C 132 rfl dX5_readsPart_131 (by decide) ?_
          refine jr_goto C 136 dX5_readsPart_132 (by decide) ?_
          exact jr_sub [2, 3, 4, 6, 1, 0] rfl (wk_X5_readsPart_136 C  h)
        · have h := h.2 c5
          refine jr_iconst (v := 4) C 136 rfl dX5_readsPart_135 (by decide) ?_
          exact jr_sub [2, 3, 4, 6, 1, 0] rfl (wk_X5_readsPart_136 C  h)
theorem wk_X5_readsPart_0 {X : jX} {G : jG} {K : jS → Int32 → Prop} (C : jC (X, G, 8, jA X G tvi K) d_X5_readsPart cX5_readsPart "SamovarModel" (some .int) yX5_readsPart) {S : jS} {x0 : Nat} {x1 : Int32} {x2 : Int32} {x3 : Int32}  (h : wp_X5_readsPart S x0 x1 x2 x3 K) : jJ (X, G, 8, jA X G tvi K) S [(0, .ref x0), (1, .int x1), (2, .int x2), (3, .int x3)] 0 [] := by
  unfold wp_X5_readsPart at h
  refine jr_aload_n C 1 rfl dX5_readsPart_0 rfl 0 rfl ?_
  refine jr_iload_n C 2 rfl dX5_readsPart_1 rfl 1 rfl ?_
  refine jr_iload_n C 3 rfl dX5_readsPart_2 rfl 3 rfl ?_
  obtain ⟨⟨V, hb⟩, h⟩ := h
  refine jr_callVi (r0 := (RX5, TX5, 53)) (As := [.int x1, .int x3]) (st := []) C 6 rfl (m_X5_byteAt C.2.2.2.2.2.2.2.2.2.2.2.2.2.2.2 h) rfl hb rfl q1472 q1474 qs44 q102 q1475 (by decide) (by decide) ndV_X5_byteAt (Nat.le_of_ble_eq_true rfl) dX5_readsPart_3 (fun S1 r2 h => ?_)
  refine jr_bipush (v := 97) C 8 rfl dX5_readsPart_6 (by decide) ?_
  refine jr_isub C 9 rfl dX5_readsPart_8 ?_
  refine jr_istore (lv' := [(4, .int (r2 - 97)), (0, .ref x0), (1, .int x1), (2, .int x2), (3, .int x3)]) C 11 rfl dX5_readsPart_9 (Nat.le_of_ble_eq_true rfl) rfl ?_
  refine jr_aload_n C 12 rfl dX5_readsPart_11 rfl 1 rfl ?_
  refine jr_iload_n C 13 rfl dX5_readsPart_12 rfl 2 rfl ?_
  refine jr_iload_n C 14 rfl dX5_readsPart_13 rfl 4 rfl ?_
  refine jr_iconst (v := 1) C 15 rfl dX5_readsPart_14 (by decide) ?_
  refine jr_iadd C 16 rfl dX5_readsPart_15 ?_
  obtain ⟨⟨V, hb⟩, h⟩ := h
  refine jr_callVi (r0 := (RX5, TX5, 53)) (As := [.int x1, .int (x3 + 1)]) (st := []) C 19 rfl (m_X5_byteAt C.2.2.2.2.2.2.2.2.2.2.2.2.2.2.2 h) rfl hb rfl q1472 q1474 qs44 q102 q1475 (by decide) (by decide) ndV_X5_byteAt (Nat.le_of_ble_eq_true rfl) dX5_readsPart_16 (fun S3 r4 h => ?_)
  refine jr_istore (lv' := [(5, .int r4), (4, .int (r2 - 97)), (0, .ref x0), (1, .int x1), (2, .int x2), (3, .int x3)]) C 21 rfl dX5_readsPart_19 (Nat.le_of_ble_eq_true rfl) rfl ?_
  refine jr_iload_n C 22 rfl dX5_readsPart_21 rfl 3 rfl ?_
  refine jr_if_ne C 62 25 rfl dX5_readsPart_22 (by decide) (fun c10 => ?_) (fun c10 => ?_)
  · have h := h.1 c10
    refine jr_iload C 27 rfl dX5_readsPart_25 0 rfl ?_
    refine jr_bipush (v := 107) C 29 rfl dX5_readsPart_27 (by decide) ?_
    refine jr_icmp_ne C 36 32 rfl dX5_readsPart_29 (by decide) (fun c7 => ?_) (fun c7 => ?_)
    · have h := h.1 c7
      refine jr_iconst (v := 0) C 33 rfl dX5_readsPart_32 (by decide) ?_
      refine jr_goto C 85 dX5_readsPart_33 (by decide) ?_
      exact jr_sub [2, 3, 4, 5, 1] rfl (wk_X5_readsPart_85 C  h)
    · have h := h.2 c7
      refine jr_iload C 38 rfl dX5_readsPart_36 0 rfl ?_
      refine jr_bipush (v := 98) C 40 rfl dX5_readsPart_38 (by decide) ?_
      refine jr_icmp_ne C 47 43 rfl dX5_readsPart_40 (by decide) (fun c6 => ?_) (fun c6 => ?_)
      · have h := h.1 c6
        refine jr_iconst (v := 1) C 44 rfl dX5_readsPart_43 (by decide) ?_
        refine jr_goto C 85 dX5_readsPart_44 (by decide) ?_
        exact jr_sub [2, 3, 4, 5, 1] rfl (wk_X5_readsPart_85 C  h)
      · have h := h.2 c6
        refine jr_iload C 49 rfl dX5_readsPart_47 0 rfl ?_
        refine jr_bipush (v := 99) C 51 rfl dX5_readsPart_49 (by decide) ?_
        refine jr_icmp_ne C 58 54 rfl dX5_readsPart_51 (by decide) (fun c5 => ?_) (fun c5 => ?_)
        · have h := h.1 c5
          refine jr_iconst (v := 2) C 55 rfl dX5_readsPart_54 (by decide) ?_
          refine jr_goto C 85 dX5_readsPart_55 (by decide) ?_
          exact jr_sub [2, 3, 4, 5, 1] rfl (wk_X5_readsPart_85 C  h)
        · have h := h.2 c5
          refine jr_iconst (v := (-1)) C 59 rfl dX5_readsPart_58 (by decide) ?_
          refine jr_goto C 85 dX5_readsPart_59 (by decide) ?_
          exact jr_sub [2, 3, 4, 5, 1] rfl (wk_X5_readsPart_85 C  h)
  · have h := h.2 c10
    refine jr_iload C 64 rfl dX5_readsPart_62 0 rfl ?_
    refine jr_bipush (v := 119) C 66 rfl dX5_readsPart_64 (by decide) ?_
    refine jr_icmp_ne C 73 69 rfl dX5_readsPart_66 (by decide) (fun c9 => ?_) (fun c9 => ?_)
    · have h := h.1 c9
      refine jr_iconst (v := 0) C 70 rfl dX5_readsPart_69 (by decide) ?_
      refine jr_goto C 85 dX5_readsPart_70 (by decide) ?_
      exact jr_sub [2, 3, 4, 5, 1] rfl (wk_X5_readsPart_85 C  h)
    · have h := h.2 c9
      refine jr_iload C 75 rfl dX5_readsPart_73 0 rfl ?_
      refine jr_bipush (v := 100) C 77 rfl dX5_readsPart_75 (by decide) ?_
      refine jr_icmp_ne C 84 80 rfl dX5_readsPart_77 (by decide) (fun c8 => ?_) (fun c8 => ?_)
      · have h := h.1 c8
        refine jr_iconst (v := 1) C 81 rfl dX5_readsPart_80 (by decide) ?_
        refine jr_goto C 85 dX5_readsPart_81 (by decide) ?_
        exact jr_sub [2, 3, 4, 5, 1] rfl (wk_X5_readsPart_85 C  h)
      · have h := h.2 c8
        refine jr_iconst (v := (-1)) C 85 rfl dX5_readsPart_84 (by decide) ?_
        exact jr_sub [2, 3, 4, 5, 1] rfl (wk_X5_readsPart_85 C  h)
theorem m_X5_readsPart {l : Launch} (hl : l.stackTraces = false) {G : jG} {K : jS → Int32 → Prop} {S : jS} {x0 : Nat} {x1 : Int32} {x2 : Int32} {x3 : Int32} (h : wp_X5_readsPart S x0 x1 x2 x3 K) : jMet l G d_X5_readsPart yX5_readsPart (ws_ yX5_readsPart cX5_readsPart 8 (some .int)) [.ref x0, .int x1, .int x2, .int x3] S tvi K :=
  jMet.of hl rfl (by decide) (Nat.le_of_ble_eq_true rfl) (fun X C => jr_sub [0, 1, 2, 3] rfl (wk_X5_readsPart_0 C h))
theorem wk_X5_readsText_117 {X : jX} {G : jG} {K : jS → Int32 → Prop} (C : jC (X, G, 5, jA X G tvi K) d_X5_readsText cX5_readsText "SamovarModel" (some .int) yX5_readsText) {S : jS} {t0 : Nat} {t1 : Int32}  (h : wp_X5_readsText_117 S t0 t1 K) : jJ (X, G, 5, jA X G tvi K) S [] 117 [.int t1, .ref t0] := by
  unfold wp_X5_readsText_117 at h
  refine jr_putv C 120 rfl fo_8_6 (by decide) q1283 dX5_readsText_117 rfl rfl h (fun S1 h => ?_)
  refine jr_iconst (v := (-1)) C 121 rfl dX5_readsText_120 (by decide) ?_
  exact jr_ireturn C dX5_readsText_121 h
theorem wk_X5_readsText_100 {X : jX} {G : jG} {K : jS → Int32 → Prop} (C : jC (X, G, 5, jA X G tvi K) d_X5_readsText cX5_readsText "SamovarModel" (some .int) yX5_readsText) {S : jS} {t0 : Nat} {t1 : Int32} {x0 : Nat} {x1 : Int32} {x2 : Int32}  (h : wp_X5_readsText_100 S t0 t1 x0 x1 x2 K) : jJ (X, G, 5, jA X G tvi K) S [(0, .ref x0), (1, .int x1), (2, .int x2)] 100 [.int t1, .ref t0] := by
  unfold wp_X5_readsText_100 at h
  refine jr_putv C 103 rfl fo_8_2 (by decide) q1279 dX5_readsText_100 rfl rfl h (fun S1 h => ?_)
  refine jr_aload_n C 104 rfl dX5_readsText_103 rfl 0 rfl ?_
  refine jr_iload_n C 105 rfl dX5_readsText_104 rfl 1 rfl ?_
  refine jr_iconst (v := 1) C 106 rfl dX5_readsText_105 (by decide) ?_
  refine jr_icmp_ne C 113 109 rfl dX5_readsText_106 (by decide) (fun c3 => ?_) (fun c3 => ?_)
  · have h := h.1 c3
    refine jr_iload_n C 110 rfl dX5_readsText_109 rfl 2 rfl ?_
    refine jr_goto C 117 dX5_readsText_110 (by decide) ?_
    exact jr_sub [] rfl (wk_X5_readsText_117 C  h)
  · have h := h.2 c3
    refine jr_aload_n C 114 rfl dX5_readsText_113 rfl 0 rfl ?_
    refine jr_geti C 117 rfl fo_8_6 q1283 dX5_readsText_114 h (fun v2 h => ?_)
    exact jr_sub [] rfl (wk_X5_readsText_117 C  h)
theorem wk_X5_readsText_51 {X : jX} {G : jG} {K : jS → Int32 → Prop} (C : jC (X, G, 5, jA X G tvi K) d_X5_readsText cX5_readsText "SamovarModel" (some .int) yX5_readsText) {S : jS} {x0 : Nat} {x1 : Int32} {x2 : Int32} {x3 : Int32} {Kc37 : jS × Int32 × Int32 → Prop} (hc37 : ∀ z : jS × Int32 × Int32, Kc37 z → jJ (X, G, 5, jA X G tvi K) z.1 [(0, .ref x0), (1, .int x1), (2, .int z.2.1), (3, .int z.2.2)] 37 []) (h : wp_X5_readsText_51 S x0 x1 x2 x3 Kc37 K) : jJ (X, G, 5, jA X G tvi K) S [(0, .ref x0), (1, .int x1), (2, .int x2), (3, .int x3)] 51 [] := by
  unfold wp_X5_readsText_51 at h
  refine jr_aload_n C 52 rfl dX5_readsText_51 rfl 0 rfl ?_
  refine jr_iload_n C 53 rfl dX5_readsText_52 rfl 1 rfl ?_
  refine jr_iload_n C 54 rfl dX5_readsText_53 rfl 2 rfl ?_
  refine jr_iload_n C 55 rfl dX5_readsText_54 rfl 3 rfl ?_
  obtain ⟨⟨V, hb⟩, h⟩ := h
  refine jr_callVi (r0 := (RX5, TX5, 53)) (As := [.int x1, .int x2, .int x3]) (st := []) C 58 rfl (m_X5_readsPart C.2.2.2.2.2.2.2.2.2.2.2.2.2.2.2 h) rfl hb rfl q1468 q1470 qs43 q102 q1471 (by decide) (by decide) ndV_X5_readsPart (Nat.le_of_ble_eq_true rfl) dX5_readsText_55 (fun S1 r2 h => ?_)
  refine jr_istore (lv' := [(4, .int r2), (0, .ref x0), (1, .int x1), (2, .int x2), (3, .int x3)]) C 60 rfl dX5_readsText_58 (Nat.le_of_ble_eq_true rfl) rfl ?_
  refine jr_iload C 62 rfl dX5_readsText_60 0 rfl ?_
  refine jr_iconst (v := 3) C 63 rfl dX5_readsText_62 (by decide) ?_
  refine jr_icmp_ge C 71 66 rfl dX5_readsText_63 (by decide) (fun c11 => ?_) (fun c11 => ?_)
  · have h := h.1 c11
    refine jr_iinc (v := (x2 + 1)) (lv' := [(2, .int (x2 + 1)), (4, .int r2), (0, .ref x0), (1, .int x1), (3, .int x3)]) C 74 rfl dX5_readsText_71 3 rfl rfl (Nat.le_of_ble_eq_true rfl) rfl ?_
    refine jr_iinc (v := (x3 + 3)) (lv' := [(3, .int (x3 + 3)), (2, .int (x2 + 1)), (4, .int r2), (0, .ref x0), (1, .int x1)]) C 77 rfl dX5_readsText_74 4 rfl rfl (Nat.le_of_ble_eq_true rfl) rfl ?_
    refine jr_iload_n C 78 rfl dX5_readsText_77 rfl 0 rfl ?_
    refine jr_aload_n C 79 rfl dX5_readsText_78 rfl 3 rfl ?_
    refine jr_getr C 82 rfl fo_8_0 q1277 dX5_readsText_79 h (fun v3 h => ?_)
    refine jr_iload_n C 83 rfl dX5_readsText_82 rfl 4 rfl ?_
    refine jr_iald C 84 rfl dX5_readsText_83 h (fun v4 h => ?_)
    refine jr_icmp_ne C 122 87 rfl dX5_readsText_84 (by decide) (fun c10 => ?_) (fun c10 => ?_)
    · have h := h.1 c10
      refine jr_aload_n C 88 rfl dX5_readsText_87 rfl 3 rfl ?_
      refine jr_iload_n C 89 rfl dX5_readsText_88 rfl 4 rfl ?_
      refine jr_if_ne C 96 92 rfl dX5_readsText_89 (by decide) (fun c6 => ?_) (fun c6 => ?_)
      · have h := h.1 c6
        refine jr_iload_n C 93 rfl dX5_readsText_92 rfl 1 rfl ?_
        refine jr_goto C 100 dX5_readsText_93 (by decide) ?_
        exact jr_sub [3, 4, 1] rfl (wk_X5_readsText_100 C  h)
      · have h := h.2 c6
        refine jr_aload_n C 97 rfl dX5_readsText_96 rfl 3 rfl ?_
        refine jr_geti C 100 rfl fo_8_2 q1279 dX5_readsText_97 h (fun v5 h => ?_)
        exact jr_sub [3, 4, 1] rfl (wk_X5_readsText_100 C  h)
    · have h := h.2 c10
      refine jr_aload_n C 123 rfl dX5_readsText_122 rfl 3 rfl ?_
      refine jr_iload_n C 124 rfl dX5_readsText_123 rfl 4 rfl ?_
      refine jr_iload_n C 125 rfl dX5_readsText_124 rfl 0 rfl ?_
      obtain ⟨⟨V, hb⟩, h⟩ := h
      refine jr_callVi (r0 := (RX5, TX5, 53)) (As := [.int x1, .int (x3 + 3)]) (st := []) C 128 rfl (m_X5_byteAt C.2.2.2.2.2.2.2.2.2.2.2.2.2.2.2 h) rfl hb rfl q1472 q1474 qs44 q102 q1475 (by decide) (by decide) ndV_X5_byteAt (Nat.le_of_ble_eq_true rfl) dX5_readsText_125 (fun S7 r8 h => ?_)
      refine jr_bipush (v := 59) C 130 rfl dX5_readsText_128 (by decide) ?_
      refine jr_icmp_eq C 135 133 rfl dX5_readsText_130 (by decide) (fun c9 => ?_) (fun c9 => ?_)
      · have h := h.1 c9
        refine jr_iinc (v := ((x3 + 3) + 1)) (lv' := [(3, .int ((x3 + 3) + 1)), (2, .int (x2 + 1)), (4, .int r2), (0, .ref x0), (1, .int x1)]) C 138 rfl dX5_readsText_135 0 rfl rfl (Nat.le_of_ble_eq_true rfl) rfl ?_
        refine jr_goto C 37 dX5_readsText_138 (by decide) ?_
        exact jr_sub [3, 4, 1, 0] rfl (hc37 _ h)
      · have h := h.2 c9
        refine jr_iload_n C 134 rfl dX5_readsText_133 rfl 0 rfl ?_
        exact jr_ireturn C dX5_readsText_134 h
  · have h := h.2 c11
    refine jr_iload_n C 67 rfl dX5_readsText_66 rfl 4 rfl ?_
    refine jr_iload C 69 rfl dX5_readsText_67 0 rfl ?_
    refine jr_iadd C 70 rfl dX5_readsText_69 ?_
    exact jr_ireturn C dX5_readsText_70 h
theorem wk_X5_readsText_37 {X : jX} {G : jG} {K : jS → Int32 → Prop} (C : jC (X, G, 5, jA X G tvi K) d_X5_readsText cX5_readsText "SamovarModel" (some .int) yX5_readsText) {S : jS} {x0 : Nat} {x1 : Int32} {x2 : Int32} {x3 : Int32} {Kc37 : jS × Int32 × Int32 → Prop} (hc37 : ∀ z : jS × Int32 × Int32, Kc37 z → jJ (X, G, 5, jA X G tvi K) z.1 [(0, .ref x0), (1, .int x1), (2, .int z.2.1), (3, .int z.2.2)] 37 []) (h : wp_X5_readsText_37 S x0 x1 x2 x3 Kc37 K) : jJ (X, G, 5, jA X G tvi K) S [(0, .ref x0), (1, .int x1), (2, .int x2), (3, .int x3)] 37 [] := by
  unfold wp_X5_readsText_37 at h
  refine jr_iload_n C 38 rfl dX5_readsText_37 rfl 3 rfl ?_
  refine jr_aload_n C 39 rfl dX5_readsText_38 rfl 0 rfl ?_
  refine jr_getr C 42 rfl fo_8_0 q1277 dX5_readsText_39 h (fun v1 h => ?_)
  refine jr_iload_n C 43 rfl dX5_readsText_42 rfl 1 rfl ?_
  refine jr_iald C 44 rfl dX5_readsText_43 h (fun v2 h => ?_)
  refine jr_icmp_lt C 51 47 rfl dX5_readsText_44 (by decide) (fun c4 => ?_) (fun c4 => ?_)
  · have h := h.1 c4
    exact (wk_X5_readsText_51 C hc37 h)
  · have h := h.2 c4
    refine jr_iload_n C 48 rfl dX5_readsText_47 rfl 3 rfl ?_
    refine jr_if_le C 141 51 rfl dX5_readsText_48 (by decide) (fun c3 => ?_) (fun c3 => ?_)
    · have h := h.1 c3
      refine jr_iconst (v := (-1)) C 142 rfl dX5_readsText_141 (by decide) ?_
      exact jr_ireturn C dX5_readsText_142 h
    · have h := h.2 c3
      exact (wk_X5_readsText_51 C hc37 h)
theorem wk_X5_readsText_37_L {X : jX} {G : jG} {K : jS → Int32 → Prop} (C : jC (X, G, 5, jA X G tvi K) d_X5_readsText cX5_readsText "SamovarModel" (some .int) yX5_readsText) {x0 : Nat} {x1 : Int32}  : ∀ (n : Nat) (z : jS × Int32 × Int32), jlp n (wp_X5_readsText_37_L x0 x1 K) z → jJ (X, G, 5, jA X G tvi K) z.1 [(0, .ref x0), (1, .int x1), (2, .int z.2.1), (3, .int z.2.2)] 37 [] := by
  intro n
  induction n with
  | zero => intro z h; exact h.elim
  | succ n ih => intro z h; exact wk_X5_readsText_37 C ih h
theorem wk_X5_readsText_34 {X : jX} {G : jG} {K : jS → Int32 → Prop} (C : jC (X, G, 5, jA X G tvi K) d_X5_readsText cX5_readsText "SamovarModel" (some .int) yX5_readsText) {S : jS} {t0 : Nat} {t1 : Int32} {x0 : Nat} {x1 : Int32} {x2 : Int32} {x3 : Int32}  (h : wp_X5_readsText_34 S t0 t1 x0 x1 x2 x3 K) : jJ (X, G, 5, jA X G tvi K) S [(0, .ref x0), (1, .int x1), (2, .int x2), (3, .int x3)] 34 [.int t1, .ref t0] := by
  unfold wp_X5_readsText_34 at h
  refine jr_putv C 37 rfl fo_8_6 (by decide) q1283 dX5_readsText_34 rfl rfl h (fun S1 h => ?_)
  obtain ⟨n, h⟩ := h
  exact (wk_X5_readsText_37_L C  n _ h)
theorem wk_X5_readsText_17 {X : jX} {G : jG} {K : jS → Int32 → Prop} (C : jC (X, G, 5, jA X G tvi K) d_X5_readsText cX5_readsText "SamovarModel" (some .int) yX5_readsText) {S : jS} {t0 : Nat} {t1 : Int32} {x0 : Nat} {x1 : Int32} {x2 : Int32} {x3 : Int32}  (h : wp_X5_readsText_17 S t0 t1 x0 x1 x2 x3 K) : jJ (X, G, 5, jA X G tvi K) S [(0, .ref x0), (1, .int x1), (2, .int x2), (3, .int x3)] 17 [.int t1, .ref t0] := by
  unfold wp_X5_readsText_17 at h
  refine jr_putv C 20 rfl fo_8_2 (by decide) q1279 dX5_readsText_17 rfl rfl h (fun S1 h => ?_)
  refine jr_aload_n C 21 rfl dX5_readsText_20 rfl 0 rfl ?_
  refine jr_iload_n C 22 rfl dX5_readsText_21 rfl 1 rfl ?_
  refine jr_iconst (v := 1) C 23 rfl dX5_readsText_22 (by decide) ?_
  refine jr_icmp_ne C 30 26 rfl dX5_readsText_23 (by decide) (fun c3 => ?_) (fun c3 => ?_)
  · have h := h.1 c3
    refine jr_iconst (v := 0) C 27 rfl dX5_readsText_26 (by decide) ?_
    refine jr_goto C 34 dX5_readsText_27 (by decide) ?_
    exact (wk_X5_readsText_34 C  h)
  · have h := h.2 c3
    refine jr_aload_n C 31 rfl dX5_readsText_30 rfl 0 rfl ?_
    refine jr_geti C 34 rfl fo_8_6 q1283 dX5_readsText_31 h (fun v2 h => ?_)
    exact (wk_X5_readsText_34 C  h)
theorem wk_X5_readsText_0 {X : jX} {G : jG} {K : jS → Int32 → Prop} (C : jC (X, G, 5, jA X G tvi K) d_X5_readsText cX5_readsText "SamovarModel" (some .int) yX5_readsText) {S : jS} {x0 : Nat} {x1 : Int32}  (h : wp_X5_readsText S x0 x1 K) : jJ (X, G, 5, jA X G tvi K) S [(0, .ref x0), (1, .int x1)] 0 [] := by
  unfold wp_X5_readsText at h
  refine jr_iconst (v := 0) C 1 rfl dX5_readsText_0 (by decide) ?_
  refine jr_istore_n (lv' := [(2, .int 0), (0, .ref x0), (1, .int x1)]) C 2 rfl dX5_readsText_1 rfl (Nat.le_of_ble_eq_true rfl) rfl ?_
  refine jr_iconst (v := 0) C 3 rfl dX5_readsText_2 (by decide) ?_
  refine jr_istore_n (lv' := [(3, .int 0), (2, .int 0), (0, .ref x0), (1, .int x1)]) C 4 rfl dX5_readsText_3 rfl (Nat.le_of_ble_eq_true rfl) rfl ?_
  refine jr_aload_n C 5 rfl dX5_readsText_4 rfl 2 rfl ?_
  refine jr_iload_n C 6 rfl dX5_readsText_5 rfl 3 rfl ?_
  refine jr_if_ne C 13 9 rfl dX5_readsText_6 (by decide) (fun c2 => ?_) (fun c2 => ?_)
  · have h := h.1 c2
    refine jr_iconst (v := 0) C 10 rfl dX5_readsText_9 (by decide) ?_
    refine jr_goto C 17 dX5_readsText_10 (by decide) ?_
    exact jr_sub [2, 3, 1, 0] rfl (wk_X5_readsText_17 C  h)
  · have h := h.2 c2
    refine jr_aload_n C 14 rfl dX5_readsText_13 rfl 2 rfl ?_
    refine jr_geti C 17 rfl fo_8_2 q1279 dX5_readsText_14 h (fun v1 h => ?_)
    exact jr_sub [2, 3, 1, 0] rfl (wk_X5_readsText_17 C  h)
theorem m_X5_readsText {l : Launch} (hl : l.stackTraces = false) {G : jG} {K : jS → Int32 → Prop} {S : jS} {x0 : Nat} {x1 : Int32} (h : wp_X5_readsText S x0 x1 K) : jMet l G d_X5_readsText yX5_readsText (ws_ yX5_readsText cX5_readsText 5 (some .int)) [.ref x0, .int x1] S tvi K :=
  jMet.of hl rfl (by decide) (Nat.le_of_ble_eq_true rfl) (fun X C => jr_sub [0, 1] rfl (wk_X5_readsText_0 C h))
theorem wk_X5_faultOf_21 {X : jX} {G : jG} {K : jS → Int32 → Prop} (C : jC (X, G, 4, jA X G tvi K) d_X5_faultOf cX5_faultOf "SamovarModel" (some .int) yX5_faultOf) {S : jS} {t0 : Int32}  (h : wp_X5_faultOf_21 S t0 K) : jJ (X, G, 4, jA X G tvi K) S [] 21 [.int t0] := by
  unfold wp_X5_faultOf_21 at h
  exact jr_ireturn C dX5_faultOf_21 h
theorem wk_X5_faultOf_0 {X : jX} {G : jG} {K : jS → Int32 → Prop} (C : jC (X, G, 4, jA X G tvi K) d_X5_faultOf cX5_faultOf "SamovarModel" (some .int) yX5_faultOf) {S : jS} {x0 : Nat} {x1 : Int32}  (h : wp_X5_faultOf S x0 x1 K) : jJ (X, G, 4, jA X G tvi K) S [(0, .ref x0), (1, .int x1)] 0 [] := by
  unfold wp_X5_faultOf at h
  refine jr_aload_n C 1 rfl dX5_faultOf_0 rfl 0 rfl ?_
  refine jr_iconst (v := 0) C 2 rfl dX5_faultOf_1 (by decide) ?_
  obtain ⟨⟨V, hb⟩, h⟩ := h
  refine jr_callVi (r0 := (RX5, TX5, 53)) (As := [.int 0]) (st := []) C 5 rfl (m_X5_readsText C.2.2.2.2.2.2.2.2.2.2.2.2.2.2.2 h) rfl hb rfl q1464 q1466 qs42 q102 q1467 (by decide) (by decide) ndV_X5_readsText (Nat.le_of_ble_eq_true rfl) dX5_faultOf_2 (fun S1 r2 h => ?_)
  refine jr_istore_n (lv' := [(2, .int r2), (0, .ref x0), (1, .int x1)]) C 6 rfl dX5_faultOf_5 rfl (Nat.le_of_ble_eq_true rfl) rfl ?_
  refine jr_aload_n C 7 rfl dX5_faultOf_6 rfl 1 rfl ?_
  refine jr_iconst (v := 1) C 8 rfl dX5_faultOf_7 (by decide) ?_
  obtain ⟨⟨V, hb⟩, h⟩ := h
  refine jr_callVi (r0 := (RX5, TX5, 53)) (As := [.int 1]) (st := []) C 11 rfl (m_X5_readsText C.2.2.2.2.2.2.2.2.2.2.2.2.2.2.2 h) rfl hb rfl q1464 q1466 qs42 q102 q1467 (by decide) (by decide) ndV_X5_readsText (Nat.le_of_ble_eq_true rfl) dX5_faultOf_8 (fun S3 r4 h => ?_)
  refine jr_istore_n (lv' := [(3, .int r4), (2, .int r2), (0, .ref x0), (1, .int x1)]) C 12 rfl dX5_faultOf_11 rfl (Nat.le_of_ble_eq_true rfl) rfl ?_
  refine jr_iload_n C 13 rfl dX5_faultOf_12 rfl 3 rfl ?_
  refine jr_if_ne C 20 16 rfl dX5_faultOf_13 (by decide) (fun c5 => ?_) (fun c5 => ?_)
  · have h := h.1 c5
    refine jr_iload_n C 17 rfl dX5_faultOf_16 rfl 1 rfl ?_
    refine jr_goto C 21 dX5_faultOf_17 (by decide) ?_
    exact jr_sub [] rfl (wk_X5_faultOf_21 C  h)
  · have h := h.2 c5
    refine jr_iload_n C 21 rfl dX5_faultOf_20 rfl 0 rfl ?_
    exact jr_sub [] rfl (wk_X5_faultOf_21 C  h)
theorem m_X5_faultOf {l : Launch} (hl : l.stackTraces = false) {G : jG} {K : jS → Int32 → Prop} {S : jS} {x0 : Nat} {x1 : Int32} (h : wp_X5_faultOf S x0 x1 K) : jMet l G d_X5_faultOf yX5_faultOf (ws_ yX5_faultOf cX5_faultOf 4 (some .int)) [.ref x0, .int x1] S tvi K :=
  jMet.of hl rfl (by decide) (Nat.le_of_ble_eq_true rfl) (fun X C => jr_sub [0, 1] rfl (wk_X5_faultOf_0 C h))
theorem wk_X5_reads_0 {X : jX} {G : jG} {K : jS → Unit → Prop} (C : jC (X, G, 2, jA X G tvv K) d_X5_reads cX5_reads "SamovarModel" none yX5_reads) {S : jS} {x0 : Nat}  (h : wp_X5_reads S x0 K) : jJ (X, G, 2, jA X G tvv K) S [(0, .ref x0)] 0 [] := by
  unfold wp_X5_reads at h
  refine jr_aload_n C 1 rfl dX5_reads_0 rfl 0 rfl ?_
  refine jr_iconst (v := 0) C 2 rfl dX5_reads_1 (by decide) ?_
  obtain ⟨⟨V, hb⟩, h⟩ := h
  refine jr_callVi (r0 := (RX5, TX5, 53)) (As := [.int 0]) (st := []) C 5 rfl (m_X5_faultOf C.2.2.2.2.2.2.2.2.2.2.2.2.2.2.2 h) rfl hb rfl q1460 q1462 qs41 q102 q1463 (by decide) (by decide) ndV_X5_faultOf (Nat.le_of_ble_eq_true rfl) dX5_reads_2 (fun S1 r2 h => ?_)
  refine jr_istore_n (lv' := [(1, .int r2), (0, .ref x0)]) C 6 rfl dX5_reads_5 rfl (Nat.le_of_ble_eq_true rfl) rfl ?_
  exact jr_return C dX5_reads_6 h
theorem m_X5_reads {l : Launch} (hl : l.stackTraces = false) {G : jG} {K : jS → Unit → Prop} {S : jS} {x0 : Nat} (h : wp_X5_reads S x0 K) : jMet l G d_X5_reads yX5_reads (ws_ yX5_reads cX5_reads 2 none) [.ref x0] S tvv K :=
  jMet.of hl rfl (by decide) (Nat.le_of_ble_eq_true rfl) (fun X C => jr_sub [0] rfl (wk_X5_reads_0 C h))
theorem wk_X5_asTold_39 {X : jX} {G : jG} {K : jS → Unit → Prop} (C : jC (X, G, 2, jA X G tvv K) d_X5_asTold cX5_asTold "SamovarModel" none yX5_asTold) {S : jS} {t0 : Nat} {t1 : Int32} {x0 : Nat} {x1 : Int32} {Kc14 : jS × Int32 → Prop} (hc14 : ∀ z : jS × Int32, Kc14 z → jJ (X, G, 2, jA X G tvv K) z.1 [(0, .ref x0), (1, .int z.2)] 14 []) (h : wp_X5_asTold_39 S t0 t1 x0 x1 Kc14 K) : jJ (X, G, 2, jA X G tvv K) S [(0, .ref x0), (1, .int x1)] 39 [.int t1, .ref t0] := by
  unfold wp_X5_asTold_39 at h
  refine jr_aload_n C 40 rfl dX5_asTold_39 rfl 0 rfl ?_
  refine jr_getr C 43 rfl fo_8_8 q1285 dX5_asTold_40 h (fun v1 h => ?_)
  refine jr_iload_n C 44 rfl dX5_asTold_43 rfl 1 rfl ?_
  refine jr_iald C 45 rfl dX5_asTold_44 h (fun v2 h => ?_)
  refine jr_iast C 46 rfl dX5_asTold_45 h (fun S3 h => ?_)
  refine jr_aload_n C 47 rfl dX5_asTold_46 rfl 0 rfl ?_
  refine jr_getr C 50 rfl fo_8_19 q1296 dX5_asTold_47 h (fun v4 h => ?_)
  refine jr_iload_n C 51 rfl dX5_asTold_50 rfl 1 rfl ?_
  refine jr_aload_n C 52 rfl dX5_asTold_51 rfl 0 rfl ?_
  refine jr_getr C 55 rfl fo_8_9 q1286 dX5_asTold_52 h (fun v5 h => ?_)
  refine jr_iload_n C 56 rfl dX5_asTold_55 rfl 1 rfl ?_
  refine jr_iald C 57 rfl dX5_asTold_56 h (fun v6 h => ?_)
  refine jr_iast C 58 rfl dX5_asTold_57 h (fun S7 h => ?_)
  refine jr_iinc (v := (x1 + 1)) (lv' := [(1, .int (x1 + 1)), (0, .ref x0)]) C 61 rfl dX5_asTold_58 1 rfl rfl (Nat.le_of_ble_eq_true rfl) rfl ?_
  refine jr_goto C 14 dX5_asTold_61 (by decide) ?_
  exact jr_sub [1, 0] rfl (hc14 _ h)
theorem wk_X5_asTold_14 {X : jX} {G : jG} {K : jS → Unit → Prop} (C : jC (X, G, 2, jA X G tvv K) d_X5_asTold cX5_asTold "SamovarModel" none yX5_asTold) {S : jS} {x0 : Nat} {x1 : Int32} {Kc14 : jS × Int32 → Prop} (hc14 : ∀ z : jS × Int32, Kc14 z → jJ (X, G, 2, jA X G tvv K) z.1 [(0, .ref x0), (1, .int z.2)] 14 []) (h : wp_X5_asTold_14 S x0 x1 Kc14 K) : jJ (X, G, 2, jA X G tvv K) S [(0, .ref x0), (1, .int x1)] 14 [] := by
  unfold wp_X5_asTold_14 at h
  refine jr_iload_n C 15 rfl dX5_asTold_14 rfl 1 rfl ?_
  refine jr_aload_n C 16 rfl dX5_asTold_15 rfl 0 rfl ?_
  refine jr_geti C 19 rfl fo_8_6 q1283 dX5_asTold_16 h (fun v1 h => ?_)
  refine jr_icmp_ge C 64 22 rfl dX5_asTold_19 (by decide) (fun c10 => ?_) (fun c10 => ?_)
  · have h := h.1 c10
    refine jr_aload_n C 65 rfl dX5_asTold_64 rfl 0 rfl ?_
    refine jr_aload_n C 66 rfl dX5_asTold_65 rfl 0 rfl ?_
    refine jr_geti C 69 rfl fo_8_10 q1287 dX5_asTold_66 h (fun v2 h => ?_)
    refine jr_putv C 72 rfl fo_8_20 (by decide) q1297 dX5_asTold_69 rfl rfl h (fun S3 h => ?_)
    refine jr_aload_n C 73 rfl dX5_asTold_72 rfl 0 rfl ?_
    refine jr_iconst (v := 0) C 74 rfl dX5_asTold_73 (by decide) ?_
    refine jr_putv C 77 rfl fo_8_21 (by decide) q1298 dX5_asTold_74 rfl rfl h (fun S4 h => ?_)
    exact jr_return C dX5_asTold_77 h
  · have h := h.2 c10
    refine jr_aload_n C 23 rfl dX5_asTold_22 rfl 0 rfl ?_
    refine jr_getr C 26 rfl fo_8_17 q1294 dX5_asTold_23 h (fun v5 h => ?_)
    refine jr_iload_n C 27 rfl dX5_asTold_26 rfl 1 rfl ?_
    refine jr_aload_n C 28 rfl dX5_asTold_27 rfl 0 rfl ?_
    refine jr_getr C 31 rfl fo_8_7 q1284 dX5_asTold_28 h (fun v6 h => ?_)
    refine jr_iload_n C 32 rfl dX5_asTold_31 rfl 1 rfl ?_
    refine jr_iald C 33 rfl dX5_asTold_32 h (fun v7 h => ?_)
    refine jr_iast C 34 rfl dX5_asTold_33 h (fun S8 h => ?_)
    refine jr_aload_n C 35 rfl dX5_asTold_34 rfl 0 rfl ?_
    refine jr_getr C 38 rfl fo_8_18 q1295 dX5_asTold_35 h (fun v9 h => ?_)
    refine jr_iload_n C 39 rfl dX5_asTold_38 rfl 1 rfl ?_
    exact (wk_X5_asTold_39 C hc14 h)
theorem wk_X5_asTold_14_L {X : jX} {G : jG} {K : jS → Unit → Prop} (C : jC (X, G, 2, jA X G tvv K) d_X5_asTold cX5_asTold "SamovarModel" none yX5_asTold) {x0 : Nat}  : ∀ (n : Nat) (z : jS × Int32), jlp n (wp_X5_asTold_14_L x0 K) z → jJ (X, G, 2, jA X G tvv K) z.1 [(0, .ref x0), (1, .int z.2)] 14 [] := by
  intro n
  induction n with
  | zero => intro z h; exact h.elim
  | succ n ih => intro z h; exact wk_X5_asTold_14 C ih h
theorem wk_X5_asTold_0 {X : jX} {G : jG} {K : jS → Unit → Prop} (C : jC (X, G, 2, jA X G tvv K) d_X5_asTold cX5_asTold "SamovarModel" none yX5_asTold) {S : jS} {x0 : Nat}  (h : wp_X5_asTold S x0 K) : jJ (X, G, 2, jA X G tvv K) S [(0, .ref x0)] 0 [] := by
  unfold wp_X5_asTold at h
  refine jr_aload_n C 1 rfl dX5_asTold_0 rfl 0 rfl ?_
  obtain ⟨⟨V, hb⟩, h⟩ := h
  refine jr_callVv (r0 := (RX5, TX5, 53)) (As := []) (st := []) C 4 rfl (m_X5_reads C.2.2.2.2.2.2.2.2.2.2.2.2.2.2.2 h) rfl hb rfl q1487 q1489 qs46 q102 q1490 (by decide) (by decide) ndV_X5_reads (Nat.le_of_ble_eq_true rfl) dX5_asTold_1 (fun S1 _ h => ?_)
  refine jr_aload_n C 5 rfl dX5_asTold_4 rfl 0 rfl ?_
  refine jr_aload_n C 6 rfl dX5_asTold_5 rfl 0 rfl ?_
  refine jr_geti C 9 rfl fo_8_6 q1283 dX5_asTold_6 h (fun v2 h => ?_)
  refine jr_putv C 12 rfl fo_8_16 (by decide) q1293 dX5_asTold_9 rfl rfl h (fun S3 h => ?_)
  refine jr_iconst (v := 0) C 13 rfl dX5_asTold_12 (by decide) ?_
  refine jr_istore_n (lv' := [(1, .int 0), (0, .ref x0)]) C 14 rfl dX5_asTold_13 rfl (Nat.le_of_ble_eq_true rfl) rfl ?_
  obtain ⟨n, h⟩ := h
  exact jr_sub [1, 0] rfl (wk_X5_asTold_14_L C  n _ h)
theorem m_X5_asTold {l : Launch} (hl : l.stackTraces = false) {G : jG} {K : jS → Unit → Prop} {S : jS} {x0 : Nat} (h : wp_X5_asTold S x0 K) : jMet l G d_X5_asTold yX5_asTold (ws_ yX5_asTold cX5_asTold 2 none) [.ref x0] S tvv K :=
  jMet.of hl rfl (by decide) (Nat.le_of_ble_eq_true rfl) (fun X C => jr_sub [0] rfl (wk_X5_asTold_0 C h))
theorem wk_X5_isIn_14 {X : jX} {G : jG} {K : jS → Int32 → Prop} (C : jC (X, G, 2, jA X G tvi K) d_X5_isIn cX5_isIn "SamovarModel" (some .boolean) yX5_isIn) {S : jS} {t0 : Int32}  (h : wp_X5_isIn_14 S t0 K) : jJ (X, G, 2, jA X G tvi K) S [] 14 [.int t0] := by
  unfold wp_X5_isIn_14 at h
  exact jr_zreturn C dX5_isIn_14 h
theorem wk_X5_isIn_0 {X : jX} {G : jG} {K : jS → Int32 → Prop} (C : jC (X, G, 2, jA X G tvi K) d_X5_isIn cX5_isIn "SamovarModel" (some .boolean) yX5_isIn) {S : jS} {x0 : Int32} {x1 : Int32}  (h : wp_X5_isIn S x0 x1 K) : jJ (X, G, 2, jA X G tvi K) S [(0, .int x0), (1, .int x1)] 0 [] := by
  unfold wp_X5_isIn at h
  refine jr_iload_n C 1 rfl dX5_isIn_0 rfl 0 rfl ?_
  refine jr_iload_n C 2 rfl dX5_isIn_1 rfl 1 rfl ?_
  refine jr_ishr C 3 rfl dX5_isIn_2 ?_
  refine jr_iconst (v := 1) C 4 rfl dX5_isIn_3 (by decide) ?_
  refine jr_iand C 5 rfl dX5_isIn_4 ?_
  refine jr_iconst (v := 1) C 6 rfl dX5_isIn_5 (by decide) ?_
  refine jr_icmp_ne C 13 9 rfl dX5_isIn_6 (by decide) (fun c1 => ?_) (fun c1 => ?_)
  · have h := h.1 c1
    refine jr_iconst (v := 1) C 10 rfl dX5_isIn_9 (by decide) ?_
    refine jr_goto C 14 dX5_isIn_10 (by decide) ?_
    exact jr_sub [] rfl (wk_X5_isIn_14 C  h)
  · have h := h.2 c1
    refine jr_iconst (v := 0) C 14 rfl dX5_isIn_13 (by decide) ?_
    exact jr_sub [] rfl (wk_X5_isIn_14 C  h)
theorem m_X5_isIn {l : Launch} (hl : l.stackTraces = false) {G : jG} {K : jS → Int32 → Prop} {S : jS} {x0 : Int32} {x1 : Int32} (h : wp_X5_isIn S x0 x1 K) : jMet l G d_X5_isIn yX5_isIn (ws_ yX5_isIn cX5_isIn 2 (some .boolean)) [.int x0, .int x1] S tvi K :=
  jMet.of hl rfl (by decide) (Nat.le_of_ble_eq_true rfl) (fun X C => jr_sub [0, 1] rfl (wk_X5_isIn_0 C h))
theorem wk_X5_many_24 {X : jX} {G : jG} {K : jS → Int32 → Prop} (C : jC (X, G, 3, jA X G tvi K) d_X5_many cX5_many "SamovarModel" (some .int) yX5_many) {S : jS} {t0 : Int32} {t1 : Int32} {x0 : Int32} {x2 : Int32} {Kc4 : jS × Int32 × Int32 → Prop} (hc4 : ∀ z : jS × Int32 × Int32, Kc4 z → jJ (X, G, 3, jA X G tvi K) z.1 [(0, .int x0), (1, .int z.2.1), (2, .int z.2.2)] 4 []) (h : wp_X5_many_24 S t0 t1 x0 x2 Kc4 K) : jJ (X, G, 3, jA X G tvi K) S [(0, .int x0), (2, .int x2)] 24 [.int t1, .int t0] := by
  unfold wp_X5_many_24 at h
  refine jr_iadd C 25 rfl dX5_many_24 ?_
  refine jr_istore_n (lv' := [(1, .int (t0 + t1)), (0, .int x0), (2, .int x2)]) C 26 rfl dX5_many_25 rfl (Nat.le_of_ble_eq_true rfl) rfl ?_
  refine jr_iinc (v := (x2 + 1)) (lv' := [(2, .int (x2 + 1)), (1, .int (t0 + t1)), (0, .int x0)]) C 29 rfl dX5_many_26 2 rfl rfl (Nat.le_of_ble_eq_true rfl) rfl ?_
  refine jr_goto C 4 dX5_many_29 (by decide) ?_
  exact jr_sub [2, 1, 0] rfl (hc4 _ h)
theorem wk_X5_many_4 {X : jX} {G : jG} {K : jS → Int32 → Prop} (C : jC (X, G, 3, jA X G tvi K) d_X5_many cX5_many "SamovarModel" (some .int) yX5_many) {S : jS} {x0 : Int32} {x1 : Int32} {x2 : Int32} {Kc4 : jS × Int32 × Int32 → Prop} (hc4 : ∀ z : jS × Int32 × Int32, Kc4 z → jJ (X, G, 3, jA X G tvi K) z.1 [(0, .int x0), (1, .int z.2.1), (2, .int z.2.2)] 4 []) (h : wp_X5_many_4 S x0 x1 x2 Kc4 K) : jJ (X, G, 3, jA X G tvi K) S [(0, .int x0), (1, .int x1), (2, .int x2)] 4 [] := by
  unfold wp_X5_many_4 at h
  refine jr_iload_n C 5 rfl dX5_many_4 rfl 2 rfl ?_
  refine jr_bipush (v := 30) C 7 rfl dX5_many_5 (by decide) ?_
  refine jr_icmp_gt C 32 10 rfl dX5_many_7 (by decide) (fun c4 => ?_) (fun c4 => ?_)
  · have h := h.1 c4
    refine jr_iload_n C 33 rfl dX5_many_32 rfl 1 rfl ?_
    exact jr_ireturn C dX5_many_33 h
  · have h := h.2 c4
    refine jr_iload_n C 11 rfl dX5_many_10 rfl 1 rfl ?_
    refine jr_iload_n C 12 rfl dX5_many_11 rfl 0 rfl ?_
    refine jr_iload_n C 13 rfl dX5_many_12 rfl 2 rfl ?_
    refine jr_callSi (As := [.int x0, .int x2]) (st := [.int x1]) C 16 rfl (m_X5_isIn C.2.2.2.2.2.2.2.2.2.2.2.2.2.2.2 h) rfl q1562 q1563 q102 q1564 (by decide) (by decide) nd_X5_isIn (Nat.le_of_ble_eq_true rfl) dX5_many_13 (fun S1 r2 h => ?_)
    refine jr_if_eq C 23 19 rfl dX5_many_16 (by decide) (fun c3 => ?_) (fun c3 => ?_)
    · have h := h.1 c3
      refine jr_iconst (v := 0) C 24 rfl dX5_many_23 (by decide) ?_
      exact jr_sub [0, 2] rfl (wk_X5_many_24 C hc4 h)
    · have h := h.2 c3
      refine jr_iconst (v := 1) C 20 rfl dX5_many_19 (by decide) ?_
      refine jr_goto C 24 dX5_many_20 (by decide) ?_
      exact jr_sub [0, 2] rfl (wk_X5_many_24 C hc4 h)
theorem wk_X5_many_4_L {X : jX} {G : jG} {K : jS → Int32 → Prop} (C : jC (X, G, 3, jA X G tvi K) d_X5_many cX5_many "SamovarModel" (some .int) yX5_many) {x0 : Int32}  : ∀ (n : Nat) (z : jS × Int32 × Int32), jlp n (wp_X5_many_4_L x0 K) z → jJ (X, G, 3, jA X G tvi K) z.1 [(0, .int x0), (1, .int z.2.1), (2, .int z.2.2)] 4 [] := by
  intro n
  induction n with
  | zero => intro z h; exact h.elim
  | succ n ih => intro z h; exact wk_X5_many_4 C ih h
theorem wk_X5_many_0 {X : jX} {G : jG} {K : jS → Int32 → Prop} (C : jC (X, G, 3, jA X G tvi K) d_X5_many cX5_many "SamovarModel" (some .int) yX5_many) {S : jS} {x0 : Int32}  (h : wp_X5_many S x0 K) : jJ (X, G, 3, jA X G tvi K) S [(0, .int x0)] 0 [] := by
  unfold wp_X5_many at h
  refine jr_iconst (v := 0) C 1 rfl dX5_many_0 (by decide) ?_
  refine jr_istore_n (lv' := [(1, .int 0), (0, .int x0)]) C 2 rfl dX5_many_1 rfl (Nat.le_of_ble_eq_true rfl) rfl ?_
  refine jr_iconst (v := 0) C 3 rfl dX5_many_2 (by decide) ?_
  refine jr_istore_n (lv' := [(2, .int 0), (1, .int 0), (0, .int x0)]) C 4 rfl dX5_many_3 rfl (Nat.le_of_ble_eq_true rfl) rfl ?_
  obtain ⟨n, h⟩ := h
  exact jr_sub [2, 1, 0] rfl (wk_X5_many_4_L C  n _ h)
theorem m_X5_many {l : Launch} (hl : l.stackTraces = false) {G : jG} {K : jS → Int32 → Prop} {S : jS} {x0 : Int32} (h : wp_X5_many S x0 K) : jMet l G d_X5_many yX5_many (ws_ yX5_many cX5_many 3 (some .int)) [.int x0] S tvi K :=
  jMet.of hl rfl (by decide) (Nat.le_of_ble_eq_true rfl) (fun X C => jr_sub [0] rfl (wk_X5_many_0 C h))
theorem wk_X5_less_10 {X : jX} {G : jG} {K : jS → Int32 → Prop} (C : jC (X, G, 2, jA X G tvi K) d_X5_less cX5_less "SamovarModel" (some .int) yX5_less) {S : jS} {t0 : Int32}  (h : wp_X5_less_10 S t0 K) : jJ (X, G, 2, jA X G tvi K) S [] 10 [.int t0] := by
  unfold wp_X5_less_10 at h
  exact jr_ireturn C dX5_less_10 h
theorem wk_X5_less_0 {X : jX} {G : jG} {K : jS → Int32 → Prop} (C : jC (X, G, 2, jA X G tvi K) d_X5_less cX5_less "SamovarModel" (some .int) yX5_less) {S : jS} {x0 : Int32} {x1 : Int32}  (h : wp_X5_less S x0 x1 K) : jJ (X, G, 2, jA X G tvi K) S [(0, .int x0), (1, .int x1)] 0 [] := by
  unfold wp_X5_less at h
  refine jr_iload_n C 1 rfl dX5_less_0 rfl 0 rfl ?_
  refine jr_iload_n C 2 rfl dX5_less_1 rfl 1 rfl ?_
  refine jr_icmp_ge C 9 5 rfl dX5_less_2 (by decide) (fun c1 => ?_) (fun c1 => ?_)
  · have h := h.1 c1
    refine jr_iload_n C 10 rfl dX5_less_9 rfl 1 rfl ?_
    exact jr_sub [] rfl (wk_X5_less_10 C  h)
  · have h := h.2 c1
    refine jr_iload_n C 6 rfl dX5_less_5 rfl 0 rfl ?_
    refine jr_goto C 10 dX5_less_6 (by decide) ?_
    exact jr_sub [] rfl (wk_X5_less_10 C  h)
theorem m_X5_less {l : Launch} (hl : l.stackTraces = false) {G : jG} {K : jS → Int32 → Prop} {S : jS} {x0 : Int32} {x1 : Int32} (h : wp_X5_less S x0 x1 K) : jMet l G d_X5_less yX5_less (ws_ yX5_less cX5_less 2 (some .int)) [.int x0, .int x1] S tvi K :=
  jMet.of hl rfl (by decide) (Nat.le_of_ble_eq_true rfl) (fun X C => jr_sub [0, 1] rfl (wk_X5_less_0 C h))
theorem wk_X5_befalls_161 {X : jX} {G : jG} {K : jS → Unit → Prop} (C : jC (X, G, 4, jA X G tvv K) d_X5_befalls cX5_befalls "SamovarModel" none yX5_befalls) {S : jS} {x0 : Nat} {x1 : Int32} {x2 : Int32} {Kc7 : jS × Int32 → Prop} (hc7 : ∀ z : jS × Int32, Kc7 z → jJ (X, G, 4, jA X G tvv K) z.1 [(0, .ref x0), (1, .int x1), (2, .int z.2)] 7 []) (h : wp_X5_befalls_161 S x0 x1 x2 Kc7 K) : jJ (X, G, 4, jA X G tvv K) S [(0, .ref x0), (1, .int x1), (2, .int x2)] 161 [] := by
  unfold wp_X5_befalls_161 at h
  refine jr_iinc (v := (x2 + 1)) (lv' := [(2, .int (x2 + 1)), (0, .ref x0), (1, .int x1)]) C 164 rfl dX5_befalls_161 2 rfl rfl (Nat.le_of_ble_eq_true rfl) rfl ?_
  refine jr_goto C 7 dX5_befalls_164 (by decide) ?_
  exact jr_sub [1, 2, 0] rfl (hc7 _ h)
theorem wk_X5_befalls_158 {X : jX} {G : jG} {K : jS → Unit → Prop} (C : jC (X, G, 4, jA X G tvv K) d_X5_befalls cX5_befalls "SamovarModel" none yX5_befalls) {S : jS} {t0 : Nat} {t1 : Int32} {x0 : Nat} {x1 : Int32} {x2 : Int32} {Kc7 : jS × Int32 → Prop} (hc7 : ∀ z : jS × Int32, Kc7 z → jJ (X, G, 4, jA X G tvv K) z.1 [(0, .ref x0), (1, .int x1), (2, .int z.2)] 7 []) (h : wp_X5_befalls_158 S t0 t1 x0 x1 x2 Kc7 K) : jJ (X, G, 4, jA X G tvv K) S [(0, .ref x0), (1, .int x1), (2, .int x2)] 158 [.int t1, .ref t0] := by
  unfold wp_X5_befalls_158 at h
  refine jr_putv C 161 rfl fo_8_25 (by decide) q1302 dX5_befalls_158 rfl rfl h (fun S1 h => ?_)
  exact (wk_X5_befalls_161 C hc7 h)
theorem wk_X5_befalls_136 {X : jX} {G : jG} {K : jS → Unit → Prop} (C : jC (X, G, 4, jA X G tvv K) d_X5_befalls cX5_befalls "SamovarModel" none yX5_befalls) {S : jS} {t0 : Nat} {t1 : Int32} {x0 : Nat} {x1 : Int32} {x2 : Int32} {Kc7 : jS × Int32 → Prop} (hc7 : ∀ z : jS × Int32, Kc7 z → jJ (X, G, 4, jA X G tvv K) z.1 [(0, .ref x0), (1, .int x1), (2, .int z.2)] 7 []) (h : wp_X5_befalls_136 S t0 t1 x0 x1 x2 Kc7 K) : jJ (X, G, 4, jA X G tvv K) S [(0, .ref x0), (1, .int x1), (2, .int x2)] 136 [.int t1, .ref t0] := by
  unfold wp_X5_befalls_136 at h
  refine jr_putv C 139 rfl fo_8_24 (by decide) q1301 dX5_befalls_136 rfl rfl h (fun S1 h => ?_)
  refine jr_aload_n C 140 rfl dX5_befalls_139 rfl 0 rfl ?_
  refine jr_aload_n C 141 rfl dX5_befalls_140 rfl 0 rfl ?_
  refine jr_getr C 144 rfl fo_8_13 q1290 dX5_befalls_141 h (fun v2 h => ?_)
  refine jr_iload_n C 145 rfl dX5_befalls_144 rfl 2 rfl ?_
  refine jr_iald C 146 rfl dX5_befalls_145 h (fun v3 h => ?_)
  refine jr_iconst (v := 2) C 147 rfl dX5_befalls_146 (by decide) ?_
  refine jr_icmp_ne C 154 150 rfl dX5_befalls_147 (by decide) (fun c5 => ?_) (fun c5 => ?_)
  · have h := h.1 c5
    refine jr_iconst (v := 1) C 151 rfl dX5_befalls_150 (by decide) ?_
    refine jr_goto C 158 dX5_befalls_151 (by decide) ?_
    exact (wk_X5_befalls_158 C hc7 h)
  · have h := h.2 c5
    refine jr_aload_n C 155 rfl dX5_befalls_154 rfl 0 rfl ?_
    refine jr_geti C 158 rfl fo_8_25 q1302 dX5_befalls_155 h (fun v4 h => ?_)
    exact (wk_X5_befalls_158 C hc7 h)
theorem wk_X5_befalls_99 {X : jX} {G : jG} {K : jS → Unit → Prop} (C : jC (X, G, 4, jA X G tvv K) d_X5_befalls cX5_befalls "SamovarModel" none yX5_befalls) {S : jS} {t0 : Nat} {t1 : Int32} {x0 : Nat} {x1 : Int32} {x2 : Int32} {Kc7 : jS × Int32 → Prop} (hc7 : ∀ z : jS × Int32, Kc7 z → jJ (X, G, 4, jA X G tvv K) z.1 [(0, .ref x0), (1, .int x1), (2, .int z.2)] 7 []) (h : wp_X5_befalls_99 S t0 t1 x0 x1 x2 Kc7 K) : jJ (X, G, 4, jA X G tvv K) S [(0, .ref x0), (1, .int x1), (2, .int x2)] 99 [.int t1, .ref t0] := by
  unfold wp_X5_befalls_99 at h
  refine jr_putv C 102 rfl fo_8_22 (by decide) q1299 dX5_befalls_99 rfl rfl h (fun S1 h => ?_)
  refine jr_aload_n C 103 rfl dX5_befalls_102 rfl 0 rfl ?_
  refine jr_aload_n C 104 rfl dX5_befalls_103 rfl 0 rfl ?_
  refine jr_getr C 107 rfl fo_8_13 q1290 dX5_befalls_104 h (fun v2 h => ?_)
  refine jr_iload_n C 108 rfl dX5_befalls_107 rfl 2 rfl ?_
  refine jr_iald C 109 rfl dX5_befalls_108 h (fun v3 h => ?_)
  refine jr_iconst (v := 1) C 110 rfl dX5_befalls_109 (by decide) ?_
  refine jr_icmp_ne C 132 113 rfl dX5_befalls_110 (by decide) (fun c10 => ?_) (fun c10 => ?_)
  · have h := h.1 c10
    refine jr_aload_n C 114 rfl dX5_befalls_113 rfl 0 rfl ?_
    refine jr_geti C 117 rfl fo_8_24 q1301 dX5_befalls_114 h (fun v4 h => ?_)
    refine jr_aload_n C 118 rfl dX5_befalls_117 rfl 0 rfl ?_
    refine jr_getr C 121 rfl fo_8_15 q1292 dX5_befalls_118 h (fun v5 h => ?_)
    refine jr_iload_n C 122 rfl dX5_befalls_121 rfl 2 rfl ?_
    refine jr_iald C 123 rfl dX5_befalls_122 h (fun v6 h => ?_)
    refine jr_iadd C 124 rfl dX5_befalls_123 ?_
    refine jr_bipush (v := 40) C 126 rfl dX5_befalls_124 (by decide) ?_
    refine jr_callSi (As := [.int (v4 + v6), .int 40]) (st := [.ref x0]) C 129 rfl (m_X5_less C.2.2.2.2.2.2.2.2.2.2.2.2.2.2.2 h) rfl q1565 q1566 q102 q1567 (by decide) (by decide) nd_X5_less (Nat.le_of_ble_eq_true rfl) dX5_befalls_126 (fun S7 r8 h => ?_)
    refine jr_goto C 136 dX5_befalls_129 (by decide) ?_
    exact (wk_X5_befalls_136 C hc7 h)
  · have h := h.2 c10
    refine jr_aload_n C 133 rfl dX5_befalls_132 rfl 0 rfl ?_
    refine jr_geti C 136 rfl fo_8_24 q1301 dX5_befalls_133 h (fun v9 h => ?_)
    exact (wk_X5_befalls_136 C hc7 h)
theorem wk_X5_befalls_65 {X : jX} {G : jG} {K : jS → Unit → Prop} (C : jC (X, G, 4, jA X G tvv K) d_X5_befalls cX5_befalls "SamovarModel" none yX5_befalls) {S : jS} {t0 : Int32} {x0 : Nat} {x1 : Int32} {x2 : Int32} {Kc7 : jS × Int32 → Prop} (hc7 : ∀ z : jS × Int32, Kc7 z → jJ (X, G, 4, jA X G tvv K) z.1 [(0, .ref x0), (1, .int x1), (2, .int z.2)] 7 []) (h : wp_X5_befalls_65 S t0 x0 x1 x2 Kc7 K) : jJ (X, G, 4, jA X G tvv K) S [(0, .ref x0), (1, .int x1), (2, .int x2)] 65 [.int t0] := by
  unfold wp_X5_befalls_65 at h
  refine jr_istore_n (lv' := [(3, .int t0), (0, .ref x0), (1, .int x1), (2, .int x2)]) C 66 rfl dX5_befalls_65 rfl (Nat.le_of_ble_eq_true rfl) rfl ?_
  refine jr_aload_n C 67 rfl dX5_befalls_66 rfl 1 rfl ?_
  refine jr_dup C 68 rfl dX5_befalls_67 rfl ?_
  refine jr_geti C 71 rfl fo_8_23 q1300 dX5_befalls_68 h (fun v1 h => ?_)
  refine jr_iload_n C 72 rfl dX5_befalls_71 rfl 0 rfl ?_
  refine jr_iadd C 73 rfl dX5_befalls_72 ?_
  refine jr_putv C 76 rfl fo_8_23 (by decide) q1300 dX5_befalls_73 rfl rfl h (fun S2 h => ?_)
  refine jr_aload_n C 77 rfl dX5_befalls_76 rfl 1 rfl ?_
  refine jr_aload_n C 78 rfl dX5_befalls_77 rfl 1 rfl ?_
  refine jr_geti C 81 rfl fo_8_22 q1299 dX5_befalls_78 h (fun v3 h => ?_)
  refine jr_iconst (v := 4) C 82 rfl dX5_befalls_81 (by decide) ?_
  refine jr_iload_n C 83 rfl dX5_befalls_82 rfl 0 rfl ?_
  refine jr_imul C 84 rfl dX5_befalls_83 ?_
  refine jr_icmp_ge C 91 87 rfl dX5_befalls_84 (by decide) (fun c5 => ?_) (fun c5 => ?_)
  · have h := h.1 c5
    refine jr_aload_n C 92 rfl dX5_befalls_91 rfl 1 rfl ?_
    refine jr_geti C 95 rfl fo_8_22 q1299 dX5_befalls_92 h (fun v4 h => ?_)
    refine jr_iconst (v := 4) C 96 rfl dX5_befalls_95 (by decide) ?_
    refine jr_iload_n C 97 rfl dX5_befalls_96 rfl 0 rfl ?_
    refine jr_imul C 98 rfl dX5_befalls_97 ?_
    refine jr_isub C 99 rfl dX5_befalls_98 ?_
    exact jr_sub [1, 2, 3] rfl (wk_X5_befalls_99 C hc7 h)
  · have h := h.2 c5
    refine jr_iconst (v := 0) C 88 rfl dX5_befalls_87 (by decide) ?_
    refine jr_goto C 99 dX5_befalls_88 (by decide) ?_
    exact jr_sub [1, 2, 3] rfl (wk_X5_befalls_99 C hc7 h)
theorem wk_X5_befalls_7 {X : jX} {G : jG} {K : jS → Unit → Prop} (C : jC (X, G, 4, jA X G tvv K) d_X5_befalls cX5_befalls "SamovarModel" none yX5_befalls) {S : jS} {x0 : Nat} {x1 : Int32} {x2 : Int32} {Kc7 : jS × Int32 → Prop} (hc7 : ∀ z : jS × Int32, Kc7 z → jJ (X, G, 4, jA X G tvv K) z.1 [(0, .ref x0), (1, .int x1), (2, .int z.2)] 7 []) (h : wp_X5_befalls_7 S x0 x1 x2 Kc7 K) : jJ (X, G, 4, jA X G tvv K) S [(0, .ref x0), (1, .int x1), (2, .int x2)] 7 [] := by
  unfold wp_X5_befalls_7 at h
  refine jr_iload_n C 8 rfl dX5_befalls_7 rfl 2 rfl ?_
  refine jr_aload_n C 9 rfl dX5_befalls_8 rfl 0 rfl ?_
  refine jr_geti C 12 rfl fo_8_12 q1289 dX5_befalls_9 h (fun v1 h => ?_)
  refine jr_icmp_ge C 167 15 rfl dX5_befalls_12 (by decide) (fun c17 => ?_) (fun c17 => ?_)
  · have h := h.1 c17
    exact jr_return C dX5_befalls_167 h
  · have h := h.2 c17
    refine jr_aload_n C 16 rfl dX5_befalls_15 rfl 0 rfl ?_
    refine jr_getr C 19 rfl fo_8_14 q1291 dX5_befalls_16 h (fun v2 h => ?_)
    refine jr_iload_n C 20 rfl dX5_befalls_19 rfl 2 rfl ?_
    refine jr_iald C 21 rfl dX5_befalls_20 h (fun v3 h => ?_)
    refine jr_iload_n C 22 rfl dX5_befalls_21 rfl 1 rfl ?_
    refine jr_icmp_ne C 161 25 rfl dX5_befalls_22 (by decide) (fun c16 => ?_) (fun c16 => ?_)
    · have h := h.1 c16
      refine jr_aload_n C 26 rfl dX5_befalls_25 rfl 0 rfl ?_
      refine jr_geti C 29 rfl fo_8_21 q1298 dX5_befalls_26 h (fun v4 h => ?_)
      refine jr_iload_n C 30 rfl dX5_befalls_29 rfl 2 rfl ?_
      refine jr_callSi (As := [.int v4, .int x2]) (st := []) C 33 rfl (m_X5_isIn C.2.2.2.2.2.2.2.2.2.2.2.2.2.2.2 h) rfl q1562 q1563 q102 q1564 (by decide) (by decide) nd_X5_isIn (Nat.le_of_ble_eq_true rfl) dX5_befalls_30 (fun S5 r6 h => ?_)
      refine jr_if_ne C 161 36 rfl dX5_befalls_33 (by decide) (fun c15 => ?_) (fun c15 => ?_)
      · have h := h.1 c15
        refine jr_aload_n C 37 rfl dX5_befalls_36 rfl 0 rfl ?_
        refine jr_getr C 40 rfl fo_8_13 q1290 dX5_befalls_37 h (fun v7 h => ?_)
        refine jr_iload_n C 41 rfl dX5_befalls_40 rfl 2 rfl ?_
        refine jr_iald C 42 rfl dX5_befalls_41 h (fun v8 h => ?_)
        refine jr_if_ne C 64 45 rfl dX5_befalls_42 (by decide) (fun c14 => ?_) (fun c14 => ?_)
        · have h := h.1 c14
          refine jr_aload_n C 46 rfl dX5_befalls_45 rfl 0 rfl ?_
          refine jr_getr C 49 rfl fo_8_15 q1292 dX5_befalls_46 h (fun v9 h => ?_)
          refine jr_iload_n C 50 rfl dX5_befalls_49 rfl 2 rfl ?_
          refine jr_iald C 51 rfl dX5_befalls_50 h (fun v10 h => ?_)
          refine jr_bipush (v := 30) C 53 rfl dX5_befalls_51 (by decide) ?_
          refine jr_aload_n C 54 rfl dX5_befalls_53 rfl 0 rfl ?_
          refine jr_geti C 57 rfl fo_8_23 q1300 dX5_befalls_54 h (fun v11 h => ?_)
          refine jr_isub C 58 rfl dX5_befalls_57 ?_
          refine jr_callSi (As := [.int v10, .int (30 - v11)]) (st := []) C 61 rfl (m_X5_less C.2.2.2.2.2.2.2.2.2.2.2.2.2.2.2 h) rfl q1565 q1566 q102 q1567 (by decide) (by decide) nd_X5_less (Nat.le_of_ble_eq_true rfl) dX5_befalls_58 (fun S12 r13 h => ?_)
          refine jr_goto C 65 dX5_befalls_61 (by decide) ?_
          exact (wk_X5_befalls_65 C hc7 h)
        · have h := h.2 c14
          refine jr_iconst (v := 0) C 65 rfl dX5_befalls_64 (by decide) ?_
          exact (wk_X5_befalls_65 C hc7 h)
      · have h := h.2 c15
        exact (wk_X5_befalls_161 C hc7 h)
    · have h := h.2 c16
      exact (wk_X5_befalls_161 C hc7 h)
theorem wk_X5_befalls_7_L {X : jX} {G : jG} {K : jS → Unit → Prop} (C : jC (X, G, 4, jA X G tvv K) d_X5_befalls cX5_befalls "SamovarModel" none yX5_befalls) {x0 : Nat} {x1 : Int32}  : ∀ (n : Nat) (z : jS × Int32), jlp n (wp_X5_befalls_7_L x0 x1 K) z → jJ (X, G, 4, jA X G tvv K) z.1 [(0, .ref x0), (1, .int x1), (2, .int z.2)] 7 [] := by
  intro n
  induction n with
  | zero => intro z h; exact h.elim
  | succ n ih => intro z h; exact wk_X5_befalls_7 C ih h
theorem wk_X5_befalls_0 {X : jX} {G : jG} {K : jS → Unit → Prop} (C : jC (X, G, 4, jA X G tvv K) d_X5_befalls cX5_befalls "SamovarModel" none yX5_befalls) {S : jS} {x0 : Nat} {x1 : Int32}  (h : wp_X5_befalls S x0 x1 K) : jJ (X, G, 4, jA X G tvv K) S [(0, .ref x0), (1, .int x1)] 0 [] := by
  unfold wp_X5_befalls at h
  refine jr_aload_n C 1 rfl dX5_befalls_0 rfl 0 rfl ?_
  refine jr_iconst (v := 0) C 2 rfl dX5_befalls_1 (by decide) ?_
  refine jr_putv C 5 rfl fo_8_25 (by decide) q1302 dX5_befalls_2 rfl rfl h (fun S1 h => ?_)
  refine jr_iconst (v := 0) C 6 rfl dX5_befalls_5 (by decide) ?_
  refine jr_istore_n (lv' := [(2, .int 0), (0, .ref x0), (1, .int x1)]) C 7 rfl dX5_befalls_6 rfl (Nat.le_of_ble_eq_true rfl) rfl ?_
  obtain ⟨n, h⟩ := h
  exact jr_sub [1, 2, 0] rfl (wk_X5_befalls_7_L C  n _ h)
theorem m_X5_befalls {l : Launch} (hl : l.stackTraces = false) {G : jG} {K : jS → Unit → Prop} {S : jS} {x0 : Nat} {x1 : Int32} (h : wp_X5_befalls S x0 x1 K) : jMet l G d_X5_befalls yX5_befalls (ws_ yX5_befalls cX5_befalls 4 none) [.ref x0, .int x1] S tvv K :=
  jMet.of hl rfl (by decide) (Nat.le_of_ble_eq_true rfl) (fun X C => jr_sub [0, 1] rfl (wk_X5_befalls_0 C h))
theorem wk_X5_joins_0 {X : jX} {G : jG} {K : jS → Unit → Prop} (C : jC (X, G, 3, jA X G tvv K) d_X5_joins cX5_joins "SamovarModel" none yX5_joins) {S : jS} {x0 : Nat} {x1 : Int32} {x2 : Int32}  (h : wp_X5_joins S x0 x1 x2 K) : jJ (X, G, 3, jA X G tvv K) S [(0, .ref x0), (1, .int x1), (2, .int x2)] 0 [] := by
  unfold wp_X5_joins at h
  refine jr_aload_n C 1 rfl dX5_joins_0 rfl 0 rfl ?_
  refine jr_getr C 4 rfl fo_8_30 q1307 dX5_joins_1 h (fun v1 h => ?_)
  refine jr_aload_n C 5 rfl dX5_joins_4 rfl 0 rfl ?_
  refine jr_geti C 8 rfl fo_8_29 q1306 dX5_joins_5 h (fun v2 h => ?_)
  refine jr_iload_n C 9 rfl dX5_joins_8 rfl 1 rfl ?_
  refine jr_iast C 10 rfl dX5_joins_9 h (fun S3 h => ?_)
  refine jr_aload_n C 11 rfl dX5_joins_10 rfl 0 rfl ?_
  refine jr_dup C 12 rfl dX5_joins_11 rfl ?_
  refine jr_geti C 15 rfl fo_8_29 q1306 dX5_joins_12 h (fun v4 h => ?_)
  refine jr_iconst (v := 1) C 16 rfl dX5_joins_15 (by decide) ?_
  refine jr_iadd C 17 rfl dX5_joins_16 ?_
  refine jr_putv C 20 rfl fo_8_29 (by decide) q1306 dX5_joins_17 rfl rfl h (fun S5 h => ?_)
  refine jr_aload_n C 21 rfl dX5_joins_20 rfl 0 rfl ?_
  refine jr_getr C 24 rfl fo_8_31 q1308 dX5_joins_21 h (fun v6 h => ?_)
  refine jr_iload_n C 25 rfl dX5_joins_24 rfl 1 rfl ?_
  refine jr_iconst (v := 1) C 26 rfl dX5_joins_25 (by decide) ?_
  refine jr_iast C 27 rfl dX5_joins_26 h (fun S7 h => ?_)
  refine jr_aload_n C 28 rfl dX5_joins_27 rfl 0 rfl ?_
  refine jr_getr C 31 rfl fo_8_34 q1311 dX5_joins_28 h (fun v8 h => ?_)
  refine jr_iload_n C 32 rfl dX5_joins_31 rfl 1 rfl ?_
  refine jr_iload_n C 33 rfl dX5_joins_32 rfl 2 rfl ?_
  refine jr_iast C 34 rfl dX5_joins_33 h (fun S9 h => ?_)
  exact jr_return C dX5_joins_34 h
theorem m_X5_joins {l : Launch} (hl : l.stackTraces = false) {G : jG} {K : jS → Unit → Prop} {S : jS} {x0 : Nat} {x1 : Int32} {x2 : Int32} (h : wp_X5_joins S x0 x1 x2 K) : jMet l G d_X5_joins yX5_joins (ws_ yX5_joins cX5_joins 3 none) [.ref x0, .int x1, .int x2] S tvv K :=
  jMet.of hl rfl (by decide) (Nat.le_of_ble_eq_true rfl) (fun X C => jr_sub [0, 1, 2] rfl (wk_X5_joins_0 C h))
theorem wk_X5_comes_26 {X : jX} {G : jG} {K : jS → Unit → Prop} (C : jC (X, G, 3, jA X G tvv K) d_X5_comes cX5_comes "SamovarModel" none yX5_comes) {S : jS} {x0 : Nat} {x1 : Int32} {x2 : Int32} {Kc2 : jS × Int32 → Prop} (hc2 : ∀ z : jS × Int32, Kc2 z → jJ (X, G, 3, jA X G tvv K) z.1 [(0, .ref x0), (1, .int x1), (2, .int z.2)] 2 []) (h : wp_X5_comes_26 S x0 x1 x2 Kc2 K) : jJ (X, G, 3, jA X G tvv K) S [(0, .ref x0), (1, .int x1), (2, .int x2)] 26 [] := by
  unfold wp_X5_comes_26 at h
  refine jr_iinc (v := (x2 + 1)) (lv' := [(2, .int (x2 + 1)), (0, .ref x0), (1, .int x1)]) C 29 rfl dX5_comes_26 2 rfl rfl (Nat.le_of_ble_eq_true rfl) rfl ?_
  refine jr_goto C 2 dX5_comes_29 (by decide) ?_
  exact jr_sub [1, 2, 0] rfl (hc2 _ h)
theorem wk_X5_comes_68 {X : jX} {G : jG} {K : jS → Unit → Prop} (C : jC (X, G, 3, jA X G tvv K) d_X5_comes cX5_comes "SamovarModel" none yX5_comes) {S : jS} {x0 : Nat} {x1 : Int32} {x2 : Int32} {Kc34 : jS × Int32 → Prop} (hc34 : ∀ z : jS × Int32, Kc34 z → jJ (X, G, 3, jA X G tvv K) z.1 [(0, .ref x0), (1, .int x1), (2, .int z.2)] 34 []) (h : wp_X5_comes_68 S x0 x1 x2 Kc34 K) : jJ (X, G, 3, jA X G tvv K) S [(0, .ref x0), (1, .int x1), (2, .int x2)] 68 [] := by
  unfold wp_X5_comes_68 at h
  refine jr_iinc (v := (x2 + 1)) (lv' := [(2, .int (x2 + 1)), (0, .ref x0), (1, .int x1)]) C 71 rfl dX5_comes_68 2 rfl rfl (Nat.le_of_ble_eq_true rfl) rfl ?_
  refine jr_goto C 34 dX5_comes_71 (by decide) ?_
  exact jr_sub [1, 2, 0] rfl (hc34 _ h)
theorem wk_X5_comes_34 {X : jX} {G : jG} {K : jS → Unit → Prop} (C : jC (X, G, 3, jA X G tvv K) d_X5_comes cX5_comes "SamovarModel" none yX5_comes) {S : jS} {x0 : Nat} {x1 : Int32} {x2 : Int32} {Kc34 : jS × Int32 → Prop} (hc34 : ∀ z : jS × Int32, Kc34 z → jJ (X, G, 3, jA X G tvv K) z.1 [(0, .ref x0), (1, .int x1), (2, .int z.2)] 34 []) (h : wp_X5_comes_34 S x0 x1 x2 Kc34 K) : jJ (X, G, 3, jA X G tvv K) S [(0, .ref x0), (1, .int x1), (2, .int x2)] 34 [] := by
  unfold wp_X5_comes_34 at h
  refine jr_iload_n C 35 rfl dX5_comes_34 rfl 2 rfl ?_
  refine jr_aload_n C 36 rfl dX5_comes_35 rfl 0 rfl ?_
  refine jr_geti C 39 rfl fo_8_16 q1293 dX5_comes_36 h (fun v1 h => ?_)
  refine jr_icmp_ge C 74 42 rfl dX5_comes_39 (by decide) (fun c9 => ?_) (fun c9 => ?_)
  · have h := h.1 c9
    exact jr_return C dX5_comes_74 h
  · have h := h.2 c9
    refine jr_aload_n C 43 rfl dX5_comes_42 rfl 0 rfl ?_
    refine jr_getr C 46 rfl fo_8_31 q1308 dX5_comes_43 h (fun v2 h => ?_)
    refine jr_iload_n C 47 rfl dX5_comes_46 rfl 2 rfl ?_
    refine jr_iald C 48 rfl dX5_comes_47 h (fun v3 h => ?_)
    refine jr_iconst (v := 2) C 49 rfl dX5_comes_48 (by decide) ?_
    refine jr_icmp_ne C 68 52 rfl dX5_comes_49 (by decide) (fun c8 => ?_) (fun c8 => ?_)
    · have h := h.1 c8
      refine jr_aload_n C 53 rfl dX5_comes_52 rfl 0 rfl ?_
      refine jr_getr C 56 rfl fo_8_33 q1310 dX5_comes_53 h (fun v4 h => ?_)
      refine jr_iload_n C 57 rfl dX5_comes_56 rfl 2 rfl ?_
      refine jr_iald C 58 rfl dX5_comes_57 h (fun v5 h => ?_)
      refine jr_iload_n C 59 rfl dX5_comes_58 rfl 1 rfl ?_
      refine jr_icmp_ne C 68 62 rfl dX5_comes_59 (by decide) (fun c7 => ?_) (fun c7 => ?_)
      · have h := h.1 c7
        refine jr_aload_n C 63 rfl dX5_comes_62 rfl 0 rfl ?_
        refine jr_iload_n C 64 rfl dX5_comes_63 rfl 2 rfl ?_
        refine jr_iload_n C 65 rfl dX5_comes_64 rfl 1 rfl ?_
        obtain ⟨⟨V, hb⟩, h⟩ := h
        refine jr_callVv (r0 := (RX5, TX5, 53)) (As := [.int x2, .int x1]) (st := []) C 68 rfl (m_X5_joins C.2.2.2.2.2.2.2.2.2.2.2.2.2.2.2 h) rfl hb rfl q1576 q1578 qs59 q102 q1579 (by decide) (by decide) ndV_X5_joins (Nat.le_of_ble_eq_true rfl) dX5_comes_65 (fun S6 _ h => ?_)
        exact (wk_X5_comes_68 C hc34 h)
      · have h := h.2 c7
        exact (wk_X5_comes_68 C hc34 h)
    · have h := h.2 c8
      exact (wk_X5_comes_68 C hc34 h)
theorem wk_X5_comes_34_L {X : jX} {G : jG} {K : jS → Unit → Prop} (C : jC (X, G, 3, jA X G tvv K) d_X5_comes cX5_comes "SamovarModel" none yX5_comes) {x0 : Nat} {x1 : Int32}  : ∀ (n : Nat) (z : jS × Int32), jlp n (wp_X5_comes_34_L x0 x1 K) z → jJ (X, G, 3, jA X G tvv K) z.1 [(0, .ref x0), (1, .int x1), (2, .int z.2)] 34 [] := by
  intro n
  induction n with
  | zero => intro z h; exact h.elim
  | succ n ih => intro z h; exact wk_X5_comes_34 C ih h
theorem wk_X5_comes_2 {X : jX} {G : jG} {K : jS → Unit → Prop} (C : jC (X, G, 3, jA X G tvv K) d_X5_comes cX5_comes "SamovarModel" none yX5_comes) {S : jS} {x0 : Nat} {x1 : Int32} {x2 : Int32} {Kc2 : jS × Int32 → Prop} (hc2 : ∀ z : jS × Int32, Kc2 z → jJ (X, G, 3, jA X G tvv K) z.1 [(0, .ref x0), (1, .int x1), (2, .int z.2)] 2 []) (h : wp_X5_comes_2 S x0 x1 x2 Kc2 K) : jJ (X, G, 3, jA X G tvv K) S [(0, .ref x0), (1, .int x1), (2, .int x2)] 2 [] := by
  unfold wp_X5_comes_2 at h
  refine jr_iload_n C 3 rfl dX5_comes_2 rfl 2 rfl ?_
  refine jr_aload_n C 4 rfl dX5_comes_3 rfl 0 rfl ?_
  refine jr_geti C 7 rfl fo_8_16 q1293 dX5_comes_4 h (fun v1 h => ?_)
  refine jr_icmp_ge C 32 10 rfl dX5_comes_7 (by decide) (fun c6 => ?_) (fun c6 => ?_)
  · have h := h.1 c6
    refine jr_iconst (v := 0) C 33 rfl dX5_comes_32 (by decide) ?_
    refine jr_istore_n (lv' := [(2, .int 0), (0, .ref x0), (1, .int x1)]) C 34 rfl dX5_comes_33 rfl (Nat.le_of_ble_eq_true rfl) rfl ?_
    obtain ⟨n, h⟩ := h
    exact jr_sub [1, 2, 0] rfl (wk_X5_comes_34_L C  n _ h)
  · have h := h.2 c6
    refine jr_aload_n C 11 rfl dX5_comes_10 rfl 0 rfl ?_
    refine jr_getr C 14 rfl fo_8_17 q1294 dX5_comes_11 h (fun v2 h => ?_)
    refine jr_iload_n C 15 rfl dX5_comes_14 rfl 2 rfl ?_
    refine jr_iald C 16 rfl dX5_comes_15 h (fun v3 h => ?_)
    refine jr_iload_n C 17 rfl dX5_comes_16 rfl 1 rfl ?_
    refine jr_icmp_ne C 26 20 rfl dX5_comes_17 (by decide) (fun c5 => ?_) (fun c5 => ?_)
    · have h := h.1 c5
      refine jr_aload_n C 21 rfl dX5_comes_20 rfl 0 rfl ?_
      refine jr_iload_n C 22 rfl dX5_comes_21 rfl 2 rfl ?_
      refine jr_iload_n C 23 rfl dX5_comes_22 rfl 1 rfl ?_
      obtain ⟨⟨V, hb⟩, h⟩ := h
      refine jr_callVv (r0 := (RX5, TX5, 53)) (As := [.int x2, .int x1]) (st := []) C 26 rfl (m_X5_joins C.2.2.2.2.2.2.2.2.2.2.2.2.2.2.2 h) rfl hb rfl q1576 q1578 qs59 q102 q1579 (by decide) (by decide) ndV_X5_joins (Nat.le_of_ble_eq_true rfl) dX5_comes_23 (fun S4 _ h => ?_)
      exact (wk_X5_comes_26 C hc2 h)
    · have h := h.2 c5
      exact (wk_X5_comes_26 C hc2 h)
theorem wk_X5_comes_2_L {X : jX} {G : jG} {K : jS → Unit → Prop} (C : jC (X, G, 3, jA X G tvv K) d_X5_comes cX5_comes "SamovarModel" none yX5_comes) {x0 : Nat} {x1 : Int32}  : ∀ (n : Nat) (z : jS × Int32), jlp n (wp_X5_comes_2_L x0 x1 K) z → jJ (X, G, 3, jA X G tvv K) z.1 [(0, .ref x0), (1, .int x1), (2, .int z.2)] 2 [] := by
  intro n
  induction n with
  | zero => intro z h; exact h.elim
  | succ n ih => intro z h; exact wk_X5_comes_2 C ih h
theorem wk_X5_comes_0 {X : jX} {G : jG} {K : jS → Unit → Prop} (C : jC (X, G, 3, jA X G tvv K) d_X5_comes cX5_comes "SamovarModel" none yX5_comes) {S : jS} {x0 : Nat} {x1 : Int32}  (h : wp_X5_comes S x0 x1 K) : jJ (X, G, 3, jA X G tvv K) S [(0, .ref x0), (1, .int x1)] 0 [] := by
  unfold wp_X5_comes at h
  refine jr_iconst (v := 0) C 1 rfl dX5_comes_0 (by decide) ?_
  refine jr_istore_n (lv' := [(2, .int 0), (0, .ref x0), (1, .int x1)]) C 2 rfl dX5_comes_1 rfl (Nat.le_of_ble_eq_true rfl) rfl ?_
  obtain ⟨n, h⟩ := h
  exact jr_sub [1, 2, 0] rfl (wk_X5_comes_2_L C  n _ h)
theorem m_X5_comes {l : Launch} (hl : l.stackTraces = false) {G : jG} {K : jS → Unit → Prop} {S : jS} {x0 : Nat} {x1 : Int32} (h : wp_X5_comes S x0 x1 K) : jMet l G d_X5_comes yX5_comes (ws_ yX5_comes cX5_comes 3 none) [.ref x0, .int x1] S tvv K :=
  jMet.of hl rfl (by decide) (Nat.le_of_ble_eq_true rfl) (fun X C => jr_sub [0, 1] rfl (wk_X5_comes_0 C h))
theorem wk_X5_fireAt_93 {X : jX} {G : jG} {K : jS → Int32 → Prop} (C : jC (X, G, 6, jA X G tvi K) d_X5_fireAt cX5_fireAt "SamovarModel" (some .int) yX5_fireAt) {S : jS} {t0 : Int32} {t1 : Int32} {x0 : Nat} {x1 : Int32} {x3 : Int32} {Kc4 : jS × Int32 × Int32 → Prop} (hc4 : ∀ z : jS × Int32 × Int32, Kc4 z → jJ (X, G, 6, jA X G tvi K) z.1 [(0, .ref x0), (1, .int x1), (2, .int z.2.1), (3, .int z.2.2)] 4 []) (h : wp_X5_fireAt_93 S t0 t1 x0 x1 x3 Kc4 K) : jJ (X, G, 6, jA X G tvi K) S [(0, .ref x0), (1, .int x1), (3, .int x3)] 93 [.int t1, .int t0] := by
  unfold wp_X5_fireAt_93 at h
  refine jr_iadd C 94 rfl dX5_fireAt_93 ?_
  refine jr_istore_n (lv' := [(2, .int (t0 + t1)), (0, .ref x0), (1, .int x1), (3, .int x3)]) C 95 rfl dX5_fireAt_94 rfl (Nat.le_of_ble_eq_true rfl) rfl ?_
  refine jr_iinc (v := (x3 + 1)) (lv' := [(3, .int (x3 + 1)), (2, .int (t0 + t1)), (0, .ref x0), (1, .int x1)]) C 98 rfl dX5_fireAt_95 3 rfl rfl (Nat.le_of_ble_eq_true rfl) rfl ?_
  refine jr_goto C 4 dX5_fireAt_98 (by decide) ?_
  exact jr_sub [2, 3, 1, 0] rfl (hc4 _ h)
theorem wk_X5_fireAt_88 {X : jX} {G : jG} {K : jS → Int32 → Prop} (C : jC (X, G, 6, jA X G tvi K) d_X5_fireAt cX5_fireAt "SamovarModel" (some .int) yX5_fireAt) {S : jS} {t0 : Int32} {t1 : Int32} {t2 : Int32} {x0 : Nat} {x1 : Int32} {x3 : Int32} {Kc4 : jS × Int32 × Int32 → Prop} (hc4 : ∀ z : jS × Int32 × Int32, Kc4 z → jJ (X, G, 6, jA X G tvi K) z.1 [(0, .ref x0), (1, .int x1), (2, .int z.2.1), (3, .int z.2.2)] 4 []) (h : wp_X5_fireAt_88 S t0 t1 t2 x0 x1 x3 Kc4 K) : jJ (X, G, 6, jA X G tvi K) S [(0, .ref x0), (1, .int x1), (3, .int x3)] 88 [.int t2, .int t1, .int t0] := by
  unfold wp_X5_fireAt_88 at h
  refine jr_imul C 89 rfl dX5_fireAt_88 ?_
  refine jr_goto C 93 dX5_fireAt_89 (by decide) ?_
  exact (wk_X5_fireAt_93 C hc4 h)
theorem wk_X5_fireAt_51 {X : jX} {G : jG} {K : jS → Int32 → Prop} (C : jC (X, G, 6, jA X G tvi K) d_X5_fireAt cX5_fireAt "SamovarModel" (some .int) yX5_fireAt) {S : jS} {t0 : Int32} {x0 : Nat} {x1 : Int32} {x2 : Int32} {x3 : Int32} {x4 : Int32} {Kc4 : jS × Int32 × Int32 → Prop} (hc4 : ∀ z : jS × Int32 × Int32, Kc4 z → jJ (X, G, 6, jA X G tvi K) z.1 [(0, .ref x0), (1, .int x1), (2, .int z.2.1), (3, .int z.2.2)] 4 []) (h : wp_X5_fireAt_51 S t0 x0 x1 x2 x3 x4 Kc4 K) : jJ (X, G, 6, jA X G tvi K) S [(0, .ref x0), (1, .int x1), (2, .int x2), (3, .int x3), (4, .int x4)] 51 [.int t0] := by
  unfold wp_X5_fireAt_51 at h
  refine jr_istore (lv' := [(5, .int t0), (0, .ref x0), (1, .int x1), (2, .int x2), (3, .int x3), (4, .int x4)]) C 53 rfl dX5_fireAt_51 (Nat.le_of_ble_eq_true rfl) rfl ?_
  refine jr_iload_n C 54 rfl dX5_fireAt_53 rfl 3 rfl ?_
  refine jr_iload C 56 rfl dX5_fireAt_54 5 rfl ?_
  refine jr_iconst (v := 0) C 57 rfl dX5_fireAt_56 (by decide) ?_
  refine jr_iload C 59 rfl dX5_fireAt_57 0 rfl ?_
  refine jr_iconst (v := 1) C 60 rfl dX5_fireAt_59 (by decide) ?_
  refine jr_isub C 61 rfl dX5_fireAt_60 ?_
  refine jr_callSi (As := [.int x4, .int 0, .int (t0 - 1)]) (st := [.int x2]) C 64 rfl (m_X5_in C.2.2.2.2.2.2.2.2.2.2.2.2.2.2.2 h) rfl q1445 q1446 q102 q1447 (by decide) (by decide) nd_X5_in (Nat.le_of_ble_eq_true rfl) dX5_fireAt_61 (fun S1 r2 h => ?_)
  refine jr_if_eq C 92 67 rfl dX5_fireAt_64 (by decide) (fun c8 => ?_) (fun c8 => ?_)
  · have h := h.1 c8
    refine jr_iconst (v := 0) C 93 rfl dX5_fireAt_92 (by decide) ?_
    exact jr_sub [1, 2, 4] rfl (wk_X5_fireAt_93 C hc4 h)
  · have h := h.2 c8
    refine jr_aload_n C 68 rfl dX5_fireAt_67 rfl 1 rfl ?_
    refine jr_getr C 71 rfl fo_8_5 q1282 dX5_fireAt_68 h (fun v3 h => ?_)
    refine jr_iload_n C 72 rfl dX5_fireAt_71 rfl 4 rfl ?_
    refine jr_iald C 73 rfl dX5_fireAt_72 h (fun v4 h => ?_)
    refine jr_aload_n C 74 rfl dX5_fireAt_73 rfl 1 rfl ?_
    refine jr_getr C 77 rfl fo_8_4 q1281 dX5_fireAt_74 h (fun v5 h => ?_)
    refine jr_iload_n C 78 rfl dX5_fireAt_77 rfl 4 rfl ?_
    refine jr_iald C 79 rfl dX5_fireAt_78 h (fun v6 h => ?_)
    refine jr_iconst (v := 1) C 80 rfl dX5_fireAt_79 (by decide) ?_
    refine jr_icmp_ne C 87 83 rfl dX5_fireAt_80 (by decide) (fun c7 => ?_) (fun c7 => ?_)
    · have h := h.1 c7
      refine jr_iconst (v := 4) C 84 rfl dX5_fireAt_83 (by decide) ?_
      refine jr_goto C 88 dX5_fireAt_84 (by decide) ?_
      exact jr_sub [1, 2, 4] rfl (wk_X5_fireAt_88 C hc4 h)
    · have h := h.2 c7
      refine jr_iconst (v := 3) C 88 rfl dX5_fireAt_87 (by decide) ?_
      exact jr_sub [1, 2, 4] rfl (wk_X5_fireAt_88 C hc4 h)
theorem wk_X5_fireAt_116 {X : jX} {G : jG} {K : jS → Int32 → Prop} (C : jC (X, G, 6, jA X G tvi K) d_X5_fireAt cX5_fireAt "SamovarModel" (some .int) yX5_fireAt) {S : jS} {t0 : Int32}  (h : wp_X5_fireAt_116 S t0 K) : jJ (X, G, 6, jA X G tvi K) S [] 116 [.int t0] := by
  unfold wp_X5_fireAt_116 at h
  exact jr_ireturn C dX5_fireAt_116 h
theorem wk_X5_fireAt_4 {X : jX} {G : jG} {K : jS → Int32 → Prop} (C : jC (X, G, 6, jA X G tvi K) d_X5_fireAt cX5_fireAt "SamovarModel" (some .int) yX5_fireAt) {S : jS} {x0 : Nat} {x1 : Int32} {x2 : Int32} {x3 : Int32} {Kc4 : jS × Int32 × Int32 → Prop} (hc4 : ∀ z : jS × Int32 × Int32, Kc4 z → jJ (X, G, 6, jA X G tvi K) z.1 [(0, .ref x0), (1, .int x1), (2, .int z.2.1), (3, .int z.2.2)] 4 []) (h : wp_X5_fireAt_4 S x0 x1 x2 x3 Kc4 K) : jJ (X, G, 6, jA X G tvi K) S [(0, .ref x0), (1, .int x1), (2, .int x2), (3, .int x3)] 4 [] := by
  unfold wp_X5_fireAt_4 at h
  refine jr_iload_n C 5 rfl dX5_fireAt_4 rfl 3 rfl ?_
  refine jr_aload_n C 6 rfl dX5_fireAt_5 rfl 0 rfl ?_
  refine jr_geti C 9 rfl fo_8_2 q1279 dX5_fireAt_6 h (fun v1 h => ?_)
  refine jr_icmp_ge C 101 12 rfl dX5_fireAt_9 (by decide) (fun c12 => ?_) (fun c12 => ?_)
  · have h := h.1 c12
    refine jr_aload_n C 102 rfl dX5_fireAt_101 rfl 0 rfl ?_
    refine jr_geti C 105 rfl fo_8_25 q1302 dX5_fireAt_102 h (fun v2 h => ?_)
    refine jr_iconst (v := 1) C 106 rfl dX5_fireAt_105 (by decide) ?_
    refine jr_icmp_ne C 115 109 rfl dX5_fireAt_106 (by decide) (fun c3 => ?_) (fun c3 => ?_)
    · have h := h.1 c3
      refine jr_iconst (v := 2) C 110 rfl dX5_fireAt_109 (by decide) ?_
      refine jr_iload_n C 111 rfl dX5_fireAt_110 rfl 2 rfl ?_
      refine jr_imul C 112 rfl dX5_fireAt_111 ?_
      refine jr_goto C 116 dX5_fireAt_112 (by decide) ?_
      exact jr_sub [] rfl (wk_X5_fireAt_116 C  h)
    · have h := h.2 c3
      refine jr_iload_n C 116 rfl dX5_fireAt_115 rfl 2 rfl ?_
      exact jr_sub [] rfl (wk_X5_fireAt_116 C  h)
  · have h := h.2 c12
    refine jr_iload_n C 13 rfl dX5_fireAt_12 rfl 1 rfl ?_
    refine jr_aload_n C 14 rfl dX5_fireAt_13 rfl 0 rfl ?_
    refine jr_getr C 17 rfl fo_8_3 q1280 dX5_fireAt_14 h (fun v4 h => ?_)
    refine jr_iload_n C 18 rfl dX5_fireAt_17 rfl 3 rfl ?_
    refine jr_iald C 19 rfl dX5_fireAt_18 h (fun v5 h => ?_)
    refine jr_isub C 20 rfl dX5_fireAt_19 ?_
    refine jr_istore (lv' := [(4, .int (x1 - v5)), (0, .ref x0), (1, .int x1), (2, .int x2), (3, .int x3)]) C 22 rfl dX5_fireAt_20 (Nat.le_of_ble_eq_true rfl) rfl ?_
    refine jr_aload_n C 23 rfl dX5_fireAt_22 rfl 1 rfl ?_
    refine jr_getr C 26 rfl fo_8_4 q1281 dX5_fireAt_23 h (fun v6 h => ?_)
    refine jr_iload_n C 27 rfl dX5_fireAt_26 rfl 4 rfl ?_
    refine jr_iald C 28 rfl dX5_fireAt_27 h (fun v7 h => ?_)
    refine jr_if_ne C 35 31 rfl dX5_fireAt_28 (by decide) (fun c11 => ?_) (fun c11 => ?_)
    · have h := h.1 c11
      refine jr_iconst (v := 3) C 32 rfl dX5_fireAt_31 (by decide) ?_
      refine jr_goto C 51 dX5_fireAt_32 (by decide) ?_
      exact jr_sub [1, 2, 3, 4, 0] rfl (wk_X5_fireAt_51 C hc4 h)
    · have h := h.2 c11
      refine jr_aload_n C 36 rfl dX5_fireAt_35 rfl 1 rfl ?_
      refine jr_getr C 39 rfl fo_8_4 q1281 dX5_fireAt_36 h (fun v8 h => ?_)
      refine jr_iload_n C 40 rfl dX5_fireAt_39 rfl 4 rfl ?_
      refine jr_iald C 41 rfl dX5_fireAt_40 h (fun v9 h => ?_)
      refine jr_iconst (v := 1) C 42 rfl dX5_fireAt_41 (by decide) ?_
      refine jr_icmp_ne C 49 45 rfl dX5_fireAt_42 (by decide) (fun c10 => ?_) (fun c10 => ?_)
      · have h := h.1 c10
        refine jr_iconst (v := 5) C 46 rfl dX5_fireAt_45 (by decide) ?_
        refine jr_goto C 51 dX5_fireAt_46 (by decide) ?_
        exact jr_sub [1, 2, 3, 4, 0] rfl (wk_X5_fireAt_51 C hc4 h)
      · have h := h.2 c10
        refine jr_bipush (v := 9) C 51 rfl dX5_fireAt_49 (by decide) ?_
        exact jr_sub [1, 2, 3, 4, 0] rfl (wk_X5_fireAt_51 C hc4 h)
theorem wk_X5_fireAt_4_L {X : jX} {G : jG} {K : jS → Int32 → Prop} (C : jC (X, G, 6, jA X G tvi K) d_X5_fireAt cX5_fireAt "SamovarModel" (some .int) yX5_fireAt) {x0 : Nat} {x1 : Int32}  : ∀ (n : Nat) (z : jS × Int32 × Int32), jlp n (wp_X5_fireAt_4_L x0 x1 K) z → jJ (X, G, 6, jA X G tvi K) z.1 [(0, .ref x0), (1, .int x1), (2, .int z.2.1), (3, .int z.2.2)] 4 [] := by
  intro n
  induction n with
  | zero => intro z h; exact h.elim
  | succ n ih => intro z h; exact wk_X5_fireAt_4 C ih h
theorem wk_X5_fireAt_0 {X : jX} {G : jG} {K : jS → Int32 → Prop} (C : jC (X, G, 6, jA X G tvi K) d_X5_fireAt cX5_fireAt "SamovarModel" (some .int) yX5_fireAt) {S : jS} {x0 : Nat} {x1 : Int32}  (h : wp_X5_fireAt S x0 x1 K) : jJ (X, G, 6, jA X G tvi K) S [(0, .ref x0), (1, .int x1)] 0 [] := by
  unfold wp_X5_fireAt at h
  refine jr_iconst (v := 0) C 1 rfl dX5_fireAt_0 (by decide) ?_
  refine jr_istore_n (lv' := [(2, .int 0), (0, .ref x0), (1, .int x1)]) C 2 rfl dX5_fireAt_1 rfl (Nat.le_of_ble_eq_true rfl) rfl ?_
  refine jr_iconst (v := 0) C 3 rfl dX5_fireAt_2 (by decide) ?_
  refine jr_istore_n (lv' := [(3, .int 0), (2, .int 0), (0, .ref x0), (1, .int x1)]) C 4 rfl dX5_fireAt_3 rfl (Nat.le_of_ble_eq_true rfl) rfl ?_
  obtain ⟨n, h⟩ := h
  exact jr_sub [2, 3, 1, 0] rfl (wk_X5_fireAt_4_L C  n _ h)
theorem m_X5_fireAt {l : Launch} (hl : l.stackTraces = false) {G : jG} {K : jS → Int32 → Prop} {S : jS} {x0 : Nat} {x1 : Int32} (h : wp_X5_fireAt S x0 x1 K) : jMet l G d_X5_fireAt yX5_fireAt (ws_ yX5_fireAt cX5_fireAt 6 (some .int)) [.ref x0, .int x1] S tvi K :=
  jMet.of hl rfl (by decide) (Nat.le_of_ble_eq_true rfl) (fun X C => jr_sub [0, 1] rfl (wk_X5_fireAt_0 C h))
theorem wk_X5_leaves_17 {X : jX} {G : jG} {K : jS → Unit → Prop} (C : jC (X, G, 3, jA X G tvv K) d_X5_leaves cX5_leaves "SamovarModel" none yX5_leaves) {S : jS} {t0 : Nat} {t1 : Int32} {x0 : Nat} {x2 : Int32} {Kc2 : jS × Int32 → Prop} (hc2 : ∀ z : jS × Int32, Kc2 z → jJ (X, G, 3, jA X G tvv K) z.1 [(0, .ref x0), (2, .int z.2)] 2 []) (h : wp_X5_leaves_17 S t0 t1 x0 x2 Kc2 K) : jJ (X, G, 3, jA X G tvv K) S [(0, .ref x0), (2, .int x2)] 17 [.int t1, .ref t0] := by
  unfold wp_X5_leaves_17 at h
  refine jr_aload_n C 18 rfl dX5_leaves_17 rfl 0 rfl ?_
  refine jr_getr C 21 rfl fo_8_30 q1307 dX5_leaves_18 h (fun v1 h => ?_)
  refine jr_iload_n C 22 rfl dX5_leaves_21 rfl 1 rfl ?_
  refine jr_iconst (v := 1) C 23 rfl dX5_leaves_22 (by decide) ?_
  refine jr_iadd C 24 rfl dX5_leaves_23 ?_
  refine jr_iald C 25 rfl dX5_leaves_24 h (fun v2 h => ?_)
  refine jr_iast C 26 rfl dX5_leaves_25 h (fun S3 h => ?_)
  refine jr_iinc (v := (x2 + 1)) (lv' := [(2, .int (x2 + 1)), (0, .ref x0)]) C 29 rfl dX5_leaves_26 1 rfl rfl (Nat.le_of_ble_eq_true rfl) rfl ?_
  refine jr_goto C 2 dX5_leaves_29 (by decide) ?_
  exact jr_sub [1, 0] rfl (hc2 _ h)
theorem wk_X5_leaves_37 {X : jX} {G : jG} {K : jS → Unit → Prop} (C : jC (X, G, 3, jA X G tvv K) d_X5_leaves cX5_leaves "SamovarModel" none yX5_leaves) {S : jS} {t0 : Nat} {t1 : Int32}  (h : wp_X5_leaves_37 S t0 t1 K) : jJ (X, G, 3, jA X G tvv K) S [] 37 [.int t1, .ref t0] := by
  unfold wp_X5_leaves_37 at h
  refine jr_iconst (v := 1) C 38 rfl dX5_leaves_37 (by decide) ?_
  refine jr_isub C 39 rfl dX5_leaves_38 ?_
  refine jr_putv C 42 rfl fo_8_29 (by decide) q1306 dX5_leaves_39 rfl rfl h (fun S1 h => ?_)
  exact jr_return C dX5_leaves_42 h
theorem wk_X5_leaves_2 {X : jX} {G : jG} {K : jS → Unit → Prop} (C : jC (X, G, 3, jA X G tvv K) d_X5_leaves cX5_leaves "SamovarModel" none yX5_leaves) {S : jS} {x0 : Nat} {x2 : Int32} {Kc2 : jS × Int32 → Prop} (hc2 : ∀ z : jS × Int32, Kc2 z → jJ (X, G, 3, jA X G tvv K) z.1 [(0, .ref x0), (2, .int z.2)] 2 []) (h : wp_X5_leaves_2 S x0 x2 Kc2 K) : jJ (X, G, 3, jA X G tvv K) S [(0, .ref x0), (2, .int x2)] 2 [] := by
  unfold wp_X5_leaves_2 at h
  refine jr_iload_n C 3 rfl dX5_leaves_2 rfl 1 rfl ?_
  refine jr_iconst (v := 1) C 4 rfl dX5_leaves_3 (by decide) ?_
  refine jr_iadd C 5 rfl dX5_leaves_4 ?_
  refine jr_aload_n C 6 rfl dX5_leaves_5 rfl 0 rfl ?_
  refine jr_geti C 9 rfl fo_8_29 q1306 dX5_leaves_6 h (fun v1 h => ?_)
  refine jr_icmp_ge C 32 12 rfl dX5_leaves_9 (by decide) (fun c4 => ?_) (fun c4 => ?_)
  · have h := h.1 c4
    refine jr_aload_n C 33 rfl dX5_leaves_32 rfl 0 rfl ?_
    refine jr_dup C 34 rfl dX5_leaves_33 rfl ?_
    refine jr_geti C 37 rfl fo_8_29 q1306 dX5_leaves_34 h (fun v2 h => ?_)
    exact jr_sub [] rfl (wk_X5_leaves_37 C  h)
  · have h := h.2 c4
    refine jr_aload_n C 13 rfl dX5_leaves_12 rfl 0 rfl ?_
    refine jr_getr C 16 rfl fo_8_30 q1307 dX5_leaves_13 h (fun v3 h => ?_)
    refine jr_iload_n C 17 rfl dX5_leaves_16 rfl 1 rfl ?_
    exact (wk_X5_leaves_17 C hc2 h)
theorem wk_X5_leaves_2_L {X : jX} {G : jG} {K : jS → Unit → Prop} (C : jC (X, G, 3, jA X G tvv K) d_X5_leaves cX5_leaves "SamovarModel" none yX5_leaves) {x0 : Nat}  : ∀ (n : Nat) (z : jS × Int32), jlp n (wp_X5_leaves_2_L x0 K) z → jJ (X, G, 3, jA X G tvv K) z.1 [(0, .ref x0), (2, .int z.2)] 2 [] := by
  intro n
  induction n with
  | zero => intro z h; exact h.elim
  | succ n ih => intro z h; exact wk_X5_leaves_2 C ih h
theorem wk_X5_leaves_0 {X : jX} {G : jG} {K : jS → Unit → Prop} (C : jC (X, G, 3, jA X G tvv K) d_X5_leaves cX5_leaves "SamovarModel" none yX5_leaves) {S : jS} {x0 : Nat} {x1 : Int32}  (h : wp_X5_leaves S x0 x1 K) : jJ (X, G, 3, jA X G tvv K) S [(0, .ref x0), (1, .int x1)] 0 [] := by
  unfold wp_X5_leaves at h
  refine jr_iload_n C 1 rfl dX5_leaves_0 rfl 1 rfl ?_
  refine jr_istore_n (lv' := [(2, .int x1), (0, .ref x0), (1, .int x1)]) C 2 rfl dX5_leaves_1 rfl (Nat.le_of_ble_eq_true rfl) rfl ?_
  obtain ⟨n, h⟩ := h
  exact jr_sub [1, 0] rfl (wk_X5_leaves_2_L C  n _ h)
theorem m_X5_leaves {l : Launch} (hl : l.stackTraces = false) {G : jG} {K : jS → Unit → Prop} {S : jS} {x0 : Nat} {x1 : Int32} (h : wp_X5_leaves S x0 x1 K) : jMet l G d_X5_leaves yX5_leaves (ws_ yX5_leaves cX5_leaves 3 none) [.ref x0, .int x1] S tvv K :=
  jMet.of hl rfl (by decide) (Nat.le_of_ble_eq_true rfl) (fun X C => jr_sub [0, 1] rfl (wk_X5_leaves_0 C h))
theorem wk_X5_goAway_42 {X : jX} {G : jG} {K : jS → Unit → Prop} (C : jC (X, G, 4, jA X G tvv K) d_X5_goAway cX5_goAway "SamovarModel" none yX5_goAway) {S : jS} {x0 : Nat} {x1 : Int32} {x2 : Int32} {Kc7 : jS × Int32 → Prop} (hc7 : ∀ z : jS × Int32, Kc7 z → jJ (X, G, 4, jA X G tvv K) z.1 [(0, .ref x0), (1, .int x1), (2, .int z.2)] 7 []) (h : wp_X5_goAway_42 S x0 x1 x2 Kc7 K) : jJ (X, G, 4, jA X G tvv K) S [(0, .ref x0), (1, .int x1), (2, .int x2)] 42 [] := by
  unfold wp_X5_goAway_42 at h
  refine jr_iinc (v := (x2 + (-1))) (lv' := [(2, .int (x2 + (-1))), (0, .ref x0), (1, .int x1)]) C 45 rfl dX5_goAway_42 2 rfl rfl (Nat.le_of_ble_eq_true rfl) rfl ?_
  refine jr_goto C 7 dX5_goAway_45 (by decide) ?_
  exact jr_sub [1, 2, 0] rfl (hc7 _ h)
theorem wk_X5_goAway_7 {X : jX} {G : jG} {K : jS → Unit → Prop} (C : jC (X, G, 4, jA X G tvv K) d_X5_goAway cX5_goAway "SamovarModel" none yX5_goAway) {S : jS} {x0 : Nat} {x1 : Int32} {x2 : Int32} {Kc7 : jS × Int32 → Prop} (hc7 : ∀ z : jS × Int32, Kc7 z → jJ (X, G, 4, jA X G tvv K) z.1 [(0, .ref x0), (1, .int x1), (2, .int z.2)] 7 []) (h : wp_X5_goAway_7 S x0 x1 x2 Kc7 K) : jJ (X, G, 4, jA X G tvv K) S [(0, .ref x0), (1, .int x1), (2, .int x2)] 7 [] := by
  unfold wp_X5_goAway_7 at h
  refine jr_iload_n C 8 rfl dX5_goAway_7 rfl 2 rfl ?_
  refine jr_if_lt C 48 11 rfl dX5_goAway_8 (by decide) (fun c9 => ?_) (fun c9 => ?_)
  · have h := h.1 c9
    exact jr_return C dX5_goAway_48 h
  · have h := h.2 c9
    refine jr_aload_n C 12 rfl dX5_goAway_11 rfl 0 rfl ?_
    refine jr_getr C 15 rfl fo_8_30 q1307 dX5_goAway_12 h (fun v1 h => ?_)
    refine jr_iload_n C 16 rfl dX5_goAway_15 rfl 2 rfl ?_
    refine jr_iald C 17 rfl dX5_goAway_16 h (fun v2 h => ?_)
    refine jr_istore_n (lv' := [(3, .int v2), (0, .ref x0), (1, .int x1), (2, .int x2)]) C 18 rfl dX5_goAway_17 rfl (Nat.le_of_ble_eq_true rfl) rfl ?_
    refine jr_iload_n C 19 rfl dX5_goAway_18 rfl 2 rfl ?_
    refine jr_aload_n C 20 rfl dX5_goAway_19 rfl 1 rfl ?_
    refine jr_getr C 23 rfl fo_8_34 q1311 dX5_goAway_20 h (fun v3 h => ?_)
    refine jr_iload_n C 24 rfl dX5_goAway_23 rfl 0 rfl ?_
    refine jr_iald C 25 rfl dX5_goAway_24 h (fun v4 h => ?_)
    refine jr_isub C 26 rfl dX5_goAway_25 ?_
    refine jr_iconst (v := 5) C 27 rfl dX5_goAway_26 (by decide) ?_
    refine jr_icmp_lt C 42 30 rfl dX5_goAway_27 (by decide) (fun c8 => ?_) (fun c8 => ?_)
    · have h := h.1 c8
      exact jr_sub [1, 2, 3] rfl (wk_X5_goAway_42 C hc7 h)
    · have h := h.2 c8
      refine jr_aload_n C 31 rfl dX5_goAway_30 rfl 1 rfl ?_
      refine jr_getr C 34 rfl fo_8_31 q1308 dX5_goAway_31 h (fun v5 h => ?_)
      refine jr_iload_n C 35 rfl dX5_goAway_34 rfl 0 rfl ?_
      refine jr_iconst (v := 4) C 36 rfl dX5_goAway_35 (by decide) ?_
      refine jr_iast C 37 rfl dX5_goAway_36 h (fun S6 h => ?_)
      refine jr_aload_n C 38 rfl dX5_goAway_37 rfl 1 rfl ?_
      refine jr_iload_n C 39 rfl dX5_goAway_38 rfl 3 rfl ?_
      obtain ⟨⟨V, hb⟩, h⟩ := h
      refine jr_callVv (r0 := (RX5, TX5, 53)) (As := [.int x2]) (st := []) C 42 rfl (m_X5_leaves C.2.2.2.2.2.2.2.2.2.2.2.2.2.2.2 h) rfl hb rfl q1584 q1586 qs61 q102 q1587 (by decide) (by decide) ndV_X5_leaves (Nat.le_of_ble_eq_true rfl) dX5_goAway_39 (fun S7 _ h => ?_)
      exact jr_sub [1, 2, 3] rfl (wk_X5_goAway_42 C hc7 h)
theorem wk_X5_goAway_7_L {X : jX} {G : jG} {K : jS → Unit → Prop} (C : jC (X, G, 4, jA X G tvv K) d_X5_goAway cX5_goAway "SamovarModel" none yX5_goAway) {x0 : Nat} {x1 : Int32}  : ∀ (n : Nat) (z : jS × Int32), jlp n (wp_X5_goAway_7_L x0 x1 K) z → jJ (X, G, 4, jA X G tvv K) z.1 [(0, .ref x0), (1, .int x1), (2, .int z.2)] 7 [] := by
  intro n
  induction n with
  | zero => intro z h; exact h.elim
  | succ n ih => intro z h; exact wk_X5_goAway_7 C ih h
theorem wk_X5_goAway_0 {X : jX} {G : jG} {K : jS → Unit → Prop} (C : jC (X, G, 4, jA X G tvv K) d_X5_goAway cX5_goAway "SamovarModel" none yX5_goAway) {S : jS} {x0 : Nat} {x1 : Int32}  (h : wp_X5_goAway S x0 x1 K) : jJ (X, G, 4, jA X G tvv K) S [(0, .ref x0), (1, .int x1)] 0 [] := by
  unfold wp_X5_goAway at h
  refine jr_aload_n C 1 rfl dX5_goAway_0 rfl 0 rfl ?_
  refine jr_geti C 4 rfl fo_8_29 q1306 dX5_goAway_1 h (fun v1 h => ?_)
  refine jr_iconst (v := 1) C 5 rfl dX5_goAway_4 (by decide) ?_
  refine jr_isub C 6 rfl dX5_goAway_5 ?_
  refine jr_istore_n (lv' := [(2, .int (v1 - 1)), (0, .ref x0), (1, .int x1)]) C 7 rfl dX5_goAway_6 rfl (Nat.le_of_ble_eq_true rfl) rfl ?_
  obtain ⟨n, h⟩ := h
  exact jr_sub [1, 2, 0] rfl (wk_X5_goAway_7_L C  n _ h)
theorem m_X5_goAway {l : Launch} (hl : l.stackTraces = false) {G : jG} {K : jS → Unit → Prop} {S : jS} {x0 : Nat} {x1 : Int32} (h : wp_X5_goAway S x0 x1 K) : jMet l G d_X5_goAway yX5_goAway (ws_ yX5_goAway cX5_goAway 4 none) [.ref x0, .int x1] S tvv K :=
  jMet.of hl rfl (by decide) (Nat.le_of_ble_eq_true rfl) (fun X C => jr_sub [0, 1] rfl (wk_X5_goAway_0 C h))
theorem wk_X5_serves_121 {X : jX} {G : jG} {K : jS → Int32 → Prop} (C : jC (X, G, 5, jA X G tvi K) d_X5_serves cX5_serves "SamovarModel" (some .int) yX5_serves) {S : jS} {t0 : Nat} {t1 : Int32} {t2 : Int32} {t3 : Int32} {x0 : Nat} {x2 : Int32} {x3 : Int32}  (h : wp_X5_serves_121 S t0 t1 t2 t3 x0 x2 x3 K) : jJ (X, G, 5, jA X G tvi K) S [(0, .ref x0), (2, .int x2), (3, .int x3)] 121 [.int t3, .int t2, .int t1, .ref t0] := by
  unfold wp_X5_serves_121 at h
  refine jr_iadd C 122 rfl dX5_serves_121 ?_
  refine jr_iast C 123 rfl dX5_serves_122 h (fun S1 h => ?_)
  refine jr_aload_n C 124 rfl dX5_serves_123 rfl 0 rfl ?_
  refine jr_iload_n C 125 rfl dX5_serves_124 rfl 1 rfl ?_
  obtain ⟨⟨V, hb⟩, h⟩ := h
  refine jr_callVv (r0 := (RX5, TX5, 53)) (As := [.int x2]) (st := []) C 128 rfl (m_X5_leaves C.2.2.2.2.2.2.2.2.2.2.2.2.2.2.2 h) rfl hb rfl q1584 q1586 qs61 q102 q1587 (by decide) (by decide) ndV_X5_leaves (Nat.le_of_ble_eq_true rfl) dX5_serves_125 (fun S2 _ h => ?_)
  refine jr_iload_n C 129 rfl dX5_serves_128 rfl 2 rfl ?_
  exact jr_ireturn C dX5_serves_129 h
theorem wk_X5_serves_99 {X : jX} {G : jG} {K : jS → Int32 → Prop} (C : jC (X, G, 5, jA X G tvi K) d_X5_serves cX5_serves "SamovarModel" (some .int) yX5_serves) {S : jS} {t0 : Nat} {t1 : Int32} {t2 : Int32} {x0 : Nat} {x1 : Int32} {x2 : Int32} {x3 : Int32}  (h : wp_X5_serves_99 S t0 t1 t2 x0 x1 x2 x3 K) : jJ (X, G, 5, jA X G tvi K) S [(0, .ref x0), (1, .int x1), (2, .int x2), (3, .int x3)] 99 [.int t2, .int t1, .ref t0] := by
  unfold wp_X5_serves_99 at h
  refine jr_iast C 100 rfl dX5_serves_99 h (fun S1 h => ?_)
  refine jr_aload_n C 101 rfl dX5_serves_100 rfl 0 rfl ?_
  refine jr_getr C 104 rfl fo_8_33 q1310 dX5_serves_101 h (fun v2 h => ?_)
  refine jr_iload_n C 105 rfl dX5_serves_104 rfl 3 rfl ?_
  refine jr_iload_n C 106 rfl dX5_serves_105 rfl 1 rfl ?_
  refine jr_aload_n C 107 rfl dX5_serves_106 rfl 0 rfl ?_
  refine jr_getr C 110 rfl fo_8_18 q1295 dX5_serves_107 h (fun v3 h => ?_)
  refine jr_iload_n C 111 rfl dX5_serves_110 rfl 3 rfl ?_
  refine jr_iald C 112 rfl dX5_serves_111 h (fun v4 h => ?_)
  refine jr_iconst (v := 1) C 113 rfl dX5_serves_112 (by decide) ?_
  refine jr_icmp_ne C 120 116 rfl dX5_serves_113 (by decide) (fun c5 => ?_) (fun c5 => ?_)
  · have h := h.1 c5
    refine jr_iconst (v := 4) C 117 rfl dX5_serves_116 (by decide) ?_
    refine jr_goto C 121 dX5_serves_117 (by decide) ?_
    exact jr_sub [0, 2, 3] rfl (wk_X5_serves_121 C  h)
  · have h := h.2 c5
    refine jr_iconst (v := 3) C 121 rfl dX5_serves_120 (by decide) ?_
    exact jr_sub [0, 2, 3] rfl (wk_X5_serves_121 C  h)
theorem wk_X5_serves_32 {X : jX} {G : jG} {K : jS → Int32 → Prop} (C : jC (X, G, 5, jA X G tvi K) d_X5_serves cX5_serves "SamovarModel" (some .int) yX5_serves) {S : jS} {t0 : Int32} {x0 : Nat} {x1 : Int32} {x2 : Int32} {x3 : Int32} {Kc2 : jS × Int32 → Prop} (hc2 : ∀ z : jS × Int32, Kc2 z → jJ (X, G, 5, jA X G tvi K) z.1 [(0, .ref x0), (1, .int x1), (2, .int z.2)] 2 []) (h : wp_X5_serves_32 S t0 x0 x1 x2 x3 Kc2 K) : jJ (X, G, 5, jA X G tvi K) S [(0, .ref x0), (1, .int x1), (2, .int x2), (3, .int x3)] 32 [.int t0] := by
  unfold wp_X5_serves_32 at h
  refine jr_istore (lv' := [(4, .int t0), (0, .ref x0), (1, .int x1), (2, .int x2), (3, .int x3)]) C 34 rfl dX5_serves_32 (Nat.le_of_ble_eq_true rfl) rfl ?_
  refine jr_aload_n C 35 rfl dX5_serves_34 rfl 1 rfl ?_
  refine jr_geti C 38 rfl fo_8_24 q1301 dX5_serves_35 h (fun v1 h => ?_)
  refine jr_iload C 40 rfl dX5_serves_38 0 rfl ?_
  refine jr_icmp_lt C 130 43 rfl dX5_serves_40 (by decide) (fun c15 => ?_) (fun c15 => ?_)
  · have h := h.1 c15
    refine jr_iinc (v := (x2 + 1)) (lv' := [(2, .int (x2 + 1)), (4, .int t0), (0, .ref x0), (1, .int x1), (3, .int x3)]) C 133 rfl dX5_serves_130 3 rfl rfl (Nat.le_of_ble_eq_true rfl) rfl ?_
    refine jr_goto C 2 dX5_serves_133 (by decide) ?_
    exact jr_sub [2, 3, 0] rfl (hc2 _ h)
  · have h := h.2 c15
    refine jr_aload_n C 44 rfl dX5_serves_43 rfl 1 rfl ?_
    refine jr_dup C 45 rfl dX5_serves_44 rfl ?_
    refine jr_geti C 48 rfl fo_8_24 q1301 dX5_serves_45 h (fun v2 h => ?_)
    refine jr_iload C 50 rfl dX5_serves_48 0 rfl ?_
    refine jr_isub C 51 rfl dX5_serves_50 ?_
    refine jr_putv C 54 rfl fo_8_24 (by decide) q1301 dX5_serves_51 rfl rfl h (fun S3 h => ?_)
    refine jr_aload_n C 55 rfl dX5_serves_54 rfl 1 rfl ?_
    refine jr_dup C 56 rfl dX5_serves_55 rfl ?_
    refine jr_geti C 59 rfl fo_8_23 q1300 dX5_serves_56 h (fun v4 h => ?_)
    refine jr_iconst (v := 1) C 60 rfl dX5_serves_59 (by decide) ?_
    refine jr_isub C 61 rfl dX5_serves_60 ?_
    refine jr_putv C 64 rfl fo_8_23 (by decide) q1300 dX5_serves_61 rfl rfl h (fun S5 h => ?_)
    refine jr_aload_n C 65 rfl dX5_serves_64 rfl 1 rfl ?_
    refine jr_getr C 68 rfl fo_8_32 q1309 dX5_serves_65 h (fun v6 h => ?_)
    refine jr_iload_n C 69 rfl dX5_serves_68 rfl 4 rfl ?_
    refine jr_dup2 C 70 rfl dX5_serves_69 rfl rfl ?_
    refine jr_iald C 71 rfl dX5_serves_70 h (fun v7 h => ?_)
    refine jr_iconst (v := 1) C 72 rfl dX5_serves_71 (by decide) ?_
    refine jr_iadd C 73 rfl dX5_serves_72 ?_
    refine jr_iast C 74 rfl dX5_serves_73 h (fun S8 h => ?_)
    refine jr_aload_n C 75 rfl dX5_serves_74 rfl 1 rfl ?_
    refine jr_getr C 78 rfl fo_8_31 q1308 dX5_serves_75 h (fun v9 h => ?_)
    refine jr_iload_n C 79 rfl dX5_serves_78 rfl 4 rfl ?_
    refine jr_aload_n C 80 rfl dX5_serves_79 rfl 1 rfl ?_
    refine jr_getr C 83 rfl fo_8_32 q1309 dX5_serves_80 h (fun v10 h => ?_)
    refine jr_iload_n C 84 rfl dX5_serves_83 rfl 4 rfl ?_
    refine jr_iald C 85 rfl dX5_serves_84 h (fun v11 h => ?_)
    refine jr_aload_n C 86 rfl dX5_serves_85 rfl 1 rfl ?_
    refine jr_getr C 89 rfl fo_8_19 q1296 dX5_serves_86 h (fun v12 h => ?_)
    refine jr_iload_n C 90 rfl dX5_serves_89 rfl 4 rfl ?_
    refine jr_iald C 91 rfl dX5_serves_90 h (fun v13 h => ?_)
    refine jr_icmp_ne C 98 94 rfl dX5_serves_91 (by decide) (fun c14 => ?_) (fun c14 => ?_)
    · have h := h.1 c14
      refine jr_iconst (v := 3) C 95 rfl dX5_serves_94 (by decide) ?_
      refine jr_goto C 99 dX5_serves_95 (by decide) ?_
      exact jr_sub [1, 2, 3, 4] rfl (wk_X5_serves_99 C  h)
    · have h := h.2 c14
      refine jr_iconst (v := 2) C 99 rfl dX5_serves_98 (by decide) ?_
      exact jr_sub [1, 2, 3, 4] rfl (wk_X5_serves_99 C  h)
theorem wk_X5_serves_2 {X : jX} {G : jG} {K : jS → Int32 → Prop} (C : jC (X, G, 5, jA X G tvi K) d_X5_serves cX5_serves "SamovarModel" (some .int) yX5_serves) {S : jS} {x0 : Nat} {x1 : Int32} {x2 : Int32} {Kc2 : jS × Int32 → Prop} (hc2 : ∀ z : jS × Int32, Kc2 z → jJ (X, G, 5, jA X G tvi K) z.1 [(0, .ref x0), (1, .int x1), (2, .int z.2)] 2 []) (h : wp_X5_serves_2 S x0 x1 x2 Kc2 K) : jJ (X, G, 5, jA X G tvi K) S [(0, .ref x0), (1, .int x1), (2, .int x2)] 2 [] := by
  unfold wp_X5_serves_2 at h
  refine jr_iload_n C 3 rfl dX5_serves_2 rfl 2 rfl ?_
  refine jr_aload_n C 4 rfl dX5_serves_3 rfl 0 rfl ?_
  refine jr_geti C 7 rfl fo_8_29 q1306 dX5_serves_4 h (fun v1 h => ?_)
  refine jr_icmp_ge C 136 10 rfl dX5_serves_7 (by decide) (fun c7 => ?_) (fun c7 => ?_)
  · have h := h.1 c7
    refine jr_iconst (v := (-1)) C 137 rfl dX5_serves_136 (by decide) ?_
    exact jr_ireturn C dX5_serves_137 h
  · have h := h.2 c7
    refine jr_aload_n C 11 rfl dX5_serves_10 rfl 0 rfl ?_
    refine jr_getr C 14 rfl fo_8_30 q1307 dX5_serves_11 h (fun v2 h => ?_)
    refine jr_iload_n C 15 rfl dX5_serves_14 rfl 2 rfl ?_
    refine jr_iald C 16 rfl dX5_serves_15 h (fun v3 h => ?_)
    refine jr_istore_n (lv' := [(3, .int v3), (0, .ref x0), (1, .int x1), (2, .int x2)]) C 17 rfl dX5_serves_16 rfl (Nat.le_of_ble_eq_true rfl) rfl ?_
    refine jr_aload_n C 18 rfl dX5_serves_17 rfl 1 rfl ?_
    refine jr_getr C 21 rfl fo_8_18 q1295 dX5_serves_18 h (fun v4 h => ?_)
    refine jr_iload_n C 22 rfl dX5_serves_21 rfl 0 rfl ?_
    refine jr_iald C 23 rfl dX5_serves_22 h (fun v5 h => ?_)
    refine jr_iconst (v := 1) C 24 rfl dX5_serves_23 (by decide) ?_
    refine jr_icmp_ne C 31 27 rfl dX5_serves_24 (by decide) (fun c6 => ?_) (fun c6 => ?_)
    · have h := h.1 c6
      refine jr_iconst (v := 3) C 28 rfl dX5_serves_27 (by decide) ?_
      refine jr_goto C 32 dX5_serves_28 (by decide) ?_
      exact jr_sub [1, 2, 3, 0] rfl (wk_X5_serves_32 C hc2 h)
    · have h := h.2 c6
      refine jr_iconst (v := 1) C 32 rfl dX5_serves_31 (by decide) ?_
      exact jr_sub [1, 2, 3, 0] rfl (wk_X5_serves_32 C hc2 h)
theorem wk_X5_serves_2_L {X : jX} {G : jG} {K : jS → Int32 → Prop} (C : jC (X, G, 5, jA X G tvi K) d_X5_serves cX5_serves "SamovarModel" (some .int) yX5_serves) {x0 : Nat} {x1 : Int32}  : ∀ (n : Nat) (z : jS × Int32), jlp n (wp_X5_serves_2_L x0 x1 K) z → jJ (X, G, 5, jA X G tvi K) z.1 [(0, .ref x0), (1, .int x1), (2, .int z.2)] 2 [] := by
  intro n
  induction n with
  | zero => intro z h; exact h.elim
  | succ n ih => intro z h; exact wk_X5_serves_2 C ih h
theorem wk_X5_serves_0 {X : jX} {G : jG} {K : jS → Int32 → Prop} (C : jC (X, G, 5, jA X G tvi K) d_X5_serves cX5_serves "SamovarModel" (some .int) yX5_serves) {S : jS} {x0 : Nat} {x1 : Int32}  (h : wp_X5_serves S x0 x1 K) : jJ (X, G, 5, jA X G tvi K) S [(0, .ref x0), (1, .int x1)] 0 [] := by
  unfold wp_X5_serves at h
  refine jr_iconst (v := 0) C 1 rfl dX5_serves_0 (by decide) ?_
  refine jr_istore_n (lv' := [(2, .int 0), (0, .ref x0), (1, .int x1)]) C 2 rfl dX5_serves_1 rfl (Nat.le_of_ble_eq_true rfl) rfl ?_
  obtain ⟨n, h⟩ := h
  exact jr_sub [1, 2, 0] rfl (wk_X5_serves_2_L C  n _ h)
theorem m_X5_serves {l : Launch} (hl : l.stackTraces = false) {G : jG} {K : jS → Int32 → Prop} {S : jS} {x0 : Nat} {x1 : Int32} (h : wp_X5_serves S x0 x1 K) : jMet l G d_X5_serves yX5_serves (ws_ yX5_serves cX5_serves 5 (some .int)) [.ref x0, .int x1] S tvi K :=
  jMet.of hl rfl (by decide) (Nat.le_of_ble_eq_true rfl) (fun X C => jr_sub [0, 1] rfl (wk_X5_serves_0 C h))
theorem wk_X5_goesBy_354 {X : jX} {G : jG} {K : jS → Unit → Prop} (C : jC (X, G, 7, jA X G tvv K) d_X5_goesBy cX5_goesBy "SamovarModel" none yX5_goesBy) {S : jS} {t0 : Nat} {t1 : Int32} {t2 : Int32} {t3 : Int32} {x0 : Nat} {x1 : Int32} {x6 : Int32} {Kc283 : jS × Int32 → Prop} (hc283 : ∀ z : jS × Int32, Kc283 z → jJ (X, G, 7, jA X G tvv K) z.1 [(0, .ref x0), (1, .int x1), (6, .int z.2)] 283 []) (h : wp_X5_goesBy_354 S t0 t1 t2 t3 x0 x1 x6 Kc283 K) : jJ (X, G, 7, jA X G tvv K) S [(0, .ref x0), (1, .int x1), (6, .int x6)] 354 [.int t3, .int t2, .int t1, .ref t0] := by
  unfold wp_X5_goesBy_354 at h
  refine jr_iadd C 355 rfl dX5_goesBy_354 ?_
  refine jr_iast C 356 rfl dX5_goesBy_355 h (fun S1 h => ?_)
  refine jr_iinc (v := (x6 + 1)) (lv' := [(6, .int (x6 + 1)), (0, .ref x0), (1, .int x1)]) C 359 rfl dX5_goesBy_356 2 rfl rfl (Nat.le_of_ble_eq_true rfl) rfl ?_
  refine jr_goto C 283 dX5_goesBy_359 (by decide) ?_
  exact jr_sub [1, 2, 0] rfl (hc283 _ h)
theorem wk_X5_goesBy_283 {X : jX} {G : jG} {K : jS → Unit → Prop} (C : jC (X, G, 7, jA X G tvv K) d_X5_goesBy cX5_goesBy "SamovarModel" none yX5_goesBy) {S : jS} {x0 : Nat} {x1 : Int32} {x6 : Int32} {Kc283 : jS × Int32 → Prop} (hc283 : ∀ z : jS × Int32, Kc283 z → jJ (X, G, 7, jA X G tvv K) z.1 [(0, .ref x0), (1, .int x1), (6, .int z.2)] 283 []) (h : wp_X5_goesBy_283 S x0 x1 x6 Kc283 K) : jJ (X, G, 7, jA X G tvv K) S [(0, .ref x0), (1, .int x1), (6, .int x6)] 283 [] := by
  unfold wp_X5_goesBy_283 at h
  refine jr_iload C 285 rfl dX5_goesBy_283 2 rfl ?_
  refine jr_aload_n C 286 rfl dX5_goesBy_285 rfl 0 rfl ?_
  refine jr_geti C 289 rfl fo_8_16 q1293 dX5_goesBy_286 h (fun v1 h => ?_)
  refine jr_icmp_ge C 362 292 rfl dX5_goesBy_289 (by decide) (fun c15 => ?_) (fun c15 => ?_)
  · have h := h.1 c15
    exact jr_return C dX5_goesBy_362 h
  · have h := h.2 c15
    refine jr_aload_n C 293 rfl dX5_goesBy_292 rfl 0 rfl ?_
    refine jr_getr C 296 rfl fo_8_38 q1315 dX5_goesBy_293 h (fun v2 h => ?_)
    refine jr_bipush (v := 8) C 298 rfl dX5_goesBy_296 (by decide) ?_
    refine jr_iload_n C 299 rfl dX5_goesBy_298 rfl 1 rfl ?_
    refine jr_imul C 300 rfl dX5_goesBy_299 ?_
    refine jr_iload C 302 rfl dX5_goesBy_300 2 rfl ?_
    refine jr_iadd C 303 rfl dX5_goesBy_302 ?_
    refine jr_aload_n C 304 rfl dX5_goesBy_303 rfl 0 rfl ?_
    refine jr_getr C 307 rfl fo_8_31 q1308 dX5_goesBy_304 h (fun v3 h => ?_)
    refine jr_iload C 309 rfl dX5_goesBy_307 2 rfl ?_
    refine jr_iald C 310 rfl dX5_goesBy_309 h (fun v4 h => ?_)
    refine jr_iast C 311 rfl dX5_goesBy_310 h (fun S5 h => ?_)
    refine jr_aload_n C 312 rfl dX5_goesBy_311 rfl 0 rfl ?_
    refine jr_getr C 315 rfl fo_8_39 q1316 dX5_goesBy_312 h (fun v6 h => ?_)
    refine jr_bipush (v := 8) C 317 rfl dX5_goesBy_315 (by decide) ?_
    refine jr_iload_n C 318 rfl dX5_goesBy_317 rfl 1 rfl ?_
    refine jr_imul C 319 rfl dX5_goesBy_318 ?_
    refine jr_iload C 321 rfl dX5_goesBy_319 2 rfl ?_
    refine jr_iadd C 322 rfl dX5_goesBy_321 ?_
    refine jr_aload_n C 323 rfl dX5_goesBy_322 rfl 0 rfl ?_
    refine jr_getr C 326 rfl fo_8_32 q1309 dX5_goesBy_323 h (fun v7 h => ?_)
    refine jr_iload C 328 rfl dX5_goesBy_326 2 rfl ?_
    refine jr_iald C 329 rfl dX5_goesBy_328 h (fun v8 h => ?_)
    refine jr_iast C 330 rfl dX5_goesBy_329 h (fun S9 h => ?_)
    refine jr_aload_n C 331 rfl dX5_goesBy_330 rfl 0 rfl ?_
    refine jr_getr C 334 rfl fo_8_35 q1312 dX5_goesBy_331 h (fun v10 h => ?_)
    refine jr_iload C 336 rfl dX5_goesBy_334 2 rfl ?_
    refine jr_dup2 C 337 rfl dX5_goesBy_336 rfl rfl ?_
    refine jr_iald C 338 rfl dX5_goesBy_337 h (fun v11 h => ?_)
    refine jr_aload_n C 339 rfl dX5_goesBy_338 rfl 0 rfl ?_
    refine jr_getr C 342 rfl fo_8_31 q1308 dX5_goesBy_339 h (fun v12 h => ?_)
    refine jr_iload C 344 rfl dX5_goesBy_342 2 rfl ?_
    refine jr_iald C 345 rfl dX5_goesBy_344 h (fun v13 h => ?_)
    refine jr_iconst (v := 1) C 346 rfl dX5_goesBy_345 (by decide) ?_
    refine jr_icmp_ne C 353 349 rfl dX5_goesBy_346 (by decide) (fun c14 => ?_) (fun c14 => ?_)
    · have h := h.1 c14
      refine jr_iconst (v := 1) C 350 rfl dX5_goesBy_349 (by decide) ?_
      refine jr_goto C 354 dX5_goesBy_350 (by decide) ?_
      exact (wk_X5_goesBy_354 C hc283 h)
    · have h := h.2 c14
      refine jr_iconst (v := 0) C 354 rfl dX5_goesBy_353 (by decide) ?_
      exact (wk_X5_goesBy_354 C hc283 h)
theorem wk_X5_goesBy_283_L {X : jX} {G : jG} {K : jS → Unit → Prop} (C : jC (X, G, 7, jA X G tvv K) d_X5_goesBy cX5_goesBy "SamovarModel" none yX5_goesBy) {x0 : Nat} {x1 : Int32}  : ∀ (n : Nat) (z : jS × Int32), jlp n (wp_X5_goesBy_283_L x0 x1 K) z → jJ (X, G, 7, jA X G tvv K) z.1 [(0, .ref x0), (1, .int x1), (6, .int z.2)] 283 [] := by
  intro n
  induction n with
  | zero => intro z h; exact h.elim
  | succ n ih => intro z h; exact wk_X5_goesBy_283 C ih h
theorem wk_X5_goesBy_258 {X : jX} {G : jG} {K : jS → Unit → Prop} (C : jC (X, G, 7, jA X G tvv K) d_X5_goesBy cX5_goesBy "SamovarModel" none yX5_goesBy) {S : jS} {t0 : Nat} {t1 : Int32} {t2 : Int32} {x0 : Nat} {x1 : Int32} {x4 : Int32} {x5 : Int32}  (h : wp_X5_goesBy_258 S t0 t1 t2 x0 x1 x4 x5 K) : jJ (X, G, 7, jA X G tvv K) S [(0, .ref x0), (1, .int x1), (4, .int x4), (5, .int x5)] 258 [.int t2, .int t1, .ref t0] := by
  unfold wp_X5_goesBy_258 at h
  refine jr_iast C 259 rfl dX5_goesBy_258 h (fun S1 h => ?_)
  refine jr_aload_n C 260 rfl dX5_goesBy_259 rfl 0 rfl ?_
  refine jr_getr C 263 rfl fo_8_36 q1313 dX5_goesBy_260 h (fun v2 h => ?_)
  refine jr_iload C 265 rfl dX5_goesBy_263 3 rfl ?_
  refine jr_iconst (v := 5) C 266 rfl dX5_goesBy_265 (by decide) ?_
  refine jr_iadd C 267 rfl dX5_goesBy_266 ?_
  refine jr_iload C 269 rfl dX5_goesBy_267 2 rfl ?_
  refine jr_iast C 270 rfl dX5_goesBy_269 h (fun S3 h => ?_)
  refine jr_aload_n C 271 rfl dX5_goesBy_270 rfl 0 rfl ?_
  refine jr_getr C 274 rfl fo_8_37 q1314 dX5_goesBy_271 h (fun v4 h => ?_)
  refine jr_iload_n C 275 rfl dX5_goesBy_274 rfl 1 rfl ?_
  refine jr_aload_n C 276 rfl dX5_goesBy_275 rfl 0 rfl ?_
  refine jr_geti C 279 rfl fo_8_29 q1306 dX5_goesBy_276 h (fun v5 h => ?_)
  refine jr_iast C 280 rfl dX5_goesBy_279 h (fun S6 h => ?_)
  refine jr_iconst (v := 0) C 281 rfl dX5_goesBy_280 (by decide) ?_
  refine jr_istore (lv' := [(6, .int 0), (0, .ref x0), (1, .int x1), (4, .int x4), (5, .int x5)]) C 283 rfl dX5_goesBy_281 (Nat.le_of_ble_eq_true rfl) rfl ?_
  obtain ⟨n, h⟩ := h
  exact jr_sub [1, 2, 0] rfl (wk_X5_goesBy_283_L C  n _ h)
theorem wk_X5_goesBy_254 {X : jX} {G : jG} {K : jS → Unit → Prop} (C : jC (X, G, 7, jA X G tvv K) d_X5_goesBy cX5_goesBy "SamovarModel" none yX5_goesBy) {S : jS} {t0 : Nat} {t1 : Int32} {t2 : Int32} {x0 : Nat} {x1 : Int32} {x4 : Int32} {x5 : Int32}  (h : wp_X5_goesBy_254 S t0 t1 t2 x0 x1 x4 x5 K) : jJ (X, G, 7, jA X G tvv K) S [(0, .ref x0), (1, .int x1), (4, .int x4), (5, .int x5)] 254 [.int t2, .int t1, .ref t0] := by
  unfold wp_X5_goesBy_254 at h
  refine jr_goto C 258 dX5_goesBy_254 (by decide) ?_
  exact (wk_X5_goesBy_258 C  h)
theorem wk_X5_goesBy_181 {X : jX} {G : jG} {K : jS → Unit → Prop} (C : jC (X, G, 7, jA X G tvv K) d_X5_goesBy cX5_goesBy "SamovarModel" none yX5_goesBy) {S : jS} {t0 : Int32} {x0 : Nat} {x1 : Int32} {x2 : Int32} {x3 : Int32}  (h : wp_X5_goesBy_181 S t0 x0 x1 x2 x3 K) : jJ (X, G, 7, jA X G tvv K) S [(0, .ref x0), (1, .int x1), (2, .int x2), (3, .int x3)] 181 [.int t0] := by
  unfold wp_X5_goesBy_181 at h
  refine jr_istore (lv' := [(4, .int t0), (0, .ref x0), (1, .int x1), (2, .int x2), (3, .int x3)]) C 183 rfl dX5_goesBy_181 (Nat.le_of_ble_eq_true rfl) rfl ?_
  refine jr_aload_n C 184 rfl dX5_goesBy_183 rfl 1 rfl ?_
  refine jr_iload_n C 185 rfl dX5_goesBy_184 rfl 2 rfl ?_
  obtain ⟨⟨V, hb⟩, h⟩ := h
  refine jr_callVv (r0 := (RX5, TX5, 53)) (As := [.int x1]) (st := []) C 188 rfl (m_X5_goAway C.2.2.2.2.2.2.2.2.2.2.2.2.2.2.2 h) rfl hb rfl q1588 q1590 qs62 q102 q1591 (by decide) (by decide) ndV_X5_goAway (Nat.le_of_ble_eq_true rfl) dX5_goesBy_185 (fun S1 _ h => ?_)
  refine jr_bipush (v := 6) C 190 rfl dX5_goesBy_188 (by decide) ?_
  refine jr_iload_n C 191 rfl dX5_goesBy_190 rfl 2 rfl ?_
  refine jr_imul C 192 rfl dX5_goesBy_191 ?_
  refine jr_istore (lv' := [(5, .int (6 * x1)), (4, .int t0), (0, .ref x0), (1, .int x1), (2, .int x2), (3, .int x3)]) C 194 rfl dX5_goesBy_192 (Nat.le_of_ble_eq_true rfl) rfl ?_
  refine jr_aload_n C 195 rfl dX5_goesBy_194 rfl 2 rfl ?_
  refine jr_getr C 198 rfl fo_8_36 q1313 dX5_goesBy_195 h (fun v2 h => ?_)
  refine jr_iload C 200 rfl dX5_goesBy_198 0 rfl ?_
  refine jr_aload_n C 201 rfl dX5_goesBy_200 rfl 2 rfl ?_
  refine jr_geti C 204 rfl fo_8_22 q1299 dX5_goesBy_201 h (fun v3 h => ?_)
  refine jr_iast C 205 rfl dX5_goesBy_204 h (fun S4 h => ?_)
  refine jr_aload_n C 206 rfl dX5_goesBy_205 rfl 2 rfl ?_
  refine jr_getr C 209 rfl fo_8_36 q1313 dX5_goesBy_206 h (fun v5 h => ?_)
  refine jr_iload C 211 rfl dX5_goesBy_209 0 rfl ?_
  refine jr_iconst (v := 1) C 212 rfl dX5_goesBy_211 (by decide) ?_
  refine jr_iadd C 213 rfl dX5_goesBy_212 ?_
  refine jr_aload_n C 214 rfl dX5_goesBy_213 rfl 2 rfl ?_
  refine jr_geti C 217 rfl fo_8_23 q1300 dX5_goesBy_214 h (fun v6 h => ?_)
  refine jr_iast C 218 rfl dX5_goesBy_217 h (fun S7 h => ?_)
  refine jr_aload_n C 219 rfl dX5_goesBy_218 rfl 2 rfl ?_
  refine jr_getr C 222 rfl fo_8_36 q1313 dX5_goesBy_219 h (fun v8 h => ?_)
  refine jr_iload C 224 rfl dX5_goesBy_222 0 rfl ?_
  refine jr_iconst (v := 2) C 225 rfl dX5_goesBy_224 (by decide) ?_
  refine jr_iadd C 226 rfl dX5_goesBy_225 ?_
  refine jr_aload_n C 227 rfl dX5_goesBy_226 rfl 2 rfl ?_
  refine jr_geti C 230 rfl fo_8_24 q1301 dX5_goesBy_227 h (fun v9 h => ?_)
  refine jr_iast C 231 rfl dX5_goesBy_230 h (fun S10 h => ?_)
  refine jr_aload_n C 232 rfl dX5_goesBy_231 rfl 2 rfl ?_
  refine jr_getr C 235 rfl fo_8_36 q1313 dX5_goesBy_232 h (fun v11 h => ?_)
  refine jr_iload C 237 rfl dX5_goesBy_235 0 rfl ?_
  refine jr_iconst (v := 3) C 238 rfl dX5_goesBy_237 (by decide) ?_
  refine jr_iadd C 239 rfl dX5_goesBy_238 ?_
  refine jr_iload_n C 240 rfl dX5_goesBy_239 rfl 4 rfl ?_
  refine jr_iast C 241 rfl dX5_goesBy_240 h (fun S12 h => ?_)
  refine jr_aload_n C 242 rfl dX5_goesBy_241 rfl 2 rfl ?_
  refine jr_getr C 245 rfl fo_8_36 q1313 dX5_goesBy_242 h (fun v13 h => ?_)
  refine jr_iload C 247 rfl dX5_goesBy_245 0 rfl ?_
  refine jr_iconst (v := 4) C 248 rfl dX5_goesBy_247 (by decide) ?_
  refine jr_iadd C 249 rfl dX5_goesBy_248 ?_
  refine jr_iload_n C 250 rfl dX5_goesBy_249 rfl 5 rfl ?_
  refine jr_if_eq C 257 253 rfl dX5_goesBy_250 (by decide) (fun c14 => ?_) (fun c14 => ?_)
  · have h := h.1 c14
    refine jr_iconst (v := 0) C 258 rfl dX5_goesBy_257 (by decide) ?_
    exact jr_sub [2, 3, 1, 0] rfl (wk_X5_goesBy_258 C  h)
  · have h := h.2 c14
    refine jr_iconst (v := 1) C 254 rfl dX5_goesBy_253 (by decide) ?_
    exact jr_sub [2, 3, 1, 0] rfl (wk_X5_goesBy_254 C  h)
theorem wk_X5_goesBy_160 {X : jX} {G : jG} {K : jS → Unit → Prop} (C : jC (X, G, 7, jA X G tvv K) d_X5_goesBy cX5_goesBy "SamovarModel" none yX5_goesBy) {S : jS} {t0 : Nat} {t1 : Int32} {x0 : Nat} {x1 : Int32} {x2 : Int32} {x3 : Int32}  (h : wp_X5_goesBy_160 S t0 t1 x0 x1 x2 x3 K) : jJ (X, G, 7, jA X G tvv K) S [(0, .ref x0), (1, .int x1), (2, .int x2), (3, .int x3)] 160 [.int t1, .ref t0] := by
  unfold wp_X5_goesBy_160 at h
  refine jr_putv C 163 rfl fo_8_28 (by decide) q1305 dX5_goesBy_160 rfl rfl h (fun S1 h => ?_)
  refine jr_aload_n C 164 rfl dX5_goesBy_163 rfl 0 rfl ?_
  refine jr_iload_n C 165 rfl dX5_goesBy_164 rfl 1 rfl ?_
  obtain ⟨⟨V, hb⟩, h⟩ := h
  refine jr_callVv (r0 := (RX5, TX5, 53)) (As := [.int x1]) (st := []) C 168 rfl (m_X5_comes C.2.2.2.2.2.2.2.2.2.2.2.2.2.2.2 h) rfl hb rfl q1572 q1574 qs58 q102 q1575 (by decide) (by decide) ndV_X5_comes (Nat.le_of_ble_eq_true rfl) dX5_goesBy_165 (fun S2 _ h => ?_)
  refine jr_iload_n C 169 rfl dX5_goesBy_168 rfl 3 rfl ?_
  refine jr_if_eq C 180 172 rfl dX5_goesBy_169 (by decide) (fun c5 => ?_) (fun c5 => ?_)
  · have h := h.1 c5
    refine jr_iconst (v := (-1)) C 181 rfl dX5_goesBy_180 (by decide) ?_
    exact (wk_X5_goesBy_181 C  h)
  · have h := h.2 c5
    refine jr_aload_n C 173 rfl dX5_goesBy_172 rfl 0 rfl ?_
    refine jr_iload_n C 174 rfl dX5_goesBy_173 rfl 1 rfl ?_
    obtain ⟨⟨V, hb⟩, h⟩ := h
    refine jr_callVi (r0 := (RX5, TX5, 53)) (As := [.int x1]) (st := []) C 177 rfl (m_X5_serves C.2.2.2.2.2.2.2.2.2.2.2.2.2.2.2 h) rfl hb rfl q1580 q1582 qs60 q102 q1583 (by decide) (by decide) ndV_X5_serves (Nat.le_of_ble_eq_true rfl) dX5_goesBy_174 (fun S3 r4 h => ?_)
    refine jr_goto C 181 dX5_goesBy_177 (by decide) ?_
    exact (wk_X5_goesBy_181 C  h)
theorem wk_X5_goesBy_156 {X : jX} {G : jG} {K : jS → Unit → Prop} (C : jC (X, G, 7, jA X G tvv K) d_X5_goesBy cX5_goesBy "SamovarModel" none yX5_goesBy) {S : jS} {t0 : Nat} {x0 : Nat} {x1 : Int32} {x2 : Int32} {x3 : Int32}  (h : wp_X5_goesBy_156 S t0 x0 x1 x2 x3 K) : jJ (X, G, 7, jA X G tvv K) S [(0, .ref x0), (1, .int x1), (2, .int x2), (3, .int x3)] 156 [.ref t0] := by
  unfold wp_X5_goesBy_156 at h
  refine jr_aload_n C 157 rfl dX5_goesBy_156 rfl 0 rfl ?_
  refine jr_geti C 160 rfl fo_8_28 q1305 dX5_goesBy_157 h (fun v1 h => ?_)
  exact (wk_X5_goesBy_160 C  h)
theorem wk_X5_goesBy_135 {X : jX} {G : jG} {K : jS → Unit → Prop} (C : jC (X, G, 7, jA X G tvv K) d_X5_goesBy cX5_goesBy "SamovarModel" none yX5_goesBy) {S : jS} {t0 : Nat} {t1 : Int32} {t2 : Int32} {x0 : Nat} {x1 : Int32} {x2 : Int32} {x3 : Int32}  (h : wp_X5_goesBy_135 S t0 t1 t2 x0 x1 x2 x3 K) : jJ (X, G, 7, jA X G tvv K) S [(0, .ref x0), (1, .int x1), (2, .int x2), (3, .int x3)] 135 [.int t2, .int t1, .ref t0] := by
  unfold wp_X5_goesBy_135 at h
  refine jr_iadd C 136 rfl dX5_goesBy_135 ?_
  refine jr_putv C 139 rfl fo_8_27 (by decide) q1304 dX5_goesBy_136 rfl rfl h (fun S1 h => ?_)
  refine jr_aload_n C 140 rfl dX5_goesBy_139 rfl 0 rfl ?_
  refine jr_iload_n C 141 rfl dX5_goesBy_140 rfl 3 rfl ?_
  refine jr_if_eq C 156 144 rfl dX5_goesBy_141 (by decide) (fun c4 => ?_) (fun c4 => ?_)
  · have h := h.1 c4
    exact (wk_X5_goesBy_156 C  h)
  · have h := h.2 c4
    refine jr_aload_n C 145 rfl dX5_goesBy_144 rfl 0 rfl ?_
    refine jr_geti C 148 rfl fo_8_28 q1305 dX5_goesBy_145 h (fun v2 h => ?_)
    refine jr_iconst (v := (-1)) C 149 rfl dX5_goesBy_148 (by decide) ?_
    refine jr_icmp_ne C 156 152 rfl dX5_goesBy_149 (by decide) (fun c3 => ?_) (fun c3 => ?_)
    · have h := h.1 c3
      refine jr_iload_n C 153 rfl dX5_goesBy_152 rfl 1 rfl ?_
      refine jr_goto C 160 dX5_goesBy_153 (by decide) ?_
      exact (wk_X5_goesBy_160 C  h)
    · have h := h.2 c3
      exact (wk_X5_goesBy_156 C  h)
theorem wk_X5_goesBy_120 {X : jX} {G : jG} {K : jS → Unit → Prop} (C : jC (X, G, 7, jA X G tvv K) d_X5_goesBy cX5_goesBy "SamovarModel" none yX5_goesBy) {S : jS} {t0 : Int32} {x0 : Nat} {x1 : Int32} {x2 : Int32}  (h : wp_X5_goesBy_120 S t0 x0 x1 x2 K) : jJ (X, G, 7, jA X G tvv K) S [(0, .ref x0), (1, .int x1), (2, .int x2)] 120 [.int t0] := by
  unfold wp_X5_goesBy_120 at h
  refine jr_istore_n (lv' := [(3, .int t0), (0, .ref x0), (1, .int x1), (2, .int x2)]) C 121 rfl dX5_goesBy_120 rfl (Nat.le_of_ble_eq_true rfl) rfl ?_
  refine jr_aload_n C 122 rfl dX5_goesBy_121 rfl 1 rfl ?_
  refine jr_dup C 123 rfl dX5_goesBy_122 rfl ?_
  refine jr_geti C 126 rfl fo_8_27 q1304 dX5_goesBy_123 h (fun v1 h => ?_)
  refine jr_iload_n C 127 rfl dX5_goesBy_126 rfl 0 rfl ?_
  refine jr_if_eq C 134 130 rfl dX5_goesBy_127 (by decide) (fun c2 => ?_) (fun c2 => ?_)
  · have h := h.1 c2
    refine jr_iconst (v := 0) C 135 rfl dX5_goesBy_134 (by decide) ?_
    exact jr_sub [1, 2, 3, 0] rfl (wk_X5_goesBy_135 C  h)
  · have h := h.2 c2
    refine jr_iconst (v := 1) C 131 rfl dX5_goesBy_130 (by decide) ?_
    refine jr_goto C 135 dX5_goesBy_131 (by decide) ?_
    exact jr_sub [1, 2, 3, 0] rfl (wk_X5_goesBy_135 C  h)
theorem wk_X5_goesBy_119 {X : jX} {G : jG} {K : jS → Unit → Prop} (C : jC (X, G, 7, jA X G tvv K) d_X5_goesBy cX5_goesBy "SamovarModel" none yX5_goesBy) {S : jS} {x0 : Nat} {x1 : Int32} {x2 : Int32}  (h : wp_X5_goesBy_119 S x0 x1 x2 K) : jJ (X, G, 7, jA X G tvv K) S [(0, .ref x0), (1, .int x1), (2, .int x2)] 119 [] := by
  unfold wp_X5_goesBy_119 at h
  refine jr_iconst (v := 0) C 120 rfl dX5_goesBy_119 (by decide) ?_
  exact (wk_X5_goesBy_120 C  h)
theorem wk_X5_goesBy_99 {X : jX} {G : jG} {K : jS → Unit → Prop} (C : jC (X, G, 7, jA X G tvv K) d_X5_goesBy cX5_goesBy "SamovarModel" none yX5_goesBy) {S : jS} {x0 : Nat} {x1 : Int32} {x2 : Int32}  (h : wp_X5_goesBy_99 S x0 x1 x2 K) : jJ (X, G, 7, jA X G tvv K) S [(0, .ref x0), (1, .int x1), (2, .int x2)] 99 [] := by
  unfold wp_X5_goesBy_99 at h
  refine jr_aload_n C 100 rfl dX5_goesBy_99 rfl 0 rfl ?_
  refine jr_geti C 103 rfl fo_8_22 q1299 dX5_goesBy_100 h (fun v1 h => ?_)
  refine jr_bipush (v := 80) C 105 rfl dX5_goesBy_103 (by decide) ?_
  refine jr_icmp_lt C 119 108 rfl dX5_goesBy_105 (by decide) (fun c4 => ?_) (fun c4 => ?_)
  · have h := h.1 c4
    exact (wk_X5_goesBy_119 C  h)
  · have h := h.2 c4
    refine jr_aload_n C 109 rfl dX5_goesBy_108 rfl 0 rfl ?_
    refine jr_geti C 112 rfl fo_8_23 q1300 dX5_goesBy_109 h (fun v2 h => ?_)
    refine jr_if_le C 119 115 rfl dX5_goesBy_112 (by decide) (fun c3 => ?_) (fun c3 => ?_)
    · have h := h.1 c3
      exact (wk_X5_goesBy_119 C  h)
    · have h := h.2 c3
      refine jr_iconst (v := 1) C 116 rfl dX5_goesBy_115 (by decide) ?_
      refine jr_goto C 120 dX5_goesBy_116 (by decide) ?_
      exact (wk_X5_goesBy_120 C  h)
theorem wk_X5_goesBy_60 {X : jX} {G : jG} {K : jS → Unit → Prop} (C : jC (X, G, 7, jA X G tvv K) d_X5_goesBy cX5_goesBy "SamovarModel" none yX5_goesBy) {S : jS} {t0 : Nat} {t1 : Int32} {x0 : Nat} {x1 : Int32} {x2 : Int32}  (h : wp_X5_goesBy_60 S t0 t1 x0 x1 x2 K) : jJ (X, G, 7, jA X G tvv K) S [(0, .ref x0), (1, .int x1), (2, .int x2)] 60 [.int t1, .ref t0] := by
  unfold wp_X5_goesBy_60 at h
  refine jr_putv C 63 rfl fo_8_22 (by decide) q1299 dX5_goesBy_60 rfl rfl h (fun S1 h => ?_)
  refine jr_aload_n C 64 rfl dX5_goesBy_63 rfl 0 rfl ?_
  refine jr_geti C 67 rfl fo_8_22 q1299 dX5_goesBy_64 h (fun v2 h => ?_)
  refine jr_bipush (v := 100) C 69 rfl dX5_goesBy_67 (by decide) ?_
  refine jr_icmp_ne C 99 72 rfl dX5_goesBy_69 (by decide) (fun c9 => ?_) (fun c9 => ?_)
  · have h := h.1 c9
    refine jr_aload_n C 73 rfl dX5_goesBy_72 rfl 0 rfl ?_
    refine jr_geti C 76 rfl fo_8_23 q1300 dX5_goesBy_73 h (fun v3 h => ?_)
    refine jr_if_le C 99 79 rfl dX5_goesBy_76 (by decide) (fun c8 => ?_) (fun c8 => ?_)
    · have h := h.1 c8
      exact (wk_X5_goesBy_99 C  h)
    · have h := h.2 c8
      refine jr_aload_n C 80 rfl dX5_goesBy_79 rfl 0 rfl ?_
      refine jr_dup C 81 rfl dX5_goesBy_80 rfl ?_
      refine jr_geti C 84 rfl fo_8_23 q1300 dX5_goesBy_81 h (fun v4 h => ?_)
      refine jr_iconst (v := 1) C 85 rfl dX5_goesBy_84 (by decide) ?_
      refine jr_isub C 86 rfl dX5_goesBy_85 ?_
      refine jr_putv C 89 rfl fo_8_23 (by decide) q1300 dX5_goesBy_86 rfl rfl h (fun S5 h => ?_)
      refine jr_aload_n C 90 rfl dX5_goesBy_89 rfl 0 rfl ?_
      refine jr_dup C 91 rfl dX5_goesBy_90 rfl ?_
      refine jr_geti C 94 rfl fo_8_26 q1303 dX5_goesBy_91 h (fun v6 h => ?_)
      refine jr_iconst (v := 1) C 95 rfl dX5_goesBy_94 (by decide) ?_
      refine jr_iadd C 96 rfl dX5_goesBy_95 ?_
      refine jr_putv C 99 rfl fo_8_26 (by decide) q1303 dX5_goesBy_96 rfl rfl h (fun S7 h => ?_)
      exact (wk_X5_goesBy_99 C  h)
  · have h := h.2 c9
    exact (wk_X5_goesBy_99 C  h)
theorem wk_X5_goesBy_0 {X : jX} {G : jG} {K : jS → Unit → Prop} (C : jC (X, G, 7, jA X G tvv K) d_X5_goesBy cX5_goesBy "SamovarModel" none yX5_goesBy) {S : jS} {x0 : Nat} {x1 : Int32}  (h : wp_X5_goesBy S x0 x1 K) : jJ (X, G, 7, jA X G tvv K) S [(0, .ref x0), (1, .int x1)] 0 [] := by
  unfold wp_X5_goesBy at h
  refine jr_aload_n C 1 rfl dX5_goesBy_0 rfl 0 rfl ?_
  refine jr_iload_n C 2 rfl dX5_goesBy_1 rfl 1 rfl ?_
  obtain ⟨⟨V, hb⟩, h⟩ := h
  refine jr_callVv (r0 := (RX5, TX5, 53)) (As := [.int x1]) (st := []) C 5 rfl (m_X5_befalls C.2.2.2.2.2.2.2.2.2.2.2.2.2.2.2 h) rfl hb rfl q1558 q1560 qs56 q102 q1561 (by decide) (by decide) ndV_X5_befalls (Nat.le_of_ble_eq_true rfl) dX5_goesBy_2 (fun S1 _ h => ?_)
  refine jr_aload_n C 6 rfl dX5_goesBy_5 rfl 0 rfl ?_
  refine jr_iload_n C 7 rfl dX5_goesBy_6 rfl 1 rfl ?_
  obtain ⟨⟨V, hb⟩, h⟩ := h
  refine jr_callVi (r0 := (RX5, TX5, 53)) (As := [.int x1]) (st := []) C 10 rfl (m_X5_fireAt C.2.2.2.2.2.2.2.2.2.2.2.2.2.2.2 h) rfl hb rfl q1568 q1570 qs57 q102 q1571 (by decide) (by decide) ndV_X5_fireAt (Nat.le_of_ble_eq_true rfl) dX5_goesBy_7 (fun S2 r3 h => ?_)
  refine jr_istore_n (lv' := [(2, .int r3), (0, .ref x0), (1, .int x1)]) C 11 rfl dX5_goesBy_10 rfl (Nat.le_of_ble_eq_true rfl) rfl ?_
  refine jr_aload_n C 12 rfl dX5_goesBy_11 rfl 1 rfl ?_
  refine jr_dup C 13 rfl dX5_goesBy_12 rfl ?_
  refine jr_geti C 16 rfl fo_8_22 q1299 dX5_goesBy_13 h (fun v4 h => ?_)
  refine jr_iload_n C 17 rfl dX5_goesBy_16 rfl 0 rfl ?_
  refine jr_iconst (v := 2) C 18 rfl dX5_goesBy_17 (by decide) ?_
  refine jr_isub C 19 rfl dX5_goesBy_18 ?_
  refine jr_aload_n C 20 rfl dX5_goesBy_19 rfl 1 rfl ?_
  refine jr_geti C 23 rfl fo_8_23 q1300 dX5_goesBy_20 h (fun v5 h => ?_)
  refine jr_iconst (v := 5) C 24 rfl dX5_goesBy_23 (by decide) ?_
  obtain ⟨hz, h⟩ := h
  refine jr_idiv C 25 rfl dX5_goesBy_24 hz ?_
  refine jr_isub C 26 rfl dX5_goesBy_25 ?_
  refine jr_iadd C 27 rfl dX5_goesBy_26 ?_
  refine jr_putv C 30 rfl fo_8_22 (by decide) q1299 dX5_goesBy_27 rfl rfl h (fun S6 h => ?_)
  refine jr_aload_n C 31 rfl dX5_goesBy_30 rfl 1 rfl ?_
  refine jr_aload_n C 32 rfl dX5_goesBy_31 rfl 1 rfl ?_
  refine jr_geti C 35 rfl fo_8_22 q1299 dX5_goesBy_32 h (fun v7 h => ?_)
  refine jr_if_ge C 42 38 rfl dX5_goesBy_35 (by decide) (fun c11 => ?_) (fun c11 => ?_)
  · have h := h.1 c11
    refine jr_aload_n C 43 rfl dX5_goesBy_42 rfl 1 rfl ?_
    refine jr_geti C 46 rfl fo_8_22 q1299 dX5_goesBy_43 h (fun v8 h => ?_)
    refine jr_bipush (v := 100) C 48 rfl dX5_goesBy_46 (by decide) ?_
    refine jr_icmp_le C 56 51 rfl dX5_goesBy_48 (by decide) (fun c10 => ?_) (fun c10 => ?_)
    · have h := h.1 c10
      refine jr_aload_n C 57 rfl dX5_goesBy_56 rfl 1 rfl ?_
      refine jr_geti C 60 rfl fo_8_22 q1299 dX5_goesBy_57 h (fun v9 h => ?_)
      exact jr_sub [1, 2, 0] rfl (wk_X5_goesBy_60 C  h)
    · have h := h.2 c10
      refine jr_bipush (v := 100) C 53 rfl dX5_goesBy_51 (by decide) ?_
      refine jr_goto C 60 dX5_goesBy_53 (by decide) ?_
      exact jr_sub [1, 2, 0] rfl (wk_X5_goesBy_60 C  h)
  · have h := h.2 c11
    refine jr_iconst (v := 0) C 39 rfl dX5_goesBy_38 (by decide) ?_
    refine jr_goto C 60 dX5_goesBy_39 (by decide) ?_
    exact jr_sub [1, 2, 0] rfl (wk_X5_goesBy_60 C  h)
theorem m_X5_goesBy {l : Launch} (hl : l.stackTraces = false) {G : jG} {K : jS → Unit → Prop} {S : jS} {x0 : Nat} {x1 : Int32} (h : wp_X5_goesBy S x0 x1 K) : jMet l G d_X5_goesBy yX5_goesBy (ws_ yX5_goesBy cX5_goesBy 7 none) [.ref x0, .int x1] S tvv K :=
  jMet.of hl rfl (by decide) (Nat.le_of_ble_eq_true rfl) (fun X C => jr_sub [0, 1] rfl (wk_X5_goesBy_0 C h))
theorem wk_X5_runs_67 {X : jX} {G : jG} {K : jS → Unit → Prop} (C : jC (X, G, 2, jA X G tvv K) d_X5_runs cX5_runs "SamovarModel" none yX5_runs) {S : jS} {t0 : Nat} {x0 : Nat} {x1 : Int32} {Kc43 : jS × Int32 → Prop} (hc43 : ∀ z : jS × Int32, Kc43 z → jJ (X, G, 2, jA X G tvv K) z.1 [(0, .ref x0), (1, .int z.2)] 43 []) (h : wp_X5_runs_67 S t0 x0 x1 Kc43 K) : jJ (X, G, 2, jA X G tvv K) S [(0, .ref x0), (1, .int x1)] 67 [.ref t0] := by
  unfold wp_X5_runs_67 at h
  refine jr_iload_n C 68 rfl dX5_runs_67 rfl 1 rfl ?_
  refine jr_iconst (v := (-1)) C 69 rfl dX5_runs_68 (by decide) ?_
  refine jr_iast C 70 rfl dX5_runs_69 h (fun S1 h => ?_)
  refine jr_aload_n C 71 rfl dX5_runs_70 rfl 0 rfl ?_
  refine jr_getr C 74 rfl fo_8_34 q1311 dX5_runs_71 h (fun v2 h => ?_)
  refine jr_iload_n C 75 rfl dX5_runs_74 rfl 1 rfl ?_
  refine jr_iconst (v := 0) C 76 rfl dX5_runs_75 (by decide) ?_
  refine jr_iast C 77 rfl dX5_runs_76 h (fun S3 h => ?_)
  refine jr_aload_n C 78 rfl dX5_runs_77 rfl 0 rfl ?_
  refine jr_getr C 81 rfl fo_8_35 q1312 dX5_runs_78 h (fun v4 h => ?_)
  refine jr_iload_n C 82 rfl dX5_runs_81 rfl 1 rfl ?_
  refine jr_iconst (v := 0) C 83 rfl dX5_runs_82 (by decide) ?_
  refine jr_iast C 84 rfl dX5_runs_83 h (fun S5 h => ?_)
  refine jr_iinc (v := (x1 + 1)) (lv' := [(1, .int (x1 + 1)), (0, .ref x0)]) C 87 rfl dX5_runs_84 1 rfl rfl (Nat.le_of_ble_eq_true rfl) rfl ?_
  refine jr_goto C 43 dX5_runs_87 (by decide) ?_
  exact jr_sub [1, 0] rfl (hc43 _ h)
theorem wk_X5_runs_100 {X : jX} {G : jG} {K : jS → Unit → Prop} (C : jC (X, G, 2, jA X G tvv K) d_X5_runs cX5_runs "SamovarModel" none yX5_runs) {S : jS} {t0 : Nat} {t1 : Int32} {x0 : Nat} {x1 : Int32} {Kc92 : jS × Int32 → Prop} (hc92 : ∀ z : jS × Int32, Kc92 z → jJ (X, G, 2, jA X G tvv K) z.1 [(0, .ref x0), (1, .int z.2)] 92 []) (h : wp_X5_runs_100 S t0 t1 x0 x1 Kc92 K) : jJ (X, G, 2, jA X G tvv K) S [(0, .ref x0), (1, .int x1)] 100 [.int t1, .ref t0] := by
  unfold wp_X5_runs_100 at h
  obtain ⟨⟨V, hb⟩, h⟩ := h
  refine jr_callVv (r0 := (RX5, TX5, 53)) (As := [.int t1]) (st := []) C 103 rfl (m_X5_goesBy C.2.2.2.2.2.2.2.2.2.2.2.2.2.2.2 h) rfl hb rfl q1554 q1556 qs55 q102 q1557 (by decide) (by decide) ndV_X5_goesBy (Nat.le_of_ble_eq_true rfl) dX5_runs_100 (fun S1 _ h => ?_)
  refine jr_iinc (v := (x1 + 1)) (lv' := [(1, .int (x1 + 1)), (0, .ref x0)]) C 106 rfl dX5_runs_103 1 rfl rfl (Nat.le_of_ble_eq_true rfl) rfl ?_
  refine jr_goto C 92 dX5_runs_106 (by decide) ?_
  exact jr_sub [1, 0] rfl (hc92 _ h)
theorem wk_X5_runs_92 {X : jX} {G : jG} {K : jS → Unit → Prop} (C : jC (X, G, 2, jA X G tvv K) d_X5_runs cX5_runs "SamovarModel" none yX5_runs) {S : jS} {x0 : Nat} {x1 : Int32} {Kc92 : jS × Int32 → Prop} (hc92 : ∀ z : jS × Int32, Kc92 z → jJ (X, G, 2, jA X G tvv K) z.1 [(0, .ref x0), (1, .int z.2)] 92 []) (h : wp_X5_runs_92 S x0 x1 Kc92 K) : jJ (X, G, 2, jA X G tvv K) S [(0, .ref x0), (1, .int x1)] 92 [] := by
  unfold wp_X5_runs_92 at h
  refine jr_iload_n C 93 rfl dX5_runs_92 rfl 1 rfl ?_
  refine jr_bipush (v := 24) C 95 rfl dX5_runs_93 (by decide) ?_
  refine jr_icmp_ge C 109 98 rfl dX5_runs_95 (by decide) (fun c1 => ?_) (fun c1 => ?_)
  · have h := h.1 c1
    exact jr_return C dX5_runs_109 h
  · have h := h.2 c1
    refine jr_aload_n C 99 rfl dX5_runs_98 rfl 0 rfl ?_
    refine jr_iload_n C 100 rfl dX5_runs_99 rfl 1 rfl ?_
    exact (wk_X5_runs_100 C hc92 h)
theorem wk_X5_runs_92_L {X : jX} {G : jG} {K : jS → Unit → Prop} (C : jC (X, G, 2, jA X G tvv K) d_X5_runs cX5_runs "SamovarModel" none yX5_runs) {x0 : Nat}  : ∀ (n : Nat) (z : jS × Int32), jlp n (wp_X5_runs_92_L x0 K) z → jJ (X, G, 2, jA X G tvv K) z.1 [(0, .ref x0), (1, .int z.2)] 92 [] := by
  intro n
  induction n with
  | zero => intro z h; exact h.elim
  | succ n ih => intro z h; exact wk_X5_runs_92 C ih h
theorem wk_X5_runs_43 {X : jX} {G : jG} {K : jS → Unit → Prop} (C : jC (X, G, 2, jA X G tvv K) d_X5_runs cX5_runs "SamovarModel" none yX5_runs) {S : jS} {x0 : Nat} {x1 : Int32} {Kc43 : jS × Int32 → Prop} (hc43 : ∀ z : jS × Int32, Kc43 z → jJ (X, G, 2, jA X G tvv K) z.1 [(0, .ref x0), (1, .int z.2)] 43 []) (h : wp_X5_runs_43 S x0 x1 Kc43 K) : jJ (X, G, 2, jA X G tvv K) S [(0, .ref x0), (1, .int x1)] 43 [] := by
  unfold wp_X5_runs_43 at h
  refine jr_iload_n C 44 rfl dX5_runs_43 rfl 1 rfl ?_
  refine jr_bipush (v := 8) C 46 rfl dX5_runs_44 (by decide) ?_
  refine jr_icmp_ge C 90 49 rfl dX5_runs_46 (by decide) (fun c6 => ?_) (fun c6 => ?_)
  · have h := h.1 c6
    refine jr_iconst (v := 0) C 91 rfl dX5_runs_90 (by decide) ?_
    refine jr_istore_n (lv' := [(1, .int 0), (0, .ref x0)]) C 92 rfl dX5_runs_91 rfl (Nat.le_of_ble_eq_true rfl) rfl ?_
    obtain ⟨n, h⟩ := h
    exact jr_sub [1, 0] rfl (wk_X5_runs_92_L C  n _ h)
  · have h := h.2 c6
    refine jr_aload_n C 50 rfl dX5_runs_49 rfl 0 rfl ?_
    refine jr_getr C 53 rfl fo_8_31 q1308 dX5_runs_50 h (fun v1 h => ?_)
    refine jr_iload_n C 54 rfl dX5_runs_53 rfl 1 rfl ?_
    refine jr_iconst (v := 0) C 55 rfl dX5_runs_54 (by decide) ?_
    refine jr_iast C 56 rfl dX5_runs_55 h (fun S2 h => ?_)
    refine jr_aload_n C 57 rfl dX5_runs_56 rfl 0 rfl ?_
    refine jr_getr C 60 rfl fo_8_32 q1309 dX5_runs_57 h (fun v3 h => ?_)
    refine jr_iload_n C 61 rfl dX5_runs_60 rfl 1 rfl ?_
    refine jr_iconst (v := 0) C 62 rfl dX5_runs_61 (by decide) ?_
    refine jr_iast C 63 rfl dX5_runs_62 h (fun S4 h => ?_)
    refine jr_aload_n C 64 rfl dX5_runs_63 rfl 0 rfl ?_
    refine jr_getr C 67 rfl fo_8_33 q1310 dX5_runs_64 h (fun v5 h => ?_)
    exact (wk_X5_runs_67 C hc43 h)
theorem wk_X5_runs_43_L {X : jX} {G : jG} {K : jS → Unit → Prop} (C : jC (X, G, 2, jA X G tvv K) d_X5_runs cX5_runs "SamovarModel" none yX5_runs) {x0 : Nat}  : ∀ (n : Nat) (z : jS × Int32), jlp n (wp_X5_runs_43_L x0 K) z → jJ (X, G, 2, jA X G tvv K) z.1 [(0, .ref x0), (1, .int z.2)] 43 [] := by
  intro n
  induction n with
  | zero => intro z h; exact h.elim
  | succ n ih => intro z h; exact wk_X5_runs_43 C ih h
theorem wk_X5_runs_0 {X : jX} {G : jG} {K : jS → Unit → Prop} (C : jC (X, G, 2, jA X G tvv K) d_X5_runs cX5_runs "SamovarModel" none yX5_runs) {S : jS} {x0 : Nat}  (h : wp_X5_runs S x0 K) : jJ (X, G, 2, jA X G tvv K) S [(0, .ref x0)] 0 [] := by
  unfold wp_X5_runs at h
  refine jr_aload_n C 1 rfl dX5_runs_0 rfl 0 rfl ?_
  refine jr_iconst (v := 0) C 2 rfl dX5_runs_1 (by decide) ?_
  refine jr_putv C 5 rfl fo_8_22 (by decide) q1299 dX5_runs_2 rfl rfl h (fun S1 h => ?_)
  refine jr_aload_n C 6 rfl dX5_runs_5 rfl 0 rfl ?_
  refine jr_aload_n C 7 rfl dX5_runs_6 rfl 0 rfl ?_
  refine jr_geti C 10 rfl fo_8_20 q1297 dX5_runs_7 h (fun v2 h => ?_)
  refine jr_putv C 13 rfl fo_8_23 (by decide) q1300 dX5_runs_10 rfl rfl h (fun S3 h => ?_)
  refine jr_aload_n C 14 rfl dX5_runs_13 rfl 0 rfl ?_
  refine jr_aload_n C 15 rfl dX5_runs_14 rfl 0 rfl ?_
  refine jr_geti C 18 rfl fo_8_11 q1288 dX5_runs_15 h (fun v4 h => ?_)
  refine jr_putv C 21 rfl fo_8_24 (by decide) q1301 dX5_runs_18 rfl rfl h (fun S5 h => ?_)
  refine jr_aload_n C 22 rfl dX5_runs_21 rfl 0 rfl ?_
  refine jr_iconst (v := 0) C 23 rfl dX5_runs_22 (by decide) ?_
  refine jr_putv C 26 rfl fo_8_26 (by decide) q1303 dX5_runs_23 rfl rfl h (fun S6 h => ?_)
  refine jr_aload_n C 27 rfl dX5_runs_26 rfl 0 rfl ?_
  refine jr_iconst (v := 0) C 28 rfl dX5_runs_27 (by decide) ?_
  refine jr_putv C 31 rfl fo_8_27 (by decide) q1304 dX5_runs_28 rfl rfl h (fun S7 h => ?_)
  refine jr_aload_n C 32 rfl dX5_runs_31 rfl 0 rfl ?_
  refine jr_iconst (v := (-1)) C 33 rfl dX5_runs_32 (by decide) ?_
  refine jr_putv C 36 rfl fo_8_28 (by decide) q1305 dX5_runs_33 rfl rfl h (fun S8 h => ?_)
  refine jr_aload_n C 37 rfl dX5_runs_36 rfl 0 rfl ?_
  refine jr_iconst (v := 0) C 38 rfl dX5_runs_37 (by decide) ?_
  refine jr_putv C 41 rfl fo_8_29 (by decide) q1306 dX5_runs_38 rfl rfl h (fun S9 h => ?_)
  refine jr_iconst (v := 0) C 42 rfl dX5_runs_41 (by decide) ?_
  refine jr_istore_n (lv' := [(1, .int 0), (0, .ref x0)]) C 43 rfl dX5_runs_42 rfl (Nat.le_of_ble_eq_true rfl) rfl ?_
  obtain ⟨n, h⟩ := h
  exact jr_sub [1, 0] rfl (wk_X5_runs_43_L C  n _ h)
theorem m_X5_runs {l : Launch} (hl : l.stackTraces = false) {G : jG} {K : jS → Unit → Prop} {S : jS} {x0 : Nat} (h : wp_X5_runs S x0 K) : jMet l G d_X5_runs yX5_runs (ws_ yX5_runs cX5_runs 2 none) [.ref x0] S tvv K :=
  jMet.of hl rfl (by decide) (Nat.le_of_ble_eq_true rfl) (fun X C => jr_sub [0] rfl (wk_X5_runs_0 C h))
theorem wk_X5_isSeen_50 {X : jX} {G : jG} {K : jS → Int32 → Prop} (C : jC (X, G, 3, jA X G tvi K) d_X5_isSeen cX5_isSeen "SamovarModel" (some .boolean) yX5_isSeen) {S : jS} {t0 : Int32} {x0 : Nat} {x2 : Int32} {Kc8 : jS × Int32 × Int32 → Prop} (hc8 : ∀ z : jS × Int32 × Int32, Kc8 z → jJ (X, G, 3, jA X G tvi K) z.1 [(0, .ref x0), (1, .int z.2.1), (2, .int z.2.2)] 8 []) (h : wp_X5_isSeen_50 S t0 x0 x2 Kc8 K) : jJ (X, G, 3, jA X G tvi K) S [(0, .ref x0), (2, .int x2)] 50 [.int t0] := by
  unfold wp_X5_isSeen_50 at h
  refine jr_istore_n (lv' := [(1, .int t0), (0, .ref x0), (2, .int x2)]) C 51 rfl dX5_isSeen_50 rfl (Nat.le_of_ble_eq_true rfl) rfl ?_
  refine jr_iinc (v := (x2 + 1)) (lv' := [(2, .int (x2 + 1)), (1, .int t0), (0, .ref x0)]) C 54 rfl dX5_isSeen_51 2 rfl rfl (Nat.le_of_ble_eq_true rfl) rfl ?_
  refine jr_goto C 8 dX5_isSeen_54 (by decide) ?_
  exact jr_sub [2, 1, 0] rfl (hc8 _ h)
theorem wk_X5_isSeen_57 {X : jX} {G : jG} {K : jS → Int32 → Prop} (C : jC (X, G, 3, jA X G tvi K) d_X5_isSeen cX5_isSeen "SamovarModel" (some .boolean) yX5_isSeen) {S : jS} {x1 : Int32}  (h : wp_X5_isSeen_57 S x1 K) : jJ (X, G, 3, jA X G tvi K) S [(1, .int x1)] 57 [] := by
  unfold wp_X5_isSeen_57 at h
  refine jr_iload_n C 58 rfl dX5_isSeen_57 rfl 0 rfl ?_
  exact jr_zreturn C dX5_isSeen_58 h
theorem wk_X5_isSeen_8 {X : jX} {G : jG} {K : jS → Int32 → Prop} (C : jC (X, G, 3, jA X G tvi K) d_X5_isSeen cX5_isSeen "SamovarModel" (some .boolean) yX5_isSeen) {S : jS} {x0 : Nat} {x1 : Int32} {x2 : Int32} {Kc8 : jS × Int32 × Int32 → Prop} (hc8 : ∀ z : jS × Int32 × Int32, Kc8 z → jJ (X, G, 3, jA X G tvi K) z.1 [(0, .ref x0), (1, .int z.2.1), (2, .int z.2.2)] 8 []) (h : wp_X5_isSeen_8 S x0 x1 x2 Kc8 K) : jJ (X, G, 3, jA X G tvi K) S [(0, .ref x0), (1, .int x1), (2, .int x2)] 8 [] := by
  unfold wp_X5_isSeen_8 at h
  refine jr_iload_n C 9 rfl dX5_isSeen_8 rfl 2 rfl ?_
  refine jr_aload_n C 10 rfl dX5_isSeen_9 rfl 0 rfl ?_
  refine jr_geti C 13 rfl fo_8_43 q1320 dX5_isSeen_10 h (fun v1 h => ?_)
  refine jr_icmp_ge C 57 16 rfl dX5_isSeen_13 (by decide) (fun c10 => ?_) (fun c10 => ?_)
  · have h := h.1 c10
    exact jr_sub [1] rfl (wk_X5_isSeen_57 C  h)
  · have h := h.2 c10
    refine jr_iload_n C 17 rfl dX5_isSeen_16 rfl 1 rfl ?_
    refine jr_if_eq C 57 20 rfl dX5_isSeen_17 (by decide) (fun c9 => ?_) (fun c9 => ?_)
    · have h := h.1 c9
      exact jr_sub [1] rfl (wk_X5_isSeen_57 C  h)
    · have h := h.2 c9
      refine jr_aload_n C 21 rfl dX5_isSeen_20 rfl 0 rfl ?_
      refine jr_getr C 24 rfl fo_8_36 q1313 dX5_isSeen_21 h (fun v2 h => ?_)
      refine jr_bipush (v := 6) C 26 rfl dX5_isSeen_24 (by decide) ?_
      refine jr_aload_n C 27 rfl dX5_isSeen_26 rfl 0 rfl ?_
      refine jr_getr C 30 rfl fo_8_44 q1321 dX5_isSeen_27 h (fun v3 h => ?_)
      refine jr_iload_n C 31 rfl dX5_isSeen_30 rfl 2 rfl ?_
      refine jr_iald C 32 rfl dX5_isSeen_31 h (fun v4 h => ?_)
      refine jr_imul C 33 rfl dX5_isSeen_32 ?_
      refine jr_iconst (v := 4) C 34 rfl dX5_isSeen_33 (by decide) ?_
      refine jr_iadd C 35 rfl dX5_isSeen_34 ?_
      refine jr_iald C 36 rfl dX5_isSeen_35 h (fun v5 h => ?_)
      refine jr_aload_n C 37 rfl dX5_isSeen_36 rfl 0 rfl ?_
      refine jr_getr C 40 rfl fo_8_45 q1322 dX5_isSeen_37 h (fun v6 h => ?_)
      refine jr_iload_n C 41 rfl dX5_isSeen_40 rfl 2 rfl ?_
      refine jr_iald C 42 rfl dX5_isSeen_41 h (fun v7 h => ?_)
      refine jr_icmp_ne C 49 45 rfl dX5_isSeen_42 (by decide) (fun c8 => ?_) (fun c8 => ?_)
      · have h := h.1 c8
        refine jr_iconst (v := 1) C 46 rfl dX5_isSeen_45 (by decide) ?_
        refine jr_goto C 50 dX5_isSeen_46 (by decide) ?_
        exact jr_sub [0, 2] rfl (wk_X5_isSeen_50 C hc8 h)
      · have h := h.2 c8
        refine jr_iconst (v := 0) C 50 rfl dX5_isSeen_49 (by decide) ?_
        exact jr_sub [0, 2] rfl (wk_X5_isSeen_50 C hc8 h)
theorem wk_X5_isSeen_8_L {X : jX} {G : jG} {K : jS → Int32 → Prop} (C : jC (X, G, 3, jA X G tvi K) d_X5_isSeen cX5_isSeen "SamovarModel" (some .boolean) yX5_isSeen) {x0 : Nat}  : ∀ (n : Nat) (z : jS × Int32 × Int32), jlp n (wp_X5_isSeen_8_L x0 K) z → jJ (X, G, 3, jA X G tvi K) z.1 [(0, .ref x0), (1, .int z.2.1), (2, .int z.2.2)] 8 [] := by
  intro n
  induction n with
  | zero => intro z h; exact h.elim
  | succ n ih => intro z h; exact wk_X5_isSeen_8 C ih h
theorem wk_X5_isSeen_0 {X : jX} {G : jG} {K : jS → Int32 → Prop} (C : jC (X, G, 3, jA X G tvi K) d_X5_isSeen cX5_isSeen "SamovarModel" (some .boolean) yX5_isSeen) {S : jS} {x0 : Nat}  (h : wp_X5_isSeen S x0 K) : jJ (X, G, 3, jA X G tvi K) S [(0, .ref x0)] 0 [] := by
  unfold wp_X5_isSeen at h
  refine jr_aload_n C 1 rfl dX5_isSeen_0 rfl 0 rfl ?_
  obtain ⟨⟨V, hb⟩, h⟩ := h
  refine jr_callVv (r0 := (RX5, TX5, 53)) (As := []) (st := []) C 4 rfl (m_X5_runs C.2.2.2.2.2.2.2.2.2.2.2.2.2.2.2 h) rfl hb rfl q1550 q1552 qs54 q102 q1553 (by decide) (by decide) ndV_X5_runs (Nat.le_of_ble_eq_true rfl) dX5_isSeen_1 (fun S1 _ h => ?_)
  refine jr_iconst (v := 1) C 5 rfl dX5_isSeen_4 (by decide) ?_
  refine jr_istore_n (lv' := [(1, .int 1), (0, .ref x0)]) C 6 rfl dX5_isSeen_5 rfl (Nat.le_of_ble_eq_true rfl) rfl ?_
  refine jr_iconst (v := 0) C 7 rfl dX5_isSeen_6 (by decide) ?_
  refine jr_istore_n (lv' := [(2, .int 0), (1, .int 1), (0, .ref x0)]) C 8 rfl dX5_isSeen_7 rfl (Nat.le_of_ble_eq_true rfl) rfl ?_
  obtain ⟨n, h⟩ := h
  exact jr_sub [2, 1, 0] rfl (wk_X5_isSeen_8_L C  n _ h)
theorem m_X5_isSeen {l : Launch} (hl : l.stackTraces = false) {G : jG} {K : jS → Int32 → Prop} {S : jS} {x0 : Nat} (h : wp_X5_isSeen S x0 K) : jMet l G d_X5_isSeen yX5_isSeen (ws_ yX5_isSeen cX5_isSeen 3 (some .boolean)) [.ref x0] S tvi K :=
  jMet.of hl rfl (by decide) (Nat.le_of_ble_eq_true rfl) (fun X C => jr_sub [0] rfl (wk_X5_isSeen_0 C h))
theorem wk_X5_watersBy_18 {X : jX} {G : jG} {K : jS → Int32 → Prop} (C : jC (X, G, 4, jA X G tvi K) d_X5_watersBy cX5_watersBy "SamovarModel" (some .int) yX5_watersBy) {S : jS} {t0 : Nat} {x0 : Nat} {x1 : Int32} {x2 : Int32} {Kc8 : jS × Int32 → Prop} (hc8 : ∀ z : jS × Int32, Kc8 z → jJ (X, G, 4, jA X G tvi K) z.1 [(0, .ref x0), (1, .int x1), (2, .int z.2)] 8 []) (h : wp_X5_watersBy_18 S t0 x0 x1 x2 Kc8 K) : jJ (X, G, 4, jA X G tvi K) S [(0, .ref x0), (1, .int x1), (2, .int x2)] 18 [.ref t0] := by
  unfold wp_X5_watersBy_18 at h
  refine jr_iload_n C 19 rfl dX5_watersBy_18 rfl 2 rfl ?_
  refine jr_iconst (v := 0) C 20 rfl dX5_watersBy_19 (by decide) ?_
  refine jr_iast C 21 rfl dX5_watersBy_20 h (fun S1 h => ?_)
  refine jr_iinc (v := (x2 + 1)) (lv' := [(2, .int (x2 + 1)), (0, .ref x0), (1, .int x1)]) C 24 rfl dX5_watersBy_21 2 rfl rfl (Nat.le_of_ble_eq_true rfl) rfl ?_
  refine jr_goto C 8 dX5_watersBy_24 (by decide) ?_
  exact jr_sub [1, 2, 0] rfl (hc8 _ h)
theorem wk_X5_watersBy_94 {X : jX} {G : jG} {K : jS → Int32 → Prop} (C : jC (X, G, 4, jA X G tvi K) d_X5_watersBy cX5_watersBy "SamovarModel" (some .int) yX5_watersBy) {S : jS} {t0 : Nat} {t1 : Int32} {t2 : Int32} {t3 : Int32} {x0 : Nat} {x1 : Int32} {x2 : Int32} {x3 : Int32} {Kc29 : jS × Int32 × Int32 → Prop} (hc29 : ∀ z : jS × Int32 × Int32, Kc29 z → jJ (X, G, 4, jA X G tvi K) z.1 [(0, .ref x0), (1, .int z.2.1), (2, .int z.2.2)] 29 []) {Kc59 : jS × Int32 → Prop} (hc59 : ∀ z : jS × Int32, Kc59 z → jJ (X, G, 4, jA X G tvi K) z.1 [(0, .ref x0), (1, .int x1), (2, .int x2), (3, .int z.2)] 59 []) (h : wp_X5_watersBy_94 S t0 t1 t2 t3 x0 x1 x2 x3 Kc29 Kc59 K) : jJ (X, G, 4, jA X G tvi K) S [(0, .ref x0), (1, .int x1), (2, .int x2), (3, .int x3)] 94 [.int t3, .int t2, .int t1, .ref t0] := by
  unfold wp_X5_watersBy_94 at h
  refine jr_ior C 95 rfl dX5_watersBy_94 ?_
  refine jr_iast C 96 rfl dX5_watersBy_95 h (fun S1 h => ?_)
  refine jr_iinc (v := (x3 + 1)) (lv' := [(3, .int (x3 + 1)), (0, .ref x0), (1, .int x1), (2, .int x2)]) C 99 rfl dX5_watersBy_96 3 rfl rfl (Nat.le_of_ble_eq_true rfl) rfl ?_
  refine jr_goto C 59 dX5_watersBy_99 (by decide) ?_
  exact jr_sub [1, 2, 3, 0] rfl (hc59 _ h)
theorem wk_X5_watersBy_59 {X : jX} {G : jG} {K : jS → Int32 → Prop} (C : jC (X, G, 4, jA X G tvi K) d_X5_watersBy cX5_watersBy "SamovarModel" (some .int) yX5_watersBy) {S : jS} {x0 : Nat} {x1 : Int32} {x2 : Int32} {x3 : Int32} {Kc29 : jS × Int32 × Int32 → Prop} (hc29 : ∀ z : jS × Int32 × Int32, Kc29 z → jJ (X, G, 4, jA X G tvi K) z.1 [(0, .ref x0), (1, .int z.2.1), (2, .int z.2.2)] 29 []) {Kc59 : jS × Int32 → Prop} (hc59 : ∀ z : jS × Int32, Kc59 z → jJ (X, G, 4, jA X G tvi K) z.1 [(0, .ref x0), (1, .int x1), (2, .int x2), (3, .int z.2)] 59 []) (h : wp_X5_watersBy_59 S x0 x1 x2 x3 Kc29 Kc59 K) : jJ (X, G, 4, jA X G tvi K) S [(0, .ref x0), (1, .int x1), (2, .int x2), (3, .int x3)] 59 [] := by
  unfold wp_X5_watersBy_59 at h
  refine jr_iload_n C 60 rfl dX5_watersBy_59 rfl 3 rfl ?_
  refine jr_bipush (v := 24) C 62 rfl dX5_watersBy_60 (by decide) ?_
  refine jr_icmp_ge C 102 65 rfl dX5_watersBy_62 (by decide) (fun c6 => ?_) (fun c6 => ?_)
  · have h := h.1 c6
    refine jr_iinc (v := (x2 + 1)) (lv' := [(2, .int (x2 + 1)), (0, .ref x0), (1, .int x1), (3, .int x3)]) C 105 rfl dX5_watersBy_102 2 rfl rfl (Nat.le_of_ble_eq_true rfl) rfl ?_
    refine jr_goto C 29 dX5_watersBy_105 (by decide) ?_
    exact jr_sub [1, 2, 0] rfl (hc29 _ h)
  · have h := h.2 c6
    refine jr_aload_n C 66 rfl dX5_watersBy_65 rfl 0 rfl ?_
    refine jr_getr C 69 rfl fo_8_46 q1323 dX5_watersBy_66 h (fun v1 h => ?_)
    refine jr_iload_n C 70 rfl dX5_watersBy_69 rfl 3 rfl ?_
    refine jr_dup2 C 71 rfl dX5_watersBy_70 rfl rfl ?_
    refine jr_iald C 72 rfl dX5_watersBy_71 h (fun v2 h => ?_)
    refine jr_aload_n C 73 rfl dX5_watersBy_72 rfl 0 rfl ?_
    refine jr_getr C 76 rfl fo_8_36 q1313 dX5_watersBy_73 h (fun v3 h => ?_)
    refine jr_bipush (v := 6) C 78 rfl dX5_watersBy_76 (by decide) ?_
    refine jr_iload_n C 79 rfl dX5_watersBy_78 rfl 3 rfl ?_
    refine jr_imul C 80 rfl dX5_watersBy_79 ?_
    refine jr_iconst (v := 4) C 81 rfl dX5_watersBy_80 (by decide) ?_
    refine jr_iadd C 82 rfl dX5_watersBy_81 ?_
    refine jr_iald C 83 rfl dX5_watersBy_82 h (fun v4 h => ?_)
    refine jr_iconst (v := 1) C 84 rfl dX5_watersBy_83 (by decide) ?_
    refine jr_icmp_ne C 93 87 rfl dX5_watersBy_84 (by decide) (fun c5 => ?_) (fun c5 => ?_)
    · have h := h.1 c5
      refine jr_iconst (v := 1) C 88 rfl dX5_watersBy_87 (by decide) ?_
      refine jr_iload_n C 89 rfl dX5_watersBy_88 rfl 2 rfl ?_
      refine jr_ishl C 90 rfl dX5_watersBy_89 ?_
      refine jr_goto C 94 dX5_watersBy_90 (by decide) ?_
      exact (wk_X5_watersBy_94 C hc29 hc59 h)
    · have h := h.2 c5
      refine jr_iconst (v := 0) C 94 rfl dX5_watersBy_93 (by decide) ?_
      exact (wk_X5_watersBy_94 C hc29 hc59 h)
theorem wk_X5_watersBy_59_L {X : jX} {G : jG} {K : jS → Int32 → Prop} (C : jC (X, G, 4, jA X G tvi K) d_X5_watersBy cX5_watersBy "SamovarModel" (some .int) yX5_watersBy) {x0 : Nat} {x1 : Int32} {x2 : Int32} {Kc29 : jS × Int32 × Int32 → Prop} (hc29 : ∀ z : jS × Int32 × Int32, Kc29 z → jJ (X, G, 4, jA X G tvi K) z.1 [(0, .ref x0), (1, .int z.2.1), (2, .int z.2.2)] 29 []) : ∀ (n : Nat) (z : jS × Int32), jlp n (wp_X5_watersBy_59_L x0 x1 x2 Kc29 K) z → jJ (X, G, 4, jA X G tvi K) z.1 [(0, .ref x0), (1, .int x1), (2, .int x2), (3, .int z.2)] 59 [] := by
  intro n
  induction n with
  | zero => intro z h; exact h.elim
  | succ n ih => intro z h; exact wk_X5_watersBy_59 C hc29 ih h
theorem wk_X5_watersBy_55 {X : jX} {G : jG} {K : jS → Int32 → Prop} (C : jC (X, G, 4, jA X G tvi K) d_X5_watersBy cX5_watersBy "SamovarModel" (some .int) yX5_watersBy) {S : jS} {t0 : Int32} {t1 : Int32} {x0 : Nat} {x2 : Int32} {Kc29 : jS × Int32 × Int32 → Prop} (hc29 : ∀ z : jS × Int32 × Int32, Kc29 z → jJ (X, G, 4, jA X G tvi K) z.1 [(0, .ref x0), (1, .int z.2.1), (2, .int z.2.2)] 29 []) (h : wp_X5_watersBy_55 S t0 t1 x0 x2 Kc29 K) : jJ (X, G, 4, jA X G tvi K) S [(0, .ref x0), (2, .int x2)] 55 [.int t1, .int t0] := by
  unfold wp_X5_watersBy_55 at h
  refine jr_ior C 56 rfl dX5_watersBy_55 ?_
  refine jr_istore_n (lv' := [(1, .int (t0 ||| t1)), (0, .ref x0), (2, .int x2)]) C 57 rfl dX5_watersBy_56 rfl (Nat.le_of_ble_eq_true rfl) rfl ?_
  refine jr_iconst (v := 0) C 58 rfl dX5_watersBy_57 (by decide) ?_
  refine jr_istore_n (lv' := [(3, .int 0), (1, .int (t0 ||| t1)), (0, .ref x0), (2, .int x2)]) C 59 rfl dX5_watersBy_58 rfl (Nat.le_of_ble_eq_true rfl) rfl ?_
  obtain ⟨n, h⟩ := h
  exact jr_sub [2, 1, 3, 0] rfl (wk_X5_watersBy_59_L C hc29 n _ h)
theorem wk_X5_watersBy_29 {X : jX} {G : jG} {K : jS → Int32 → Prop} (C : jC (X, G, 4, jA X G tvi K) d_X5_watersBy cX5_watersBy "SamovarModel" (some .int) yX5_watersBy) {S : jS} {x0 : Nat} {x1 : Int32} {x2 : Int32} {Kc29 : jS × Int32 × Int32 → Prop} (hc29 : ∀ z : jS × Int32 × Int32, Kc29 z → jJ (X, G, 4, jA X G tvi K) z.1 [(0, .ref x0), (1, .int z.2.1), (2, .int z.2.2)] 29 []) (h : wp_X5_watersBy_29 S x0 x1 x2 Kc29 K) : jJ (X, G, 4, jA X G tvi K) S [(0, .ref x0), (1, .int x1), (2, .int x2)] 29 [] := by
  unfold wp_X5_watersBy_29 at h
  refine jr_iload_n C 30 rfl dX5_watersBy_29 rfl 2 rfl ?_
  refine jr_bipush (v := 30) C 32 rfl dX5_watersBy_30 (by decide) ?_
  refine jr_icmp_gt C 108 35 rfl dX5_watersBy_32 (by decide) (fun c5 => ?_) (fun c5 => ?_)
  · have h := h.1 c5
    refine jr_iload_n C 109 rfl dX5_watersBy_108 rfl 1 rfl ?_
    exact jr_ireturn C dX5_watersBy_109 h
  · have h := h.2 c5
    refine jr_aload_n C 36 rfl dX5_watersBy_35 rfl 0 rfl ?_
    refine jr_iload_n C 37 rfl dX5_watersBy_36 rfl 2 rfl ?_
    refine jr_putv C 40 rfl fo_8_20 (by decide) q1297 dX5_watersBy_37 rfl rfl h (fun S1 h => ?_)
    refine jr_iload_n C 41 rfl dX5_watersBy_40 rfl 1 rfl ?_
    refine jr_aload_n C 42 rfl dX5_watersBy_41 rfl 0 rfl ?_
    obtain ⟨⟨V, hb⟩, h⟩ := h
    refine jr_callVi (r0 := (RX5, TX5, 53)) (As := []) (st := [.int x1]) C 45 rfl (m_X5_isSeen C.2.2.2.2.2.2.2.2.2.2.2.2.2.2.2 h) rfl hb rfl q1720 q1722 qs81 q102 q1723 (by decide) (by decide) ndV_X5_isSeen (Nat.le_of_ble_eq_true rfl) dX5_watersBy_42 (fun S2 r3 h => ?_)
    refine jr_if_eq C 54 48 rfl dX5_watersBy_45 (by decide) (fun c4 => ?_) (fun c4 => ?_)
    · have h := h.1 c4
      refine jr_iconst (v := 0) C 55 rfl dX5_watersBy_54 (by decide) ?_
      exact jr_sub [0, 2] rfl (wk_X5_watersBy_55 C hc29 h)
    · have h := h.2 c4
      refine jr_iconst (v := 1) C 49 rfl dX5_watersBy_48 (by decide) ?_
      refine jr_iload_n C 50 rfl dX5_watersBy_49 rfl 2 rfl ?_
      refine jr_ishl C 51 rfl dX5_watersBy_50 ?_
      refine jr_goto C 55 dX5_watersBy_51 (by decide) ?_
      exact jr_sub [0, 2] rfl (wk_X5_watersBy_55 C hc29 h)
theorem wk_X5_watersBy_29_L {X : jX} {G : jG} {K : jS → Int32 → Prop} (C : jC (X, G, 4, jA X G tvi K) d_X5_watersBy cX5_watersBy "SamovarModel" (some .int) yX5_watersBy) {x0 : Nat}  : ∀ (n : Nat) (z : jS × Int32 × Int32), jlp n (wp_X5_watersBy_29_L x0 K) z → jJ (X, G, 4, jA X G tvi K) z.1 [(0, .ref x0), (1, .int z.2.1), (2, .int z.2.2)] 29 [] := by
  intro n
  induction n with
  | zero => intro z h; exact h.elim
  | succ n ih => intro z h; exact wk_X5_watersBy_29 C ih h
theorem wk_X5_watersBy_8 {X : jX} {G : jG} {K : jS → Int32 → Prop} (C : jC (X, G, 4, jA X G tvi K) d_X5_watersBy cX5_watersBy "SamovarModel" (some .int) yX5_watersBy) {S : jS} {x0 : Nat} {x1 : Int32} {x2 : Int32} {Kc8 : jS × Int32 → Prop} (hc8 : ∀ z : jS × Int32, Kc8 z → jJ (X, G, 4, jA X G tvi K) z.1 [(0, .ref x0), (1, .int x1), (2, .int z.2)] 8 []) (h : wp_X5_watersBy_8 S x0 x1 x2 Kc8 K) : jJ (X, G, 4, jA X G tvi K) S [(0, .ref x0), (1, .int x1), (2, .int x2)] 8 [] := by
  unfold wp_X5_watersBy_8 at h
  refine jr_iload_n C 9 rfl dX5_watersBy_8 rfl 2 rfl ?_
  refine jr_bipush (v := 24) C 11 rfl dX5_watersBy_9 (by decide) ?_
  refine jr_icmp_ge C 27 14 rfl dX5_watersBy_11 (by decide) (fun c2 => ?_) (fun c2 => ?_)
  · have h := h.1 c2
    refine jr_iconst (v := 0) C 28 rfl dX5_watersBy_27 (by decide) ?_
    refine jr_istore_n (lv' := [(2, .int 0), (0, .ref x0), (1, .int x1)]) C 29 rfl dX5_watersBy_28 rfl (Nat.le_of_ble_eq_true rfl) rfl ?_
    obtain ⟨n, h⟩ := h
    exact jr_sub [1, 2, 0] rfl (wk_X5_watersBy_29_L C  n _ h)
  · have h := h.2 c2
    refine jr_aload_n C 15 rfl dX5_watersBy_14 rfl 0 rfl ?_
    refine jr_getr C 18 rfl fo_8_46 q1323 dX5_watersBy_15 h (fun v1 h => ?_)
    exact (wk_X5_watersBy_18 C hc8 h)
theorem wk_X5_watersBy_8_L {X : jX} {G : jG} {K : jS → Int32 → Prop} (C : jC (X, G, 4, jA X G tvi K) d_X5_watersBy cX5_watersBy "SamovarModel" (some .int) yX5_watersBy) {x0 : Nat} {x1 : Int32}  : ∀ (n : Nat) (z : jS × Int32), jlp n (wp_X5_watersBy_8_L x0 x1 K) z → jJ (X, G, 4, jA X G tvi K) z.1 [(0, .ref x0), (1, .int x1), (2, .int z.2)] 8 [] := by
  intro n
  induction n with
  | zero => intro z h; exact h.elim
  | succ n ih => intro z h; exact wk_X5_watersBy_8 C ih h
theorem wk_X5_watersBy_0 {X : jX} {G : jG} {K : jS → Int32 → Prop} (C : jC (X, G, 4, jA X G tvi K) d_X5_watersBy cX5_watersBy "SamovarModel" (some .int) yX5_watersBy) {S : jS} {x0 : Nat}  (h : wp_X5_watersBy S x0 K) : jJ (X, G, 4, jA X G tvi K) S [(0, .ref x0)] 0 [] := by
  unfold wp_X5_watersBy at h
  refine jr_aload_n C 1 rfl dX5_watersBy_0 rfl 0 rfl ?_
  obtain ⟨⟨V, hb⟩, h⟩ := h
  refine jr_callVv (r0 := (RX5, TX5, 53)) (As := []) (st := []) C 4 rfl (m_X5_asTold C.2.2.2.2.2.2.2.2.2.2.2.2.2.2.2 h) rfl hb rfl q1546 q1548 qs53 q102 q1549 (by decide) (by decide) ndV_X5_asTold (Nat.le_of_ble_eq_true rfl) dX5_watersBy_1 (fun S1 _ h => ?_)
  refine jr_iconst (v := 0) C 5 rfl dX5_watersBy_4 (by decide) ?_
  refine jr_istore_n (lv' := [(1, .int 0), (0, .ref x0)]) C 6 rfl dX5_watersBy_5 rfl (Nat.le_of_ble_eq_true rfl) rfl ?_
  refine jr_iconst (v := 0) C 7 rfl dX5_watersBy_6 (by decide) ?_
  refine jr_istore_n (lv' := [(2, .int 0), (1, .int 0), (0, .ref x0)]) C 8 rfl dX5_watersBy_7 rfl (Nat.le_of_ble_eq_true rfl) rfl ?_
  obtain ⟨n, h⟩ := h
  exact jr_sub [2, 1, 0] rfl (wk_X5_watersBy_8_L C  n _ h)
theorem m_X5_watersBy {l : Launch} (hl : l.stackTraces = false) {G : jG} {K : jS → Int32 → Prop} {S : jS} {x0 : Nat} (h : wp_X5_watersBy S x0 K) : jMet l G d_X5_watersBy yX5_watersBy (ws_ yX5_watersBy cX5_watersBy 4 (some .int)) [.ref x0] S tvi K :=
  jMet.of hl rfl (by decide) (Nat.le_of_ble_eq_true rfl) (fun X C => jr_sub [0] rfl (wk_X5_watersBy_0 C h))
theorem wk_X5_askOf_106 {X : jX} {G : jG} {K : jS → Int32 → Prop} (C : jC (X, G, 9, jA X G tvi K) d_X5_askOf cX5_askOf "SamovarModel" (some .int) yX5_askOf) {S : jS} {t0 : Int32} {x0 : Nat} {x1 : Int32} {x2 : Int32} {x4 : Int32} {Kc12 : jS × Int32 × Int32 × Int32 → Prop} (hc12 : ∀ z : jS × Int32 × Int32 × Int32, Kc12 z → jJ (X, G, 9, jA X G tvi K) z.1 [(0, .ref x0), (1, .int x1), (2, .int z.2.1), (3, .int z.2.2.1), (4, .int z.2.2.2)] 12 []) (h : wp_X5_askOf_106 S t0 x0 x1 x2 x4 Kc12 K) : jJ (X, G, 9, jA X G tvi K) S [(0, .ref x0), (1, .int x1), (2, .int x2), (4, .int x4)] 106 [.int t0] := by
  unfold wp_X5_askOf_106 at h
  refine jr_istore_n (lv' := [(3, .int t0), (0, .ref x0), (1, .int x1), (2, .int x2), (4, .int x4)]) C 107 rfl dX5_askOf_106 rfl (Nat.le_of_ble_eq_true rfl) rfl ?_
  refine jr_iinc (v := (x4 + 1)) (lv' := [(4, .int (x4 + 1)), (3, .int t0), (0, .ref x0), (1, .int x1), (2, .int x2)]) C 110 rfl dX5_askOf_107 4 rfl rfl (Nat.le_of_ble_eq_true rfl) rfl ?_
  refine jr_goto C 12 dX5_askOf_110 (by decide) ?_
  exact jr_sub [2, 3, 4, 1, 0] rfl (hc12 _ h)
theorem wk_X5_askOf_94 {X : jX} {G : jG} {K : jS → Int32 → Prop} (C : jC (X, G, 9, jA X G tvi K) d_X5_askOf cX5_askOf "SamovarModel" (some .int) yX5_askOf) {S : jS} {t0 : Int32} {x0 : Nat} {x1 : Int32} {x3 : Int32} {x4 : Int32} {x7 : Int32} {x8 : Int32} {Kc12 : jS × Int32 × Int32 × Int32 → Prop} (hc12 : ∀ z : jS × Int32 × Int32 × Int32, Kc12 z → jJ (X, G, 9, jA X G tvi K) z.1 [(0, .ref x0), (1, .int x1), (2, .int z.2.1), (3, .int z.2.2.1), (4, .int z.2.2.2)] 12 []) (h : wp_X5_askOf_94 S t0 x0 x1 x3 x4 x7 x8 Kc12 K) : jJ (X, G, 9, jA X G tvi K) S [(0, .ref x0), (1, .int x1), (3, .int x3), (4, .int x4), (7, .int x7), (8, .int x8)] 94 [.int t0] := by
  unfold wp_X5_askOf_94 at h
  refine jr_istore_n (lv' := [(2, .int t0), (0, .ref x0), (1, .int x1), (3, .int x3), (4, .int x4), (7, .int x7), (8, .int x8)]) C 95 rfl dX5_askOf_94 rfl (Nat.le_of_ble_eq_true rfl) rfl ?_
  refine jr_iload C 97 rfl dX5_askOf_95 6 rfl ?_
  refine jr_if_eq C 105 100 rfl dX5_askOf_97 (by decide) (fun c1 => ?_) (fun c1 => ?_)
  · have h := h.1 c1
    refine jr_iload_n C 106 rfl dX5_askOf_105 rfl 3 rfl ?_
    exact jr_sub [1, 2, 0, 4] rfl (wk_X5_askOf_106 C hc12 h)
  · have h := h.2 c1
    refine jr_iload C 102 rfl dX5_askOf_100 5 rfl ?_
    refine jr_goto C 106 dX5_askOf_102 (by decide) ?_
    exact jr_sub [1, 2, 0, 4] rfl (wk_X5_askOf_106 C hc12 h)
theorem wk_X5_askOf_81 {X : jX} {G : jG} {K : jS → Int32 → Prop} (C : jC (X, G, 9, jA X G tvi K) d_X5_askOf cX5_askOf "SamovarModel" (some .int) yX5_askOf) {S : jS} {t0 : Int32} {x0 : Nat} {x1 : Int32} {x2 : Int32} {x3 : Int32} {x4 : Int32} {x7 : Int32} {Kc12 : jS × Int32 × Int32 × Int32 → Prop} (hc12 : ∀ z : jS × Int32 × Int32 × Int32, Kc12 z → jJ (X, G, 9, jA X G tvi K) z.1 [(0, .ref x0), (1, .int x1), (2, .int z.2.1), (3, .int z.2.2.1), (4, .int z.2.2.2)] 12 []) (h : wp_X5_askOf_81 S t0 x0 x1 x2 x3 x4 x7 Kc12 K) : jJ (X, G, 9, jA X G tvi K) S [(0, .ref x0), (1, .int x1), (2, .int x2), (3, .int x3), (4, .int x4), (7, .int x7)] 81 [.int t0] := by
  unfold wp_X5_askOf_81 at h
  refine jr_istore (lv' := [(8, .int t0), (0, .ref x0), (1, .int x1), (2, .int x2), (3, .int x3), (4, .int x4), (7, .int x7)]) C 83 rfl dX5_askOf_81 (Nat.le_of_ble_eq_true rfl) rfl ?_
  refine jr_iload C 85 rfl dX5_askOf_83 0 rfl ?_
  refine jr_if_eq C 93 88 rfl dX5_askOf_85 (by decide) (fun c1 => ?_) (fun c1 => ?_)
  · have h := h.1 c1
    refine jr_iload_n C 94 rfl dX5_askOf_93 rfl 3 rfl ?_
    exact jr_sub [1, 2, 4, 5, 6, 0] rfl (wk_X5_askOf_94 C hc12 h)
  · have h := h.2 c1
    refine jr_iload C 90 rfl dX5_askOf_88 5 rfl ?_
    refine jr_goto C 94 dX5_askOf_90 (by decide) ?_
    exact jr_sub [1, 2, 4, 5, 6, 0] rfl (wk_X5_askOf_94 C hc12 h)
theorem wk_X5_askOf_76 {X : jX} {G : jG} {K : jS → Int32 → Prop} (C : jC (X, G, 9, jA X G tvi K) d_X5_askOf cX5_askOf "SamovarModel" (some .int) yX5_askOf) {S : jS} {x0 : Nat} {x1 : Int32} {x2 : Int32} {x3 : Int32} {x4 : Int32} {x7 : Int32} {Kc12 : jS × Int32 × Int32 × Int32 → Prop} (hc12 : ∀ z : jS × Int32 × Int32 × Int32, Kc12 z → jJ (X, G, 9, jA X G tvi K) z.1 [(0, .ref x0), (1, .int x1), (2, .int z.2.1), (3, .int z.2.2.1), (4, .int z.2.2.2)] 12 []) (h : wp_X5_askOf_76 S x0 x1 x2 x3 x4 x7 Kc12 K) : jJ (X, G, 9, jA X G tvi K) S [(0, .ref x0), (1, .int x1), (2, .int x2), (3, .int x3), (4, .int x4), (7, .int x7)] 76 [] := by
  unfold wp_X5_askOf_76 at h
  refine jr_iconst (v := 1) C 77 rfl dX5_askOf_76 (by decide) ?_
  refine jr_goto C 81 dX5_askOf_77 (by decide) ?_
  exact (wk_X5_askOf_81 C hc12 h)
theorem wk_X5_askOf_63 {X : jX} {G : jG} {K : jS → Int32 → Prop} (C : jC (X, G, 9, jA X G tvi K) d_X5_askOf cX5_askOf "SamovarModel" (some .int) yX5_askOf) {S : jS} {t0 : Int32} {x0 : Nat} {x1 : Int32} {x2 : Int32} {x3 : Int32} {x4 : Int32} {Kc12 : jS × Int32 × Int32 × Int32 → Prop} (hc12 : ∀ z : jS × Int32 × Int32 × Int32, Kc12 z → jJ (X, G, 9, jA X G tvi K) z.1 [(0, .ref x0), (1, .int x1), (2, .int z.2.1), (3, .int z.2.2.1), (4, .int z.2.2.2)] 12 []) (h : wp_X5_askOf_63 S t0 x0 x1 x2 x3 x4 Kc12 K) : jJ (X, G, 9, jA X G tvi K) S [(0, .ref x0), (1, .int x1), (2, .int x2), (3, .int x3), (4, .int x4)] 63 [.int t0] := by
  unfold wp_X5_askOf_63 at h
  refine jr_istore (lv' := [(7, .int t0), (0, .ref x0), (1, .int x1), (2, .int x2), (3, .int x3), (4, .int x4)]) C 65 rfl dX5_askOf_63 (Nat.le_of_ble_eq_true rfl) rfl ?_
  refine jr_iload_n C 66 rfl dX5_askOf_65 rfl 3 rfl ?_
  refine jr_iconst (v := (-1)) C 67 rfl dX5_askOf_66 (by decide) ?_
  refine jr_icmp_eq C 76 70 rfl dX5_askOf_67 (by decide) (fun c2 => ?_) (fun c2 => ?_)
  · have h := h.1 c2
    exact jr_sub [1, 2, 3, 4, 5, 0] rfl (wk_X5_askOf_76 C hc12 h)
  · have h := h.2 c2
    refine jr_iload C 72 rfl dX5_askOf_70 0 rfl ?_
    refine jr_iload_n C 73 rfl dX5_askOf_72 rfl 4 rfl ?_
    refine jr_icmp_ge C 80 76 rfl dX5_askOf_73 (by decide) (fun c1 => ?_) (fun c1 => ?_)
    · have h := h.1 c1
      refine jr_iconst (v := 0) C 81 rfl dX5_askOf_80 (by decide) ?_
      exact jr_sub [1, 2, 3, 4, 5, 0] rfl (wk_X5_askOf_81 C hc12 h)
    · have h := h.2 c1
      exact jr_sub [1, 2, 3, 4, 5, 0] rfl (wk_X5_askOf_76 C hc12 h)
theorem wk_X5_askOf_12 {X : jX} {G : jG} {K : jS → Int32 → Prop} (C : jC (X, G, 9, jA X G tvi K) d_X5_askOf cX5_askOf "SamovarModel" (some .int) yX5_askOf) {S : jS} {x0 : Nat} {x1 : Int32} {x2 : Int32} {x3 : Int32} {x4 : Int32} {Kc12 : jS × Int32 × Int32 × Int32 → Prop} (hc12 : ∀ z : jS × Int32 × Int32 × Int32, Kc12 z → jJ (X, G, 9, jA X G tvi K) z.1 [(0, .ref x0), (1, .int x1), (2, .int z.2.1), (3, .int z.2.2.1), (4, .int z.2.2.2)] 12 []) (h : wp_X5_askOf_12 S x0 x1 x2 x3 x4 Kc12 K) : jJ (X, G, 9, jA X G tvi K) S [(0, .ref x0), (1, .int x1), (2, .int x2), (3, .int x3), (4, .int x4)] 12 [] := by
  unfold wp_X5_askOf_12 at h
  refine jr_iload C 14 rfl dX5_askOf_12 4 rfl ?_
  refine jr_bipush (v := 24) C 16 rfl dX5_askOf_14 (by decide) ?_
  refine jr_icmp_ge C 113 19 rfl dX5_askOf_16 (by decide) (fun c10 => ?_) (fun c10 => ?_)
  · have h := h.1 c10
    refine jr_iload_n C 114 rfl dX5_askOf_113 rfl 2 rfl ?_
    exact jr_ireturn C dX5_askOf_114 h
  · have h := h.2 c10
    refine jr_iload_n C 20 rfl dX5_askOf_19 rfl 1 rfl ?_
    refine jr_aload_n C 21 rfl dX5_askOf_20 rfl 0 rfl ?_
    refine jr_getr C 24 rfl fo_8_46 q1323 dX5_askOf_21 h (fun v1 h => ?_)
    refine jr_iload C 26 rfl dX5_askOf_24 4 rfl ?_
    refine jr_iald C 27 rfl dX5_askOf_26 h (fun v2 h => ?_)
    refine jr_iand C 28 rfl dX5_askOf_27 ?_
    refine jr_callSi (As := [.int (x1 &&& v2)]) (st := []) C 31 rfl (m_X5_many C.2.2.2.2.2.2.2.2.2.2.2.2.2.2.2 h) rfl q1748 q1749 q102 q1750 (by decide) (by decide) nd_X5_many (Nat.le_of_ble_eq_true rfl) dX5_askOf_28 (fun S3 r4 h => ?_)
    refine jr_istore (lv' := [(5, .int r4), (0, .ref x0), (1, .int x1), (2, .int x2), (3, .int x3), (4, .int x4)]) C 33 rfl dX5_askOf_31 (Nat.le_of_ble_eq_true rfl) rfl ?_
    refine jr_iload_n C 34 rfl dX5_askOf_33 rfl 2 rfl ?_
    refine jr_aload_n C 35 rfl dX5_askOf_34 rfl 1 rfl ?_
    refine jr_getr C 38 rfl fo_8_46 q1323 dX5_askOf_35 h (fun v5 h => ?_)
    refine jr_iload C 40 rfl dX5_askOf_38 5 rfl ?_
    refine jr_iald C 41 rfl dX5_askOf_40 h (fun v6 h => ?_)
    refine jr_iconst (v := (-1)) C 42 rfl dX5_askOf_41 (by decide) ?_
    refine jr_ixor C 43 rfl dX5_askOf_42 ?_
    refine jr_iand C 44 rfl dX5_askOf_43 ?_
    refine jr_callSi (As := [.int (x1 &&& (v6 ^^^ (-1)))]) (st := []) C 47 rfl (m_X5_many C.2.2.2.2.2.2.2.2.2.2.2.2.2.2.2 h) rfl q1748 q1749 q102 q1750 (by decide) (by decide) nd_X5_many (Nat.le_of_ble_eq_true rfl) dX5_askOf_44 (fun S7 r8 h => ?_)
    refine jr_istore (lv' := [(6, .int r8), (5, .int r4), (0, .ref x0), (1, .int x1), (2, .int x2), (3, .int x3), (4, .int x4)]) C 49 rfl dX5_askOf_47 (Nat.le_of_ble_eq_true rfl) rfl ?_
    refine jr_iload C 51 rfl dX5_askOf_49 1 rfl ?_
    refine jr_iload C 53 rfl dX5_askOf_51 0 rfl ?_
    refine jr_icmp_le C 61 56 rfl dX5_askOf_53 (by decide) (fun c9 => ?_) (fun c9 => ?_)
    · have h := h.1 c9
      refine jr_iload C 63 rfl dX5_askOf_61 0 rfl ?_
      exact jr_sub [2, 3, 4, 5, 6] rfl (wk_X5_askOf_63 C hc12 h)
    · have h := h.2 c9
      refine jr_iload C 58 rfl dX5_askOf_56 1 rfl ?_
      refine jr_goto C 63 dX5_askOf_58 (by decide) ?_
      exact jr_sub [2, 3, 4, 5, 6] rfl (wk_X5_askOf_63 C hc12 h)
theorem wk_X5_askOf_12_L {X : jX} {G : jG} {K : jS → Int32 → Prop} (C : jC (X, G, 9, jA X G tvi K) d_X5_askOf cX5_askOf "SamovarModel" (some .int) yX5_askOf) {x0 : Nat} {x1 : Int32}  : ∀ (n : Nat) (z : jS × Int32 × Int32 × Int32), jlp n (wp_X5_askOf_12_L x0 x1 K) z → jJ (X, G, 9, jA X G tvi K) z.1 [(0, .ref x0), (1, .int x1), (2, .int z.2.1), (3, .int z.2.2.1), (4, .int z.2.2.2)] 12 [] := by
  intro n
  induction n with
  | zero => intro z h; exact h.elim
  | succ n ih => intro z h; exact wk_X5_askOf_12 C ih h
theorem wk_X5_askOf_0 {X : jX} {G : jG} {K : jS → Int32 → Prop} (C : jC (X, G, 9, jA X G tvi K) d_X5_askOf cX5_askOf "SamovarModel" (some .int) yX5_askOf) {S : jS} {x0 : Nat}  (h : wp_X5_askOf S x0 K) : jJ (X, G, 9, jA X G tvi K) S [(0, .ref x0)] 0 [] := by
  unfold wp_X5_askOf at h
  refine jr_aload_n C 1 rfl dX5_askOf_0 rfl 0 rfl ?_
  obtain ⟨⟨V, hb⟩, h⟩ := h
  refine jr_callVi (r0 := (RX5, TX5, 53)) (As := []) (st := []) C 4 rfl (m_X5_watersBy C.2.2.2.2.2.2.2.2.2.2.2.2.2.2.2 h) rfl hb rfl q1728 q1730 qs82 q102 q1731 (by decide) (by decide) ndV_X5_watersBy (Nat.le_of_ble_eq_true rfl) dX5_askOf_1 (fun S1 r2 h => ?_)
  refine jr_istore_n (lv' := [(1, .int r2), (0, .ref x0)]) C 5 rfl dX5_askOf_4 rfl (Nat.le_of_ble_eq_true rfl) rfl ?_
  refine jr_iconst (v := (-1)) C 6 rfl dX5_askOf_5 (by decide) ?_
  refine jr_istore_n (lv' := [(2, .int (-1)), (1, .int r2), (0, .ref x0)]) C 7 rfl dX5_askOf_6 rfl (Nat.le_of_ble_eq_true rfl) rfl ?_
  refine jr_iconst (v := 0) C 8 rfl dX5_askOf_7 (by decide) ?_
  refine jr_istore_n (lv' := [(3, .int 0), (2, .int (-1)), (1, .int r2), (0, .ref x0)]) C 9 rfl dX5_askOf_8 rfl (Nat.le_of_ble_eq_true rfl) rfl ?_
  refine jr_iconst (v := 0) C 10 rfl dX5_askOf_9 (by decide) ?_
  refine jr_istore (lv' := [(4, .int 0), (3, .int 0), (2, .int (-1)), (1, .int r2), (0, .ref x0)]) C 12 rfl dX5_askOf_10 (Nat.le_of_ble_eq_true rfl) rfl ?_
  obtain ⟨n, h⟩ := h
  exact jr_sub [4, 3, 2, 1, 0] rfl (wk_X5_askOf_12_L C  n _ h)
theorem m_X5_askOf {l : Launch} (hl : l.stackTraces = false) {G : jG} {K : jS → Int32 → Prop} {S : jS} {x0 : Nat} (h : wp_X5_askOf S x0 K) : jMet l G d_X5_askOf yX5_askOf (ws_ yX5_askOf cX5_askOf 9 (some .int)) [.ref x0] S tvi K :=
  jMet.of hl rfl (by decide) (Nat.le_of_ble_eq_true rfl) (fun X C => jr_sub [0] rfl (wk_X5_askOf_0 C h))
theorem wk_X5_ask_0 {X : jX} {G : jG} {K : jS → Int32 → Prop} (C : jC (X, G, 1, jA X G tvi K) d_X5_ask cX5_ask "SamovarModel" (some .int) yX5_ask) {S : jS} {x0 : Nat}  (h : wp_X5_ask S x0 K) : jJ (X, G, 1, jA X G tvi K) S [(0, .ref x0)] 0 [] := by
  unfold wp_X5_ask at h
  refine jr_aload_n C 1 rfl dX5_ask_0 rfl 0 rfl ?_
  obtain ⟨⟨V, hb⟩, h⟩ := h
  refine jr_callVi (r0 := (RX5, TX5, 53)) (As := []) (st := []) C 4 rfl (m_X5_askOf C.2.2.2.2.2.2.2.2.2.2.2.2.2.2.2 h) rfl hb rfl q1744 q1746 qs84 q102 q1747 (by decide) (by decide) ndV_X5_askOf (Nat.le_of_ble_eq_true rfl) dX5_ask_1 (fun S1 r2 h => ?_)
  exact jr_ireturn C dX5_ask_4 h
theorem m_X5_ask {l : Launch} (hl : l.stackTraces = false) {G : jG} {K : jS → Int32 → Prop} {S : jS} {x0 : Nat} (h : wp_X5_ask S x0 K) : jMet l G d_X5_ask yX5_ask (ws_ yX5_ask cX5_ask 1 (some .int)) [.ref x0] S tvi K :=
  jMet.of hl rfl (by decide) (Nat.le_of_ble_eq_true rfl) (fun X C => jr_sub [0] rfl (wk_X5_ask_0 C h))
theorem wk_X5_runsTold_0 {X : jX} {G : jG} {K : jS → Unit → Prop} (C : jC (X, G, 1, jA X G tvv K) d_X5_runsTold cX5_runsTold "SamovarModel" none yX5_runsTold) {S : jS} {x0 : Nat}  (h : wp_X5_runsTold S x0 K) : jJ (X, G, 1, jA X G tvv K) S [(0, .ref x0)] 0 [] := by
  unfold wp_X5_runsTold at h
  refine jr_aload_n C 1 rfl dX5_runsTold_0 rfl 0 rfl ?_
  obtain ⟨⟨V, hb⟩, h⟩ := h
  refine jr_callVv (r0 := (RX5, TX5, 53)) (As := []) (st := []) C 4 rfl (m_X5_asTold C.2.2.2.2.2.2.2.2.2.2.2.2.2.2.2 h) rfl hb rfl q1546 q1548 qs53 q102 q1549 (by decide) (by decide) ndV_X5_asTold (Nat.le_of_ble_eq_true rfl) dX5_runsTold_1 (fun S1 _ h => ?_)
  refine jr_aload_n C 5 rfl dX5_runsTold_4 rfl 0 rfl ?_
  obtain ⟨⟨V, hb⟩, h⟩ := h
  refine jr_callVv (r0 := (RX5, TX5, 53)) (As := []) (st := []) C 8 rfl (m_X5_runs C.2.2.2.2.2.2.2.2.2.2.2.2.2.2.2 h) rfl hb rfl q1550 q1552 qs54 q102 q1553 (by decide) (by decide) ndV_X5_runs (Nat.le_of_ble_eq_true rfl) dX5_runsTold_5 (fun S2 _ h => ?_)
  exact jr_return C dX5_runsTold_8 h
theorem m_X5_runsTold {l : Launch} (hl : l.stackTraces = false) {G : jG} {K : jS → Unit → Prop} {S : jS} {x0 : Nat} (h : wp_X5_runsTold S x0 K) : jMet l G d_X5_runsTold yX5_runsTold (ws_ yX5_runsTold cX5_runsTold 1 none) [.ref x0] S tvv K :=
  jMet.of hl rfl (by decide) (Nat.le_of_ble_eq_true rfl) (fun X C => jr_sub [0] rfl (wk_X5_runsTold_0 C h))
theorem wk_X5_atOf_0 {X : jX} {G : jG} {K : jS → Int32 → Prop} (C : jC (X, G, 3, jA X G tvi K) d_X5_atOf cX5_atOf "SamovarModel" (some .int) yX5_atOf) {S : jS} {x0 : Nat} {x1 : Int32} {x2 : Int32}  (h : wp_X5_atOf S x0 x1 x2 K) : jJ (X, G, 3, jA X G tvi K) S [(0, .ref x0), (1, .int x1), (2, .int x2)] 0 [] := by
  unfold wp_X5_atOf at h
  refine jr_aload_n C 1 rfl dX5_atOf_0 rfl 0 rfl ?_
  obtain ⟨⟨V, hb⟩, h⟩ := h
  refine jr_callVv (r0 := (RX5, TX5, 53)) (As := []) (st := []) C 4 rfl (m_X5_runsTold C.2.2.2.2.2.2.2.2.2.2.2.2.2.2.2 h) rfl hb rfl q1542 q1544 qs52 q102 q1545 (by decide) (by decide) ndV_X5_runsTold (Nat.le_of_ble_eq_true rfl) dX5_atOf_1 (fun S1 _ h => ?_)
  refine jr_aload_n C 5 rfl dX5_atOf_4 rfl 0 rfl ?_
  refine jr_getr C 8 rfl fo_8_36 q1313 dX5_atOf_5 h (fun v2 h => ?_)
  refine jr_bipush (v := 6) C 10 rfl dX5_atOf_8 (by decide) ?_
  refine jr_iload_n C 11 rfl dX5_atOf_10 rfl 1 rfl ?_
  refine jr_imul C 12 rfl dX5_atOf_11 ?_
  refine jr_iload_n C 13 rfl dX5_atOf_12 rfl 2 rfl ?_
  refine jr_iadd C 14 rfl dX5_atOf_13 ?_
  refine jr_iald C 15 rfl dX5_atOf_14 h (fun v3 h => ?_)
  exact jr_ireturn C dX5_atOf_15 h
theorem m_X5_atOf {l : Launch} (hl : l.stackTraces = false) {G : jG} {K : jS → Int32 → Prop} {S : jS} {x0 : Nat} {x1 : Int32} {x2 : Int32} (h : wp_X5_atOf S x0 x1 x2 K) : jMet l G d_X5_atOf yX5_atOf (ws_ yX5_atOf cX5_atOf 3 (some .int)) [.ref x0, .int x1, .int x2] S tvi K :=
  jMet.of hl rfl (by decide) (Nat.le_of_ble_eq_true rfl) (fun X C => jr_sub [0, 1, 2] rfl (wk_X5_atOf_0 C h))
theorem wk_X5_at_27 {X : jX} {G : jG} {K : jS → Int32 → Prop} (C : jC (X, G, 3, jA X G tvi K) d_X5_at cX5_at "SamovarModel" (some .int) yX5_at) {S : jS} {t0 : Int32}  (h : wp_X5_at_27 S t0 K) : jJ (X, G, 3, jA X G tvi K) S [] 27 [.int t0] := by
  unfold wp_X5_at_27 at h
  exact jr_ireturn C dX5_at_27 h
theorem wk_X5_at_25 {X : jX} {G : jG} {K : jS → Int32 → Prop} (C : jC (X, G, 3, jA X G tvi K) d_X5_at cX5_at "SamovarModel" (some .int) yX5_at) {S : jS}   (h : wp_X5_at_25 S K) : jJ (X, G, 3, jA X G tvi K) S [] 25 [] := by
  unfold wp_X5_at_25 at h
  refine jr_bipush (v := (-2)) C 27 rfl dX5_at_25 (by decide) ?_
  exact (wk_X5_at_27 C  h)
theorem wk_X5_at_0 {X : jX} {G : jG} {K : jS → Int32 → Prop} (C : jC (X, G, 3, jA X G tvi K) d_X5_at cX5_at "SamovarModel" (some .int) yX5_at) {S : jS} {x0 : Nat} {x1 : Int32} {x2 : Int32}  (h : wp_X5_at S x0 x1 x2 K) : jJ (X, G, 3, jA X G tvi K) S [(0, .ref x0), (1, .int x1), (2, .int x2)] 0 [] := by
  unfold wp_X5_at at h
  refine jr_iload_n C 1 rfl dX5_at_0 rfl 1 rfl ?_
  refine jr_callSi (As := [.int x1]) (st := []) C 4 rfl (m_X5_isMinute C.2.2.2.2.2.2.2.2.2.2.2.2.2.2.2 h) rfl q1476 q1477 q102 q1478 (by decide) (by decide) nd_X5_isMinute (Nat.le_of_ble_eq_true rfl) dX5_at_1 (fun S1 r2 h => ?_)
  refine jr_if_eq C 25 7 rfl dX5_at_4 (by decide) (fun c8 => ?_) (fun c8 => ?_)
  · have h := h.1 c8
    exact jr_sub [] rfl (wk_X5_at_25 C  h)
  · have h := h.2 c8
    refine jr_iload_n C 8 rfl dX5_at_7 rfl 2 rfl ?_
    refine jr_iconst (v := 0) C 9 rfl dX5_at_8 (by decide) ?_
    refine jr_iconst (v := 5) C 10 rfl dX5_at_9 (by decide) ?_
    refine jr_callSi (As := [.int x2, .int 0, .int 5]) (st := []) C 13 rfl (m_X5_in C.2.2.2.2.2.2.2.2.2.2.2.2.2.2.2 h) rfl q1445 q1446 q102 q1447 (by decide) (by decide) nd_X5_in (Nat.le_of_ble_eq_true rfl) dX5_at_10 (fun S3 r4 h => ?_)
    refine jr_if_eq C 25 16 rfl dX5_at_13 (by decide) (fun c7 => ?_) (fun c7 => ?_)
    · have h := h.1 c7
      exact jr_sub [] rfl (wk_X5_at_25 C  h)
    · have h := h.2 c7
      refine jr_aload_n C 17 rfl dX5_at_16 rfl 0 rfl ?_
      refine jr_iload_n C 18 rfl dX5_at_17 rfl 1 rfl ?_
      refine jr_iload_n C 19 rfl dX5_at_18 rfl 2 rfl ?_
      obtain ⟨⟨V, hb⟩, h⟩ := h
      refine jr_callVi (r0 := (RX5, TX5, 53)) (As := [.int x1, .int x2]) (st := []) C 22 rfl (m_X5_atOf C.2.2.2.2.2.2.2.2.2.2.2.2.2.2.2 h) rfl hb rfl q1538 q1540 qs51 q102 q1541 (by decide) (by decide) ndV_X5_atOf (Nat.le_of_ble_eq_true rfl) dX5_at_19 (fun S5 r6 h => ?_)
      refine jr_goto C 27 dX5_at_22 (by decide) ?_
      exact jr_sub [] rfl (wk_X5_at_27 C  h)
theorem m_X5_at {l : Launch} (hl : l.stackTraces = false) {G : jG} {K : jS → Int32 → Prop} {S : jS} {x0 : Nat} {x1 : Int32} {x2 : Int32} (h : wp_X5_at S x0 x1 x2 K) : jMet l G d_X5_at yX5_at (ws_ yX5_at cX5_at 3 (some .int)) [.ref x0, .int x1, .int x2] S tvi K :=
  jMet.of hl rfl (by decide) (Nat.le_of_ble_eq_true rfl) (fun X C => jr_sub [0, 1, 2] rfl (wk_X5_at_0 C h))
theorem wk_X5_back_0 {X : jX} {G : jG} {K : jS → Int32 → Prop} (C : jC (X, G, 1, jA X G tvi K) d_X5_back cX5_back "SamovarModel" (some .int) yX5_back) {S : jS} {x0 : Nat}  (h : wp_X5_back S x0 K) : jJ (X, G, 1, jA X G tvi K) S [(0, .ref x0)] 0 [] := by
  unfold wp_X5_back at h
  refine jr_aload_n C 1 rfl dX5_back_0 rfl 0 rfl ?_
  refine jr_geti C 4 rfl fo_8_12 q1289 dX5_back_1 h (fun v1 h => ?_)
  refine jr_if_ne C 10 7 rfl dX5_back_4 (by decide) (fun c5 => ?_) (fun c5 => ?_)
  · have h := h.1 c5
    refine jr_bipush (v := (-3)) C 9 rfl dX5_back_7 (by decide) ?_
    exact jr_ireturn C dX5_back_9 h
  · have h := h.2 c5
    refine jr_aload_n C 11 rfl dX5_back_10 rfl 0 rfl ?_
    refine jr_dup C 12 rfl dX5_back_11 rfl ?_
    refine jr_geti C 15 rfl fo_8_12 q1289 dX5_back_12 h (fun v2 h => ?_)
    refine jr_iconst (v := 1) C 16 rfl dX5_back_15 (by decide) ?_
    refine jr_isub C 17 rfl dX5_back_16 ?_
    refine jr_putv C 20 rfl fo_8_12 (by decide) q1289 dX5_back_17 rfl rfl h (fun S3 h => ?_)
    refine jr_aload_n C 21 rfl dX5_back_20 rfl 0 rfl ?_
    refine jr_geti C 24 rfl fo_8_12 q1289 dX5_back_21 h (fun v4 h => ?_)
    exact jr_ireturn C dX5_back_24 h
theorem m_X5_back {l : Launch} (hl : l.stackTraces = false) {G : jG} {K : jS → Int32 → Prop} {S : jS} {x0 : Nat} (h : wp_X5_back S x0 K) : jMet l G d_X5_back yX5_back (ws_ yX5_back cX5_back 1 (some .int)) [.ref x0] S tvi K :=
  jMet.of hl rfl (by decide) (Nat.le_of_ble_eq_true rfl) (fun X C => jr_sub [0] rfl (wk_X5_back_0 C h))
theorem wk_X5_starts_0 {X : jX} {G : jG} {K : jS → Unit → Prop} (C : jC (X, G, 1, jA X G tvv K) d_X5_starts cX5_starts "SamovarModel" none yX5_starts) {S : jS} {x0 : Nat}  (h : wp_X5_starts S x0 K) : jJ (X, G, 1, jA X G tvv K) S [(0, .ref x0)] 0 [] := by
  unfold wp_X5_starts at h
  refine jr_aload_n C 1 rfl dX5_starts_0 rfl 0 rfl ?_
  obtain ⟨⟨V, hb⟩, h⟩ := h
  refine jr_callVv (r0 := (RX5, TX5, 53)) (As := []) (st := []) C 4 rfl (m_X5_asTold C.2.2.2.2.2.2.2.2.2.2.2.2.2.2.2 h) rfl hb rfl q1546 q1548 qs53 q102 q1549 (by decide) (by decide) ndV_X5_asTold (Nat.le_of_ble_eq_true rfl) dX5_starts_1 (fun S1 _ h => ?_)
  refine jr_aload_n C 5 rfl dX5_starts_4 rfl 0 rfl ?_
  refine jr_iconst (v := (-1)) C 6 rfl dX5_starts_5 (by decide) ?_
  refine jr_putv C 9 rfl fo_8_40 (by decide) q1317 dX5_starts_6 rfl rfl h (fun S2 h => ?_)
  refine jr_aload_n C 10 rfl dX5_starts_9 rfl 0 rfl ?_
  refine jr_iconst (v := (-1)) C 11 rfl dX5_starts_10 (by decide) ?_
  refine jr_putv C 14 rfl fo_8_41 (by decide) q1318 dX5_starts_11 rfl rfl h (fun S3 h => ?_)
  exact jr_return C dX5_starts_14 h
theorem m_X5_starts {l : Launch} (hl : l.stackTraces = false) {G : jG} {K : jS → Unit → Prop} {S : jS} {x0 : Nat} (h : wp_X5_starts S x0 K) : jMet l G d_X5_starts yX5_starts (ws_ yX5_starts cX5_starts 1 none) [.ref x0] S tvv K :=
  jMet.of hl rfl (by decide) (Nat.le_of_ble_eq_true rfl) (fun X C => jr_sub [0] rfl (wk_X5_starts_0 C h))
theorem wk_X5_drunkNow_14 {X : jX} {G : jG} {K : jS → Int32 → Prop} (C : jC (X, G, 3, jA X G tvi K) d_X5_drunkNow cX5_drunkNow "SamovarModel" (some .int) yX5_drunkNow) {S : jS} {t0 : Int32} {t1 : Nat} {x0 : Nat} {x2 : Int32} {Kc4 : jS × Int32 × Int32 → Prop} (hc4 : ∀ z : jS × Int32 × Int32, Kc4 z → jJ (X, G, 3, jA X G tvi K) z.1 [(0, .ref x0), (1, .int z.2.1), (2, .int z.2.2)] 4 []) (h : wp_X5_drunkNow_14 S t0 t1 x0 x2 Kc4 K) : jJ (X, G, 3, jA X G tvi K) S [(0, .ref x0), (2, .int x2)] 14 [.ref t1, .int t0] := by
  unfold wp_X5_drunkNow_14 at h
  refine jr_getr C 17 rfl fo_8_32 q1309 dX5_drunkNow_14 h (fun v1 h => ?_)
  refine jr_iload_n C 18 rfl dX5_drunkNow_17 rfl 1 rfl ?_
  refine jr_iald C 19 rfl dX5_drunkNow_18 h (fun v2 h => ?_)
  refine jr_iadd C 20 rfl dX5_drunkNow_19 ?_
  refine jr_istore_n (lv' := [(1, .int (t0 + v2)), (0, .ref x0), (2, .int x2)]) C 21 rfl dX5_drunkNow_20 rfl (Nat.le_of_ble_eq_true rfl) rfl ?_
  refine jr_iinc (v := (x2 + 1)) (lv' := [(2, .int (x2 + 1)), (1, .int (t0 + v2)), (0, .ref x0)]) C 24 rfl dX5_drunkNow_21 2 rfl rfl (Nat.le_of_ble_eq_true rfl) rfl ?_
  refine jr_goto C 4 dX5_drunkNow_24 (by decide) ?_
  exact jr_sub [2, 1, 0] rfl (hc4 _ h)
theorem wk_X5_drunkNow_4 {X : jX} {G : jG} {K : jS → Int32 → Prop} (C : jC (X, G, 3, jA X G tvi K) d_X5_drunkNow cX5_drunkNow "SamovarModel" (some .int) yX5_drunkNow) {S : jS} {x0 : Nat} {x1 : Int32} {x2 : Int32} {Kc4 : jS × Int32 × Int32 → Prop} (hc4 : ∀ z : jS × Int32 × Int32, Kc4 z → jJ (X, G, 3, jA X G tvi K) z.1 [(0, .ref x0), (1, .int z.2.1), (2, .int z.2.2)] 4 []) (h : wp_X5_drunkNow_4 S x0 x1 x2 Kc4 K) : jJ (X, G, 3, jA X G tvi K) S [(0, .ref x0), (1, .int x1), (2, .int x2)] 4 [] := by
  unfold wp_X5_drunkNow_4 at h
  refine jr_iload_n C 5 rfl dX5_drunkNow_4 rfl 2 rfl ?_
  refine jr_aload_n C 6 rfl dX5_drunkNow_5 rfl 0 rfl ?_
  refine jr_geti C 9 rfl fo_8_16 q1293 dX5_drunkNow_6 h (fun v1 h => ?_)
  refine jr_icmp_ge C 27 12 rfl dX5_drunkNow_9 (by decide) (fun c2 => ?_) (fun c2 => ?_)
  · have h := h.1 c2
    refine jr_iload_n C 28 rfl dX5_drunkNow_27 rfl 1 rfl ?_
    exact jr_ireturn C dX5_drunkNow_28 h
  · have h := h.2 c2
    refine jr_iload_n C 13 rfl dX5_drunkNow_12 rfl 1 rfl ?_
    refine jr_aload_n C 14 rfl dX5_drunkNow_13 rfl 0 rfl ?_
    exact jr_sub [0, 2] rfl (wk_X5_drunkNow_14 C hc4 h)
theorem wk_X5_drunkNow_4_L {X : jX} {G : jG} {K : jS → Int32 → Prop} (C : jC (X, G, 3, jA X G tvi K) d_X5_drunkNow cX5_drunkNow "SamovarModel" (some .int) yX5_drunkNow) {x0 : Nat}  : ∀ (n : Nat) (z : jS × Int32 × Int32), jlp n (wp_X5_drunkNow_4_L x0 K) z → jJ (X, G, 3, jA X G tvi K) z.1 [(0, .ref x0), (1, .int z.2.1), (2, .int z.2.2)] 4 [] := by
  intro n
  induction n with
  | zero => intro z h; exact h.elim
  | succ n ih => intro z h; exact wk_X5_drunkNow_4 C ih h
theorem wk_X5_drunkNow_0 {X : jX} {G : jG} {K : jS → Int32 → Prop} (C : jC (X, G, 3, jA X G tvi K) d_X5_drunkNow cX5_drunkNow "SamovarModel" (some .int) yX5_drunkNow) {S : jS} {x0 : Nat}  (h : wp_X5_drunkNow S x0 K) : jJ (X, G, 3, jA X G tvi K) S [(0, .ref x0)] 0 [] := by
  unfold wp_X5_drunkNow at h
  refine jr_iconst (v := 0) C 1 rfl dX5_drunkNow_0 (by decide) ?_
  refine jr_istore_n (lv' := [(1, .int 0), (0, .ref x0)]) C 2 rfl dX5_drunkNow_1 rfl (Nat.le_of_ble_eq_true rfl) rfl ?_
  refine jr_iconst (v := 0) C 3 rfl dX5_drunkNow_2 (by decide) ?_
  refine jr_istore_n (lv' := [(2, .int 0), (1, .int 0), (0, .ref x0)]) C 4 rfl dX5_drunkNow_3 rfl (Nat.le_of_ble_eq_true rfl) rfl ?_
  obtain ⟨n, h⟩ := h
  exact jr_sub [2, 1, 0] rfl (wk_X5_drunkNow_4_L C  n _ h)
theorem m_X5_drunkNow {l : Launch} (hl : l.stackTraces = false) {G : jG} {K : jS → Int32 → Prop} {S : jS} {x0 : Nat} (h : wp_X5_drunkNow S x0 K) : jMet l G d_X5_drunkNow yX5_drunkNow (ws_ yX5_drunkNow cX5_drunkNow 3 (some .int)) [.ref x0] S tvi K :=
  jMet.of hl rfl (by decide) (Nat.le_of_ble_eq_true rfl) (fun X C => jr_sub [0] rfl (wk_X5_drunkNow_0 C h))
theorem wk_X5_tries_46 {X : jX} {G : jG} {K : jS → Unit → Prop} (C : jC (X, G, 3, jA X G tvv K) d_X5_tries cX5_tries "SamovarModel" none yX5_tries) {S : jS} {t0 : Nat} {t1 : Int32}  (h : wp_X5_tries_46 S t0 t1 K) : jJ (X, G, 3, jA X G tvv K) S [] 46 [.int t1, .ref t0] := by
  unfold wp_X5_tries_46 at h
  refine jr_putv C 49 rfl fo_8_41 (by decide) q1318 dX5_tries_46 rfl rfl h (fun S1 h => ?_)
  exact jr_return C dX5_tries_49 h
theorem wk_X5_tries_26 {X : jX} {G : jG} {K : jS → Unit → Prop} (C : jC (X, G, 3, jA X G tvv K) d_X5_tries cX5_tries "SamovarModel" none yX5_tries) {S : jS} {t0 : Nat} {t1 : Int32} {x0 : Nat} {x2 : Int32}  (h : wp_X5_tries_26 S t0 t1 x0 x2 K) : jJ (X, G, 3, jA X G tvv K) S [(0, .ref x0), (2, .int x2)] 26 [.int t1, .ref t0] := by
  unfold wp_X5_tries_26 at h
  refine jr_putv C 29 rfl fo_8_40 (by decide) q1317 dX5_tries_26 rfl rfl h (fun S1 h => ?_)
  refine jr_aload_n C 30 rfl dX5_tries_29 rfl 0 rfl ?_
  refine jr_iload_n C 31 rfl dX5_tries_30 rfl 1 rfl ?_
  refine jr_aload_n C 32 rfl dX5_tries_31 rfl 0 rfl ?_
  refine jr_geti C 35 rfl fo_8_41 q1318 dX5_tries_32 h (fun v2 h => ?_)
  refine jr_icmp_le C 42 38 rfl dX5_tries_35 (by decide) (fun c4 => ?_) (fun c4 => ?_)
  · have h := h.1 c4
    refine jr_aload_n C 43 rfl dX5_tries_42 rfl 0 rfl ?_
    refine jr_geti C 46 rfl fo_8_41 q1318 dX5_tries_43 h (fun v3 h => ?_)
    exact jr_sub [] rfl (wk_X5_tries_46 C  h)
  · have h := h.2 c4
    refine jr_iload_n C 39 rfl dX5_tries_38 rfl 1 rfl ?_
    refine jr_goto C 46 dX5_tries_39 (by decide) ?_
    exact jr_sub [] rfl (wk_X5_tries_46 C  h)
theorem wk_X5_tries_0 {X : jX} {G : jG} {K : jS → Unit → Prop} (C : jC (X, G, 3, jA X G tvv K) d_X5_tries cX5_tries "SamovarModel" none yX5_tries) {S : jS} {x0 : Nat} {x1 : Int32}  (h : wp_X5_tries S x0 x1 K) : jJ (X, G, 3, jA X G tvv K) S [(0, .ref x0), (1, .int x1)] 0 [] := by
  unfold wp_X5_tries at h
  refine jr_aload_n C 1 rfl dX5_tries_0 rfl 0 rfl ?_
  obtain ⟨⟨V, hb⟩, h⟩ := h
  refine jr_callVv (r0 := (RX5, TX5, 53)) (As := []) (st := []) C 4 rfl (m_X5_runs C.2.2.2.2.2.2.2.2.2.2.2.2.2.2.2 h) rfl hb rfl q1550 q1552 qs54 q102 q1553 (by decide) (by decide) ndV_X5_runs (Nat.le_of_ble_eq_true rfl) dX5_tries_1 (fun S1 _ h => ?_)
  refine jr_aload_n C 5 rfl dX5_tries_4 rfl 0 rfl ?_
  obtain ⟨⟨V, hb⟩, h⟩ := h
  refine jr_callVi (r0 := (RX5, TX5, 53)) (As := []) (st := []) C 8 rfl (m_X5_drunkNow C.2.2.2.2.2.2.2.2.2.2.2.2.2.2.2 h) rfl hb rfl q1616 q1618 qs66 q102 q1619 (by decide) (by decide) ndV_X5_drunkNow (Nat.le_of_ble_eq_true rfl) dX5_tries_5 (fun S2 r3 h => ?_)
  refine jr_istore_n (lv' := [(2, .int r3), (0, .ref x0), (1, .int x1)]) C 9 rfl dX5_tries_8 rfl (Nat.le_of_ble_eq_true rfl) rfl ?_
  refine jr_aload_n C 10 rfl dX5_tries_9 rfl 1 rfl ?_
  refine jr_iload_n C 11 rfl dX5_tries_10 rfl 0 rfl ?_
  refine jr_aload_n C 12 rfl dX5_tries_11 rfl 1 rfl ?_
  refine jr_geti C 15 rfl fo_8_41 q1318 dX5_tries_12 h (fun v4 h => ?_)
  refine jr_icmp_le C 22 18 rfl dX5_tries_15 (by decide) (fun c6 => ?_) (fun c6 => ?_)
  · have h := h.1 c6
    refine jr_aload_n C 23 rfl dX5_tries_22 rfl 1 rfl ?_
    refine jr_geti C 26 rfl fo_8_40 q1317 dX5_tries_23 h (fun v5 h => ?_)
    exact jr_sub [1, 0] rfl (wk_X5_tries_26 C  h)
  · have h := h.2 c6
    refine jr_iload_n C 19 rfl dX5_tries_18 rfl 2 rfl ?_
    refine jr_goto C 26 dX5_tries_19 (by decide) ?_
    exact jr_sub [1, 0] rfl (wk_X5_tries_26 C  h)
theorem m_X5_tries {l : Launch} (hl : l.stackTraces = false) {G : jG} {K : jS → Unit → Prop} {S : jS} {x0 : Nat} {x1 : Int32} (h : wp_X5_tries S x0 x1 K) : jMet l G d_X5_tries yX5_tries (ws_ yX5_tries cX5_tries 3 none) [.ref x0, .int x1] S tvv K :=
  jMet.of hl rfl (by decide) (Nat.le_of_ble_eq_true rfl) (fun X C => jr_sub [0, 1] rfl (wk_X5_tries_0 C h))
theorem wk_X5_betterOf_25 {X : jX} {G : jG} {K : jS → Int32 → Prop} (C : jC (X, G, 5, jA X G tvi K) d_X5_betterOf cX5_betterOf "SamovarModel" (some .int) yX5_betterOf) {S : jS} {t0 : Nat} {t1 : Int32} {x0 : Nat} {x1 : Int32} {x2 : Int32} {x3 : Int32} {x4 : Int32} {Kc14 : jS × Int32 → Prop} (hc14 : ∀ z : jS × Int32, Kc14 z → jJ (X, G, 5, jA X G tvi K) z.1 [(0, .ref x0), (1, .int x1), (2, .int x2), (3, .int x3), (4, .int z.2)] 14 []) (h : wp_X5_betterOf_25 S t0 t1 x0 x1 x2 x3 x4 Kc14 K) : jJ (X, G, 5, jA X G tvi K) S [(0, .ref x0), (1, .int x1), (2, .int x2), (3, .int x3), (4, .int x4)] 25 [.int t1, .ref t0] := by
  unfold wp_X5_betterOf_25 at h
  refine jr_iload C 27 rfl dX5_betterOf_25 4 rfl ?_
  refine jr_iast C 28 rfl dX5_betterOf_27 h (fun S1 h => ?_)
  refine jr_aload_n C 29 rfl dX5_betterOf_28 rfl 0 rfl ?_
  refine jr_iload C 31 rfl dX5_betterOf_29 4 rfl ?_
  obtain ⟨⟨V, hb⟩, h⟩ := h
  refine jr_callVv (r0 := (RX5, TX5, 53)) (As := [.int x4]) (st := []) C 34 rfl (m_X5_tries C.2.2.2.2.2.2.2.2.2.2.2.2.2.2.2 h) rfl hb rfl q1668 q1670 qs74 q102 q1671 (by decide) (by decide) ndV_X5_tries (Nat.le_of_ble_eq_true rfl) dX5_betterOf_31 (fun S2 _ h => ?_)
  refine jr_iinc (v := (x4 + 1)) (lv' := [(4, .int (x4 + 1)), (0, .ref x0), (1, .int x1), (2, .int x2), (3, .int x3)]) C 37 rfl dX5_betterOf_34 4 rfl rfl (Nat.le_of_ble_eq_true rfl) rfl ?_
  refine jr_goto C 14 dX5_betterOf_37 (by decide) ?_
  exact jr_sub [1, 2, 3, 4, 0] rfl (hc14 _ h)
theorem wk_X5_betterOf_62 {X : jX} {G : jG} {K : jS → Int32 → Prop} (C : jC (X, G, 5, jA X G tvi K) d_X5_betterOf cX5_betterOf "SamovarModel" (some .int) yX5_betterOf) {S : jS} {t0 : Int32}  (h : wp_X5_betterOf_62 S t0 K) : jJ (X, G, 5, jA X G tvi K) S [] 62 [.int t0] := by
  unfold wp_X5_betterOf_62 at h
  exact jr_ireturn C dX5_betterOf_62 h
theorem wk_X5_betterOf_45 {X : jX} {G : jG} {K : jS → Int32 → Prop} (C : jC (X, G, 5, jA X G tvi K) d_X5_betterOf cX5_betterOf "SamovarModel" (some .int) yX5_betterOf) {S : jS} {t0 : Nat} {t1 : Int32} {x0 : Nat} {x2 : Int32} {x3 : Int32}  (h : wp_X5_betterOf_45 S t0 t1 x0 x2 x3 K) : jJ (X, G, 5, jA X G tvi K) S [(0, .ref x0), (2, .int x2), (3, .int x3)] 45 [.int t1, .ref t0] := by
  unfold wp_X5_betterOf_45 at h
  refine jr_iload_n C 46 rfl dX5_betterOf_45 rfl 2 rfl ?_
  refine jr_iast C 47 rfl dX5_betterOf_46 h (fun S1 h => ?_)
  refine jr_iload_n C 48 rfl dX5_betterOf_47 rfl 1 rfl ?_
  refine jr_if_ne C 58 51 rfl dX5_betterOf_48 (by decide) (fun c4 => ?_) (fun c4 => ?_)
  · have h := h.1 c4
    refine jr_aload_n C 52 rfl dX5_betterOf_51 rfl 0 rfl ?_
    refine jr_geti C 55 rfl fo_8_40 q1317 dX5_betterOf_52 h (fun v2 h => ?_)
    refine jr_goto C 62 dX5_betterOf_55 (by decide) ?_
    exact jr_sub [] rfl (wk_X5_betterOf_62 C  h)
  · have h := h.2 c4
    refine jr_aload_n C 59 rfl dX5_betterOf_58 rfl 0 rfl ?_
    refine jr_geti C 62 rfl fo_8_41 q1318 dX5_betterOf_59 h (fun v3 h => ?_)
    exact jr_sub [] rfl (wk_X5_betterOf_62 C  h)
theorem wk_X5_betterOf_14 {X : jX} {G : jG} {K : jS → Int32 → Prop} (C : jC (X, G, 5, jA X G tvi K) d_X5_betterOf cX5_betterOf "SamovarModel" (some .int) yX5_betterOf) {S : jS} {x0 : Nat} {x1 : Int32} {x2 : Int32} {x3 : Int32} {x4 : Int32} {Kc14 : jS × Int32 → Prop} (hc14 : ∀ z : jS × Int32, Kc14 z → jJ (X, G, 5, jA X G tvi K) z.1 [(0, .ref x0), (1, .int x1), (2, .int x2), (3, .int x3), (4, .int z.2)] 14 []) (h : wp_X5_betterOf_14 S x0 x1 x2 x3 x4 Kc14 K) : jJ (X, G, 5, jA X G tvi K) S [(0, .ref x0), (1, .int x1), (2, .int x2), (3, .int x3), (4, .int x4)] 14 [] := by
  unfold wp_X5_betterOf_14 at h
  refine jr_iload C 16 rfl dX5_betterOf_14 4 rfl ?_
  refine jr_iconst (v := 3) C 17 rfl dX5_betterOf_16 (by decide) ?_
  refine jr_icmp_ge C 40 20 rfl dX5_betterOf_17 (by decide) (fun c3 => ?_) (fun c3 => ?_)
  · have h := h.1 c3
    refine jr_aload_n C 41 rfl dX5_betterOf_40 rfl 0 rfl ?_
    refine jr_getr C 44 rfl fo_8_4 q1281 dX5_betterOf_41 h (fun v1 h => ?_)
    refine jr_iload_n C 45 rfl dX5_betterOf_44 rfl 1 rfl ?_
    exact jr_sub [0, 2, 3] rfl (wk_X5_betterOf_45 C  h)
  · have h := h.2 c3
    refine jr_aload_n C 21 rfl dX5_betterOf_20 rfl 0 rfl ?_
    refine jr_getr C 24 rfl fo_8_4 q1281 dX5_betterOf_21 h (fun v2 h => ?_)
    refine jr_iload_n C 25 rfl dX5_betterOf_24 rfl 1 rfl ?_
    exact (wk_X5_betterOf_25 C hc14 h)
theorem wk_X5_betterOf_14_L {X : jX} {G : jG} {K : jS → Int32 → Prop} (C : jC (X, G, 5, jA X G tvi K) d_X5_betterOf cX5_betterOf "SamovarModel" (some .int) yX5_betterOf) {x0 : Nat} {x1 : Int32} {x2 : Int32} {x3 : Int32}  : ∀ (n : Nat) (z : jS × Int32), jlp n (wp_X5_betterOf_14_L x0 x1 x2 x3 K) z → jJ (X, G, 5, jA X G tvi K) z.1 [(0, .ref x0), (1, .int x1), (2, .int x2), (3, .int x3), (4, .int z.2)] 14 [] := by
  intro n
  induction n with
  | zero => intro z h; exact h.elim
  | succ n ih => intro z h; exact wk_X5_betterOf_14 C ih h
theorem wk_X5_betterOf_0 {X : jX} {G : jG} {K : jS → Int32 → Prop} (C : jC (X, G, 5, jA X G tvi K) d_X5_betterOf cX5_betterOf "SamovarModel" (some .int) yX5_betterOf) {S : jS} {x0 : Nat} {x1 : Int32} {x2 : Int32}  (h : wp_X5_betterOf S x0 x1 x2 K) : jJ (X, G, 5, jA X G tvi K) S [(0, .ref x0), (1, .int x1), (2, .int x2)] 0 [] := by
  unfold wp_X5_betterOf at h
  refine jr_aload_n C 1 rfl dX5_betterOf_0 rfl 0 rfl ?_
  obtain ⟨⟨V, hb⟩, h⟩ := h
  refine jr_callVv (r0 := (RX5, TX5, 53)) (As := []) (st := []) C 4 rfl (m_X5_starts C.2.2.2.2.2.2.2.2.2.2.2.2.2.2.2 h) rfl hb rfl q1664 q1666 qs73 q102 q1667 (by decide) (by decide) ndV_X5_starts (Nat.le_of_ble_eq_true rfl) dX5_betterOf_1 (fun S1 _ h => ?_)
  refine jr_aload_n C 5 rfl dX5_betterOf_4 rfl 0 rfl ?_
  refine jr_getr C 8 rfl fo_8_4 q1281 dX5_betterOf_5 h (fun v2 h => ?_)
  refine jr_iload_n C 9 rfl dX5_betterOf_8 rfl 1 rfl ?_
  refine jr_iald C 10 rfl dX5_betterOf_9 h (fun v3 h => ?_)
  refine jr_istore_n (lv' := [(3, .int v3), (0, .ref x0), (1, .int x1), (2, .int x2)]) C 11 rfl dX5_betterOf_10 rfl (Nat.le_of_ble_eq_true rfl) rfl ?_
  refine jr_iconst (v := 0) C 12 rfl dX5_betterOf_11 (by decide) ?_
  refine jr_istore (lv' := [(4, .int 0), (3, .int v3), (0, .ref x0), (1, .int x1), (2, .int x2)]) C 14 rfl dX5_betterOf_12 (Nat.le_of_ble_eq_true rfl) rfl ?_
  obtain ⟨n, h⟩ := h
  exact jr_sub [2, 3, 4, 1, 0] rfl (wk_X5_betterOf_14_L C  n _ h)
theorem m_X5_betterOf {l : Launch} (hl : l.stackTraces = false) {G : jG} {K : jS → Int32 → Prop} {S : jS} {x0 : Nat} {x1 : Int32} {x2 : Int32} (h : wp_X5_betterOf S x0 x1 x2 K) : jMet l G d_X5_betterOf yX5_betterOf (ws_ yX5_betterOf cX5_betterOf 5 (some .int)) [.ref x0, .int x1, .int x2] S tvi K :=
  jMet.of hl rfl (by decide) (Nat.le_of_ble_eq_true rfl) (fun X C => jr_sub [0, 1, 2] rfl (wk_X5_betterOf_0 C h))
theorem wk_X5_isPiece_0 {X : jX} {G : jG} {K : jS → Int32 → Prop} (C : jC (X, G, 2, jA X G tvi K) d_X5_isPiece cX5_isPiece "SamovarModel" (some .boolean) yX5_isPiece) {S : jS} {x0 : Nat} {x1 : Int32}  (h : wp_X5_isPiece S x0 x1 K) : jJ (X, G, 2, jA X G tvi K) S [(0, .ref x0), (1, .int x1)] 0 [] := by
  unfold wp_X5_isPiece at h
  refine jr_aload_n C 1 rfl dX5_isPiece_0 rfl 0 rfl ?_
  obtain ⟨⟨V, hb⟩, h⟩ := h
  refine jr_callVv (r0 := (RX5, TX5, 53)) (As := []) (st := []) C 4 rfl (m_X5_reads C.2.2.2.2.2.2.2.2.2.2.2.2.2.2.2 h) rfl hb rfl q1487 q1489 qs46 q102 q1490 (by decide) (by decide) ndV_X5_reads (Nat.le_of_ble_eq_true rfl) dX5_isPiece_1 (fun S1 _ h => ?_)
  refine jr_iload_n C 5 rfl dX5_isPiece_4 rfl 1 rfl ?_
  refine jr_iconst (v := 0) C 6 rfl dX5_isPiece_5 (by decide) ?_
  refine jr_aload_n C 7 rfl dX5_isPiece_6 rfl 0 rfl ?_
  refine jr_geti C 10 rfl fo_8_2 q1279 dX5_isPiece_7 h (fun v2 h => ?_)
  refine jr_iconst (v := 1) C 11 rfl dX5_isPiece_10 (by decide) ?_
  refine jr_isub C 12 rfl dX5_isPiece_11 ?_
  refine jr_callSi (As := [.int x1, .int 0, .int (v2 - 1)]) (st := []) C 15 rfl (m_X5_in C.2.2.2.2.2.2.2.2.2.2.2.2.2.2.2 h) rfl q1445 q1446 q102 q1447 (by decide) (by decide) nd_X5_in (Nat.le_of_ble_eq_true rfl) dX5_isPiece_12 (fun S3 r4 h => ?_)
  exact jr_zreturn C dX5_isPiece_15 h
theorem m_X5_isPiece {l : Launch} (hl : l.stackTraces = false) {G : jG} {K : jS → Int32 → Prop} {S : jS} {x0 : Nat} {x1 : Int32} (h : wp_X5_isPiece S x0 x1 K) : jMet l G d_X5_isPiece yX5_isPiece (ws_ yX5_isPiece cX5_isPiece 2 (some .boolean)) [.ref x0, .int x1] S tvi K :=
  jMet.of hl rfl (by decide) (Nat.le_of_ble_eq_true rfl) (fun X C => jr_sub [0, 1] rfl (wk_X5_isPiece_0 C h))
theorem wk_X5_isTwo_0 {X : jX} {G : jG} {K : jS → Int32 → Prop} (C : jC (X, G, 1, jA X G tvi K) d_X5_isTwo cX5_isTwo "SamovarModel" (some .boolean) yX5_isTwo) {S : jS} {x0 : Int32}  (h : wp_X5_isTwo S x0 K) : jJ (X, G, 1, jA X G tvi K) S [(0, .int x0)] 0 [] := by
  unfold wp_X5_isTwo at h
  refine jr_iload_n C 1 rfl dX5_isTwo_0 rfl 0 rfl ?_
  refine jr_iconst (v := 0) C 2 rfl dX5_isTwo_1 (by decide) ?_
  refine jr_iconst (v := 1) C 3 rfl dX5_isTwo_2 (by decide) ?_
  refine jr_callSi (As := [.int x0, .int 0, .int 1]) (st := []) C 6 rfl (m_X5_in C.2.2.2.2.2.2.2.2.2.2.2.2.2.2.2 h) rfl q1445 q1446 q102 q1447 (by decide) (by decide) nd_X5_in (Nat.le_of_ble_eq_true rfl) dX5_isTwo_3 (fun S1 r2 h => ?_)
  exact jr_zreturn C dX5_isTwo_6 h
theorem m_X5_isTwo {l : Launch} (hl : l.stackTraces = false) {G : jG} {K : jS → Int32 → Prop} {S : jS} {x0 : Int32} (h : wp_X5_isTwo S x0 K) : jMet l G d_X5_isTwo yX5_isTwo (ws_ yX5_isTwo cX5_isTwo 1 (some .boolean)) [.int x0] S tvi K :=
  jMet.of hl rfl (by decide) (Nat.le_of_ble_eq_true rfl) (fun X C => jr_sub [0] rfl (wk_X5_isTwo_0 C h))
theorem wk_X5_better_26 {X : jX} {G : jG} {K : jS → Int32 → Prop} (C : jC (X, G, 3, jA X G tvi K) d_X5_better cX5_better "SamovarModel" (some .int) yX5_better) {S : jS} {t0 : Int32}  (h : wp_X5_better_26 S t0 K) : jJ (X, G, 3, jA X G tvi K) S [] 26 [.int t0] := by
  unfold wp_X5_better_26 at h
  exact jr_ireturn C dX5_better_26 h
theorem wk_X5_better_24 {X : jX} {G : jG} {K : jS → Int32 → Prop} (C : jC (X, G, 3, jA X G tvi K) d_X5_better cX5_better "SamovarModel" (some .int) yX5_better) {S : jS}   (h : wp_X5_better_24 S K) : jJ (X, G, 3, jA X G tvi K) S [] 24 [] := by
  unfold wp_X5_better_24 at h
  refine jr_bipush (v := (-2)) C 26 rfl dX5_better_24 (by decide) ?_
  exact (wk_X5_better_26 C  h)
theorem wk_X5_better_0 {X : jX} {G : jG} {K : jS → Int32 → Prop} (C : jC (X, G, 3, jA X G tvi K) d_X5_better cX5_better "SamovarModel" (some .int) yX5_better) {S : jS} {x0 : Nat} {x1 : Int32} {x2 : Int32}  (h : wp_X5_better S x0 x1 x2 K) : jJ (X, G, 3, jA X G tvi K) S [(0, .ref x0), (1, .int x1), (2, .int x2)] 0 [] := by
  unfold wp_X5_better at h
  refine jr_aload_n C 1 rfl dX5_better_0 rfl 0 rfl ?_
  refine jr_iload_n C 2 rfl dX5_better_1 rfl 1 rfl ?_
  obtain ⟨⟨V, hb⟩, h⟩ := h
  refine jr_callVi (r0 := (RX5, TX5, 53)) (As := [.int x1]) (st := []) C 5 rfl (m_X5_isPiece C.2.2.2.2.2.2.2.2.2.2.2.2.2.2.2 h) rfl hb rfl q1483 q1485 qs45 q102 q1486 (by decide) (by decide) ndV_X5_isPiece (Nat.le_of_ble_eq_true rfl) dX5_better_2 (fun S1 r2 h => ?_)
  refine jr_if_eq C 24 8 rfl dX5_better_5 (by decide) (fun c8 => ?_) (fun c8 => ?_)
  · have h := h.1 c8
    exact jr_sub [] rfl (wk_X5_better_24 C  h)
  · have h := h.2 c8
    refine jr_iload_n C 9 rfl dX5_better_8 rfl 2 rfl ?_
    refine jr_callSi (As := [.int x2]) (st := []) C 12 rfl (m_X5_isTwo C.2.2.2.2.2.2.2.2.2.2.2.2.2.2.2 h) rfl q1442 q1443 q102 q1444 (by decide) (by decide) nd_X5_isTwo (Nat.le_of_ble_eq_true rfl) dX5_better_9 (fun S3 r4 h => ?_)
    refine jr_if_eq C 24 15 rfl dX5_better_12 (by decide) (fun c7 => ?_) (fun c7 => ?_)
    · have h := h.1 c7
      exact jr_sub [] rfl (wk_X5_better_24 C  h)
    · have h := h.2 c7
      refine jr_aload_n C 16 rfl dX5_better_15 rfl 0 rfl ?_
      refine jr_iload_n C 17 rfl dX5_better_16 rfl 1 rfl ?_
      refine jr_iload_n C 18 rfl dX5_better_17 rfl 2 rfl ?_
      obtain ⟨⟨V, hb⟩, h⟩ := h
      refine jr_callVi (r0 := (RX5, TX5, 53)) (As := [.int x1, .int x2]) (st := []) C 21 rfl (m_X5_betterOf C.2.2.2.2.2.2.2.2.2.2.2.2.2.2.2 h) rfl hb rfl q1660 q1662 qs72 q102 q1663 (by decide) (by decide) ndV_X5_betterOf (Nat.le_of_ble_eq_true rfl) dX5_better_18 (fun S5 r6 h => ?_)
      refine jr_goto C 26 dX5_better_21 (by decide) ?_
      exact jr_sub [] rfl (wk_X5_better_26 C  h)
theorem m_X5_better {l : Launch} (hl : l.stackTraces = false) {G : jG} {K : jS → Int32 → Prop} {S : jS} {x0 : Nat} {x1 : Int32} {x2 : Int32} (h : wp_X5_better S x0 x1 x2 K) : jMet l G d_X5_better yX5_better (ws_ yX5_better cX5_better 3 (some .int)) [.ref x0, .int x1, .int x2] S tvi K :=
  jMet.of hl rfl (by decide) (Nat.le_of_ble_eq_true rfl) (fun X C => jr_sub [0, 1, 2] rfl (wk_X5_better_0 C h))
theorem wk_X5_lowest_17 {X : jX} {G : jG} {K : jS → Int64 → Prop} (C : jC (X, G, 11, jA X G tvl K) d_X5_lowest cX5_lowest "SamovarModel" (some .long) yX5_lowest) {S : jS} {t0 : Int64} {t1 : Int64} {x0 : Int64} {x2 : Int64} {x4 : Int32} {x7 : Int64} {Kc6 : jS × Int64 × Int64 → Prop} (hc6 : ∀ z : jS × Int64 × Int64, Kc6 z → jJ (X, G, 11, jA X G tvl K) z.1 [(0, .long x0), (2, .long x2), (4, .int x4), (5, .long z.2.1), (7, .long z.2.2)] 6 []) (h : wp_X5_lowest_17 S t0 t1 x0 x2 x4 x7 Kc6 K) : jJ (X, G, 11, jA X G tvl K) S [(0, .long x0), (2, .long x2), (4, .int x4), (7, .long x7)] 17 [.long t1, .long t0] := by
  unfold wp_X5_lowest_17 at h
  obtain ⟨hz, h⟩ := h
  refine jr_lrem C 18 rfl dX5_lowest_17 hz ?_
  refine jr_lstore (lv' := [(9, .long (t0 - t0 / t1 * t1)), (0, .long x0), (2, .long x2), (4, .int x4), (7, .long x7)]) C 20 rfl dX5_lowest_18 (Nat.le_of_ble_eq_true rfl) rfl ?_
  refine jr_lload C 22 rfl dX5_lowest_20 4 rfl ?_
  refine jr_lstore (lv' := [(5, .long x7), (9, .long (t0 - t0 / t1 * t1)), (0, .long x0), (2, .long x2), (4, .int x4), (7, .long x7)]) C 24 rfl dX5_lowest_22 (Nat.le_of_ble_eq_true rfl) rfl ?_
  refine jr_lload C 26 rfl dX5_lowest_24 1 rfl ?_
  refine jr_lstore (lv' := [(7, .long (t0 - t0 / t1 * t1)), (5, .long x7), (9, .long (t0 - t0 / t1 * t1)), (0, .long x0), (2, .long x2), (4, .int x4)]) C 28 rfl dX5_lowest_26 (Nat.le_of_ble_eq_true rfl) rfl ?_
  refine jr_goto C 6 dX5_lowest_28 (by decide) ?_
  exact jr_sub [3, 4, 5, 1, 0] rfl (hc6 _ h)
theorem wk_X5_lowest_47 {X : jX} {G : jG} {K : jS → Int64 → Prop} (C : jC (X, G, 11, jA X G tvl K) d_X5_lowest cX5_lowest "SamovarModel" (some .long) yX5_lowest) {S : jS} {t0 : Int64}  (h : wp_X5_lowest_47 S t0 K) : jJ (X, G, 11, jA X G tvl K) S [] 47 [.long t0] := by
  unfold wp_X5_lowest_47 at h
  exact jr_lreturn C dX5_lowest_47 h
theorem wk_X5_lowest_36 {X : jX} {G : jG} {K : jS → Int64 → Prop} (C : jC (X, G, 11, jA X G tvl K) d_X5_lowest cX5_lowest "SamovarModel" (some .long) yX5_lowest) {S : jS} {x0 : Int64} {x5 : Int64}  (h : wp_X5_lowest_36 S x0 x5 K) : jJ (X, G, 11, jA X G tvl K) S [(0, .long x0), (5, .long x5)] 36 [] := by
  unfold wp_X5_lowest_36 at h
  refine jr_lload_n C 37 rfl dX5_lowest_36 rfl 0 rfl ?_
  refine jr_lload C 39 rfl dX5_lowest_37 1 rfl ?_
  obtain ⟨hz, h⟩ := h
  refine jr_ldiv C 40 rfl dX5_lowest_39 hz ?_
  refine jr_goto C 47 dX5_lowest_40 (by decide) ?_
  exact jr_sub [] rfl (wk_X5_lowest_47 C  h)
theorem wk_X5_lowest_43 {X : jX} {G : jG} {K : jS → Int64 → Prop} (C : jC (X, G, 11, jA X G tvl K) d_X5_lowest cX5_lowest "SamovarModel" (some .long) yX5_lowest) {S : jS} {x2 : Int64} {x5 : Int64}  (h : wp_X5_lowest_43 S x2 x5 K) : jJ (X, G, 11, jA X G tvl K) S [(2, .long x2), (5, .long x5)] 43 [] := by
  unfold wp_X5_lowest_43 at h
  refine jr_lload_n C 44 rfl dX5_lowest_43 rfl 0 rfl ?_
  refine jr_lload C 46 rfl dX5_lowest_44 1 rfl ?_
  obtain ⟨hz, h⟩ := h
  refine jr_ldiv C 47 rfl dX5_lowest_46 hz ?_
  exact jr_sub [] rfl (wk_X5_lowest_47 C  h)
theorem wk_X5_lowest_6 {X : jX} {G : jG} {K : jS → Int64 → Prop} (C : jC (X, G, 11, jA X G tvl K) d_X5_lowest cX5_lowest "SamovarModel" (some .long) yX5_lowest) {S : jS} {x0 : Int64} {x2 : Int64} {x4 : Int32} {x5 : Int64} {x7 : Int64} {Kc6 : jS × Int64 × Int64 → Prop} (hc6 : ∀ z : jS × Int64 × Int64, Kc6 z → jJ (X, G, 11, jA X G tvl K) z.1 [(0, .long x0), (2, .long x2), (4, .int x4), (5, .long z.2.1), (7, .long z.2.2)] 6 []) (h : wp_X5_lowest_6 S x0 x2 x4 x5 x7 Kc6 K) : jJ (X, G, 11, jA X G tvl K) S [(0, .long x0), (2, .long x2), (4, .int x4), (5, .long x5), (7, .long x7)] 6 [] := by
  unfold wp_X5_lowest_6 at h
  refine jr_lload C 8 rfl dX5_lowest_6 4 rfl ?_
  refine jr_lconst (v := 0) C 9 rfl dX5_lowest_8 (by decide) ?_
  refine jr_lcmp C 10 rfl dX5_lowest_9 ?_
  refine jr_if_eq C 31 13 rfl dX5_lowest_10 (by decide) (fun c2 => ?_) (fun c2 => ?_)
  · have h := h.1 c2
    refine jr_iload C 33 rfl dX5_lowest_31 2 rfl ?_
    refine jr_if_ne C 43 36 rfl dX5_lowest_33 (by decide) (fun c1 => ?_) (fun c1 => ?_)
    · have h := h.1 c1
      exact jr_sub [0, 3] rfl (wk_X5_lowest_36 C  h)
    · have h := h.2 c1
      exact jr_sub [1, 3] rfl (wk_X5_lowest_43 C  h)
  · have h := h.2 c2
    refine jr_lload C 15 rfl dX5_lowest_13 3 rfl ?_
    refine jr_lload C 17 rfl dX5_lowest_15 4 rfl ?_
    exact jr_sub [0, 1, 2, 4] rfl (wk_X5_lowest_17 C hc6 h)
theorem wk_X5_lowest_6_L {X : jX} {G : jG} {K : jS → Int64 → Prop} (C : jC (X, G, 11, jA X G tvl K) d_X5_lowest cX5_lowest "SamovarModel" (some .long) yX5_lowest) {x0 : Int64} {x2 : Int64} {x4 : Int32}  : ∀ (n : Nat) (z : jS × Int64 × Int64), jlp n (wp_X5_lowest_6_L x0 x2 x4 K) z → jJ (X, G, 11, jA X G tvl K) z.1 [(0, .long x0), (2, .long x2), (4, .int x4), (5, .long z.2.1), (7, .long z.2.2)] 6 [] := by
  intro n
  induction n with
  | zero => intro z h; exact h.elim
  | succ n ih => intro z h; exact wk_X5_lowest_6 C ih h
theorem wk_X5_lowest_0 {X : jX} {G : jG} {K : jS → Int64 → Prop} (C : jC (X, G, 11, jA X G tvl K) d_X5_lowest cX5_lowest "SamovarModel" (some .long) yX5_lowest) {S : jS} {x0 : Int64} {x2 : Int64} {x4 : Int32}  (h : wp_X5_lowest S x0 x2 x4 K) : jJ (X, G, 11, jA X G tvl K) S [(0, .long x0), (2, .long x2), (4, .int x4)] 0 [] := by
  unfold wp_X5_lowest at h
  refine jr_lload_n C 1 rfl dX5_lowest_0 rfl 0 rfl ?_
  refine jr_lstore (lv' := [(5, .long x0), (0, .long x0), (2, .long x2), (4, .int x4)]) C 3 rfl dX5_lowest_1 (Nat.le_of_ble_eq_true rfl) rfl ?_
  refine jr_lload_n C 4 rfl dX5_lowest_3 rfl 2 rfl ?_
  refine jr_lstore (lv' := [(7, .long x2), (5, .long x0), (0, .long x0), (2, .long x2), (4, .int x4)]) C 6 rfl dX5_lowest_4 (Nat.le_of_ble_eq_true rfl) rfl ?_
  obtain ⟨n, h⟩ := h
  exact jr_sub [2, 3, 4, 1, 0] rfl (wk_X5_lowest_6_L C  n _ h)
theorem m_X5_lowest {l : Launch} (hl : l.stackTraces = false) {G : jG} {K : jS → Int64 → Prop} {S : jS} {x0 : Int64} {x2 : Int64} {x4 : Int32} (h : wp_X5_lowest S x0 x2 x4 K) : jMet l G d_X5_lowest yX5_lowest (ws_ yX5_lowest cX5_lowest 11 (some .long)) [.long x0, .long x2, .int x4] S tvl K :=
  jMet.of hl rfl (by decide) (Nat.le_of_ble_eq_true rfl) (fun X C => jr_sub [0, 1, 2] rfl (wk_X5_lowest_0 C h))
theorem wk_X5_chanceOf_58 {X : jX} {G : jG} {K : jS → Int64 → Prop} (C : jC (X, G, 10, jA X G tvl K) d_X5_chanceOf cX5_chanceOf "SamovarModel" (some .long) yX5_chanceOf) {S : jS} {t0 : Int64} {t1 : Int64} {x0 : Nat} {x1 : Int32} {x2 : Int32} {x3 : Int32} {x4 : Int64} {x6 : Int32} {x9 : Int32} {Kc10 : jS × Int64 × Int32 → Prop} (hc10 : ∀ z : jS × Int64 × Int32, Kc10 z → jJ (X, G, 10, jA X G tvl K) z.1 [(0, .ref x0), (1, .int x1), (2, .int x2), (3, .int x3), (4, .long z.2.1), (6, .int z.2.2)] 10 []) {Kc27 : jS × Int64 × Int32 → Prop} (hc27 : ∀ z : jS × Int64 × Int32, Kc27 z → jJ (X, G, 10, jA X G tvl K) z.1 [(0, .ref x0), (1, .int x1), (2, .int x2), (3, .int x3), (4, .long x4), (6, .int x6), (7, .long z.2.1), (9, .int z.2.2)] 27 []) (h : wp_X5_chanceOf_58 S t0 t1 x0 x1 x2 x3 x4 x6 x9 Kc10 Kc27 K) : jJ (X, G, 10, jA X G tvl K) S [(0, .ref x0), (1, .int x1), (2, .int x2), (3, .int x3), (4, .long x4), (6, .int x6), (9, .int x9)] 58 [.long t1, .long t0] := by
  unfold wp_X5_chanceOf_58 at h
  refine jr_lmul C 59 rfl dX5_chanceOf_58 ?_
  refine jr_lstore (lv' := [(7, .long (t0 * t1)), (0, .ref x0), (1, .int x1), (2, .int x2), (3, .int x3), (4, .long x4), (6, .int x6), (9, .int x9)]) C 61 rfl dX5_chanceOf_59 (Nat.le_of_ble_eq_true rfl) rfl ?_
  refine jr_iinc (v := (x9 + 1)) (lv' := [(9, .int (x9 + 1)), (7, .long (t0 * t1)), (0, .ref x0), (1, .int x1), (2, .int x2), (3, .int x3), (4, .long x4), (6, .int x6)]) C 64 rfl dX5_chanceOf_61 7 rfl rfl (Nat.le_of_ble_eq_true rfl) rfl ?_
  refine jr_goto C 27 dX5_chanceOf_64 (by decide) ?_
  exact jr_sub [2, 3, 4, 5, 6, 7, 1, 0] rfl (hc27 _ h)
theorem wk_X5_chanceOf_105 {X : jX} {G : jG} {K : jS → Int64 → Prop} (C : jC (X, G, 10, jA X G tvl K) d_X5_chanceOf cX5_chanceOf "SamovarModel" (some .long) yX5_chanceOf) {S : jS} {x0 : Nat} {x1 : Int32} {x2 : Int32} {x3 : Int32} {x4 : Int64} {x6 : Int32} {Kc10 : jS × Int64 × Int32 → Prop} (hc10 : ∀ z : jS × Int64 × Int32, Kc10 z → jJ (X, G, 10, jA X G tvl K) z.1 [(0, .ref x0), (1, .int x1), (2, .int x2), (3, .int x3), (4, .long z.2.1), (6, .int z.2.2)] 10 []) (h : wp_X5_chanceOf_105 S x0 x1 x2 x3 x4 x6 Kc10 K) : jJ (X, G, 10, jA X G tvl K) S [(0, .ref x0), (1, .int x1), (2, .int x2), (3, .int x3), (4, .long x4), (6, .int x6)] 105 [] := by
  unfold wp_X5_chanceOf_105 at h
  refine jr_iinc (v := (x6 + 1)) (lv' := [(6, .int (x6 + 1)), (0, .ref x0), (1, .int x1), (2, .int x2), (3, .int x3), (4, .long x4)]) C 108 rfl dX5_chanceOf_105 5 rfl rfl (Nat.le_of_ble_eq_true rfl) rfl ?_
  refine jr_goto C 10 dX5_chanceOf_108 (by decide) ?_
  exact jr_sub [1, 2, 3, 4, 5, 0] rfl (hc10 _ h)
theorem wk_X5_chanceOf_102 {X : jX} {G : jG} {K : jS → Int64 → Prop} (C : jC (X, G, 10, jA X G tvl K) d_X5_chanceOf cX5_chanceOf "SamovarModel" (some .long) yX5_chanceOf) {S : jS} {t0 : Int64} {t1 : Int64} {x0 : Nat} {x1 : Int32} {x2 : Int32} {x3 : Int32} {x6 : Int32} {Kc10 : jS × Int64 × Int32 → Prop} (hc10 : ∀ z : jS × Int64 × Int32, Kc10 z → jJ (X, G, 10, jA X G tvl K) z.1 [(0, .ref x0), (1, .int x1), (2, .int x2), (3, .int x3), (4, .long z.2.1), (6, .int z.2.2)] 10 []) (h : wp_X5_chanceOf_102 S t0 t1 x0 x1 x2 x3 x6 Kc10 K) : jJ (X, G, 10, jA X G tvl K) S [(0, .ref x0), (1, .int x1), (2, .int x2), (3, .int x3), (6, .int x6)] 102 [.long t1, .long t0] := by
  unfold wp_X5_chanceOf_102 at h
  refine jr_ladd C 103 rfl dX5_chanceOf_102 ?_
  refine jr_lstore (lv' := [(4, .long (t0 + t1)), (0, .ref x0), (1, .int x1), (2, .int x2), (3, .int x3), (6, .int x6)]) C 105 rfl dX5_chanceOf_103 (Nat.le_of_ble_eq_true rfl) rfl ?_
  exact jr_sub [1, 2, 3, 4, 0, 5] rfl (wk_X5_chanceOf_105 C hc10 h)
theorem wk_X5_chanceOf_27 {X : jX} {G : jG} {K : jS → Int64 → Prop} (C : jC (X, G, 10, jA X G tvl K) d_X5_chanceOf cX5_chanceOf "SamovarModel" (some .long) yX5_chanceOf) {S : jS} {x0 : Nat} {x1 : Int32} {x2 : Int32} {x3 : Int32} {x4 : Int64} {x6 : Int32} {x7 : Int64} {x9 : Int32} {Kc10 : jS × Int64 × Int32 → Prop} (hc10 : ∀ z : jS × Int64 × Int32, Kc10 z → jJ (X, G, 10, jA X G tvl K) z.1 [(0, .ref x0), (1, .int x1), (2, .int x2), (3, .int x3), (4, .long z.2.1), (6, .int z.2.2)] 10 []) {Kc27 : jS × Int64 × Int32 → Prop} (hc27 : ∀ z : jS × Int64 × Int32, Kc27 z → jJ (X, G, 10, jA X G tvl K) z.1 [(0, .ref x0), (1, .int x1), (2, .int x2), (3, .int x3), (4, .long x4), (6, .int x6), (7, .long z.2.1), (9, .int z.2.2)] 27 []) (h : wp_X5_chanceOf_27 S x0 x1 x2 x3 x4 x6 x7 x9 Kc10 Kc27 K) : jJ (X, G, 10, jA X G tvl K) S [(0, .ref x0), (1, .int x1), (2, .int x2), (3, .int x3), (4, .long x4), (6, .int x6), (7, .long x7), (9, .int x9)] 27 [] := by
  unfold wp_X5_chanceOf_27 at h
  refine jr_iload C 29 rfl dX5_chanceOf_27 7 rfl ?_
  refine jr_aload_n C 30 rfl dX5_chanceOf_29 rfl 0 rfl ?_
  refine jr_geti C 33 rfl fo_8_12 q1289 dX5_chanceOf_30 h (fun v1 h => ?_)
  refine jr_icmp_ge C 67 36 rfl dX5_chanceOf_33 (by decide) (fun c11 => ?_) (fun c11 => ?_)
  · have h := h.1 c11
    refine jr_lload C 69 rfl dX5_chanceOf_67 6 rfl ?_
    refine jr_lconst (v := 0) C 70 rfl dX5_chanceOf_69 (by decide) ?_
    refine jr_lcmp C 71 rfl dX5_chanceOf_70 ?_
    refine jr_if_le C 105 74 rfl dX5_chanceOf_71 (by decide) (fun c7 => ?_) (fun c7 => ?_)
    · have h := h.1 c7
      exact jr_sub [0, 1, 2, 3, 4, 5] rfl (wk_X5_chanceOf_105 C hc10 h)
    · have h := h.2 c7
      refine jr_aload_n C 75 rfl dX5_chanceOf_74 rfl 0 rfl ?_
      refine jr_iload C 77 rfl dX5_chanceOf_75 5 rfl ?_
      refine jr_putv C 80 rfl fo_8_21 (by decide) q1298 dX5_chanceOf_77 rfl rfl h (fun S2 h => ?_)
      refine jr_aload_n C 81 rfl dX5_chanceOf_80 rfl 0 rfl ?_
      obtain ⟨⟨V, hb⟩, h⟩ := h
      refine jr_callVv (r0 := (RX5, TX5, 53)) (As := []) (st := []) C 84 rfl (m_X5_runs C.2.2.2.2.2.2.2.2.2.2.2.2.2.2.2 h) rfl hb rfl q1550 q1552 qs54 q102 q1553 (by decide) (by decide) ndV_X5_runs (Nat.le_of_ble_eq_true rfl) dX5_chanceOf_81 (fun S3 _ h => ?_)
      refine jr_lload C 86 rfl dX5_chanceOf_84 4 rfl ?_
      refine jr_aload_n C 87 rfl dX5_chanceOf_86 rfl 0 rfl ?_
      refine jr_getr C 90 rfl fo_8_31 q1308 dX5_chanceOf_87 h (fun v4 h => ?_)
      refine jr_iload_n C 91 rfl dX5_chanceOf_90 rfl 2 rfl ?_
      refine jr_iald C 92 rfl dX5_chanceOf_91 h (fun v5 h => ?_)
      refine jr_iconst (v := 3) C 93 rfl dX5_chanceOf_92 (by decide) ?_
      refine jr_icmp_ne C 101 96 rfl dX5_chanceOf_93 (by decide) (fun c6 => ?_) (fun c6 => ?_)
      · have h := h.1 c6
        refine jr_lload C 98 rfl dX5_chanceOf_96 6 rfl ?_
        refine jr_goto C 102 dX5_chanceOf_98 (by decide) ?_
        exact jr_sub [0, 1, 2, 3, 5] rfl (wk_X5_chanceOf_102 C hc10 h)
      · have h := h.2 c6
        refine jr_lconst (v := 0) C 102 rfl dX5_chanceOf_101 (by decide) ?_
        exact jr_sub [0, 1, 2, 3, 5] rfl (wk_X5_chanceOf_102 C hc10 h)
  · have h := h.2 c11
    refine jr_lload C 38 rfl dX5_chanceOf_36 6 rfl ?_
    refine jr_iload C 40 rfl dX5_chanceOf_38 5 rfl ?_
    refine jr_iload C 42 rfl dX5_chanceOf_40 7 rfl ?_
    refine jr_callSi (As := [.int x6, .int x9]) (st := [.long x7]) C 45 rfl (m_X5_isIn C.2.2.2.2.2.2.2.2.2.2.2.2.2.2.2 h) rfl q1562 q1563 q102 q1564 (by decide) (by decide) nd_X5_isIn (Nat.le_of_ble_eq_true rfl) dX5_chanceOf_42 (fun S8 r9 h => ?_)
    refine jr_if_eq C 56 48 rfl dX5_chanceOf_45 (by decide) (fun c10 => ?_) (fun c10 => ?_)
    · have h := h.1 c10
      refine jr_iload_n C 57 rfl dX5_chanceOf_56 rfl 1 rfl ?_
      refine jr_i2l C 58 rfl dX5_chanceOf_57 ?_
      exact jr_sub [0, 1, 2, 3, 4, 5, 7] rfl (wk_X5_chanceOf_58 C hc10 hc27 h)
    · have h := h.2 c10
      refine jr_bipush (v := 16) C 50 rfl dX5_chanceOf_48 (by decide) ?_
      refine jr_iload_n C 51 rfl dX5_chanceOf_50 rfl 1 rfl ?_
      refine jr_isub C 52 rfl dX5_chanceOf_51 ?_
      refine jr_i2l C 53 rfl dX5_chanceOf_52 ?_
      refine jr_goto C 58 dX5_chanceOf_53 (by decide) ?_
      exact jr_sub [0, 1, 2, 3, 4, 5, 7] rfl (wk_X5_chanceOf_58 C hc10 hc27 h)
theorem wk_X5_chanceOf_27_L {X : jX} {G : jG} {K : jS → Int64 → Prop} (C : jC (X, G, 10, jA X G tvl K) d_X5_chanceOf cX5_chanceOf "SamovarModel" (some .long) yX5_chanceOf) {x0 : Nat} {x1 : Int32} {x2 : Int32} {x3 : Int32} {x4 : Int64} {x6 : Int32} {Kc10 : jS × Int64 × Int32 → Prop} (hc10 : ∀ z : jS × Int64 × Int32, Kc10 z → jJ (X, G, 10, jA X G tvl K) z.1 [(0, .ref x0), (1, .int x1), (2, .int x2), (3, .int x3), (4, .long z.2.1), (6, .int z.2.2)] 10 []) : ∀ (n : Nat) (z : jS × Int64 × Int32), jlp n (wp_X5_chanceOf_27_L x0 x1 x2 x3 x4 x6 Kc10 K) z → jJ (X, G, 10, jA X G tvl K) z.1 [(0, .ref x0), (1, .int x1), (2, .int x2), (3, .int x3), (4, .long x4), (6, .int x6), (7, .long z.2.1), (9, .int z.2.2)] 27 [] := by
  intro n
  induction n with
  | zero => intro z h; exact h.elim
  | succ n ih => intro z h; exact wk_X5_chanceOf_27 C hc10 ih h
theorem wk_X5_chanceOf_10 {X : jX} {G : jG} {K : jS → Int64 → Prop} (C : jC (X, G, 10, jA X G tvl K) d_X5_chanceOf cX5_chanceOf "SamovarModel" (some .long) yX5_chanceOf) {S : jS} {x0 : Nat} {x1 : Int32} {x2 : Int32} {x3 : Int32} {x4 : Int64} {x6 : Int32} {Kc10 : jS × Int64 × Int32 → Prop} (hc10 : ∀ z : jS × Int64 × Int32, Kc10 z → jJ (X, G, 10, jA X G tvl K) z.1 [(0, .ref x0), (1, .int x1), (2, .int x2), (3, .int x3), (4, .long z.2.1), (6, .int z.2.2)] 10 []) (h : wp_X5_chanceOf_10 S x0 x1 x2 x3 x4 x6 Kc10 K) : jJ (X, G, 10, jA X G tvl K) S [(0, .ref x0), (1, .int x1), (2, .int x2), (3, .int x3), (4, .long x4), (6, .int x6)] 10 [] := by
  unfold wp_X5_chanceOf_10 at h
  refine jr_iload C 12 rfl dX5_chanceOf_10 5 rfl ?_
  refine jr_iconst (v := 1) C 13 rfl dX5_chanceOf_12 (by decide) ?_
  refine jr_aload_n C 14 rfl dX5_chanceOf_13 rfl 0 rfl ?_
  refine jr_geti C 17 rfl fo_8_12 q1289 dX5_chanceOf_14 h (fun v1 h => ?_)
  refine jr_ishl C 18 rfl dX5_chanceOf_17 ?_
  refine jr_icmp_ge C 111 21 rfl dX5_chanceOf_18 (by decide) (fun c5 => ?_) (fun c5 => ?_)
  · have h := h.1 c5
    refine jr_lload C 113 rfl dX5_chanceOf_111 4 rfl ?_
    refine jr_lconst (v := 1) C 114 rfl dX5_chanceOf_113 (by decide) ?_
    refine jr_iconst (v := 4) C 115 rfl dX5_chanceOf_114 (by decide) ?_
    refine jr_aload_n C 116 rfl dX5_chanceOf_115 rfl 0 rfl ?_
    refine jr_geti C 119 rfl fo_8_12 q1289 dX5_chanceOf_116 h (fun v2 h => ?_)
    refine jr_imul C 120 rfl dX5_chanceOf_119 ?_
    refine jr_lshl C 121 rfl dX5_chanceOf_120 ?_
    refine jr_iload_n C 122 rfl dX5_chanceOf_121 rfl 3 rfl ?_
    refine jr_callSl (As := [.long x4, .long (1 <<< (((4 * v2) : Int32).toInt64 &&& 63)), .int x3]) (st := []) C 125 rfl (m_X5_lowest C.2.2.2.2.2.2.2.2.2.2.2.2.2.2.2 h) rfl q1759 q1760 q102 q1761 (by decide) (by decide) nd_X5_lowest (Nat.le_of_ble_eq_true rfl) dX5_chanceOf_122 (fun S3 r4 h => ?_)
    exact jr_lreturn C dX5_chanceOf_125 h
  · have h := h.2 c5
    refine jr_lconst (v := 1) C 22 rfl dX5_chanceOf_21 (by decide) ?_
    refine jr_lstore (lv' := [(7, .long 1), (0, .ref x0), (1, .int x1), (2, .int x2), (3, .int x3), (4, .long x4), (6, .int x6)]) C 24 rfl dX5_chanceOf_22 (Nat.le_of_ble_eq_true rfl) rfl ?_
    refine jr_iconst (v := 0) C 25 rfl dX5_chanceOf_24 (by decide) ?_
    refine jr_istore (lv' := [(9, .int 0), (7, .long 1), (0, .ref x0), (1, .int x1), (2, .int x2), (3, .int x3), (4, .long x4), (6, .int x6)]) C 27 rfl dX5_chanceOf_25 (Nat.le_of_ble_eq_true rfl) rfl ?_
    obtain ⟨n, h⟩ := h
    exact jr_sub [2, 3, 4, 5, 6, 7, 1, 0] rfl (wk_X5_chanceOf_27_L C hc10 n _ h)
theorem wk_X5_chanceOf_10_L {X : jX} {G : jG} {K : jS → Int64 → Prop} (C : jC (X, G, 10, jA X G tvl K) d_X5_chanceOf cX5_chanceOf "SamovarModel" (some .long) yX5_chanceOf) {x0 : Nat} {x1 : Int32} {x2 : Int32} {x3 : Int32}  : ∀ (n : Nat) (z : jS × Int64 × Int32), jlp n (wp_X5_chanceOf_10_L x0 x1 x2 x3 K) z → jJ (X, G, 10, jA X G tvl K) z.1 [(0, .ref x0), (1, .int x1), (2, .int x2), (3, .int x3), (4, .long z.2.1), (6, .int z.2.2)] 10 [] := by
  intro n
  induction n with
  | zero => intro z h; exact h.elim
  | succ n ih => intro z h; exact wk_X5_chanceOf_10 C ih h
theorem wk_X5_chanceOf_0 {X : jX} {G : jG} {K : jS → Int64 → Prop} (C : jC (X, G, 10, jA X G tvl K) d_X5_chanceOf cX5_chanceOf "SamovarModel" (some .long) yX5_chanceOf) {S : jS} {x0 : Nat} {x1 : Int32} {x2 : Int32} {x3 : Int32}  (h : wp_X5_chanceOf S x0 x1 x2 x3 K) : jJ (X, G, 10, jA X G tvl K) S [(0, .ref x0), (1, .int x1), (2, .int x2), (3, .int x3)] 0 [] := by
  unfold wp_X5_chanceOf at h
  refine jr_aload_n C 1 rfl dX5_chanceOf_0 rfl 0 rfl ?_
  obtain ⟨⟨V, hb⟩, h⟩ := h
  refine jr_callVv (r0 := (RX5, TX5, 53)) (As := []) (st := []) C 4 rfl (m_X5_asTold C.2.2.2.2.2.2.2.2.2.2.2.2.2.2.2 h) rfl hb rfl q1546 q1548 qs53 q102 q1549 (by decide) (by decide) ndV_X5_asTold (Nat.le_of_ble_eq_true rfl) dX5_chanceOf_1 (fun S1 _ h => ?_)
  refine jr_lconst (v := 0) C 5 rfl dX5_chanceOf_4 (by decide) ?_
  refine jr_lstore (lv' := [(4, .long 0), (0, .ref x0), (1, .int x1), (2, .int x2), (3, .int x3)]) C 7 rfl dX5_chanceOf_5 (Nat.le_of_ble_eq_true rfl) rfl ?_
  refine jr_iconst (v := 0) C 8 rfl dX5_chanceOf_7 (by decide) ?_
  refine jr_istore (lv' := [(6, .int 0), (4, .long 0), (0, .ref x0), (1, .int x1), (2, .int x2), (3, .int x3)]) C 10 rfl dX5_chanceOf_8 (Nat.le_of_ble_eq_true rfl) rfl ?_
  obtain ⟨n, h⟩ := h
  exact jr_sub [2, 3, 4, 5, 1, 0] rfl (wk_X5_chanceOf_10_L C  n _ h)
theorem m_X5_chanceOf {l : Launch} (hl : l.stackTraces = false) {G : jG} {K : jS → Int64 → Prop} {S : jS} {x0 : Nat} {x1 : Int32} {x2 : Int32} {x3 : Int32} (h : wp_X5_chanceOf S x0 x1 x2 x3 K) : jMet l G d_X5_chanceOf yX5_chanceOf (ws_ yX5_chanceOf cX5_chanceOf 10 (some .long)) [.ref x0, .int x1, .int x2, .int x3] S tvl K :=
  jMet.of hl rfl (by decide) (Nat.le_of_ble_eq_true rfl) (fun X C => jr_sub [0, 1, 2, 3] rfl (wk_X5_chanceOf_0 C h))
theorem wk_X5_isGuest_0 {X : jX} {G : jG} {K : jS → Int32 → Prop} (C : jC (X, G, 2, jA X G tvi K) d_X5_isGuest cX5_isGuest "SamovarModel" (some .boolean) yX5_isGuest) {S : jS} {x0 : Nat} {x1 : Int32}  (h : wp_X5_isGuest S x0 x1 K) : jJ (X, G, 2, jA X G tvi K) S [(0, .ref x0), (1, .int x1)] 0 [] := by
  unfold wp_X5_isGuest at h
  refine jr_aload_n C 1 rfl dX5_isGuest_0 rfl 0 rfl ?_
  obtain ⟨⟨V, hb⟩, h⟩ := h
  refine jr_callVv (r0 := (RX5, TX5, 53)) (As := []) (st := []) C 4 rfl (m_X5_reads C.2.2.2.2.2.2.2.2.2.2.2.2.2.2.2 h) rfl hb rfl q1487 q1489 qs46 q102 q1490 (by decide) (by decide) ndV_X5_reads (Nat.le_of_ble_eq_true rfl) dX5_isGuest_1 (fun S1 _ h => ?_)
  refine jr_iload_n C 5 rfl dX5_isGuest_4 rfl 1 rfl ?_
  refine jr_iconst (v := 0) C 6 rfl dX5_isGuest_5 (by decide) ?_
  refine jr_aload_n C 7 rfl dX5_isGuest_6 rfl 0 rfl ?_
  refine jr_geti C 10 rfl fo_8_6 q1283 dX5_isGuest_7 h (fun v2 h => ?_)
  refine jr_iconst (v := 1) C 11 rfl dX5_isGuest_10 (by decide) ?_
  refine jr_isub C 12 rfl dX5_isGuest_11 ?_
  refine jr_callSi (As := [.int x1, .int 0, .int (v2 - 1)]) (st := []) C 15 rfl (m_X5_in C.2.2.2.2.2.2.2.2.2.2.2.2.2.2.2 h) rfl q1445 q1446 q102 q1447 (by decide) (by decide) nd_X5_in (Nat.le_of_ble_eq_true rfl) dX5_isGuest_12 (fun S3 r4 h => ?_)
  exact jr_zreturn C dX5_isGuest_15 h
theorem m_X5_isGuest {l : Launch} (hl : l.stackTraces = false) {G : jG} {K : jS → Int32 → Prop} {S : jS} {x0 : Nat} {x1 : Int32} (h : wp_X5_isGuest S x0 x1 K) : jMet l G d_X5_isGuest yX5_isGuest (ws_ yX5_isGuest cX5_isGuest 2 (some .boolean)) [.ref x0, .int x1] S tvi K :=
  jMet.of hl rfl (by decide) (Nat.le_of_ble_eq_true rfl) (fun X C => jr_sub [0, 1] rfl (wk_X5_isGuest_0 C h))
theorem wk_X5_no_0 {X : jX} {G : jG} {K : jS → Int64 → Prop} (C : jC (X, G, 1, jA X G tvl K) d_X5_no cX5_no "SamovarModel" (some .long) yX5_no) {S : jS} {x0 : Int32}  (h : wp_X5_no S x0 K) : jJ (X, G, 1, jA X G tvl K) S [(0, .int x0)] 0 [] := by
  unfold wp_X5_no at h
  refine jr_ldc2 (v := (-9223372036854775808)) C 3 rfl dX5_no_0 q1765 ?_
  refine jr_iload_n C 4 rfl dX5_no_3 rfl 0 rfl ?_
  refine jr_i2l C 5 rfl dX5_no_4 ?_
  refine jr_lsub C 6 rfl dX5_no_5 ?_
  exact jr_lreturn C dX5_no_6 h
theorem m_X5_no {l : Launch} (hl : l.stackTraces = false) {G : jG} {K : jS → Int64 → Prop} {S : jS} {x0 : Int32} (h : wp_X5_no S x0 K) : jMet l G d_X5_no yX5_no (ws_ yX5_no cX5_no 1 (some .long)) [.int x0] S tvl K :=
  jMet.of hl rfl (by decide) (Nat.le_of_ble_eq_true rfl) (fun X C => jr_sub [0] rfl (wk_X5_no_0 C h))
theorem wk_X5_chance_40 {X : jX} {G : jG} {K : jS → Int64 → Prop} (C : jC (X, G, 4, jA X G tvl K) d_X5_chance cX5_chance "SamovarModel" (some .long) yX5_chance) {S : jS} {t0 : Int64}  (h : wp_X5_chance_40 S t0 K) : jJ (X, G, 4, jA X G tvl K) S [] 40 [.long t0] := by
  unfold wp_X5_chance_40 at h
  exact jr_lreturn C dX5_chance_40 h
theorem wk_X5_chance_35 {X : jX} {G : jG} {K : jS → Int64 → Prop} (C : jC (X, G, 4, jA X G tvl K) d_X5_chance cX5_chance "SamovarModel" (some .long) yX5_chance) {S : jS}   (h : wp_X5_chance_35 S K) : jJ (X, G, 4, jA X G tvl K) S [] 35 [] := by
  unfold wp_X5_chance_35 at h
  refine jr_bipush (v := (-2)) C 37 rfl dX5_chance_35 (by decide) ?_
  refine jr_callSl (As := [.int (-2)]) (st := []) C 40 rfl (m_X5_no C.2.2.2.2.2.2.2.2.2.2.2.2.2.2.2 h) rfl q1762 q1763 q102 q1764 (by decide) (by decide) nd_X5_no (Nat.le_of_ble_eq_true rfl) dX5_chance_37 (fun S1 r2 h => ?_)
  exact (wk_X5_chance_40 C  h)
theorem wk_X5_chance_0 {X : jX} {G : jG} {K : jS → Int64 → Prop} (C : jC (X, G, 4, jA X G tvl K) d_X5_chance cX5_chance "SamovarModel" (some .long) yX5_chance) {S : jS} {x0 : Nat} {x1 : Int32} {x2 : Int32} {x3 : Int32}  (h : wp_X5_chance S x0 x1 x2 x3 K) : jJ (X, G, 4, jA X G tvl K) S [(0, .ref x0), (1, .int x1), (2, .int x2), (3, .int x3)] 0 [] := by
  unfold wp_X5_chance at h
  refine jr_iload_n C 1 rfl dX5_chance_0 rfl 1 rfl ?_
  refine jr_iconst (v := 0) C 2 rfl dX5_chance_1 (by decide) ?_
  refine jr_bipush (v := 16) C 4 rfl dX5_chance_2 (by decide) ?_
  refine jr_callSi (As := [.int x1, .int 0, .int 16]) (st := []) C 7 rfl (m_X5_in C.2.2.2.2.2.2.2.2.2.2.2.2.2.2.2 h) rfl q1445 q1446 q102 q1447 (by decide) (by decide) nd_X5_in (Nat.le_of_ble_eq_true rfl) dX5_chance_4 (fun S1 r2 h => ?_)
  refine jr_if_eq C 35 10 rfl dX5_chance_7 (by decide) (fun c11 => ?_) (fun c11 => ?_)
  · have h := h.1 c11
    exact jr_sub [] rfl (wk_X5_chance_35 C  h)
  · have h := h.2 c11
    refine jr_aload_n C 11 rfl dX5_chance_10 rfl 0 rfl ?_
    refine jr_iload_n C 12 rfl dX5_chance_11 rfl 2 rfl ?_
    obtain ⟨⟨V, hb⟩, h⟩ := h
    refine jr_callVi (r0 := (RX5, TX5, 53)) (As := [.int x2]) (st := []) C 15 rfl (m_X5_isGuest C.2.2.2.2.2.2.2.2.2.2.2.2.2.2.2 h) rfl hb rfl q1502 q1504 qs48 q102 q1505 (by decide) (by decide) ndV_X5_isGuest (Nat.le_of_ble_eq_true rfl) dX5_chance_12 (fun S3 r4 h => ?_)
    refine jr_if_eq C 35 18 rfl dX5_chance_15 (by decide) (fun c10 => ?_) (fun c10 => ?_)
    · have h := h.1 c10
      exact jr_sub [] rfl (wk_X5_chance_35 C  h)
    · have h := h.2 c10
      refine jr_iload_n C 19 rfl dX5_chance_18 rfl 3 rfl ?_
      refine jr_callSi (As := [.int x3]) (st := []) C 22 rfl (m_X5_isTwo C.2.2.2.2.2.2.2.2.2.2.2.2.2.2.2 h) rfl q1442 q1443 q102 q1444 (by decide) (by decide) nd_X5_isTwo (Nat.le_of_ble_eq_true rfl) dX5_chance_19 (fun S5 r6 h => ?_)
      refine jr_if_eq C 35 25 rfl dX5_chance_22 (by decide) (fun c9 => ?_) (fun c9 => ?_)
      · have h := h.1 c9
        exact jr_sub [] rfl (wk_X5_chance_35 C  h)
      · have h := h.2 c9
        refine jr_aload_n C 26 rfl dX5_chance_25 rfl 0 rfl ?_
        refine jr_iload_n C 27 rfl dX5_chance_26 rfl 1 rfl ?_
        refine jr_iload_n C 28 rfl dX5_chance_27 rfl 2 rfl ?_
        refine jr_iload_n C 29 rfl dX5_chance_28 rfl 3 rfl ?_
        obtain ⟨⟨V, hb⟩, h⟩ := h
        refine jr_callVl (r0 := (RX5, TX5, 53)) (As := [.int x1, .int x2, .int x3]) (st := []) C 32 rfl (m_X5_chanceOf C.2.2.2.2.2.2.2.2.2.2.2.2.2.2.2 h) rfl hb rfl q1755 q1757 qs85 q102 q1758 (by decide) (by decide) ndV_X5_chanceOf (Nat.le_of_ble_eq_true rfl) dX5_chance_29 (fun S7 r8 h => ?_)
        refine jr_goto C 40 dX5_chance_32 (by decide) ?_
        exact jr_sub [] rfl (wk_X5_chance_40 C  h)
theorem m_X5_chance {l : Launch} (hl : l.stackTraces = false) {G : jG} {K : jS → Int64 → Prop} {S : jS} {x0 : Nat} {x1 : Int32} {x2 : Int32} {x3 : Int32} (h : wp_X5_chance S x0 x1 x2 x3 K) : jMet l G d_X5_chance yX5_chance (ws_ yX5_chance cX5_chance 4 (some .long)) [.ref x0, .int x1, .int x2, .int x3] S tvl K :=
  jMet.of hl rfl (by decide) (Nat.le_of_ble_eq_true rfl) (fun X C => jr_sub [0, 1, 2, 3] rfl (wk_X5_chance_0 C h))
theorem wk_X5_comeOf_17 {X : jX} {G : jG} {K : jS → Int32 → Prop} (C : jC (X, G, 4, jA X G tvi K) d_X5_comeOf cX5_comeOf "SamovarModel" (some .int) yX5_comeOf) {S : jS} {t0 : Nat} {t1 : Int32} {x0 : Nat} {x1 : Int32} {x2 : Int32} {x3 : Int32} {Kc6 : jS × Int32 → Prop} (hc6 : ∀ z : jS × Int32, Kc6 z → jJ (X, G, 4, jA X G tvi K) z.1 [(0, .ref x0), (1, .int x1), (2, .int x2), (3, .int z.2)] 6 []) (h : wp_X5_comeOf_17 S t0 t1 x0 x1 x2 x3 Kc6 K) : jJ (X, G, 4, jA X G tvi K) S [(0, .ref x0), (1, .int x1), (2, .int x2), (3, .int x3)] 17 [.int t1, .ref t0] := by
  unfold wp_X5_comeOf_17 at h
  refine jr_iload_n C 18 rfl dX5_comeOf_17 rfl 3 rfl ?_
  refine jr_iast C 19 rfl dX5_comeOf_18 h (fun S1 h => ?_)
  refine jr_aload_n C 20 rfl dX5_comeOf_19 rfl 0 rfl ?_
  refine jr_iload_n C 21 rfl dX5_comeOf_20 rfl 3 rfl ?_
  obtain ⟨⟨V, hb⟩, h⟩ := h
  refine jr_callVv (r0 := (RX5, TX5, 53)) (As := [.int x3]) (st := []) C 24 rfl (m_X5_tries C.2.2.2.2.2.2.2.2.2.2.2.2.2.2.2 h) rfl hb rfl q1668 q1670 qs74 q102 q1671 (by decide) (by decide) ndV_X5_tries (Nat.le_of_ble_eq_true rfl) dX5_comeOf_21 (fun S2 _ h => ?_)
  refine jr_iinc (v := (x3 + 1)) (lv' := [(3, .int (x3 + 1)), (0, .ref x0), (1, .int x1), (2, .int x2)]) C 27 rfl dX5_comeOf_24 3 rfl rfl (Nat.le_of_ble_eq_true rfl) rfl ?_
  refine jr_goto C 6 dX5_comeOf_27 (by decide) ?_
  exact jr_sub [1, 2, 3, 0] rfl (hc6 _ h)
theorem wk_X5_comeOf_45 {X : jX} {G : jG} {K : jS → Int32 → Prop} (C : jC (X, G, 4, jA X G tvi K) d_X5_comeOf cX5_comeOf "SamovarModel" (some .int) yX5_comeOf) {S : jS} {t0 : Int32}  (h : wp_X5_comeOf_45 S t0 K) : jJ (X, G, 4, jA X G tvi K) S [] 45 [.int t0] := by
  unfold wp_X5_comeOf_45 at h
  exact jr_ireturn C dX5_comeOf_45 h
theorem wk_X5_comeOf_35 {X : jX} {G : jG} {K : jS → Int32 → Prop} (C : jC (X, G, 4, jA X G tvi K) d_X5_comeOf cX5_comeOf "SamovarModel" (some .int) yX5_comeOf) {S : jS} {t0 : Nat}  (h : wp_X5_comeOf_35 S t0 K) : jJ (X, G, 4, jA X G tvi K) S [] 35 [.ref t0] := by
  unfold wp_X5_comeOf_35 at h
  refine jr_geti C 38 rfl fo_8_40 q1317 dX5_comeOf_35 h (fun v1 h => ?_)
  refine jr_goto C 45 dX5_comeOf_38 (by decide) ?_
  exact (wk_X5_comeOf_45 C  h)
theorem wk_X5_comeOf_42 {X : jX} {G : jG} {K : jS → Int32 → Prop} (C : jC (X, G, 4, jA X G tvi K) d_X5_comeOf cX5_comeOf "SamovarModel" (some .int) yX5_comeOf) {S : jS} {t0 : Nat}  (h : wp_X5_comeOf_42 S t0 K) : jJ (X, G, 4, jA X G tvi K) S [] 42 [.ref t0] := by
  unfold wp_X5_comeOf_42 at h
  refine jr_geti C 45 rfl fo_8_41 q1318 dX5_comeOf_42 h (fun v1 h => ?_)
  exact (wk_X5_comeOf_45 C  h)
theorem wk_X5_comeOf_6 {X : jX} {G : jG} {K : jS → Int32 → Prop} (C : jC (X, G, 4, jA X G tvi K) d_X5_comeOf cX5_comeOf "SamovarModel" (some .int) yX5_comeOf) {S : jS} {x0 : Nat} {x1 : Int32} {x2 : Int32} {x3 : Int32} {Kc6 : jS × Int32 → Prop} (hc6 : ∀ z : jS × Int32, Kc6 z → jJ (X, G, 4, jA X G tvi K) z.1 [(0, .ref x0), (1, .int x1), (2, .int x2), (3, .int z.2)] 6 []) (h : wp_X5_comeOf_6 S x0 x1 x2 x3 Kc6 K) : jJ (X, G, 4, jA X G tvi K) S [(0, .ref x0), (1, .int x1), (2, .int x2), (3, .int x3)] 6 [] := by
  unfold wp_X5_comeOf_6 at h
  refine jr_iload_n C 7 rfl dX5_comeOf_6 rfl 3 rfl ?_
  refine jr_bipush (v := 24) C 9 rfl dX5_comeOf_7 (by decide) ?_
  refine jr_icmp_ge C 30 12 rfl dX5_comeOf_9 (by decide) (fun c3 => ?_) (fun c3 => ?_)
  · have h := h.1 c3
    refine jr_iload_n C 31 rfl dX5_comeOf_30 rfl 2 rfl ?_
    refine jr_if_ne C 41 34 rfl dX5_comeOf_31 (by decide) (fun c1 => ?_) (fun c1 => ?_)
    · have h := h.1 c1
      refine jr_aload_n C 35 rfl dX5_comeOf_34 rfl 0 rfl ?_
      exact jr_sub [] rfl (wk_X5_comeOf_35 C  h)
    · have h := h.2 c1
      refine jr_aload_n C 42 rfl dX5_comeOf_41 rfl 0 rfl ?_
      exact jr_sub [] rfl (wk_X5_comeOf_42 C  h)
  · have h := h.2 c3
    refine jr_aload_n C 13 rfl dX5_comeOf_12 rfl 0 rfl ?_
    refine jr_getr C 16 rfl fo_8_17 q1294 dX5_comeOf_13 h (fun v2 h => ?_)
    refine jr_iload_n C 17 rfl dX5_comeOf_16 rfl 1 rfl ?_
    exact (wk_X5_comeOf_17 C hc6 h)
theorem wk_X5_comeOf_6_L {X : jX} {G : jG} {K : jS → Int32 → Prop} (C : jC (X, G, 4, jA X G tvi K) d_X5_comeOf cX5_comeOf "SamovarModel" (some .int) yX5_comeOf) {x0 : Nat} {x1 : Int32} {x2 : Int32}  : ∀ (n : Nat) (z : jS × Int32), jlp n (wp_X5_comeOf_6_L x0 x1 x2 K) z → jJ (X, G, 4, jA X G tvi K) z.1 [(0, .ref x0), (1, .int x1), (2, .int x2), (3, .int z.2)] 6 [] := by
  intro n
  induction n with
  | zero => intro z h; exact h.elim
  | succ n ih => intro z h; exact wk_X5_comeOf_6 C ih h
theorem wk_X5_comeOf_0 {X : jX} {G : jG} {K : jS → Int32 → Prop} (C : jC (X, G, 4, jA X G tvi K) d_X5_comeOf cX5_comeOf "SamovarModel" (some .int) yX5_comeOf) {S : jS} {x0 : Nat} {x1 : Int32} {x2 : Int32}  (h : wp_X5_comeOf S x0 x1 x2 K) : jJ (X, G, 4, jA X G tvi K) S [(0, .ref x0), (1, .int x1), (2, .int x2)] 0 [] := by
  unfold wp_X5_comeOf at h
  refine jr_aload_n C 1 rfl dX5_comeOf_0 rfl 0 rfl ?_
  obtain ⟨⟨V, hb⟩, h⟩ := h
  refine jr_callVv (r0 := (RX5, TX5, 53)) (As := []) (st := []) C 4 rfl (m_X5_starts C.2.2.2.2.2.2.2.2.2.2.2.2.2.2.2 h) rfl hb rfl q1664 q1666 qs73 q102 q1667 (by decide) (by decide) ndV_X5_starts (Nat.le_of_ble_eq_true rfl) dX5_comeOf_1 (fun S1 _ h => ?_)
  refine jr_iconst (v := 0) C 5 rfl dX5_comeOf_4 (by decide) ?_
  refine jr_istore_n (lv' := [(3, .int 0), (0, .ref x0), (1, .int x1), (2, .int x2)]) C 6 rfl dX5_comeOf_5 rfl (Nat.le_of_ble_eq_true rfl) rfl ?_
  obtain ⟨n, h⟩ := h
  exact jr_sub [1, 2, 3, 0] rfl (wk_X5_comeOf_6_L C  n _ h)
theorem m_X5_comeOf {l : Launch} (hl : l.stackTraces = false) {G : jG} {K : jS → Int32 → Prop} {S : jS} {x0 : Nat} {x1 : Int32} {x2 : Int32} (h : wp_X5_comeOf S x0 x1 x2 K) : jMet l G d_X5_comeOf yX5_comeOf (ws_ yX5_comeOf cX5_comeOf 4 (some .int)) [.ref x0, .int x1, .int x2] S tvi K :=
  jMet.of hl rfl (by decide) (Nat.le_of_ble_eq_true rfl) (fun X C => jr_sub [0, 1, 2] rfl (wk_X5_comeOf_0 C h))
theorem wk_X5_come_26 {X : jX} {G : jG} {K : jS → Int32 → Prop} (C : jC (X, G, 3, jA X G tvi K) d_X5_come cX5_come "SamovarModel" (some .int) yX5_come) {S : jS} {t0 : Int32}  (h : wp_X5_come_26 S t0 K) : jJ (X, G, 3, jA X G tvi K) S [] 26 [.int t0] := by
  unfold wp_X5_come_26 at h
  exact jr_ireturn C dX5_come_26 h
theorem wk_X5_come_24 {X : jX} {G : jG} {K : jS → Int32 → Prop} (C : jC (X, G, 3, jA X G tvi K) d_X5_come cX5_come "SamovarModel" (some .int) yX5_come) {S : jS}   (h : wp_X5_come_24 S K) : jJ (X, G, 3, jA X G tvi K) S [] 24 [] := by
  unfold wp_X5_come_24 at h
  refine jr_bipush (v := (-2)) C 26 rfl dX5_come_24 (by decide) ?_
  exact (wk_X5_come_26 C  h)
theorem wk_X5_come_0 {X : jX} {G : jG} {K : jS → Int32 → Prop} (C : jC (X, G, 3, jA X G tvi K) d_X5_come cX5_come "SamovarModel" (some .int) yX5_come) {S : jS} {x0 : Nat} {x1 : Int32} {x2 : Int32}  (h : wp_X5_come S x0 x1 x2 K) : jJ (X, G, 3, jA X G tvi K) S [(0, .ref x0), (1, .int x1), (2, .int x2)] 0 [] := by
  unfold wp_X5_come at h
  refine jr_aload_n C 1 rfl dX5_come_0 rfl 0 rfl ?_
  refine jr_iload_n C 2 rfl dX5_come_1 rfl 1 rfl ?_
  obtain ⟨⟨V, hb⟩, h⟩ := h
  refine jr_callVi (r0 := (RX5, TX5, 53)) (As := [.int x1]) (st := []) C 5 rfl (m_X5_isGuest C.2.2.2.2.2.2.2.2.2.2.2.2.2.2.2 h) rfl hb rfl q1502 q1504 qs48 q102 q1505 (by decide) (by decide) ndV_X5_isGuest (Nat.le_of_ble_eq_true rfl) dX5_come_2 (fun S1 r2 h => ?_)
  refine jr_if_eq C 24 8 rfl dX5_come_5 (by decide) (fun c8 => ?_) (fun c8 => ?_)
  · have h := h.1 c8
    exact jr_sub [] rfl (wk_X5_come_24 C  h)
  · have h := h.2 c8
    refine jr_iload_n C 9 rfl dX5_come_8 rfl 2 rfl ?_
    refine jr_callSi (As := [.int x2]) (st := []) C 12 rfl (m_X5_isTwo C.2.2.2.2.2.2.2.2.2.2.2.2.2.2.2 h) rfl q1442 q1443 q102 q1444 (by decide) (by decide) nd_X5_isTwo (Nat.le_of_ble_eq_true rfl) dX5_come_9 (fun S3 r4 h => ?_)
    refine jr_if_eq C 24 15 rfl dX5_come_12 (by decide) (fun c7 => ?_) (fun c7 => ?_)
    · have h := h.1 c7
      exact jr_sub [] rfl (wk_X5_come_24 C  h)
    · have h := h.2 c7
      refine jr_aload_n C 16 rfl dX5_come_15 rfl 0 rfl ?_
      refine jr_iload_n C 17 rfl dX5_come_16 rfl 1 rfl ?_
      refine jr_iload_n C 18 rfl dX5_come_17 rfl 2 rfl ?_
      obtain ⟨⟨V, hb⟩, h⟩ := h
      refine jr_callVi (r0 := (RX5, TX5, 53)) (As := [.int x1, .int x2]) (st := []) C 21 rfl (m_X5_comeOf C.2.2.2.2.2.2.2.2.2.2.2.2.2.2.2 h) rfl hb rfl q1684 q1686 qs76 q102 q1687 (by decide) (by decide) ndV_X5_comeOf (Nat.le_of_ble_eq_true rfl) dX5_come_18 (fun S5 r6 h => ?_)
      refine jr_goto C 26 dX5_come_21 (by decide) ?_
      exact jr_sub [] rfl (wk_X5_come_26 C  h)
theorem m_X5_come {l : Launch} (hl : l.stackTraces = false) {G : jG} {K : jS → Int32 → Prop} {S : jS} {x0 : Nat} {x1 : Int32} {x2 : Int32} (h : wp_X5_come S x0 x1 x2 K) : jMet l G d_X5_come yX5_come (ws_ yX5_come cX5_come 3 (some .int)) [.ref x0, .int x1, .int x2] S tvi K :=
  jMet.of hl rfl (by decide) (Nat.le_of_ble_eq_true rfl) (fun X C => jr_sub [0, 1, 2] rfl (wk_X5_come_0 C h))
theorem wk_X5_isSheet_0 {X : jX} {G : jG} {K : jS → Int32 → Prop} (C : jC (X, G, 1, jA X G tvi K) d_X5_isSheet cX5_isSheet "SamovarModel" (some .boolean) yX5_isSheet) {S : jS} {x0 : Int32}  (h : wp_X5_isSheet S x0 K) : jJ (X, G, 1, jA X G tvi K) S [(0, .int x0)] 0 [] := by
  unfold wp_X5_isSheet at h
  refine jr_iload_n C 1 rfl dX5_isSheet_0 rfl 0 rfl ?_
  refine jr_iconst (v := 0) C 2 rfl dX5_isSheet_1 (by decide) ?_
  refine jr_iconst (v := 3) C 3 rfl dX5_isSheet_2 (by decide) ?_
  refine jr_callSi (As := [.int x0, .int 0, .int 3]) (st := []) C 6 rfl (m_X5_in C.2.2.2.2.2.2.2.2.2.2.2.2.2.2.2 h) rfl q1445 q1446 q102 q1447 (by decide) (by decide) nd_X5_in (Nat.le_of_ble_eq_true rfl) dX5_isSheet_3 (fun S1 r2 h => ?_)
  exact jr_zreturn C dX5_isSheet_6 h
theorem m_X5_isSheet {l : Launch} (hl : l.stackTraces = false) {G : jG} {K : jS → Int32 → Prop} {S : jS} {x0 : Int32} (h : wp_X5_isSheet S x0 K) : jMet l G d_X5_isSheet yX5_isSheet (ws_ yX5_isSheet cX5_isSheet 1 (some .boolean)) [.int x0] S tvi K :=
  jMet.of hl rfl (by decide) (Nat.le_of_ble_eq_true rfl) (fun X C => jr_sub [0] rfl (wk_X5_isSheet_0 C h))
theorem wk_X5_meets_0 {X : jX} {G : jG} {K : jS → Int32 → Prop} (C : jC (X, G, 2, jA X G tvi K) d_X5_meets cX5_meets "SamovarModel" (some .int) yX5_meets) {S : jS} {x0 : Nat} {x1 : Int32}  (h : wp_X5_meets S x0 x1 K) : jJ (X, G, 2, jA X G tvi K) S [(0, .ref x0), (1, .int x1)] 0 [] := by
  unfold wp_X5_meets at h
  refine jr_aload_n C 1 rfl dX5_meets_0 rfl 0 rfl ?_
  refine jr_iload_n C 2 rfl dX5_meets_1 rfl 1 rfl ?_
  refine jr_putv C 5 rfl fo_8_52 (by decide) q1329 dX5_meets_2 rfl rfl h (fun S1 h => ?_)
  refine jr_bipush (v := (-10)) C 7 rfl dX5_meets_5 (by decide) ?_
  refine jr_iload_n C 8 rfl dX5_meets_7 rfl 1 rfl ?_
  refine jr_isub C 9 rfl dX5_meets_8 ?_
  exact jr_ireturn C dX5_meets_9 h
theorem m_X5_meets {l : Launch} (hl : l.stackTraces = false) {G : jG} {K : jS → Int32 → Prop} {S : jS} {x0 : Nat} {x1 : Int32} (h : wp_X5_meets S x0 x1 K) : jMet l G d_X5_meets yX5_meets (ws_ yX5_meets cX5_meets 2 (some .int)) [.ref x0, .int x1] S tvi K :=
  jMet.of hl rfl (by decide) (Nat.le_of_ble_eq_true rfl) (fun X C => jr_sub [0, 1] rfl (wk_X5_meets_0 C h))
theorem wk_X5_copy_14 {X : jX} {G : jG} {K : jS → Int32 → Prop} (C : jC (X, G, 7, jA X G tvi K) d_X5_copy cX5_copy "SamovarModel" (some .int) yX5_copy) {S : jS}   (h : wp_X5_copy_14 S K) : jJ (X, G, 7, jA X G tvi K) S [] 14 [] := by
  unfold wp_X5_copy_14 at h
  refine jr_bipush (v := (-2)) C 16 rfl dX5_copy_14 (by decide) ?_
  exact jr_ireturn C dX5_copy_16 h
theorem wk_X5_copy_35 {X : jX} {G : jG} {K : jS → Int32 → Prop} (C : jC (X, G, 7, jA X G tvi K) d_X5_copy cX5_copy "SamovarModel" (some .int) yX5_copy) {S : jS} {x0 : Nat}  (h : wp_X5_copy_35 S x0 K) : jJ (X, G, 7, jA X G tvi K) S [(0, .ref x0)] 35 [] := by
  unfold wp_X5_copy_35 at h
  refine jr_aload_n C 36 rfl dX5_copy_35 rfl 0 rfl ?_
  refine jr_iconst (v := 1) C 37 rfl dX5_copy_36 (by decide) ?_
  obtain ⟨⟨V, hb⟩, h⟩ := h
  refine jr_callVi (r0 := (RX5, TX5, 53)) (As := [.int 1]) (st := []) C 40 rfl (m_X5_meets C.2.2.2.2.2.2.2.2.2.2.2.2.2.2.2 h) rfl hb rfl q1529 q1531 qs50 q102 q1532 (by decide) (by decide) ndV_X5_meets (Nat.le_of_ble_eq_true rfl) dX5_copy_37 (fun S1 r2 h => ?_)
  exact jr_ireturn C dX5_copy_40 h
theorem wk_X5_copy_111 {X : jX} {G : jG} {K : jS → Int32 → Prop} (C : jC (X, G, 7, jA X G tvi K) d_X5_copy cX5_copy "SamovarModel" (some .int) yX5_copy) {S : jS} {x0 : Nat}  (h : wp_X5_copy_111 S x0 K) : jJ (X, G, 7, jA X G tvi K) S [(0, .ref x0)] 111 [] := by
  unfold wp_X5_copy_111 at h
  refine jr_aload_n C 112 rfl dX5_copy_111 rfl 0 rfl ?_
  refine jr_iconst (v := 2) C 113 rfl dX5_copy_112 (by decide) ?_
  obtain ⟨⟨V, hb⟩, h⟩ := h
  refine jr_callVi (r0 := (RX5, TX5, 53)) (As := [.int 2]) (st := []) C 116 rfl (m_X5_meets C.2.2.2.2.2.2.2.2.2.2.2.2.2.2.2 h) rfl hb rfl q1529 q1531 qs50 q102 q1532 (by decide) (by decide) ndV_X5_meets (Nat.le_of_ble_eq_true rfl) dX5_copy_113 (fun S1 r2 h => ?_)
  exact jr_ireturn C dX5_copy_116 h
theorem wk_X5_copy_134 {X : jX} {G : jG} {K : jS → Int32 → Prop} (C : jC (X, G, 7, jA X G tvi K) d_X5_copy cX5_copy "SamovarModel" (some .int) yX5_copy) {S : jS} {t0 : Nat} {t1 : Int32} {t2 : Nat} {x0 : Nat} {x1 : Int32} {x2 : Int32} {x3 : Int32} {x4 : Int32} {x5 : Int32} {x6 : Int32} {Kc120 : jS × Int32 → Prop} (hc120 : ∀ z : jS × Int32, Kc120 z → jJ (X, G, 7, jA X G tvi K) z.1 [(0, .ref x0), (1, .int x1), (2, .int x2), (3, .int x3), (4, .int x4), (5, .int x5), (6, .int z.2)] 120 []) (h : wp_X5_copy_134 S t0 t1 t2 x0 x1 x2 x3 x4 x5 x6 Kc120 K) : jJ (X, G, 7, jA X G tvi K) S [(0, .ref x0), (1, .int x1), (2, .int x2), (3, .int x3), (4, .int x4), (5, .int x5), (6, .int x6)] 134 [.ref t2, .int t1, .ref t0] := by
  unfold wp_X5_copy_134 at h
  refine jr_getr C 137 rfl fo_8_50 q1327 dX5_copy_134 h (fun v1 h => ?_)
  refine jr_bipush (v := 60) C 139 rfl dX5_copy_137 (by decide) ?_
  refine jr_iload_n C 140 rfl dX5_copy_139 rfl 1 rfl ?_
  refine jr_imul C 141 rfl dX5_copy_140 ?_
  refine jr_iload_n C 142 rfl dX5_copy_141 rfl 2 rfl ?_
  refine jr_iadd C 143 rfl dX5_copy_142 ?_
  refine jr_iload C 145 rfl dX5_copy_143 6 rfl ?_
  refine jr_iadd C 146 rfl dX5_copy_145 ?_
  refine jr_iald C 147 rfl dX5_copy_146 h (fun v2 h => ?_)
  refine jr_iast C 148 rfl dX5_copy_147 h (fun S3 h => ?_)
  refine jr_iinc (v := (x6 + 1)) (lv' := [(6, .int (x6 + 1)), (0, .ref x0), (1, .int x1), (2, .int x2), (3, .int x3), (4, .int x4), (5, .int x5)]) C 151 rfl dX5_copy_148 6 rfl rfl (Nat.le_of_ble_eq_true rfl) rfl ?_
  refine jr_goto C 120 dX5_copy_151 (by decide) ?_
  exact jr_sub [1, 2, 3, 4, 5, 6, 0] rfl (hc120 _ h)
theorem wk_X5_copy_171 {X : jX} {G : jG} {K : jS → Int32 → Prop} (C : jC (X, G, 7, jA X G tvi K) d_X5_copy cX5_copy "SamovarModel" (some .int) yX5_copy) {S : jS} {t0 : Nat} {t1 : Int32} {t2 : Int32} {x0 : Nat} {x3 : Int32} {x4 : Int32} {x5 : Int32} {x6 : Int32} {Kc157 : jS × Int32 → Prop} (hc157 : ∀ z : jS × Int32, Kc157 z → jJ (X, G, 7, jA X G tvi K) z.1 [(0, .ref x0), (3, .int x3), (4, .int x4), (5, .int x5), (6, .int z.2)] 157 []) (h : wp_X5_copy_171 S t0 t1 t2 x0 x3 x4 x5 x6 Kc157 K) : jJ (X, G, 7, jA X G tvi K) S [(0, .ref x0), (3, .int x3), (4, .int x4), (5, .int x5), (6, .int x6)] 171 [.int t2, .int t1, .ref t0] := by
  unfold wp_X5_copy_171 at h
  refine jr_imul C 172 rfl dX5_copy_171 ?_
  refine jr_iload C 174 rfl dX5_copy_172 2 rfl ?_
  refine jr_iadd C 175 rfl dX5_copy_174 ?_
  refine jr_iload C 177 rfl dX5_copy_175 4 rfl ?_
  refine jr_iadd C 178 rfl dX5_copy_177 ?_
  refine jr_aload_n C 179 rfl dX5_copy_178 rfl 0 rfl ?_
  refine jr_getr C 182 rfl fo_8_51 q1328 dX5_copy_179 h (fun v1 h => ?_)
  refine jr_iload C 184 rfl dX5_copy_182 4 rfl ?_
  refine jr_iald C 185 rfl dX5_copy_184 h (fun v2 h => ?_)
  refine jr_iast C 186 rfl dX5_copy_185 h (fun S3 h => ?_)
  refine jr_iinc (v := (x6 + 1)) (lv' := [(6, .int (x6 + 1)), (0, .ref x0), (3, .int x3), (4, .int x4), (5, .int x5)]) C 189 rfl dX5_copy_186 4 rfl rfl (Nat.le_of_ble_eq_true rfl) rfl ?_
  refine jr_goto C 157 dX5_copy_189 (by decide) ?_
  exact jr_sub [1, 2, 3, 4, 0] rfl (hc157 _ h)
theorem wk_X5_copy_157 {X : jX} {G : jG} {K : jS → Int32 → Prop} (C : jC (X, G, 7, jA X G tvi K) d_X5_copy cX5_copy "SamovarModel" (some .int) yX5_copy) {S : jS} {x0 : Nat} {x3 : Int32} {x4 : Int32} {x5 : Int32} {x6 : Int32} {Kc157 : jS × Int32 → Prop} (hc157 : ∀ z : jS × Int32, Kc157 z → jJ (X, G, 7, jA X G tvi K) z.1 [(0, .ref x0), (3, .int x3), (4, .int x4), (5, .int x5), (6, .int z.2)] 157 []) (h : wp_X5_copy_157 S x0 x3 x4 x5 x6 Kc157 K) : jJ (X, G, 7, jA X G tvi K) S [(0, .ref x0), (3, .int x3), (4, .int x4), (5, .int x5), (6, .int x6)] 157 [] := by
  unfold wp_X5_copy_157 at h
  refine jr_iload C 159 rfl dX5_copy_157 4 rfl ?_
  refine jr_iload C 161 rfl dX5_copy_159 3 rfl ?_
  refine jr_icmp_ge C 192 164 rfl dX5_copy_161 (by decide) (fun c2 => ?_) (fun c2 => ?_)
  · have h := h.1 c2
    refine jr_iconst (v := 1) C 193 rfl dX5_copy_192 (by decide) ?_
    exact jr_ireturn C dX5_copy_193 h
  · have h := h.2 c2
    refine jr_aload_n C 165 rfl dX5_copy_164 rfl 0 rfl ?_
    refine jr_getr C 168 rfl fo_8_50 q1327 dX5_copy_165 h (fun v1 h => ?_)
    refine jr_bipush (v := 60) C 170 rfl dX5_copy_168 (by decide) ?_
    refine jr_iload_n C 171 rfl dX5_copy_170 rfl 1 rfl ?_
    exact (wk_X5_copy_171 C hc157 h)
theorem wk_X5_copy_157_L {X : jX} {G : jG} {K : jS → Int32 → Prop} (C : jC (X, G, 7, jA X G tvi K) d_X5_copy cX5_copy "SamovarModel" (some .int) yX5_copy) {x0 : Nat} {x3 : Int32} {x4 : Int32} {x5 : Int32}  : ∀ (n : Nat) (z : jS × Int32), jlp n (wp_X5_copy_157_L x0 x3 x4 x5 K) z → jJ (X, G, 7, jA X G tvi K) z.1 [(0, .ref x0), (3, .int x3), (4, .int x4), (5, .int x5), (6, .int z.2)] 157 [] := by
  intro n
  induction n with
  | zero => intro z h; exact h.elim
  | succ n ih => intro z h; exact wk_X5_copy_157 C ih h
theorem wk_X5_copy_120 {X : jX} {G : jG} {K : jS → Int32 → Prop} (C : jC (X, G, 7, jA X G tvi K) d_X5_copy cX5_copy "SamovarModel" (some .int) yX5_copy) {S : jS} {x0 : Nat} {x1 : Int32} {x2 : Int32} {x3 : Int32} {x4 : Int32} {x5 : Int32} {x6 : Int32} {Kc120 : jS × Int32 → Prop} (hc120 : ∀ z : jS × Int32, Kc120 z → jJ (X, G, 7, jA X G tvi K) z.1 [(0, .ref x0), (1, .int x1), (2, .int x2), (3, .int x3), (4, .int x4), (5, .int x5), (6, .int z.2)] 120 []) (h : wp_X5_copy_120 S x0 x1 x2 x3 x4 x5 x6 Kc120 K) : jJ (X, G, 7, jA X G tvi K) S [(0, .ref x0), (1, .int x1), (2, .int x2), (3, .int x3), (4, .int x4), (5, .int x5), (6, .int x6)] 120 [] := by
  unfold wp_X5_copy_120 at h
  refine jr_iload C 122 rfl dX5_copy_120 6 rfl ?_
  refine jr_iload C 124 rfl dX5_copy_122 5 rfl ?_
  refine jr_icmp_ge C 154 127 rfl dX5_copy_124 (by decide) (fun c2 => ?_) (fun c2 => ?_)
  · have h := h.1 c2
    refine jr_iconst (v := 0) C 155 rfl dX5_copy_154 (by decide) ?_
    refine jr_istore (lv' := [(6, .int 0), (0, .ref x0), (1, .int x1), (2, .int x2), (3, .int x3), (4, .int x4), (5, .int x5)]) C 157 rfl dX5_copy_155 (Nat.le_of_ble_eq_true rfl) rfl ?_
    obtain ⟨n, h⟩ := h
    exact jr_sub [1, 4, 5, 6, 0] rfl (wk_X5_copy_157_L C  n _ h)
  · have h := h.2 c2
    refine jr_aload_n C 128 rfl dX5_copy_127 rfl 0 rfl ?_
    refine jr_getr C 131 rfl fo_8_51 q1328 dX5_copy_128 h (fun v1 h => ?_)
    refine jr_iload C 133 rfl dX5_copy_131 6 rfl ?_
    refine jr_aload_n C 134 rfl dX5_copy_133 rfl 0 rfl ?_
    exact (wk_X5_copy_134 C hc120 h)
theorem wk_X5_copy_120_L {X : jX} {G : jG} {K : jS → Int32 → Prop} (C : jC (X, G, 7, jA X G tvi K) d_X5_copy cX5_copy "SamovarModel" (some .int) yX5_copy) {x0 : Nat} {x1 : Int32} {x2 : Int32} {x3 : Int32} {x4 : Int32} {x5 : Int32}  : ∀ (n : Nat) (z : jS × Int32), jlp n (wp_X5_copy_120_L x0 x1 x2 x3 x4 x5 K) z → jJ (X, G, 7, jA X G tvi K) z.1 [(0, .ref x0), (1, .int x1), (2, .int x2), (3, .int x3), (4, .int x4), (5, .int x5), (6, .int z.2)] 120 [] := by
  intro n
  induction n with
  | zero => intro z h; exact h.elim
  | succ n ih => intro z h; exact wk_X5_copy_120 C ih h
theorem wk_X5_copy_96 {X : jX} {G : jG} {K : jS → Int32 → Prop} (C : jC (X, G, 7, jA X G tvi K) d_X5_copy cX5_copy "SamovarModel" (some .int) yX5_copy) {S : jS} {t0 : Int64} {x0 : Nat} {x1 : Int32} {x2 : Int32} {x3 : Int32} {x4 : Int32} {x5 : Int32}  (h : wp_X5_copy_96 S t0 x0 x1 x2 x3 x4 x5 K) : jJ (X, G, 7, jA X G tvi K) S [(0, .ref x0), (1, .int x1), (2, .int x2), (3, .int x3), (4, .int x4), (5, .int x5)] 96 [.long t0] := by
  unfold wp_X5_copy_96 at h
  refine jr_iload C 98 rfl dX5_copy_96 5 rfl ?_
  refine jr_i2l C 99 rfl dX5_copy_98 ?_
  refine jr_ladd C 100 rfl dX5_copy_99 ?_
  refine jr_aload_n C 101 rfl dX5_copy_100 rfl 0 rfl ?_
  refine jr_getr C 104 rfl fo_8_49 q1326 dX5_copy_101 h (fun v1 h => ?_)
  refine jr_iload_n C 105 rfl dX5_copy_104 rfl 3 rfl ?_
  refine jr_iald C 106 rfl dX5_copy_105 h (fun v2 h => ?_)
  refine jr_i2l C 107 rfl dX5_copy_106 ?_
  refine jr_lcmp C 108 rfl dX5_copy_107 ?_
  refine jr_if_le C 117 111 rfl dX5_copy_108 (by decide) (fun c3 => ?_) (fun c3 => ?_)
  · have h := h.1 c3
    refine jr_iconst (v := 0) C 118 rfl dX5_copy_117 (by decide) ?_
    refine jr_istore (lv' := [(6, .int 0), (0, .ref x0), (1, .int x1), (2, .int x2), (3, .int x3), (4, .int x4), (5, .int x5)]) C 120 rfl dX5_copy_118 (Nat.le_of_ble_eq_true rfl) rfl ?_
    obtain ⟨n, h⟩ := h
    exact jr_sub [1, 2, 3, 4, 5, 6, 0] rfl (wk_X5_copy_120_L C  n _ h)
  · have h := h.2 c3
    exact jr_sub [0] rfl (wk_X5_copy_111 C  h)
theorem wk_X5_copy_0 {X : jX} {G : jG} {K : jS → Int32 → Prop} (C : jC (X, G, 7, jA X G tvi K) d_X5_copy cX5_copy "SamovarModel" (some .int) yX5_copy) {S : jS} {x0 : Nat} {x1 : Int32} {x2 : Int32} {x3 : Int32} {x4 : Int32} {x5 : Int32}  (h : wp_X5_copy S x0 x1 x2 x3 x4 x5 K) : jJ (X, G, 7, jA X G tvi K) S [(0, .ref x0), (1, .int x1), (2, .int x2), (3, .int x3), (4, .int x4), (5, .int x5)] 0 [] := by
  unfold wp_X5_copy at h
  refine jr_iload_n C 1 rfl dX5_copy_0 rfl 1 rfl ?_
  refine jr_callSi (As := [.int x1]) (st := []) C 4 rfl (m_X5_isSheet C.2.2.2.2.2.2.2.2.2.2.2.2.2.2.2 h) rfl q1526 q1527 q102 q1528 (by decide) (by decide) nd_X5_isSheet (Nat.le_of_ble_eq_true rfl) dX5_copy_1 (fun S1 r2 h => ?_)
  refine jr_if_eq C 14 7 rfl dX5_copy_4 (by decide) (fun c25 => ?_) (fun c25 => ?_)
  · have h := h.1 c25
    exact jr_sub [] rfl (wk_X5_copy_14 C  h)
  · have h := h.2 c25
    refine jr_iload_n C 8 rfl dX5_copy_7 rfl 3 rfl ?_
    refine jr_callSi (As := [.int x3]) (st := []) C 11 rfl (m_X5_isSheet C.2.2.2.2.2.2.2.2.2.2.2.2.2.2.2 h) rfl q1526 q1527 q102 q1528 (by decide) (by decide) nd_X5_isSheet (Nat.le_of_ble_eq_true rfl) dX5_copy_8 (fun S3 r4 h => ?_)
    refine jr_if_ne C 17 14 rfl dX5_copy_11 (by decide) (fun c24 => ?_) (fun c24 => ?_)
    · have h := h.1 c24
      exact jr_sub [] rfl (wk_X5_copy_14 C  h)
    · have h := h.2 c24
      refine jr_aload_n C 18 rfl dX5_copy_17 rfl 0 rfl ?_
      refine jr_getr C 21 rfl fo_8_47 q1324 dX5_copy_18 h (fun v5 h => ?_)
      refine jr_iload_n C 22 rfl dX5_copy_21 rfl 1 rfl ?_
      refine jr_zald C 23 rfl dX5_copy_22 h (fun v6 h => ?_)
      refine jr_if_eq C 35 26 rfl dX5_copy_23 (by decide) (fun c23 => ?_) (fun c23 => ?_)
      · have h := h.1 c23
        exact jr_sub [0] rfl (wk_X5_copy_35 C  h)
      · have h := h.2 c23
        refine jr_aload_n C 27 rfl dX5_copy_26 rfl 0 rfl ?_
        refine jr_getr C 30 rfl fo_8_47 q1324 dX5_copy_27 h (fun v7 h => ?_)
        refine jr_iload_n C 31 rfl dX5_copy_30 rfl 3 rfl ?_
        refine jr_zald C 32 rfl dX5_copy_31 h (fun v8 h => ?_)
        refine jr_if_ne C 41 35 rfl dX5_copy_32 (by decide) (fun c22 => ?_) (fun c22 => ?_)
        · have h := h.1 c22
          exact jr_sub [0] rfl (wk_X5_copy_35 C  h)
        · have h := h.2 c22
          refine jr_aload_n C 42 rfl dX5_copy_41 rfl 0 rfl ?_
          refine jr_getr C 45 rfl fo_8_48 q1325 dX5_copy_42 h (fun v9 h => ?_)
          refine jr_iload_n C 46 rfl dX5_copy_45 rfl 1 rfl ?_
          refine jr_iald C 47 rfl dX5_copy_46 h (fun v10 h => ?_)
          refine jr_aload_n C 48 rfl dX5_copy_47 rfl 0 rfl ?_
          refine jr_getr C 51 rfl fo_8_48 q1325 dX5_copy_48 h (fun v11 h => ?_)
          refine jr_iload_n C 52 rfl dX5_copy_51 rfl 3 rfl ?_
          refine jr_iald C 53 rfl dX5_copy_52 h (fun v12 h => ?_)
          refine jr_icmp_eq C 62 56 rfl dX5_copy_53 (by decide) (fun c21 => ?_) (fun c21 => ?_)
          · have h := h.1 c21
            refine jr_iload_n C 63 rfl dX5_copy_62 rfl 2 rfl ?_
            refine jr_if_lt C 111 66 rfl dX5_copy_63 (by decide) (fun c18 => ?_) (fun c18 => ?_)
            · have h := h.1 c18
              exact jr_sub [0] rfl (wk_X5_copy_111 C  h)
            · have h := h.2 c18
              refine jr_iload C 68 rfl dX5_copy_66 4 rfl ?_
              refine jr_if_lt C 111 71 rfl dX5_copy_68 (by decide) (fun c17 => ?_) (fun c17 => ?_)
              · have h := h.1 c17
                exact jr_sub [0] rfl (wk_X5_copy_111 C  h)
              · have h := h.2 c17
                refine jr_iload C 73 rfl dX5_copy_71 5 rfl ?_
                refine jr_if_lt C 111 76 rfl dX5_copy_73 (by decide) (fun c16 => ?_) (fun c16 => ?_)
                · have h := h.1 c16
                  exact jr_sub [0] rfl (wk_X5_copy_111 C  h)
                · have h := h.2 c16
                  refine jr_iload_n C 77 rfl dX5_copy_76 rfl 2 rfl ?_
                  refine jr_i2l C 78 rfl dX5_copy_77 ?_
                  refine jr_iload C 80 rfl dX5_copy_78 5 rfl ?_
                  refine jr_i2l C 81 rfl dX5_copy_80 ?_
                  refine jr_ladd C 82 rfl dX5_copy_81 ?_
                  refine jr_aload_n C 83 rfl dX5_copy_82 rfl 0 rfl ?_
                  refine jr_getr C 86 rfl fo_8_49 q1326 dX5_copy_83 h (fun v13 h => ?_)
                  refine jr_iload_n C 87 rfl dX5_copy_86 rfl 1 rfl ?_
                  refine jr_iald C 88 rfl dX5_copy_87 h (fun v14 h => ?_)
                  refine jr_i2l C 89 rfl dX5_copy_88 ?_
                  refine jr_lcmp C 90 rfl dX5_copy_89 ?_
                  refine jr_if_gt C 111 93 rfl dX5_copy_90 (by decide) (fun c15 => ?_) (fun c15 => ?_)
                  · have h := h.1 c15
                    exact jr_sub [0] rfl (wk_X5_copy_111 C  h)
                  · have h := h.2 c15
                    refine jr_iload C 95 rfl dX5_copy_93 4 rfl ?_
                    refine jr_i2l C 96 rfl dX5_copy_95 ?_
                    exact (wk_X5_copy_96 C  h)
          · have h := h.2 c21
            refine jr_aload_n C 57 rfl dX5_copy_56 rfl 0 rfl ?_
            refine jr_iconst (v := 4) C 58 rfl dX5_copy_57 (by decide) ?_
            obtain ⟨⟨V, hb⟩, h⟩ := h
            refine jr_callVi (r0 := (RX5, TX5, 53)) (As := [.int 4]) (st := []) C 61 rfl (m_X5_meets C.2.2.2.2.2.2.2.2.2.2.2.2.2.2.2 h) rfl hb rfl q1529 q1531 qs50 q102 q1532 (by decide) (by decide) ndV_X5_meets (Nat.le_of_ble_eq_true rfl) dX5_copy_58 (fun S19 r20 h => ?_)
            exact jr_ireturn C dX5_copy_61 h
theorem m_X5_copy {l : Launch} (hl : l.stackTraces = false) {G : jG} {K : jS → Int32 → Prop} {S : jS} {x0 : Nat} {x1 : Int32} {x2 : Int32} {x3 : Int32} {x4 : Int32} {x5 : Int32} (h : wp_X5_copy S x0 x1 x2 x3 x4 x5 K) : jMet l G d_X5_copy yX5_copy (ws_ yX5_copy cX5_copy 7 (some .int)) [.ref x0, .int x1, .int x2, .int x3, .int x4, .int x5] S tvi K :=
  jMet.of hl rfl (by decide) (Nat.le_of_ble_eq_true rfl) (fun X C => jr_sub [0, 1, 2, 3, 4, 5] rfl (wk_X5_copy_0 C h))
theorem wk_X5_manyOf_28 {X : jX} {G : jG} {K : jS → Int32 → Prop} (C : jC (X, G, 4, jA X G tvi K) d_X5_manyOf cX5_manyOf "SamovarModel" (some .int) yX5_manyOf) {S : jS} {t0 : Int32} {t1 : Int32} {x0 : Nat} {x1 : Int32} {x3 : Int32} {Kc4 : jS × Int32 × Int32 → Prop} (hc4 : ∀ z : jS × Int32 × Int32, Kc4 z → jJ (X, G, 4, jA X G tvi K) z.1 [(0, .ref x0), (1, .int x1), (2, .int z.2.1), (3, .int z.2.2)] 4 []) (h : wp_X5_manyOf_28 S t0 t1 x0 x1 x3 Kc4 K) : jJ (X, G, 4, jA X G tvi K) S [(0, .ref x0), (1, .int x1), (3, .int x3)] 28 [.int t1, .int t0] := by
  unfold wp_X5_manyOf_28 at h
  refine jr_iadd C 29 rfl dX5_manyOf_28 ?_
  refine jr_istore_n (lv' := [(2, .int (t0 + t1)), (0, .ref x0), (1, .int x1), (3, .int x3)]) C 30 rfl dX5_manyOf_29 rfl (Nat.le_of_ble_eq_true rfl) rfl ?_
  refine jr_iinc (v := (x3 + 1)) (lv' := [(3, .int (x3 + 1)), (2, .int (t0 + t1)), (0, .ref x0), (1, .int x1)]) C 33 rfl dX5_manyOf_30 3 rfl rfl (Nat.le_of_ble_eq_true rfl) rfl ?_
  refine jr_goto C 4 dX5_manyOf_33 (by decide) ?_
  exact jr_sub [2, 3, 1, 0] rfl (hc4 _ h)
theorem wk_X5_manyOf_4 {X : jX} {G : jG} {K : jS → Int32 → Prop} (C : jC (X, G, 4, jA X G tvi K) d_X5_manyOf cX5_manyOf "SamovarModel" (some .int) yX5_manyOf) {S : jS} {x0 : Nat} {x1 : Int32} {x2 : Int32} {x3 : Int32} {Kc4 : jS × Int32 × Int32 → Prop} (hc4 : ∀ z : jS × Int32 × Int32, Kc4 z → jJ (X, G, 4, jA X G tvi K) z.1 [(0, .ref x0), (1, .int x1), (2, .int z.2.1), (3, .int z.2.2)] 4 []) (h : wp_X5_manyOf_4 S x0 x1 x2 x3 Kc4 K) : jJ (X, G, 4, jA X G tvi K) S [(0, .ref x0), (1, .int x1), (2, .int x2), (3, .int x3)] 4 [] := by
  unfold wp_X5_manyOf_4 at h
  refine jr_iload_n C 5 rfl dX5_manyOf_4 rfl 3 rfl ?_
  refine jr_aload_n C 6 rfl dX5_manyOf_5 rfl 0 rfl ?_
  refine jr_geti C 9 rfl fo_8_16 q1293 dX5_manyOf_6 h (fun v1 h => ?_)
  refine jr_icmp_ge C 36 12 rfl dX5_manyOf_9 (by decide) (fun c5 => ?_) (fun c5 => ?_)
  · have h := h.1 c5
    refine jr_iload_n C 37 rfl dX5_manyOf_36 rfl 2 rfl ?_
    exact jr_ireturn C dX5_manyOf_37 h
  · have h := h.2 c5
    refine jr_iload_n C 13 rfl dX5_manyOf_12 rfl 2 rfl ?_
    refine jr_aload_n C 14 rfl dX5_manyOf_13 rfl 0 rfl ?_
    refine jr_getr C 17 rfl fo_8_31 q1308 dX5_manyOf_14 h (fun v2 h => ?_)
    refine jr_iload_n C 18 rfl dX5_manyOf_17 rfl 3 rfl ?_
    refine jr_iald C 19 rfl dX5_manyOf_18 h (fun v3 h => ?_)
    refine jr_iload_n C 20 rfl dX5_manyOf_19 rfl 1 rfl ?_
    refine jr_icmp_ne C 27 23 rfl dX5_manyOf_20 (by decide) (fun c4 => ?_) (fun c4 => ?_)
    · have h := h.1 c4
      refine jr_iconst (v := 1) C 24 rfl dX5_manyOf_23 (by decide) ?_
      refine jr_goto C 28 dX5_manyOf_24 (by decide) ?_
      exact jr_sub [0, 1, 3] rfl (wk_X5_manyOf_28 C hc4 h)
    · have h := h.2 c4
      refine jr_iconst (v := 0) C 28 rfl dX5_manyOf_27 (by decide) ?_
      exact jr_sub [0, 1, 3] rfl (wk_X5_manyOf_28 C hc4 h)
theorem wk_X5_manyOf_4_L {X : jX} {G : jG} {K : jS → Int32 → Prop} (C : jC (X, G, 4, jA X G tvi K) d_X5_manyOf cX5_manyOf "SamovarModel" (some .int) yX5_manyOf) {x0 : Nat} {x1 : Int32}  : ∀ (n : Nat) (z : jS × Int32 × Int32), jlp n (wp_X5_manyOf_4_L x0 x1 K) z → jJ (X, G, 4, jA X G tvi K) z.1 [(0, .ref x0), (1, .int x1), (2, .int z.2.1), (3, .int z.2.2)] 4 [] := by
  intro n
  induction n with
  | zero => intro z h; exact h.elim
  | succ n ih => intro z h; exact wk_X5_manyOf_4 C ih h
theorem wk_X5_manyOf_0 {X : jX} {G : jG} {K : jS → Int32 → Prop} (C : jC (X, G, 4, jA X G tvi K) d_X5_manyOf cX5_manyOf "SamovarModel" (some .int) yX5_manyOf) {S : jS} {x0 : Nat} {x1 : Int32}  (h : wp_X5_manyOf S x0 x1 K) : jJ (X, G, 4, jA X G tvi K) S [(0, .ref x0), (1, .int x1)] 0 [] := by
  unfold wp_X5_manyOf at h
  refine jr_iconst (v := 0) C 1 rfl dX5_manyOf_0 (by decide) ?_
  refine jr_istore_n (lv' := [(2, .int 0), (0, .ref x0), (1, .int x1)]) C 2 rfl dX5_manyOf_1 rfl (Nat.le_of_ble_eq_true rfl) rfl ?_
  refine jr_iconst (v := 0) C 3 rfl dX5_manyOf_2 (by decide) ?_
  refine jr_istore_n (lv' := [(3, .int 0), (2, .int 0), (0, .ref x0), (1, .int x1)]) C 4 rfl dX5_manyOf_3 rfl (Nat.le_of_ble_eq_true rfl) rfl ?_
  obtain ⟨n, h⟩ := h
  exact jr_sub [2, 3, 1, 0] rfl (wk_X5_manyOf_4_L C  n _ h)
theorem m_X5_manyOf {l : Launch} (hl : l.stackTraces = false) {G : jG} {K : jS → Int32 → Prop} {S : jS} {x0 : Nat} {x1 : Int32} (h : wp_X5_manyOf S x0 x1 K) : jMet l G d_X5_manyOf yX5_manyOf (ws_ yX5_manyOf cX5_manyOf 4 (some .int)) [.ref x0, .int x1] S tvi K :=
  jMet.of hl rfl (by decide) (Nat.le_of_ble_eq_true rfl) (fun X C => jr_sub [0, 1] rfl (wk_X5_manyOf_0 C h))
theorem wk_X5_sumOf_0 {X : jX} {G : jG} {K : jS → Int32 → Prop} (C : jC (X, G, 2, jA X G tvi K) d_X5_sumOf cX5_sumOf "SamovarModel" (some .int) yX5_sumOf) {S : jS} {x0 : Nat} {x1 : Int32}  (h : wp_X5_sumOf S x0 x1 K) : jJ (X, G, 2, jA X G tvi K) S [(0, .ref x0), (1, .int x1)] 0 [] := by
  unfold wp_X5_sumOf at h
  refine jr_aload_n C 1 rfl dX5_sumOf_0 rfl 0 rfl ?_
  obtain ⟨⟨V, hb⟩, h⟩ := h
  refine jr_callVv (r0 := (RX5, TX5, 53)) (As := []) (st := []) C 4 rfl (m_X5_runsTold C.2.2.2.2.2.2.2.2.2.2.2.2.2.2.2 h) rfl hb rfl q1542 q1544 qs52 q102 q1545 (by decide) (by decide) ndV_X5_runsTold (Nat.le_of_ble_eq_true rfl) dX5_sumOf_1 (fun S1 _ h => ?_)
  refine jr_iload_n C 5 rfl dX5_sumOf_4 rfl 1 rfl ?_
  by_cases c2 : x1 = 0
  · have h := h.1 c2
    refine jr_tswIn (k0 := 0) C 36 dX5_sumOf_5 c2 (by decide) (by decide) (show _ = some 31 by decide) (by decide) ?_
    refine jr_aload_n C 37 rfl dX5_sumOf_36 rfl 0 rfl ?_
    obtain ⟨⟨V, hb⟩, h⟩ := h
    refine jr_callVi (r0 := (RX5, TX5, 53)) (As := []) (st := []) C 40 rfl (m_X5_drunkNow C.2.2.2.2.2.2.2.2.2.2.2.2.2.2.2 h) rfl hb rfl q1616 q1618 qs66 q102 q1619 (by decide) (by decide) ndV_X5_drunkNow (Nat.le_of_ble_eq_true rfl) dX5_sumOf_37 (fun S3 r4 h => ?_)
    exact jr_ireturn C dX5_sumOf_40 h
  have h := h.2 c2
  by_cases c5 : x1 = 1
  · have h := h.1 c5
    refine jr_tswIn (k0 := 1) C 41 dX5_sumOf_5 c5 (by decide) (by decide) (show _ = some 36 by decide) (by decide) ?_
    refine jr_aload_n C 42 rfl dX5_sumOf_41 rfl 0 rfl ?_
    refine jr_iconst (v := 3) C 43 rfl dX5_sumOf_42 (by decide) ?_
    obtain ⟨⟨V, hb⟩, h⟩ := h
    refine jr_callVi (r0 := (RX5, TX5, 53)) (As := [.int 3]) (st := []) C 46 rfl (m_X5_manyOf C.2.2.2.2.2.2.2.2.2.2.2.2.2.2.2 h) rfl hb rfl q1620 q1622 qs67 q102 q1623 (by decide) (by decide) ndV_X5_manyOf (Nat.le_of_ble_eq_true rfl) dX5_sumOf_43 (fun S6 r7 h => ?_)
    exact jr_ireturn C dX5_sumOf_46 h
  have h := h.2 c5
  by_cases c8 : x1 = 2
  · have h := h.1 c8
    refine jr_tswIn (k0 := 2) C 47 dX5_sumOf_5 c8 (by decide) (by decide) (show _ = some 42 by decide) (by decide) ?_
    refine jr_aload_n C 48 rfl dX5_sumOf_47 rfl 0 rfl ?_
    refine jr_iconst (v := 4) C 49 rfl dX5_sumOf_48 (by decide) ?_
    obtain ⟨⟨V, hb⟩, h⟩ := h
    refine jr_callVi (r0 := (RX5, TX5, 53)) (As := [.int 4]) (st := []) C 52 rfl (m_X5_manyOf C.2.2.2.2.2.2.2.2.2.2.2.2.2.2.2 h) rfl hb rfl q1620 q1622 qs67 q102 q1623 (by decide) (by decide) ndV_X5_manyOf (Nat.le_of_ble_eq_true rfl) dX5_sumOf_49 (fun S9 r10 h => ?_)
    exact jr_ireturn C dX5_sumOf_52 h
  have h := h.2 c8
  by_cases c11 : x1 = 3
  · have h := h.1 c11
    refine jr_tswIn (k0 := 3) C 53 dX5_sumOf_5 c11 (by decide) (by decide) (show _ = some 48 by decide) (by decide) ?_
    refine jr_aload_n C 54 rfl dX5_sumOf_53 rfl 0 rfl ?_
    refine jr_geti C 57 rfl fo_8_26 q1303 dX5_sumOf_54 h (fun v12 h => ?_)
    exact jr_ireturn C dX5_sumOf_57 h
  have h := h.2 c11
  refine jr_tswOut C 58 dX5_sumOf_5 (by have e0 := lv_neT c2 (show (0 : Int32).toInt = 0 by decide); have e1 := lv_neT c5 (show (1 : Int32).toInt = 1 by decide); have e2 := lv_neT c8 (show (2 : Int32).toInt = 2 by decide); have e3 := lv_neT c11 (show (3 : Int32).toInt = 3 by decide); omega) (by decide) ?_
  refine jr_aload_n C 59 rfl dX5_sumOf_58 rfl 0 rfl ?_
  refine jr_geti C 62 rfl fo_8_27 q1304 dX5_sumOf_59 h (fun v13 h => ?_)
  exact jr_ireturn C dX5_sumOf_62 h
theorem m_X5_sumOf {l : Launch} (hl : l.stackTraces = false) {G : jG} {K : jS → Int32 → Prop} {S : jS} {x0 : Nat} {x1 : Int32} (h : wp_X5_sumOf S x0 x1 K) : jMet l G d_X5_sumOf yX5_sumOf (ws_ yX5_sumOf cX5_sumOf 2 (some .int)) [.ref x0, .int x1] S tvi K :=
  jMet.of hl rfl (by decide) (Nat.le_of_ble_eq_true rfl) (fun X C => jr_sub [0, 1] rfl (wk_X5_sumOf_0 C h))
theorem wk_X5_tellOf_19 {X : jX} {G : jG} {K : jS → Int32 → Prop} (C : jC (X, G, 2, jA X G tvi K) d_X5_tellOf cX5_tellOf "SamovarModel" (some .int) yX5_tellOf) {S : jS} {t0 : Int32}  (h : wp_X5_tellOf_19 S t0 K) : jJ (X, G, 2, jA X G tvi K) S [] 19 [.int t0] := by
  unfold wp_X5_tellOf_19 at h
  exact jr_ireturn C dX5_tellOf_19 h
theorem wk_X5_tellOf_0 {X : jX} {G : jG} {K : jS → Int32 → Prop} (C : jC (X, G, 2, jA X G tvi K) d_X5_tellOf cX5_tellOf "SamovarModel" (some .int) yX5_tellOf) {S : jS} {x0 : Nat} {x1 : Int32}  (h : wp_X5_tellOf S x0 x1 K) : jJ (X, G, 2, jA X G tvi K) S [(0, .ref x0), (1, .int x1)] 0 [] := by
  unfold wp_X5_tellOf at h
  refine jr_aload_n C 1 rfl dX5_tellOf_0 rfl 0 rfl ?_
  obtain ⟨⟨V, hb⟩, h⟩ := h
  refine jr_callVv (r0 := (RX5, TX5, 53)) (As := []) (st := []) C 4 rfl (m_X5_reads C.2.2.2.2.2.2.2.2.2.2.2.2.2.2.2 h) rfl hb rfl q1487 q1489 qs46 q102 q1490 (by decide) (by decide) ndV_X5_reads (Nat.le_of_ble_eq_true rfl) dX5_tellOf_1 (fun S1 _ h => ?_)
  refine jr_iload_n C 5 rfl dX5_tellOf_4 rfl 1 rfl ?_
  refine jr_if_ne C 15 8 rfl dX5_tellOf_5 (by decide) (fun c4 => ?_) (fun c4 => ?_)
  · have h := h.1 c4
    refine jr_aload_n C 9 rfl dX5_tellOf_8 rfl 0 rfl ?_
    refine jr_geti C 12 rfl fo_8_2 q1279 dX5_tellOf_9 h (fun v2 h => ?_)
    refine jr_goto C 19 dX5_tellOf_12 (by decide) ?_
    exact jr_sub [] rfl (wk_X5_tellOf_19 C  h)
  · have h := h.2 c4
    refine jr_aload_n C 16 rfl dX5_tellOf_15 rfl 0 rfl ?_
    refine jr_geti C 19 rfl fo_8_6 q1283 dX5_tellOf_16 h (fun v3 h => ?_)
    exact jr_sub [] rfl (wk_X5_tellOf_19 C  h)
theorem m_X5_tellOf {l : Launch} (hl : l.stackTraces = false) {G : jG} {K : jS → Int32 → Prop} {S : jS} {x0 : Nat} {x1 : Int32} (h : wp_X5_tellOf S x0 x1 K) : jMet l G d_X5_tellOf yX5_tellOf (ws_ yX5_tellOf cX5_tellOf 2 (some .int)) [.ref x0, .int x1] S tvi K :=
  jMet.of hl rfl (by decide) (Nat.le_of_ble_eq_true rfl) (fun X C => jr_sub [0, 1] rfl (wk_X5_tellOf_0 C h))
theorem wk_X5_count_52 {X : jX} {G : jG} {K : jS → Int32 → Prop} (C : jC (X, G, 2, jA X G tvi K) d_X5_count cX5_count "SamovarModel" (some .int) yX5_count) {S : jS} {x0 : Nat} {x1 : Int32}  (h : wp_X5_count_52 S x0 x1 K) : jJ (X, G, 2, jA X G tvi K) S [(0, .ref x0), (1, .int x1)] 52 [] := by
  unfold wp_X5_count_52 at h
  refine jr_aload_n C 53 rfl dX5_count_52 rfl 0 rfl ?_
  refine jr_iload_n C 54 rfl dX5_count_53 rfl 1 rfl ?_
  obtain ⟨⟨V, hb⟩, h⟩ := h
  refine jr_callVi (r0 := (RX5, TX5, 53)) (As := [.int x1]) (st := []) C 57 rfl (m_X5_tellOf C.2.2.2.2.2.2.2.2.2.2.2.2.2.2.2 h) rfl hb rfl q1812 q1814 qs89 q102 q1815 (by decide) (by decide) ndV_X5_tellOf (Nat.le_of_ble_eq_true rfl) dX5_count_54 (fun S1 r2 h => ?_)
  exact jr_ireturn C dX5_count_57 h
theorem wk_X5_count_0 {X : jX} {G : jG} {K : jS → Int32 → Prop} (C : jC (X, G, 2, jA X G tvi K) d_X5_count cX5_count "SamovarModel" (some .int) yX5_count) {S : jS} {x0 : Nat} {x1 : Int32}  (h : wp_X5_count S x0 x1 K) : jJ (X, G, 2, jA X G tvi K) S [(0, .ref x0), (1, .int x1)] 0 [] := by
  unfold wp_X5_count at h
  refine jr_iload_n C 1 rfl dX5_count_0 rfl 1 rfl ?_
  by_cases c1 : x1 = 0
  · have h := h.1 c1
    refine jr_tswIn (k0 := 0) C 52 dX5_count_1 c1 (by decide) (by decide) (show _ = some 51 by decide) (by decide) ?_
    exact (wk_X5_count_52 C  h)
  have h := h.2 c1
  by_cases c2 : x1 = 1
  · have h := h.1 c2
    refine jr_tswIn (k0 := 1) C 52 dX5_count_1 c2 (by decide) (by decide) (show _ = some 51 by decide) (by decide) ?_
    exact (wk_X5_count_52 C  h)
  have h := h.2 c2
  by_cases c3 : x1 = 2
  · have h := h.1 c3
    refine jr_tswIn (k0 := 2) C 58 dX5_count_1 c3 (by decide) (by decide) (show _ = some 57 by decide) (by decide) ?_
    refine jr_aload_n C 59 rfl dX5_count_58 rfl 0 rfl ?_
    refine jr_getr C 62 rfl fo_8_0 q1277 dX5_count_59 h (fun v4 h => ?_)
    refine jr_iconst (v := 0) C 63 rfl dX5_count_62 (by decide) ?_
    refine jr_iald C 64 rfl dX5_count_63 h (fun v5 h => ?_)
    refine jr_aload_n C 65 rfl dX5_count_64 rfl 0 rfl ?_
    refine jr_getr C 68 rfl fo_8_0 q1277 dX5_count_65 h (fun v6 h => ?_)
    refine jr_iconst (v := 1) C 69 rfl dX5_count_68 (by decide) ?_
    refine jr_iald C 70 rfl dX5_count_69 h (fun v7 h => ?_)
    refine jr_iadd C 71 rfl dX5_count_70 ?_
    exact jr_ireturn C dX5_count_71 h
  have h := h.2 c3
  by_cases c8 : x1 = 3
  · have h := h.1 c8
    refine jr_tswIn (k0 := 3) C 72 dX5_count_1 c8 (by decide) (by decide) (show _ = some 71 by decide) (by decide) ?_
    refine jr_aload_n C 73 rfl dX5_count_72 rfl 0 rfl ?_
    refine jr_geti C 76 rfl fo_8_12 q1289 dX5_count_73 h (fun v9 h => ?_)
    exact jr_ireturn C dX5_count_76 h
  have h := h.2 c8
  by_cases c10 : x1 = 4
  · have h := h.1 c10
    refine jr_tswIn (k0 := 4) C 77 dX5_count_1 c10 (by decide) (by decide) (show _ = some 76 by decide) (by decide) ?_
    refine jr_aload_n C 78 rfl dX5_count_77 rfl 0 rfl ?_
    refine jr_iconst (v := 0) C 79 rfl dX5_count_78 (by decide) ?_
    obtain ⟨⟨V, hb⟩, h⟩ := h
    refine jr_callVi (r0 := (RX5, TX5, 53)) (As := [.int 0]) (st := []) C 82 rfl (m_X5_sumOf C.2.2.2.2.2.2.2.2.2.2.2.2.2.2.2 h) rfl hb rfl q1612 q1614 qs65 q102 q1615 (by decide) (by decide) ndV_X5_sumOf (Nat.le_of_ble_eq_true rfl) dX5_count_79 (fun S11 r12 h => ?_)
    exact jr_ireturn C dX5_count_82 h
  have h := h.2 c10
  by_cases c13 : x1 = 5
  · have h := h.1 c13
    refine jr_tswIn (k0 := 5) C 83 dX5_count_1 c13 (by decide) (by decide) (show _ = some 82 by decide) (by decide) ?_
    refine jr_aload_n C 84 rfl dX5_count_83 rfl 0 rfl ?_
    refine jr_geti C 87 rfl fo_8_10 q1287 dX5_count_84 h (fun v14 h => ?_)
    exact jr_ireturn C dX5_count_87 h
  have h := h.2 c13
  by_cases c15 : x1 = 6
  · have h := h.1 c15
    refine jr_tswIn (k0 := 6) C 88 dX5_count_1 c15 (by decide) (by decide) (show _ = some 87 by decide) (by decide) ?_
    refine jr_aload_n C 89 rfl dX5_count_88 rfl 0 rfl ?_
    refine jr_geti C 92 rfl fo_8_11 q1288 dX5_count_89 h (fun v16 h => ?_)
    exact jr_ireturn C dX5_count_92 h
  have h := h.2 c15
  by_cases c17 : x1 = 7
  · have h := h.1 c17
    refine jr_tswIn (k0 := 7) C 93 dX5_count_1 c17 (by decide) (by decide) (show _ = some 92 by decide) (by decide) ?_
    refine jr_aload_n C 94 rfl dX5_count_93 rfl 0 rfl ?_
    refine jr_geti C 97 rfl fo_8_43 q1320 dX5_count_94 h (fun v18 h => ?_)
    exact jr_ireturn C dX5_count_97 h
  have h := h.2 c17
  by_cases c19 : x1 = 8
  · have h := h.1 c19
    refine jr_tswIn (k0 := 8) C 98 dX5_count_1 c19 (by decide) (by decide) (show _ = some 97 by decide) (by decide) ?_
    refine jr_aload_n C 99 rfl dX5_count_98 rfl 0 rfl ?_
    refine jr_geti C 102 rfl fo_8_52 q1329 dX5_count_99 h (fun v20 h => ?_)
    exact jr_ireturn C dX5_count_102 h
  have h := h.2 c19
  refine jr_tswOut C 103 dX5_count_1 (by have e0 := lv_neT c1 (show (0 : Int32).toInt = 0 by decide); have e1 := lv_neT c2 (show (1 : Int32).toInt = 1 by decide); have e2 := lv_neT c3 (show (2 : Int32).toInt = 2 by decide); have e3 := lv_neT c8 (show (3 : Int32).toInt = 3 by decide); have e4 := lv_neT c10 (show (4 : Int32).toInt = 4 by decide); have e5 := lv_neT c13 (show (5 : Int32).toInt = 5 by decide); have e6 := lv_neT c15 (show (6 : Int32).toInt = 6 by decide); have e7 := lv_neT c17 (show (7 : Int32).toInt = 7 by decide); have e8 := lv_neT c19 (show (8 : Int32).toInt = 8 by decide); omega) (by decide) ?_
  refine jr_bipush (v := (-2)) C 105 rfl dX5_count_103 (by decide) ?_
  exact jr_ireturn C dX5_count_105 h
theorem m_X5_count {l : Launch} (hl : l.stackTraces = false) {G : jG} {K : jS → Int32 → Prop} {S : jS} {x0 : Nat} {x1 : Int32} (h : wp_X5_count S x0 x1 K) : jMet l G d_X5_count yX5_count (ws_ yX5_count cX5_count 2 (some .int)) [.ref x0, .int x1] S tvi K :=
  jMet.of hl rfl (by decide) (Nat.le_of_ble_eq_true rfl) (fun X C => jr_sub [0, 1] rfl (wk_X5_count_0 C h))
theorem wk_X5_eveningsOf_97 {X : jX} {G : jG} {K : jS → Int32 → Prop} (C : jC (X, G, 6, jA X G tvi K) d_X5_eveningsOf cX5_eveningsOf "SamovarModel" (some .int) yX5_eveningsOf) {S : jS} {t0 : Nat} {t1 : Int32} {t2 : Int32} {x0 : Nat} {x2 : Int32} {x3 : Int32} {x4 : Int32} {x5 : Int32} {Kc15 : jS × Int32 × Int32 → Prop} (hc15 : ∀ z : jS × Int32 × Int32, Kc15 z → jJ (X, G, 6, jA X G tvi K) z.1 [(0, .ref x0), (2, .int x2), (3, .int x3), (4, .int z.2.1), (5, .int z.2.2)] 15 []) (h : wp_X5_eveningsOf_97 S t0 t1 t2 x0 x2 x3 x4 x5 Kc15 K) : jJ (X, G, 6, jA X G tvi K) S [(0, .ref x0), (2, .int x2), (3, .int x3), (4, .int x4), (5, .int x5)] 97 [.int t2, .int t1, .ref t0] := by
  unfold wp_X5_eveningsOf_97 at h
  refine jr_iconst (v := 4) C 98 rfl dX5_eveningsOf_97 (by decide) ?_
  obtain ⟨hz, h⟩ := h
  refine jr_irem C 99 rfl dX5_eveningsOf_98 hz ?_
  refine jr_iconst (v := 1) C 100 rfl dX5_eveningsOf_99 (by decide) ?_
  refine jr_iadd C 101 rfl dX5_eveningsOf_100 ?_
  refine jr_iast C 102 rfl dX5_eveningsOf_101 h (fun S1 h => ?_)
  refine jr_iinc (v := (x5 + 1)) (lv' := [(5, .int (x5 + 1)), (0, .ref x0), (2, .int x2), (3, .int x3), (4, .int x4)]) C 105 rfl dX5_eveningsOf_102 4 rfl rfl (Nat.le_of_ble_eq_true rfl) rfl ?_
  refine jr_goto C 15 dX5_eveningsOf_105 (by decide) ?_
  exact jr_sub [1, 2, 3, 4, 0] rfl (hc15 _ h)
theorem wk_X5_eveningsOf_128 {X : jX} {G : jG} {K : jS → Int32 → Prop} (C : jC (X, G, 6, jA X G tvi K) d_X5_eveningsOf cX5_eveningsOf "SamovarModel" (some .int) yX5_eveningsOf) {S : jS} {t0 : Int32}  (h : wp_X5_eveningsOf_128 S t0 K) : jJ (X, G, 6, jA X G tvi K) S [] 128 [.int t0] := by
  unfold wp_X5_eveningsOf_128 at h
  exact jr_ireturn C dX5_eveningsOf_128 h
theorem wk_X5_eveningsOf_15 {X : jX} {G : jG} {K : jS → Int32 → Prop} (C : jC (X, G, 6, jA X G tvi K) d_X5_eveningsOf cX5_eveningsOf "SamovarModel" (some .int) yX5_eveningsOf) {S : jS} {x0 : Nat} {x2 : Int32} {x3 : Int32} {x4 : Int32} {x5 : Int32} {Kc15 : jS × Int32 × Int32 → Prop} (hc15 : ∀ z : jS × Int32 × Int32, Kc15 z → jJ (X, G, 6, jA X G tvi K) z.1 [(0, .ref x0), (2, .int x2), (3, .int x3), (4, .int z.2.1), (5, .int z.2.2)] 15 []) (h : wp_X5_eveningsOf_15 S x0 x2 x3 x4 x5 Kc15 K) : jJ (X, G, 6, jA X G tvi K) S [(0, .ref x0), (2, .int x2), (3, .int x3), (4, .int x4), (5, .int x5)] 15 [] := by
  unfold wp_X5_eveningsOf_15 at h
  refine jr_iload C 17 rfl dX5_eveningsOf_15 4 rfl ?_
  refine jr_iload_n C 18 rfl dX5_eveningsOf_17 rfl 1 rfl ?_
  refine jr_icmp_ge C 108 21 rfl dX5_eveningsOf_18 (by decide) (fun c12 => ?_) (fun c12 => ?_)
  · have h := h.1 c12
    refine jr_aload_n C 109 rfl dX5_eveningsOf_108 rfl 0 rfl ?_
    obtain ⟨⟨V, hb⟩, h⟩ := h
    refine jr_callVv (r0 := (RX5, TX5, 53)) (As := []) (st := []) C 112 rfl (m_X5_runs C.2.2.2.2.2.2.2.2.2.2.2.2.2.2.2 h) rfl hb rfl q1550 q1552 qs54 q102 q1553 (by decide) (by decide) ndV_X5_runs (Nat.le_of_ble_eq_true rfl) dX5_eveningsOf_109 (fun S1 _ h => ?_)
    refine jr_iload_n C 113 rfl dX5_eveningsOf_112 rfl 2 rfl ?_
    refine jr_if_ne C 123 116 rfl dX5_eveningsOf_113 (by decide) (fun c6 => ?_) (fun c6 => ?_)
    · have h := h.1 c6
      refine jr_aload_n C 117 rfl dX5_eveningsOf_116 rfl 0 rfl ?_
      obtain ⟨⟨V, hb⟩, h⟩ := h
      refine jr_callVi (r0 := (RX5, TX5, 53)) (As := []) (st := []) C 120 rfl (m_X5_drunkNow C.2.2.2.2.2.2.2.2.2.2.2.2.2.2.2 h) rfl hb rfl q1616 q1618 qs66 q102 q1619 (by decide) (by decide) ndV_X5_drunkNow (Nat.le_of_ble_eq_true rfl) dX5_eveningsOf_117 (fun S2 r3 h => ?_)
      refine jr_goto C 128 dX5_eveningsOf_120 (by decide) ?_
      exact jr_sub [] rfl (wk_X5_eveningsOf_128 C  h)
    · have h := h.2 c6
      refine jr_aload_n C 124 rfl dX5_eveningsOf_123 rfl 0 rfl ?_
      refine jr_iconst (v := 4) C 125 rfl dX5_eveningsOf_124 (by decide) ?_
      obtain ⟨⟨V, hb⟩, h⟩ := h
      refine jr_callVi (r0 := (RX5, TX5, 53)) (As := [.int 4]) (st := []) C 128 rfl (m_X5_manyOf C.2.2.2.2.2.2.2.2.2.2.2.2.2.2.2 h) rfl hb rfl q1620 q1622 qs67 q102 q1623 (by decide) (by decide) ndV_X5_manyOf (Nat.le_of_ble_eq_true rfl) dX5_eveningsOf_125 (fun S4 r5 h => ?_)
      exact jr_sub [] rfl (wk_X5_eveningsOf_128 C  h)
  · have h := h.2 c12
    refine jr_ldcw (v := 1103515245) C 24 rfl dX5_eveningsOf_21 q1774 ?_
    refine jr_iload C 26 rfl dX5_eveningsOf_24 3 rfl ?_
    refine jr_imul C 27 rfl dX5_eveningsOf_26 ?_
    refine jr_sipush (v := 12345) C 30 rfl dX5_eveningsOf_27 (by decide) ?_
    refine jr_iadd C 31 rfl dX5_eveningsOf_30 ?_
    refine jr_istore (lv' := [(4, .int ((1103515245 * x4) + 12345)), (0, .ref x0), (2, .int x2), (3, .int x3), (5, .int x5)]) C 33 rfl dX5_eveningsOf_31 (Nat.le_of_ble_eq_true rfl) rfl ?_
    refine jr_aload_n C 34 rfl dX5_eveningsOf_33 rfl 1 rfl ?_
    refine jr_getr C 37 rfl fo_8_17 q1294 dX5_eveningsOf_34 h (fun v7 h => ?_)
    refine jr_iload C 39 rfl dX5_eveningsOf_37 4 rfl ?_
    refine jr_iload C 41 rfl dX5_eveningsOf_39 0 rfl ?_
    refine jr_bipush (v := 16) C 43 rfl dX5_eveningsOf_41 (by decide) ?_
    refine jr_iushr C 44 rfl dX5_eveningsOf_43 ?_
    refine jr_bipush (v := 24) C 46 rfl dX5_eveningsOf_44 (by decide) ?_
    obtain ⟨hz, h⟩ := h
    refine jr_irem C 47 rfl dX5_eveningsOf_46 hz ?_
    refine jr_iast C 48 rfl dX5_eveningsOf_47 h (fun S8 h => ?_)
    refine jr_ldcw (v := 1103515245) C 51 rfl dX5_eveningsOf_48 q1774 ?_
    refine jr_iload C 53 rfl dX5_eveningsOf_51 0 rfl ?_
    refine jr_imul C 54 rfl dX5_eveningsOf_53 ?_
    refine jr_sipush (v := 12345) C 57 rfl dX5_eveningsOf_54 (by decide) ?_
    refine jr_iadd C 58 rfl dX5_eveningsOf_57 ?_
    refine jr_istore (lv' := [(4, .int ((1103515245 * ((1103515245 * x4) + 12345)) + 12345)), (0, .ref x0), (2, .int x2), (3, .int x3), (5, .int x5)]) C 60 rfl dX5_eveningsOf_58 (Nat.le_of_ble_eq_true rfl) rfl ?_
    refine jr_aload_n C 61 rfl dX5_eveningsOf_60 rfl 1 rfl ?_
    refine jr_getr C 64 rfl fo_8_18 q1295 dX5_eveningsOf_61 h (fun v9 h => ?_)
    refine jr_iload C 66 rfl dX5_eveningsOf_64 4 rfl ?_
    refine jr_iload C 68 rfl dX5_eveningsOf_66 0 rfl ?_
    refine jr_bipush (v := 16) C 70 rfl dX5_eveningsOf_68 (by decide) ?_
    refine jr_iushr C 71 rfl dX5_eveningsOf_70 ?_
    refine jr_iconst (v := 2) C 72 rfl dX5_eveningsOf_71 (by decide) ?_
    obtain ⟨hz, h⟩ := h
    refine jr_irem C 73 rfl dX5_eveningsOf_72 hz ?_
    refine jr_iast C 74 rfl dX5_eveningsOf_73 h (fun S10 h => ?_)
    refine jr_ldcw (v := 1103515245) C 77 rfl dX5_eveningsOf_74 q1774 ?_
    refine jr_iload C 79 rfl dX5_eveningsOf_77 0 rfl ?_
    refine jr_imul C 80 rfl dX5_eveningsOf_79 ?_
    refine jr_sipush (v := 12345) C 83 rfl dX5_eveningsOf_80 (by decide) ?_
    refine jr_iadd C 84 rfl dX5_eveningsOf_83 ?_
    refine jr_istore (lv' := [(4, .int ((1103515245 * ((1103515245 * ((1103515245 * x4) + 12345)) + 12345)) + 12345)), (0, .ref x0), (2, .int x2), (3, .int x3), (5, .int x5)]) C 86 rfl dX5_eveningsOf_84 (Nat.le_of_ble_eq_true rfl) rfl ?_
    refine jr_aload_n C 87 rfl dX5_eveningsOf_86 rfl 1 rfl ?_
    refine jr_getr C 90 rfl fo_8_19 q1296 dX5_eveningsOf_87 h (fun v11 h => ?_)
    refine jr_iload C 92 rfl dX5_eveningsOf_90 4 rfl ?_
    refine jr_iload C 94 rfl dX5_eveningsOf_92 0 rfl ?_
    refine jr_bipush (v := 16) C 96 rfl dX5_eveningsOf_94 (by decide) ?_
    refine jr_iushr C 97 rfl dX5_eveningsOf_96 ?_
    exact jr_sub [1, 2, 3, 0, 4] rfl (wk_X5_eveningsOf_97 C hc15 h)
theorem wk_X5_eveningsOf_15_L {X : jX} {G : jG} {K : jS → Int32 → Prop} (C : jC (X, G, 6, jA X G tvi K) d_X5_eveningsOf cX5_eveningsOf "SamovarModel" (some .int) yX5_eveningsOf) {x0 : Nat} {x2 : Int32} {x3 : Int32}  : ∀ (n : Nat) (z : jS × Int32 × Int32), jlp n (wp_X5_eveningsOf_15_L x0 x2 x3 K) z → jJ (X, G, 6, jA X G tvi K) z.1 [(0, .ref x0), (2, .int x2), (3, .int x3), (4, .int z.2.1), (5, .int z.2.2)] 15 [] := by
  intro n
  induction n with
  | zero => intro z h; exact h.elim
  | succ n ih => intro z h; exact wk_X5_eveningsOf_15 C ih h
theorem wk_X5_eveningsOf_0 {X : jX} {G : jG} {K : jS → Int32 → Prop} (C : jC (X, G, 6, jA X G tvi K) d_X5_eveningsOf cX5_eveningsOf "SamovarModel" (some .int) yX5_eveningsOf) {S : jS} {x0 : Nat} {x1 : Int32} {x2 : Int32} {x3 : Int32}  (h : wp_X5_eveningsOf S x0 x1 x2 x3 K) : jJ (X, G, 6, jA X G tvi K) S [(0, .ref x0), (1, .int x1), (2, .int x2), (3, .int x3)] 0 [] := by
  unfold wp_X5_eveningsOf at h
  refine jr_aload_n C 1 rfl dX5_eveningsOf_0 rfl 0 rfl ?_
  obtain ⟨⟨V, hb⟩, h⟩ := h
  refine jr_callVv (r0 := (RX5, TX5, 53)) (As := []) (st := []) C 4 rfl (m_X5_asTold C.2.2.2.2.2.2.2.2.2.2.2.2.2.2.2 h) rfl hb rfl q1546 q1548 qs53 q102 q1549 (by decide) (by decide) ndV_X5_asTold (Nat.le_of_ble_eq_true rfl) dX5_eveningsOf_1 (fun S1 _ h => ?_)
  refine jr_iload_n C 5 rfl dX5_eveningsOf_4 rfl 1 rfl ?_
  refine jr_istore (lv' := [(4, .int x1), (0, .ref x0), (1, .int x1), (2, .int x2), (3, .int x3)]) C 7 rfl dX5_eveningsOf_5 (Nat.le_of_ble_eq_true rfl) rfl ?_
  refine jr_aload_n C 8 rfl dX5_eveningsOf_7 rfl 1 rfl ?_
  refine jr_iload_n C 9 rfl dX5_eveningsOf_8 rfl 3 rfl ?_
  refine jr_putv C 12 rfl fo_8_16 (by decide) q1293 dX5_eveningsOf_9 rfl rfl h (fun S2 h => ?_)
  refine jr_iconst (v := 0) C 13 rfl dX5_eveningsOf_12 (by decide) ?_
  refine jr_istore (lv' := [(5, .int 0), (4, .int x1), (0, .ref x0), (1, .int x1), (2, .int x2), (3, .int x3)]) C 15 rfl dX5_eveningsOf_13 (Nat.le_of_ble_eq_true rfl) rfl ?_
  obtain ⟨n, h⟩ := h
  exact jr_sub [2, 4, 5, 1, 0] rfl (wk_X5_eveningsOf_15_L C  n _ h)
theorem m_X5_eveningsOf {l : Launch} (hl : l.stackTraces = false) {G : jG} {K : jS → Int32 → Prop} {S : jS} {x0 : Nat} {x1 : Int32} {x2 : Int32} {x3 : Int32} (h : wp_X5_eveningsOf S x0 x1 x2 x3 K) : jMet l G d_X5_eveningsOf yX5_eveningsOf (ws_ yX5_eveningsOf cX5_eveningsOf 6 (some .int)) [.ref x0, .int x1, .int x2, .int x3] S tvi K :=
  jMet.of hl rfl (by decide) (Nat.le_of_ble_eq_true rfl) (fun X C => jr_sub [0, 1, 2, 3] rfl (wk_X5_eveningsOf_0 C h))
theorem wk_X5_fillOf_43 {X : jX} {G : jG} {K : jS → Int32 → Prop} (C : jC (X, G, 3, jA X G tvi K) d_X5_fillOf cX5_fillOf "SamovarModel" (some .int) yX5_fillOf) {S : jS} {t0 : Int32}  (h : wp_X5_fillOf_43 S t0 K) : jJ (X, G, 3, jA X G tvi K) S [] 43 [.int t0] := by
  unfold wp_X5_fillOf_43 at h
  exact jr_ireturn C dX5_fillOf_43 h
theorem wk_X5_fillOf_7 {X : jX} {G : jG} {K : jS → Int32 → Prop} (C : jC (X, G, 3, jA X G tvi K) d_X5_fillOf cX5_fillOf "SamovarModel" (some .int) yX5_fillOf) {S : jS} {t0 : Int32} {x0 : Nat} {x1 : Int32} {x2 : Int32} {Kc6 : jS × Int32 → Prop} (hc6 : ∀ z : jS × Int32, Kc6 z → jJ (X, G, 3, jA X G tvi K) z.1 [(0, .ref x0), (1, .int x1), (2, .int z.2)] 6 []) (h : wp_X5_fillOf_7 S t0 x0 x1 x2 Kc6 K) : jJ (X, G, 3, jA X G tvi K) S [(0, .ref x0), (1, .int x1), (2, .int x2)] 7 [.int t0] := by
  unfold wp_X5_fillOf_7 at h
  refine jr_bipush (v := 30) C 9 rfl dX5_fillOf_7 (by decide) ?_
  refine jr_icmp_gt C 28 12 rfl dX5_fillOf_9 (by decide) (fun c6 => ?_) (fun c6 => ?_)
  · have h := h.1 c6
    refine jr_iload_n C 29 rfl dX5_fillOf_28 rfl 1 rfl ?_
    refine jr_if_ne C 39 32 rfl dX5_fillOf_29 (by decide) (fun c3 => ?_) (fun c3 => ?_)
    · have h := h.1 c3
      refine jr_aload_n C 33 rfl dX5_fillOf_32 rfl 0 rfl ?_
      refine jr_geti C 36 rfl fo_8_40 q1317 dX5_fillOf_33 h (fun v1 h => ?_)
      refine jr_goto C 43 dX5_fillOf_36 (by decide) ?_
      exact jr_sub [] rfl (wk_X5_fillOf_43 C  h)
    · have h := h.2 c3
      refine jr_aload_n C 40 rfl dX5_fillOf_39 rfl 0 rfl ?_
      refine jr_geti C 43 rfl fo_8_41 q1318 dX5_fillOf_40 h (fun v2 h => ?_)
      exact jr_sub [] rfl (wk_X5_fillOf_43 C  h)
  · have h := h.2 c6
    refine jr_aload_n C 13 rfl dX5_fillOf_12 rfl 0 rfl ?_
    refine jr_iload_n C 14 rfl dX5_fillOf_13 rfl 2 rfl ?_
    refine jr_putv C 17 rfl fo_8_20 (by decide) q1297 dX5_fillOf_14 rfl rfl h (fun S4 h => ?_)
    refine jr_aload_n C 18 rfl dX5_fillOf_17 rfl 0 rfl ?_
    refine jr_iload_n C 19 rfl dX5_fillOf_18 rfl 2 rfl ?_
    obtain ⟨⟨V, hb⟩, h⟩ := h
    refine jr_callVv (r0 := (RX5, TX5, 53)) (As := [.int x2]) (st := []) C 22 rfl (m_X5_tries C.2.2.2.2.2.2.2.2.2.2.2.2.2.2.2 h) rfl hb rfl q1668 q1670 qs74 q102 q1671 (by decide) (by decide) ndV_X5_tries (Nat.le_of_ble_eq_true rfl) dX5_fillOf_19 (fun S5 _ h => ?_)
    refine jr_iinc (v := (x2 + 1)) (lv' := [(2, .int (x2 + 1)), (0, .ref x0), (1, .int x1)]) C 25 rfl dX5_fillOf_22 2 rfl rfl (Nat.le_of_ble_eq_true rfl) rfl ?_
    refine jr_goto C 6 dX5_fillOf_25 (by decide) ?_
    exact jr_sub [1, 2, 0] rfl (hc6 _ h)
theorem wk_X5_fillOf_6 {X : jX} {G : jG} {K : jS → Int32 → Prop} (C : jC (X, G, 3, jA X G tvi K) d_X5_fillOf cX5_fillOf "SamovarModel" (some .int) yX5_fillOf) {S : jS} {x0 : Nat} {x1 : Int32} {x2 : Int32} {Kc6 : jS × Int32 → Prop} (hc6 : ∀ z : jS × Int32, Kc6 z → jJ (X, G, 3, jA X G tvi K) z.1 [(0, .ref x0), (1, .int x1), (2, .int z.2)] 6 []) (h : wp_X5_fillOf_6 S x0 x1 x2 Kc6 K) : jJ (X, G, 3, jA X G tvi K) S [(0, .ref x0), (1, .int x1), (2, .int x2)] 6 [] := by
  unfold wp_X5_fillOf_6 at h
  refine jr_iload_n C 7 rfl dX5_fillOf_6 rfl 2 rfl ?_
  exact (wk_X5_fillOf_7 C hc6 h)
theorem wk_X5_fillOf_6_L {X : jX} {G : jG} {K : jS → Int32 → Prop} (C : jC (X, G, 3, jA X G tvi K) d_X5_fillOf cX5_fillOf "SamovarModel" (some .int) yX5_fillOf) {x0 : Nat} {x1 : Int32}  : ∀ (n : Nat) (z : jS × Int32), jlp n (wp_X5_fillOf_6_L x0 x1 K) z → jJ (X, G, 3, jA X G tvi K) z.1 [(0, .ref x0), (1, .int x1), (2, .int z.2)] 6 [] := by
  intro n
  induction n with
  | zero => intro z h; exact h.elim
  | succ n ih => intro z h; exact wk_X5_fillOf_6 C ih h
theorem wk_X5_fillOf_0 {X : jX} {G : jG} {K : jS → Int32 → Prop} (C : jC (X, G, 3, jA X G tvi K) d_X5_fillOf cX5_fillOf "SamovarModel" (some .int) yX5_fillOf) {S : jS} {x0 : Nat} {x1 : Int32}  (h : wp_X5_fillOf S x0 x1 K) : jJ (X, G, 3, jA X G tvi K) S [(0, .ref x0), (1, .int x1)] 0 [] := by
  unfold wp_X5_fillOf at h
  refine jr_aload_n C 1 rfl dX5_fillOf_0 rfl 0 rfl ?_
  obtain ⟨⟨V, hb⟩, h⟩ := h
  refine jr_callVv (r0 := (RX5, TX5, 53)) (As := []) (st := []) C 4 rfl (m_X5_starts C.2.2.2.2.2.2.2.2.2.2.2.2.2.2.2 h) rfl hb rfl q1664 q1666 qs73 q102 q1667 (by decide) (by decide) ndV_X5_starts (Nat.le_of_ble_eq_true rfl) dX5_fillOf_1 (fun S1 _ h => ?_)
  refine jr_iconst (v := 0) C 5 rfl dX5_fillOf_4 (by decide) ?_
  refine jr_istore_n (lv' := [(2, .int 0), (0, .ref x0), (1, .int x1)]) C 6 rfl dX5_fillOf_5 rfl (Nat.le_of_ble_eq_true rfl) rfl ?_
  obtain ⟨n, h⟩ := h
  exact jr_sub [1, 2, 0] rfl (wk_X5_fillOf_6_L C  n _ h)
theorem m_X5_fillOf {l : Launch} (hl : l.stackTraces = false) {G : jG} {K : jS → Int32 → Prop} {S : jS} {x0 : Nat} {x1 : Int32} (h : wp_X5_fillOf S x0 x1 K) : jMet l G d_X5_fillOf yX5_fillOf (ws_ yX5_fillOf cX5_fillOf 3 (some .int)) [.ref x0, .int x1] S tvi K :=
  jMet.of hl rfl (by decide) (Nat.le_of_ble_eq_true rfl) (fun X C => jr_sub [0, 1] rfl (wk_X5_fillOf_0 C h))
theorem wk_X5_firstOf_0 {X : jX} {G : jG} {K : jS → Int32 → Prop} (C : jC (X, G, 1, jA X G tvi K) d_X5_firstOf cX5_firstOf "SamovarModel" (some .int) yX5_firstOf) {S : jS} {x0 : Nat}  (h : wp_X5_firstOf S x0 K) : jJ (X, G, 1, jA X G tvi K) S [(0, .ref x0)] 0 [] := by
  unfold wp_X5_firstOf at h
  refine jr_aload_n C 1 rfl dX5_firstOf_0 rfl 0 rfl ?_
  obtain ⟨⟨V, hb⟩, h⟩ := h
  refine jr_callVv (r0 := (RX5, TX5, 53)) (As := []) (st := []) C 4 rfl (m_X5_runsTold C.2.2.2.2.2.2.2.2.2.2.2.2.2.2.2 h) rfl hb rfl q1542 q1544 qs52 q102 q1545 (by decide) (by decide) ndV_X5_runsTold (Nat.le_of_ble_eq_true rfl) dX5_firstOf_1 (fun S1 _ h => ?_)
  refine jr_aload_n C 5 rfl dX5_firstOf_4 rfl 0 rfl ?_
  refine jr_geti C 8 rfl fo_8_28 q1305 dX5_firstOf_5 h (fun v2 h => ?_)
  exact jr_ireturn C dX5_firstOf_8 h
theorem m_X5_firstOf {l : Launch} (hl : l.stackTraces = false) {G : jG} {K : jS → Int32 → Prop} {S : jS} {x0 : Nat} (h : wp_X5_firstOf S x0 K) : jMet l G d_X5_firstOf yX5_firstOf (ws_ yX5_firstOf cX5_firstOf 1 (some .int)) [.ref x0] S tvi K :=
  jMet.of hl rfl (by decide) (Nat.le_of_ble_eq_true rfl) (fun X C => jr_sub [0] rfl (wk_X5_firstOf_0 C h))
theorem wk_X5_guestOf_33 {X : jX} {G : jG} {K : jS → Int32 → Prop} (C : jC (X, G, 3, jA X G tvi K) d_X5_guestOf cX5_guestOf "SamovarModel" (some .int) yX5_guestOf) {S : jS} {t0 : Int32}  (h : wp_X5_guestOf_33 S t0 K) : jJ (X, G, 3, jA X G tvi K) S [] 33 [.int t0] := by
  unfold wp_X5_guestOf_33 at h
  exact jr_ireturn C dX5_guestOf_33 h
theorem wk_X5_guestOf_0 {X : jX} {G : jG} {K : jS → Int32 → Prop} (C : jC (X, G, 3, jA X G tvi K) d_X5_guestOf cX5_guestOf "SamovarModel" (some .int) yX5_guestOf) {S : jS} {x0 : Nat} {x1 : Int32} {x2 : Int32}  (h : wp_X5_guestOf S x0 x1 x2 K) : jJ (X, G, 3, jA X G tvi K) S [(0, .ref x0), (1, .int x1), (2, .int x2)] 0 [] := by
  unfold wp_X5_guestOf at h
  refine jr_iload_n C 1 rfl dX5_guestOf_0 rfl 2 rfl ?_
  refine jr_if_ne C 13 4 rfl dX5_guestOf_1 (by decide) (fun c8 => ?_) (fun c8 => ?_)
  · have h := h.1 c8
    refine jr_aload_n C 5 rfl dX5_guestOf_4 rfl 0 rfl ?_
    refine jr_getr C 8 rfl fo_8_7 q1284 dX5_guestOf_5 h (fun v1 h => ?_)
    refine jr_iload_n C 9 rfl dX5_guestOf_8 rfl 1 rfl ?_
    refine jr_iald C 10 rfl dX5_guestOf_9 h (fun v2 h => ?_)
    refine jr_goto C 33 dX5_guestOf_10 (by decide) ?_
    exact jr_sub [] rfl (wk_X5_guestOf_33 C  h)
  · have h := h.2 c8
    refine jr_iload_n C 14 rfl dX5_guestOf_13 rfl 2 rfl ?_
    refine jr_iconst (v := 1) C 15 rfl dX5_guestOf_14 (by decide) ?_
    refine jr_icmp_ne C 27 18 rfl dX5_guestOf_15 (by decide) (fun c7 => ?_) (fun c7 => ?_)
    · have h := h.1 c7
      refine jr_aload_n C 19 rfl dX5_guestOf_18 rfl 0 rfl ?_
      refine jr_getr C 22 rfl fo_8_8 q1285 dX5_guestOf_19 h (fun v3 h => ?_)
      refine jr_iload_n C 23 rfl dX5_guestOf_22 rfl 1 rfl ?_
      refine jr_iald C 24 rfl dX5_guestOf_23 h (fun v4 h => ?_)
      refine jr_goto C 33 dX5_guestOf_24 (by decide) ?_
      exact jr_sub [] rfl (wk_X5_guestOf_33 C  h)
    · have h := h.2 c7
      refine jr_aload_n C 28 rfl dX5_guestOf_27 rfl 0 rfl ?_
      refine jr_getr C 31 rfl fo_8_9 q1286 dX5_guestOf_28 h (fun v5 h => ?_)
      refine jr_iload_n C 32 rfl dX5_guestOf_31 rfl 1 rfl ?_
      refine jr_iald C 33 rfl dX5_guestOf_32 h (fun v6 h => ?_)
      exact jr_sub [] rfl (wk_X5_guestOf_33 C  h)
theorem m_X5_guestOf {l : Launch} (hl : l.stackTraces = false) {G : jG} {K : jS → Int32 → Prop} {S : jS} {x0 : Nat} {x1 : Int32} {x2 : Int32} (h : wp_X5_guestOf S x0 x1 x2 K) : jMet l G d_X5_guestOf yX5_guestOf (ws_ yX5_guestOf cX5_guestOf 3 (some .int)) [.ref x0, .int x1, .int x2] S tvi K :=
  jMet.of hl rfl (by decide) (Nat.le_of_ble_eq_true rfl) (fun X C => jr_sub [0, 1, 2] rfl (wk_X5_guestOf_0 C h))
theorem wk_X5_isOf_33 {X : jX} {G : jG} {K : jS → Int32 → Prop} (C : jC (X, G, 4, jA X G tvi K) d_X5_isOf cX5_isOf "SamovarModel" (some .int) yX5_isOf) {S : jS} {t0 : Int32}  (h : wp_X5_isOf_33 S t0 K) : jJ (X, G, 4, jA X G tvi K) S [] 33 [.int t0] := by
  unfold wp_X5_isOf_33 at h
  exact jr_ireturn C dX5_isOf_33 h
theorem wk_X5_isOf_0 {X : jX} {G : jG} {K : jS → Int32 → Prop} (C : jC (X, G, 4, jA X G tvi K) d_X5_isOf cX5_isOf "SamovarModel" (some .int) yX5_isOf) {S : jS} {x0 : Nat} {x1 : Int32} {x2 : Int32} {x3 : Int32}  (h : wp_X5_isOf S x0 x1 x2 x3 K) : jJ (X, G, 4, jA X G tvi K) S [(0, .ref x0), (1, .int x1), (2, .int x2), (3, .int x3)] 0 [] := by
  unfold wp_X5_isOf at h
  refine jr_aload_n C 1 rfl dX5_isOf_0 rfl 0 rfl ?_
  obtain ⟨⟨V, hb⟩, h⟩ := h
  refine jr_callVv (r0 := (RX5, TX5, 53)) (As := []) (st := []) C 4 rfl (m_X5_runsTold C.2.2.2.2.2.2.2.2.2.2.2.2.2.2.2 h) rfl hb rfl q1542 q1544 qs52 q102 q1545 (by decide) (by decide) ndV_X5_runsTold (Nat.le_of_ble_eq_true rfl) dX5_isOf_1 (fun S1 _ h => ?_)
  refine jr_iload_n C 5 rfl dX5_isOf_4 rfl 3 rfl ?_
  refine jr_if_ne C 22 8 rfl dX5_isOf_5 (by decide) (fun c6 => ?_) (fun c6 => ?_)
  · have h := h.1 c6
    refine jr_aload_n C 9 rfl dX5_isOf_8 rfl 0 rfl ?_
    refine jr_getr C 12 rfl fo_8_38 q1315 dX5_isOf_9 h (fun v2 h => ?_)
    refine jr_bipush (v := 8) C 14 rfl dX5_isOf_12 (by decide) ?_
    refine jr_iload_n C 15 rfl dX5_isOf_14 rfl 1 rfl ?_
    refine jr_imul C 16 rfl dX5_isOf_15 ?_
    refine jr_iload_n C 17 rfl dX5_isOf_16 rfl 2 rfl ?_
    refine jr_iadd C 18 rfl dX5_isOf_17 ?_
    refine jr_iald C 19 rfl dX5_isOf_18 h (fun v3 h => ?_)
    refine jr_goto C 33 dX5_isOf_19 (by decide) ?_
    exact jr_sub [] rfl (wk_X5_isOf_33 C  h)
  · have h := h.2 c6
    refine jr_aload_n C 23 rfl dX5_isOf_22 rfl 0 rfl ?_
    refine jr_getr C 26 rfl fo_8_39 q1316 dX5_isOf_23 h (fun v4 h => ?_)
    refine jr_bipush (v := 8) C 28 rfl dX5_isOf_26 (by decide) ?_
    refine jr_iload_n C 29 rfl dX5_isOf_28 rfl 1 rfl ?_
    refine jr_imul C 30 rfl dX5_isOf_29 ?_
    refine jr_iload_n C 31 rfl dX5_isOf_30 rfl 2 rfl ?_
    refine jr_iadd C 32 rfl dX5_isOf_31 ?_
    refine jr_iald C 33 rfl dX5_isOf_32 h (fun v5 h => ?_)
    exact jr_sub [] rfl (wk_X5_isOf_33 C  h)
theorem m_X5_isOf {l : Launch} (hl : l.stackTraces = false) {G : jG} {K : jS → Int32 → Prop} {S : jS} {x0 : Nat} {x1 : Int32} {x2 : Int32} {x3 : Int32} (h : wp_X5_isOf S x0 x1 x2 x3 K) : jMet l G d_X5_isOf yX5_isOf (ws_ yX5_isOf cX5_isOf 4 (some .int)) [.ref x0, .int x1, .int x2, .int x3] S tvi K :=
  jMet.of hl rfl (by decide) (Nat.le_of_ble_eq_true rfl) (fun X C => jr_sub [0, 1, 2, 3] rfl (wk_X5_isOf_0 C h))
theorem wk_X5_isDigest_0 {X : jX} {G : jG} {K : jS → Int64 → Prop} (C : jC (X, G, 7, jA X G tvl K) d_X5_isDigest cX5_isDigest "SamovarModel" (some .long) yX5_isDigest) {S : jS} {x0 : Nat} {x1 : Int64} {x3 : Int32} {x4 : Int32}  (h : wp_X5_isDigest S x0 x1 x3 x4 K) : jJ (X, G, 7, jA X G tvl K) S [(0, .ref x0), (1, .long x1), (3, .int x3), (4, .int x4)] 0 [] := by
  unfold wp_X5_isDigest at h
  refine jr_ldc2 (v := 31) C 3 rfl dX5_isDigest_0 q1821 ?_
  refine jr_lload_n C 4 rfl dX5_isDigest_3 rfl 1 rfl ?_
  refine jr_lmul C 5 rfl dX5_isDigest_4 ?_
  refine jr_aload_n C 6 rfl dX5_isDigest_5 rfl 0 rfl ?_
  refine jr_iload_n C 7 rfl dX5_isDigest_6 rfl 2 rfl ?_
  refine jr_iload C 9 rfl dX5_isDigest_7 3 rfl ?_
  refine jr_iconst (v := 0) C 10 rfl dX5_isDigest_9 (by decide) ?_
  obtain ⟨⟨V, hb⟩, h⟩ := h
  refine jr_callVi (r0 := (RX5, TX5, 53)) (As := [.int x3, .int x4, .int 0]) (st := [.long (31 * x1)]) C 13 rfl (m_X5_isOf C.2.2.2.2.2.2.2.2.2.2.2.2.2.2.2 h) rfl hb rfl q1596 q1598 qs63 q102 q1599 (by decide) (by decide) ndV_X5_isOf (Nat.le_of_ble_eq_true rfl) dX5_isDigest_10 (fun S1 r2 h => ?_)
  refine jr_i2l C 14 rfl dX5_isDigest_13 ?_
  refine jr_ladd C 15 rfl dX5_isDigest_14 ?_
  refine jr_lstore (lv' := [(5, .long ((31 * x1) + ((r2 : Int32).toInt64))), (0, .ref x0), (1, .long x1), (3, .int x3), (4, .int x4)]) C 17 rfl dX5_isDigest_15 (Nat.le_of_ble_eq_true rfl) rfl ?_
  refine jr_ldc2 (v := 31) C 20 rfl dX5_isDigest_17 q1821 ?_
  refine jr_lload C 22 rfl dX5_isDigest_20 0 rfl ?_
  refine jr_lmul C 23 rfl dX5_isDigest_22 ?_
  refine jr_aload_n C 24 rfl dX5_isDigest_23 rfl 1 rfl ?_
  refine jr_iload_n C 25 rfl dX5_isDigest_24 rfl 3 rfl ?_
  refine jr_iload C 27 rfl dX5_isDigest_25 4 rfl ?_
  refine jr_iconst (v := 1) C 28 rfl dX5_isDigest_27 (by decide) ?_
  obtain ⟨⟨V, hb⟩, h⟩ := h
  refine jr_callVi (r0 := (RX5, TX5, 53)) (As := [.int x3, .int x4, .int 1]) (st := [.long (31 * ((31 * x1) + ((r2 : Int32).toInt64)))]) C 31 rfl (m_X5_isOf C.2.2.2.2.2.2.2.2.2.2.2.2.2.2.2 h) rfl hb rfl q1596 q1598 qs63 q102 q1599 (by decide) (by decide) ndV_X5_isOf (Nat.le_of_ble_eq_true rfl) dX5_isDigest_28 (fun S3 r4 h => ?_)
  refine jr_i2l C 32 rfl dX5_isDigest_31 ?_
  refine jr_ladd C 33 rfl dX5_isDigest_32 ?_
  exact jr_lreturn C dX5_isDigest_33 h
theorem m_X5_isDigest {l : Launch} (hl : l.stackTraces = false) {G : jG} {K : jS → Int64 → Prop} {S : jS} {x0 : Nat} {x1 : Int64} {x3 : Int32} {x4 : Int32} (h : wp_X5_isDigest S x0 x1 x3 x4 K) : jMet l G d_X5_isDigest yX5_isDigest (ws_ yX5_isDigest cX5_isDigest 7 (some .long)) [.ref x0, .long x1, .int x3, .int x4] S tvl K :=
  jMet.of hl rfl (by decide) (Nat.le_of_ble_eq_true rfl) (fun X C => jr_sub [0, 1, 2, 3] rfl (wk_X5_isDigest_0 C h))
theorem wk_X5_waitedOf_0 {X : jX} {G : jG} {K : jS → Int32 → Prop} (C : jC (X, G, 2, jA X G tvi K) d_X5_waitedOf cX5_waitedOf "SamovarModel" (some .int) yX5_waitedOf) {S : jS} {x0 : Nat} {x1 : Int32}  (h : wp_X5_waitedOf S x0 x1 K) : jJ (X, G, 2, jA X G tvi K) S [(0, .ref x0), (1, .int x1)] 0 [] := by
  unfold wp_X5_waitedOf at h
  refine jr_aload_n C 1 rfl dX5_waitedOf_0 rfl 0 rfl ?_
  obtain ⟨⟨V, hb⟩, h⟩ := h
  refine jr_callVv (r0 := (RX5, TX5, 53)) (As := []) (st := []) C 4 rfl (m_X5_runsTold C.2.2.2.2.2.2.2.2.2.2.2.2.2.2.2 h) rfl hb rfl q1542 q1544 qs52 q102 q1545 (by decide) (by decide) ndV_X5_runsTold (Nat.le_of_ble_eq_true rfl) dX5_waitedOf_1 (fun S1 _ h => ?_)
  refine jr_aload_n C 5 rfl dX5_waitedOf_4 rfl 0 rfl ?_
  refine jr_getr C 8 rfl fo_8_35 q1312 dX5_waitedOf_5 h (fun v2 h => ?_)
  refine jr_iload_n C 9 rfl dX5_waitedOf_8 rfl 1 rfl ?_
  refine jr_iald C 10 rfl dX5_waitedOf_9 h (fun v3 h => ?_)
  exact jr_ireturn C dX5_waitedOf_10 h
theorem m_X5_waitedOf {l : Launch} (hl : l.stackTraces = false) {G : jG} {K : jS → Int32 → Prop} {S : jS} {x0 : Nat} {x1 : Int32} (h : wp_X5_waitedOf S x0 x1 K) : jMet l G d_X5_waitedOf yX5_waitedOf (ws_ yX5_waitedOf cX5_waitedOf 2 (some .int)) [.ref x0, .int x1] S tvi K :=
  jMet.of hl rfl (by decide) (Nat.le_of_ble_eq_true rfl) (fun X C => jr_sub [0, 1] rfl (wk_X5_waitedOf_0 C h))
theorem wk_X5_guestDigest_130 {X : jX} {G : jG} {K : jS → Int64 → Prop} (C : jC (X, G, 7, jA X G tvl K) d_X5_guestDigest cX5_guestDigest "SamovarModel" (some .long) yX5_guestDigest) {S : jS} {x0 : Nat} {x3 : Int32} {x4 : Int64}  (h : wp_X5_guestDigest_130 S x0 x3 x4 K) : jJ (X, G, 7, jA X G tvl K) S [(0, .ref x0), (3, .int x3), (4, .long x4)] 130 [] := by
  unfold wp_X5_guestDigest_130 at h
  refine jr_ldc2 (v := 31) C 133 rfl dX5_guestDigest_130 q1821 ?_
  refine jr_lload C 135 rfl dX5_guestDigest_133 2 rfl ?_
  refine jr_lmul C 136 rfl dX5_guestDigest_135 ?_
  refine jr_aload_n C 137 rfl dX5_guestDigest_136 rfl 0 rfl ?_
  refine jr_iconst (v := 5) C 138 rfl dX5_guestDigest_137 (by decide) ?_
  refine jr_iload_n C 139 rfl dX5_guestDigest_138 rfl 1 rfl ?_
  refine jr_iconst (v := 1) C 140 rfl dX5_guestDigest_139 (by decide) ?_
  obtain ⟨⟨V, hb⟩, h⟩ := h
  refine jr_callVl (r0 := (RX5, TX5, 53)) (As := [.int 5, .int x3, .int 1]) (st := [.long (31 * x4)]) C 143 rfl (m_X5_chanceOf C.2.2.2.2.2.2.2.2.2.2.2.2.2.2.2 h) rfl hb rfl q1755 q1757 qs85 q102 q1758 (by decide) (by decide) ndV_X5_chanceOf (Nat.le_of_ble_eq_true rfl) dX5_guestDigest_140 (fun S1 r2 h => ?_)
  refine jr_ladd C 144 rfl dX5_guestDigest_143 ?_
  exact jr_lreturn C dX5_guestDigest_144 h
theorem wk_X5_guestDigest_56 {X : jX} {G : jG} {K : jS → Int64 → Prop} (C : jC (X, G, 7, jA X G tvl K) d_X5_guestDigest cX5_guestDigest "SamovarModel" (some .long) yX5_guestDigest) {S : jS} {x0 : Nat} {x3 : Int32} {x4 : Int64}  (h : wp_X5_guestDigest_56 S x0 x3 x4 K) : jJ (X, G, 7, jA X G tvl K) S [(0, .ref x0), (3, .int x3), (4, .long x4)] 56 [] := by
  unfold wp_X5_guestDigest_56 at h
  refine jr_aload_n C 57 rfl dX5_guestDigest_56 rfl 0 rfl ?_
  refine jr_lload C 59 rfl dX5_guestDigest_57 2 rfl ?_
  refine jr_bipush (v := 23) C 61 rfl dX5_guestDigest_59 (by decide) ?_
  refine jr_iload_n C 62 rfl dX5_guestDigest_61 rfl 1 rfl ?_
  obtain ⟨⟨V, hb⟩, h⟩ := h
  refine jr_callVl (r0 := (RX5, TX5, 53)) (As := [.long x4, .int 23, .int x3]) (st := []) C 65 rfl (m_X5_isDigest C.2.2.2.2.2.2.2.2.2.2.2.2.2.2.2 h) rfl hb rfl q1831 q1833 qs92 q102 q1834 (by decide) (by decide) ndV_X5_isDigest (Nat.le_of_ble_eq_true rfl) dX5_guestDigest_62 (fun S1 r2 h => ?_)
  refine jr_lstore (lv' := [(4, .long r2), (0, .ref x0), (3, .int x3)]) C 67 rfl dX5_guestDigest_65 (Nat.le_of_ble_eq_true rfl) rfl ?_
  refine jr_ldc2 (v := 31) C 70 rfl dX5_guestDigest_67 q1821 ?_
  refine jr_lload C 72 rfl dX5_guestDigest_70 0 rfl ?_
  refine jr_lmul C 73 rfl dX5_guestDigest_72 ?_
  refine jr_aload_n C 74 rfl dX5_guestDigest_73 rfl 1 rfl ?_
  refine jr_iload_n C 75 rfl dX5_guestDigest_74 rfl 2 rfl ?_
  obtain ⟨⟨V, hb⟩, h⟩ := h
  refine jr_callVi (r0 := (RX5, TX5, 53)) (As := [.int x3]) (st := [.long (31 * r2)]) C 78 rfl (m_X5_waitedOf C.2.2.2.2.2.2.2.2.2.2.2.2.2.2.2 h) rfl hb rfl q1644 q1646 qs70 q102 q1647 (by decide) (by decide) ndV_X5_waitedOf (Nat.le_of_ble_eq_true rfl) dX5_guestDigest_75 (fun S3 r4 h => ?_)
  refine jr_i2l C 79 rfl dX5_guestDigest_78 ?_
  refine jr_ladd C 80 rfl dX5_guestDigest_79 ?_
  refine jr_lstore (lv' := [(4, .long ((31 * r2) + ((r4 : Int32).toInt64))), (0, .ref x0), (3, .int x3)]) C 82 rfl dX5_guestDigest_80 (Nat.le_of_ble_eq_true rfl) rfl ?_
  refine jr_ldc2 (v := 31) C 85 rfl dX5_guestDigest_82 q1821 ?_
  refine jr_lload C 87 rfl dX5_guestDigest_85 0 rfl ?_
  refine jr_lmul C 88 rfl dX5_guestDigest_87 ?_
  refine jr_aload_n C 89 rfl dX5_guestDigest_88 rfl 1 rfl ?_
  refine jr_iload_n C 90 rfl dX5_guestDigest_89 rfl 2 rfl ?_
  refine jr_iconst (v := 0) C 91 rfl dX5_guestDigest_90 (by decide) ?_
  obtain ⟨⟨V, hb⟩, h⟩ := h
  refine jr_callVi (r0 := (RX5, TX5, 53)) (As := [.int x3, .int 0]) (st := [.long (31 * ((31 * r2) + ((r4 : Int32).toInt64)))]) C 94 rfl (m_X5_comeOf C.2.2.2.2.2.2.2.2.2.2.2.2.2.2.2 h) rfl hb rfl q1684 q1686 qs76 q102 q1687 (by decide) (by decide) ndV_X5_comeOf (Nat.le_of_ble_eq_true rfl) dX5_guestDigest_91 (fun S5 r6 h => ?_)
  refine jr_i2l C 95 rfl dX5_guestDigest_94 ?_
  refine jr_ladd C 96 rfl dX5_guestDigest_95 ?_
  refine jr_lstore (lv' := [(4, .long ((31 * ((31 * r2) + ((r4 : Int32).toInt64))) + ((r6 : Int32).toInt64))), (0, .ref x0), (3, .int x3)]) C 98 rfl dX5_guestDigest_96 (Nat.le_of_ble_eq_true rfl) rfl ?_
  refine jr_ldc2 (v := 31) C 101 rfl dX5_guestDigest_98 q1821 ?_
  refine jr_lload C 103 rfl dX5_guestDigest_101 0 rfl ?_
  refine jr_lmul C 104 rfl dX5_guestDigest_103 ?_
  refine jr_aload_n C 105 rfl dX5_guestDigest_104 rfl 1 rfl ?_
  refine jr_iload_n C 106 rfl dX5_guestDigest_105 rfl 2 rfl ?_
  refine jr_iconst (v := 1) C 107 rfl dX5_guestDigest_106 (by decide) ?_
  obtain ⟨⟨V, hb⟩, h⟩ := h
  refine jr_callVi (r0 := (RX5, TX5, 53)) (As := [.int x3, .int 1]) (st := [.long (31 * ((31 * ((31 * r2) + ((r4 : Int32).toInt64))) + ((r6 : Int32).toInt64)))]) C 110 rfl (m_X5_comeOf C.2.2.2.2.2.2.2.2.2.2.2.2.2.2.2 h) rfl hb rfl q1684 q1686 qs76 q102 q1687 (by decide) (by decide) ndV_X5_comeOf (Nat.le_of_ble_eq_true rfl) dX5_guestDigest_107 (fun S7 r8 h => ?_)
  refine jr_i2l C 111 rfl dX5_guestDigest_110 ?_
  refine jr_ladd C 112 rfl dX5_guestDigest_111 ?_
  refine jr_lstore (lv' := [(4, .long ((31 * ((31 * ((31 * r2) + ((r4 : Int32).toInt64))) + ((r6 : Int32).toInt64))) + ((r8 : Int32).toInt64))), (0, .ref x0), (3, .int x3)]) C 114 rfl dX5_guestDigest_112 (Nat.le_of_ble_eq_true rfl) rfl ?_
  refine jr_ldc2 (v := 31) C 117 rfl dX5_guestDigest_114 q1821 ?_
  refine jr_lload C 119 rfl dX5_guestDigest_117 0 rfl ?_
  refine jr_lmul C 120 rfl dX5_guestDigest_119 ?_
  refine jr_aload_n C 121 rfl dX5_guestDigest_120 rfl 1 rfl ?_
  refine jr_iconst (v := 5) C 122 rfl dX5_guestDigest_121 (by decide) ?_
  refine jr_iload_n C 123 rfl dX5_guestDigest_122 rfl 2 rfl ?_
  refine jr_iconst (v := 0) C 124 rfl dX5_guestDigest_123 (by decide) ?_
  obtain ⟨⟨V, hb⟩, h⟩ := h
  refine jr_callVl (r0 := (RX5, TX5, 53)) (As := [.int 5, .int x3, .int 0]) (st := [.long (31 * ((31 * ((31 * ((31 * r2) + ((r4 : Int32).toInt64))) + ((r6 : Int32).toInt64))) + ((r8 : Int32).toInt64)))]) C 127 rfl (m_X5_chanceOf C.2.2.2.2.2.2.2.2.2.2.2.2.2.2.2 h) rfl hb rfl q1755 q1757 qs85 q102 q1758 (by decide) (by decide) ndV_X5_chanceOf (Nat.le_of_ble_eq_true rfl) dX5_guestDigest_124 (fun S9 r10 h => ?_)
  refine jr_ladd C 128 rfl dX5_guestDigest_127 ?_
  refine jr_lstore (lv' := [(4, .long ((31 * ((31 * ((31 * ((31 * r2) + ((r4 : Int32).toInt64))) + ((r6 : Int32).toInt64))) + ((r8 : Int32).toInt64))) + r10)), (0, .ref x0), (3, .int x3)]) C 130 rfl dX5_guestDigest_128 (Nat.le_of_ble_eq_true rfl) rfl ?_
  exact jr_sub [1, 2, 0] rfl (wk_X5_guestDigest_130 C  h)
theorem wk_X5_guestDigest_6 {X : jX} {G : jG} {K : jS → Int64 → Prop} (C : jC (X, G, 7, jA X G tvl K) d_X5_guestDigest cX5_guestDigest "SamovarModel" (some .long) yX5_guestDigest) {S : jS} {x0 : Nat} {x3 : Int32} {x4 : Int64} {x6 : Int32} {Kc6 : jS × Int64 × Int32 → Prop} (hc6 : ∀ z : jS × Int64 × Int32, Kc6 z → jJ (X, G, 7, jA X G tvl K) z.1 [(0, .ref x0), (3, .int x3), (4, .long z.2.1), (6, .int z.2.2)] 6 []) (h : wp_X5_guestDigest_6 S x0 x3 x4 x6 Kc6 K) : jJ (X, G, 7, jA X G tvl K) S [(0, .ref x0), (3, .int x3), (4, .long x4), (6, .int x6)] 6 [] := by
  unfold wp_X5_guestDigest_6 at h
  refine jr_iload C 8 rfl dX5_guestDigest_6 3 rfl ?_
  refine jr_iconst (v := 3) C 9 rfl dX5_guestDigest_8 (by decide) ?_
  refine jr_icmp_ge C 35 12 rfl dX5_guestDigest_9 (by decide) (fun c7 => ?_) (fun c7 => ?_)
  · have h := h.1 c7
    refine jr_aload_n C 36 rfl dX5_guestDigest_35 rfl 0 rfl ?_
    refine jr_lload C 38 rfl dX5_guestDigest_36 2 rfl ?_
    refine jr_iconst (v := 4) C 39 rfl dX5_guestDigest_38 (by decide) ?_
    refine jr_iload_n C 40 rfl dX5_guestDigest_39 rfl 1 rfl ?_
    obtain ⟨⟨V, hb⟩, h⟩ := h
    refine jr_callVl (r0 := (RX5, TX5, 53)) (As := [.long x4, .int 4, .int x3]) (st := []) C 43 rfl (m_X5_isDigest C.2.2.2.2.2.2.2.2.2.2.2.2.2.2.2 h) rfl hb rfl q1831 q1833 qs92 q102 q1834 (by decide) (by decide) ndV_X5_isDigest (Nat.le_of_ble_eq_true rfl) dX5_guestDigest_40 (fun S1 r2 h => ?_)
    refine jr_lstore (lv' := [(4, .long r2), (0, .ref x0), (3, .int x3), (6, .int x6)]) C 45 rfl dX5_guestDigest_43 (Nat.le_of_ble_eq_true rfl) rfl ?_
    refine jr_aload_n C 46 rfl dX5_guestDigest_45 rfl 1 rfl ?_
    refine jr_lload C 48 rfl dX5_guestDigest_46 0 rfl ?_
    refine jr_bipush (v := 11) C 50 rfl dX5_guestDigest_48 (by decide) ?_
    refine jr_iload_n C 51 rfl dX5_guestDigest_50 rfl 2 rfl ?_
    obtain ⟨⟨V, hb⟩, h⟩ := h
    refine jr_callVl (r0 := (RX5, TX5, 53)) (As := [.long r2, .int 11, .int x3]) (st := []) C 54 rfl (m_X5_isDigest C.2.2.2.2.2.2.2.2.2.2.2.2.2.2.2 h) rfl hb rfl q1831 q1833 qs92 q102 q1834 (by decide) (by decide) ndV_X5_isDigest (Nat.le_of_ble_eq_true rfl) dX5_guestDigest_51 (fun S3 r4 h => ?_)
    refine jr_lstore (lv' := [(4, .long r4), (0, .ref x0), (3, .int x3), (6, .int x6)]) C 56 rfl dX5_guestDigest_54 (Nat.le_of_ble_eq_true rfl) rfl ?_
    exact jr_sub [1, 2, 0] rfl (wk_X5_guestDigest_56 C  h)
  · have h := h.2 c7
    refine jr_ldc2 (v := 31) C 15 rfl dX5_guestDigest_12 q1821 ?_
    refine jr_lload C 17 rfl dX5_guestDigest_15 2 rfl ?_
    refine jr_lmul C 18 rfl dX5_guestDigest_17 ?_
    refine jr_aload_n C 19 rfl dX5_guestDigest_18 rfl 0 rfl ?_
    refine jr_iload_n C 20 rfl dX5_guestDigest_19 rfl 1 rfl ?_
    refine jr_iload C 22 rfl dX5_guestDigest_20 3 rfl ?_
    obtain ⟨⟨V, hb⟩, h⟩ := h
    refine jr_callVi (r0 := (RX5, TX5, 53)) (As := [.int x3, .int x6]) (st := [.long (31 * x4)]) C 25 rfl (m_X5_guestOf C.2.2.2.2.2.2.2.2.2.2.2.2.2.2.2 h) rfl hb rfl q1506 q1508 qs49 q102 q1509 (by decide) (by decide) ndV_X5_guestOf (Nat.le_of_ble_eq_true rfl) dX5_guestDigest_22 (fun S5 r6 h => ?_)
    refine jr_i2l C 26 rfl dX5_guestDigest_25 ?_
    refine jr_ladd C 27 rfl dX5_guestDigest_26 ?_
    refine jr_lstore (lv' := [(4, .long ((31 * x4) + ((r6 : Int32).toInt64))), (0, .ref x0), (3, .int x3), (6, .int x6)]) C 29 rfl dX5_guestDigest_27 (Nat.le_of_ble_eq_true rfl) rfl ?_
    refine jr_iinc (v := (x6 + 1)) (lv' := [(6, .int (x6 + 1)), (4, .long ((31 * x4) + ((r6 : Int32).toInt64))), (0, .ref x0), (3, .int x3)]) C 32 rfl dX5_guestDigest_29 3 rfl rfl (Nat.le_of_ble_eq_true rfl) rfl ?_
    refine jr_goto C 6 dX5_guestDigest_32 (by decide) ?_
    exact jr_sub [2, 3, 1, 0] rfl (hc6 _ h)
theorem wk_X5_guestDigest_6_L {X : jX} {G : jG} {K : jS → Int64 → Prop} (C : jC (X, G, 7, jA X G tvl K) d_X5_guestDigest cX5_guestDigest "SamovarModel" (some .long) yX5_guestDigest) {x0 : Nat} {x3 : Int32}  : ∀ (n : Nat) (z : jS × Int64 × Int32), jlp n (wp_X5_guestDigest_6_L x0 x3 K) z → jJ (X, G, 7, jA X G tvl K) z.1 [(0, .ref x0), (3, .int x3), (4, .long z.2.1), (6, .int z.2.2)] 6 [] := by
  intro n
  induction n with
  | zero => intro z h; exact h.elim
  | succ n ih => intro z h; exact wk_X5_guestDigest_6 C ih h
theorem wk_X5_guestDigest_0 {X : jX} {G : jG} {K : jS → Int64 → Prop} (C : jC (X, G, 7, jA X G tvl K) d_X5_guestDigest cX5_guestDigest "SamovarModel" (some .long) yX5_guestDigest) {S : jS} {x0 : Nat} {x1 : Int64} {x3 : Int32}  (h : wp_X5_guestDigest S x0 x1 x3 K) : jJ (X, G, 7, jA X G tvl K) S [(0, .ref x0), (1, .long x1), (3, .int x3)] 0 [] := by
  unfold wp_X5_guestDigest at h
  refine jr_lload_n C 1 rfl dX5_guestDigest_0 rfl 1 rfl ?_
  refine jr_lstore (lv' := [(4, .long x1), (0, .ref x0), (1, .long x1), (3, .int x3)]) C 3 rfl dX5_guestDigest_1 (Nat.le_of_ble_eq_true rfl) rfl ?_
  refine jr_iconst (v := 0) C 4 rfl dX5_guestDigest_3 (by decide) ?_
  refine jr_istore (lv' := [(6, .int 0), (4, .long x1), (0, .ref x0), (1, .long x1), (3, .int x3)]) C 6 rfl dX5_guestDigest_4 (Nat.le_of_ble_eq_true rfl) rfl ?_
  obtain ⟨n, h⟩ := h
  exact jr_sub [2, 4, 1, 0] rfl (wk_X5_guestDigest_6_L C  n _ h)
theorem m_X5_guestDigest {l : Launch} (hl : l.stackTraces = false) {G : jG} {K : jS → Int64 → Prop} {S : jS} {x0 : Nat} {x1 : Int64} {x3 : Int32} (h : wp_X5_guestDigest S x0 x1 x3 K) : jMet l G d_X5_guestDigest yX5_guestDigest (ws_ yX5_guestDigest cX5_guestDigest 7 (some .long)) [.ref x0, .long x1, .int x3] S tvl K :=
  jMet.of hl rfl (by decide) (Nat.le_of_ble_eq_true rfl) (fun X C => jr_sub [0, 1, 2] rfl (wk_X5_guestDigest_0 C h))
theorem wk_X5_hottestOf_40 {X : jX} {G : jG} {K : jS → Int32 → Prop} (C : jC (X, G, 4, jA X G tvi K) d_X5_hottestOf cX5_hottestOf "SamovarModel" (some .int) yX5_hottestOf) {S : jS} {t0 : Int32} {x0 : Nat} {x1 : Int32} {x3 : Int32} {Kc8 : jS × Int32 × Int32 → Prop} (hc8 : ∀ z : jS × Int32 × Int32, Kc8 z → jJ (X, G, 4, jA X G tvi K) z.1 [(0, .ref x0), (1, .int x1), (2, .int z.2.1), (3, .int z.2.2)] 8 []) (h : wp_X5_hottestOf_40 S t0 x0 x1 x3 Kc8 K) : jJ (X, G, 4, jA X G tvi K) S [(0, .ref x0), (1, .int x1), (3, .int x3)] 40 [.int t0] := by
  unfold wp_X5_hottestOf_40 at h
  refine jr_istore_n (lv' := [(2, .int t0), (0, .ref x0), (1, .int x1), (3, .int x3)]) C 41 rfl dX5_hottestOf_40 rfl (Nat.le_of_ble_eq_true rfl) rfl ?_
  refine jr_iinc (v := (x3 + 1)) (lv' := [(3, .int (x3 + 1)), (2, .int t0), (0, .ref x0), (1, .int x1)]) C 44 rfl dX5_hottestOf_41 3 rfl rfl (Nat.le_of_ble_eq_true rfl) rfl ?_
  refine jr_goto C 8 dX5_hottestOf_44 (by decide) ?_
  exact jr_sub [2, 3, 1, 0] rfl (hc8 _ h)
theorem wk_X5_hottestOf_64 {X : jX} {G : jG} {K : jS → Int32 → Prop} (C : jC (X, G, 4, jA X G tvi K) d_X5_hottestOf cX5_hottestOf "SamovarModel" (some .int) yX5_hottestOf) {S : jS} {t0 : Int32}  (h : wp_X5_hottestOf_64 S t0 K) : jJ (X, G, 4, jA X G tvi K) S [] 64 [.int t0] := by
  unfold wp_X5_hottestOf_64 at h
  exact jr_ireturn C dX5_hottestOf_64 h
theorem wk_X5_hottestOf_8 {X : jX} {G : jG} {K : jS → Int32 → Prop} (C : jC (X, G, 4, jA X G tvi K) d_X5_hottestOf cX5_hottestOf "SamovarModel" (some .int) yX5_hottestOf) {S : jS} {x0 : Nat} {x1 : Int32} {x2 : Int32} {x3 : Int32} {Kc8 : jS × Int32 × Int32 → Prop} (hc8 : ∀ z : jS × Int32 × Int32, Kc8 z → jJ (X, G, 4, jA X G tvi K) z.1 [(0, .ref x0), (1, .int x1), (2, .int z.2.1), (3, .int z.2.2)] 8 []) (h : wp_X5_hottestOf_8 S x0 x1 x2 x3 Kc8 K) : jJ (X, G, 4, jA X G tvi K) S [(0, .ref x0), (1, .int x1), (2, .int x2), (3, .int x3)] 8 [] := by
  unfold wp_X5_hottestOf_8 at h
  refine jr_iload_n C 9 rfl dX5_hottestOf_8 rfl 3 rfl ?_
  refine jr_bipush (v := 24) C 11 rfl dX5_hottestOf_9 (by decide) ?_
  refine jr_icmp_ge C 47 14 rfl dX5_hottestOf_11 (by decide) (fun c9 => ?_) (fun c9 => ?_)
  · have h := h.1 c9
    refine jr_iload_n C 48 rfl dX5_hottestOf_47 rfl 1 rfl ?_
    refine jr_if_ne C 55 51 rfl dX5_hottestOf_48 (by decide) (fun c3 => ?_) (fun c3 => ?_)
    · have h := h.1 c3
      refine jr_iload_n C 52 rfl dX5_hottestOf_51 rfl 2 rfl ?_
      refine jr_goto C 64 dX5_hottestOf_52 (by decide) ?_
      exact jr_sub [] rfl (wk_X5_hottestOf_64 C  h)
    · have h := h.2 c3
      refine jr_aload_n C 56 rfl dX5_hottestOf_55 rfl 0 rfl ?_
      refine jr_getr C 59 rfl fo_8_36 q1313 dX5_hottestOf_56 h (fun v1 h => ?_)
      refine jr_bipush (v := 6) C 61 rfl dX5_hottestOf_59 (by decide) ?_
      refine jr_iload_n C 62 rfl dX5_hottestOf_61 rfl 2 rfl ?_
      refine jr_imul C 63 rfl dX5_hottestOf_62 ?_
      refine jr_iald C 64 rfl dX5_hottestOf_63 h (fun v2 h => ?_)
      exact jr_sub [] rfl (wk_X5_hottestOf_64 C  h)
  · have h := h.2 c9
    refine jr_aload_n C 15 rfl dX5_hottestOf_14 rfl 0 rfl ?_
    refine jr_getr C 18 rfl fo_8_36 q1313 dX5_hottestOf_15 h (fun v4 h => ?_)
    refine jr_bipush (v := 6) C 20 rfl dX5_hottestOf_18 (by decide) ?_
    refine jr_iload_n C 21 rfl dX5_hottestOf_20 rfl 3 rfl ?_
    refine jr_imul C 22 rfl dX5_hottestOf_21 ?_
    refine jr_iald C 23 rfl dX5_hottestOf_22 h (fun v5 h => ?_)
    refine jr_aload_n C 24 rfl dX5_hottestOf_23 rfl 0 rfl ?_
    refine jr_getr C 27 rfl fo_8_36 q1313 dX5_hottestOf_24 h (fun v6 h => ?_)
    refine jr_bipush (v := 6) C 29 rfl dX5_hottestOf_27 (by decide) ?_
    refine jr_iload_n C 30 rfl dX5_hottestOf_29 rfl 2 rfl ?_
    refine jr_imul C 31 rfl dX5_hottestOf_30 ?_
    refine jr_iald C 32 rfl dX5_hottestOf_31 h (fun v7 h => ?_)
    refine jr_icmp_le C 39 35 rfl dX5_hottestOf_32 (by decide) (fun c8 => ?_) (fun c8 => ?_)
    · have h := h.1 c8
      refine jr_iload_n C 40 rfl dX5_hottestOf_39 rfl 2 rfl ?_
      exact jr_sub [0, 1, 3] rfl (wk_X5_hottestOf_40 C hc8 h)
    · have h := h.2 c8
      refine jr_iload_n C 36 rfl dX5_hottestOf_35 rfl 3 rfl ?_
      refine jr_goto C 40 dX5_hottestOf_36 (by decide) ?_
      exact jr_sub [0, 1, 3] rfl (wk_X5_hottestOf_40 C hc8 h)
theorem wk_X5_hottestOf_8_L {X : jX} {G : jG} {K : jS → Int32 → Prop} (C : jC (X, G, 4, jA X G tvi K) d_X5_hottestOf cX5_hottestOf "SamovarModel" (some .int) yX5_hottestOf) {x0 : Nat} {x1 : Int32}  : ∀ (n : Nat) (z : jS × Int32 × Int32), jlp n (wp_X5_hottestOf_8_L x0 x1 K) z → jJ (X, G, 4, jA X G tvi K) z.1 [(0, .ref x0), (1, .int x1), (2, .int z.2.1), (3, .int z.2.2)] 8 [] := by
  intro n
  induction n with
  | zero => intro z h; exact h.elim
  | succ n ih => intro z h; exact wk_X5_hottestOf_8 C ih h
theorem wk_X5_hottestOf_0 {X : jX} {G : jG} {K : jS → Int32 → Prop} (C : jC (X, G, 4, jA X G tvi K) d_X5_hottestOf cX5_hottestOf "SamovarModel" (some .int) yX5_hottestOf) {S : jS} {x0 : Nat} {x1 : Int32}  (h : wp_X5_hottestOf S x0 x1 K) : jJ (X, G, 4, jA X G tvi K) S [(0, .ref x0), (1, .int x1)] 0 [] := by
  unfold wp_X5_hottestOf at h
  refine jr_aload_n C 1 rfl dX5_hottestOf_0 rfl 0 rfl ?_
  obtain ⟨⟨V, hb⟩, h⟩ := h
  refine jr_callVv (r0 := (RX5, TX5, 53)) (As := []) (st := []) C 4 rfl (m_X5_runsTold C.2.2.2.2.2.2.2.2.2.2.2.2.2.2.2 h) rfl hb rfl q1542 q1544 qs52 q102 q1545 (by decide) (by decide) ndV_X5_runsTold (Nat.le_of_ble_eq_true rfl) dX5_hottestOf_1 (fun S1 _ h => ?_)
  refine jr_iconst (v := 0) C 5 rfl dX5_hottestOf_4 (by decide) ?_
  refine jr_istore_n (lv' := [(2, .int 0), (0, .ref x0), (1, .int x1)]) C 6 rfl dX5_hottestOf_5 rfl (Nat.le_of_ble_eq_true rfl) rfl ?_
  refine jr_iconst (v := 1) C 7 rfl dX5_hottestOf_6 (by decide) ?_
  refine jr_istore_n (lv' := [(3, .int 1), (2, .int 0), (0, .ref x0), (1, .int x1)]) C 8 rfl dX5_hottestOf_7 rfl (Nat.le_of_ble_eq_true rfl) rfl ?_
  obtain ⟨n, h⟩ := h
  exact jr_sub [2, 3, 1, 0] rfl (wk_X5_hottestOf_8_L C  n _ h)
theorem m_X5_hottestOf {l : Launch} (hl : l.stackTraces = false) {G : jG} {K : jS → Int32 → Prop} {S : jS} {x0 : Nat} {x1 : Int32} (h : wp_X5_hottestOf S x0 x1 K) : jMet l G d_X5_hottestOf yX5_hottestOf (ws_ yX5_hottestOf cX5_hottestOf 4 (some .int)) [.ref x0, .int x1] S tvi K :=
  jMet.of hl rfl (by decide) (Nat.le_of_ble_eq_true rfl) (fun X C => jr_sub [0, 1] rfl (wk_X5_hottestOf_0 C h))
theorem wk_X5_lineOf_0 {X : jX} {G : jG} {K : jS → Int32 → Prop} (C : jC (X, G, 2, jA X G tvi K) d_X5_lineOf cX5_lineOf "SamovarModel" (some .int) yX5_lineOf) {S : jS} {x0 : Nat} {x1 : Int32}  (h : wp_X5_lineOf S x0 x1 K) : jJ (X, G, 2, jA X G tvi K) S [(0, .ref x0), (1, .int x1)] 0 [] := by
  unfold wp_X5_lineOf at h
  refine jr_aload_n C 1 rfl dX5_lineOf_0 rfl 0 rfl ?_
  obtain ⟨⟨V, hb⟩, h⟩ := h
  refine jr_callVv (r0 := (RX5, TX5, 53)) (As := []) (st := []) C 4 rfl (m_X5_runsTold C.2.2.2.2.2.2.2.2.2.2.2.2.2.2.2 h) rfl hb rfl q1542 q1544 qs52 q102 q1545 (by decide) (by decide) ndV_X5_runsTold (Nat.le_of_ble_eq_true rfl) dX5_lineOf_1 (fun S1 _ h => ?_)
  refine jr_aload_n C 5 rfl dX5_lineOf_4 rfl 0 rfl ?_
  refine jr_getr C 8 rfl fo_8_37 q1314 dX5_lineOf_5 h (fun v2 h => ?_)
  refine jr_iload_n C 9 rfl dX5_lineOf_8 rfl 1 rfl ?_
  refine jr_iald C 10 rfl dX5_lineOf_9 h (fun v3 h => ?_)
  exact jr_ireturn C dX5_lineOf_10 h
theorem m_X5_lineOf {l : Launch} (hl : l.stackTraces = false) {G : jG} {K : jS → Int32 → Prop} {S : jS} {x0 : Nat} {x1 : Int32} (h : wp_X5_lineOf S x0 x1 K) : jMet l G d_X5_lineOf yX5_lineOf (ws_ yX5_lineOf cX5_lineOf 2 (some .int)) [.ref x0, .int x1] S tvi K :=
  jMet.of hl rfl (by decide) (Nat.le_of_ble_eq_true rfl) (fun X C => jr_sub [0, 1] rfl (wk_X5_lineOf_0 C h))
theorem wk_X5_neverNow_38 {X : jX} {G : jG} {K : jS → Int32 → Prop} (C : jC (X, G, 3, jA X G tvi K) d_X5_neverNow cX5_neverNow "SamovarModel" (some .int) yX5_neverNow) {S : jS} {t0 : Int32} {t1 : Int32} {x0 : Nat} {x2 : Int32} {Kc8 : jS × Int32 × Int32 → Prop} (hc8 : ∀ z : jS × Int32 × Int32, Kc8 z → jJ (X, G, 3, jA X G tvi K) z.1 [(0, .ref x0), (1, .int z.2.1), (2, .int z.2.2)] 8 []) (h : wp_X5_neverNow_38 S t0 t1 x0 x2 Kc8 K) : jJ (X, G, 3, jA X G tvi K) S [(0, .ref x0), (2, .int x2)] 38 [.int t1, .int t0] := by
  unfold wp_X5_neverNow_38 at h
  refine jr_ior C 39 rfl dX5_neverNow_38 ?_
  refine jr_istore_n (lv' := [(1, .int (t0 ||| t1)), (0, .ref x0), (2, .int x2)]) C 40 rfl dX5_neverNow_39 rfl (Nat.le_of_ble_eq_true rfl) rfl ?_
  refine jr_iinc (v := (x2 + 1)) (lv' := [(2, .int (x2 + 1)), (1, .int (t0 ||| t1)), (0, .ref x0)]) C 43 rfl dX5_neverNow_40 2 rfl rfl (Nat.le_of_ble_eq_true rfl) rfl ?_
  refine jr_goto C 8 dX5_neverNow_43 (by decide) ?_
  exact jr_sub [2, 1, 0] rfl (hc8 _ h)
theorem wk_X5_neverNow_8 {X : jX} {G : jG} {K : jS → Int32 → Prop} (C : jC (X, G, 3, jA X G tvi K) d_X5_neverNow cX5_neverNow "SamovarModel" (some .int) yX5_neverNow) {S : jS} {x0 : Nat} {x1 : Int32} {x2 : Int32} {Kc8 : jS × Int32 × Int32 → Prop} (hc8 : ∀ z : jS × Int32 × Int32, Kc8 z → jJ (X, G, 3, jA X G tvi K) z.1 [(0, .ref x0), (1, .int z.2.1), (2, .int z.2.2)] 8 []) (h : wp_X5_neverNow_8 S x0 x1 x2 Kc8 K) : jJ (X, G, 3, jA X G tvi K) S [(0, .ref x0), (1, .int x1), (2, .int x2)] 8 [] := by
  unfold wp_X5_neverNow_8 at h
  refine jr_iload_n C 9 rfl dX5_neverNow_8 rfl 2 rfl ?_
  refine jr_aload_n C 10 rfl dX5_neverNow_9 rfl 0 rfl ?_
  refine jr_geti C 13 rfl fo_8_12 q1289 dX5_neverNow_10 h (fun v1 h => ?_)
  refine jr_icmp_ge C 46 16 rfl dX5_neverNow_13 (by decide) (fun c6 => ?_) (fun c6 => ?_)
  · have h := h.1 c6
    refine jr_iload_n C 47 rfl dX5_neverNow_46 rfl 1 rfl ?_
    exact jr_ireturn C dX5_neverNow_47 h
  · have h := h.2 c6
    refine jr_aload_n C 17 rfl dX5_neverNow_16 rfl 0 rfl ?_
    refine jr_iconst (v := 1) C 18 rfl dX5_neverNow_17 (by decide) ?_
    refine jr_iload_n C 19 rfl dX5_neverNow_18 rfl 2 rfl ?_
    refine jr_ishl C 20 rfl dX5_neverNow_19 ?_
    refine jr_putv C 23 rfl fo_8_21 (by decide) q1298 dX5_neverNow_20 rfl rfl h (fun S2 h => ?_)
    refine jr_iload_n C 24 rfl dX5_neverNow_23 rfl 1 rfl ?_
    refine jr_aload_n C 25 rfl dX5_neverNow_24 rfl 0 rfl ?_
    obtain ⟨⟨V, hb⟩, h⟩ := h
    refine jr_callVi (r0 := (RX5, TX5, 53)) (As := []) (st := [.int x1]) C 28 rfl (m_X5_isSeen C.2.2.2.2.2.2.2.2.2.2.2.2.2.2.2 h) rfl hb rfl q1720 q1722 qs81 q102 q1723 (by decide) (by decide) ndV_X5_isSeen (Nat.le_of_ble_eq_true rfl) dX5_neverNow_25 (fun S3 r4 h => ?_)
    refine jr_if_eq C 37 31 rfl dX5_neverNow_28 (by decide) (fun c5 => ?_) (fun c5 => ?_)
    · have h := h.1 c5
      refine jr_iconst (v := 0) C 38 rfl dX5_neverNow_37 (by decide) ?_
      exact jr_sub [0, 2] rfl (wk_X5_neverNow_38 C hc8 h)
    · have h := h.2 c5
      refine jr_iconst (v := 1) C 32 rfl dX5_neverNow_31 (by decide) ?_
      refine jr_iload_n C 33 rfl dX5_neverNow_32 rfl 2 rfl ?_
      refine jr_ishl C 34 rfl dX5_neverNow_33 ?_
      refine jr_goto C 38 dX5_neverNow_34 (by decide) ?_
      exact jr_sub [0, 2] rfl (wk_X5_neverNow_38 C hc8 h)
theorem wk_X5_neverNow_8_L {X : jX} {G : jG} {K : jS → Int32 → Prop} (C : jC (X, G, 3, jA X G tvi K) d_X5_neverNow cX5_neverNow "SamovarModel" (some .int) yX5_neverNow) {x0 : Nat}  : ∀ (n : Nat) (z : jS × Int32 × Int32), jlp n (wp_X5_neverNow_8_L x0 K) z → jJ (X, G, 3, jA X G tvi K) z.1 [(0, .ref x0), (1, .int z.2.1), (2, .int z.2.2)] 8 [] := by
  intro n
  induction n with
  | zero => intro z h; exact h.elim
  | succ n ih => intro z h; exact wk_X5_neverNow_8 C ih h
theorem wk_X5_neverNow_0 {X : jX} {G : jG} {K : jS → Int32 → Prop} (C : jC (X, G, 3, jA X G tvi K) d_X5_neverNow cX5_neverNow "SamovarModel" (some .int) yX5_neverNow) {S : jS} {x0 : Nat}  (h : wp_X5_neverNow S x0 K) : jJ (X, G, 3, jA X G tvi K) S [(0, .ref x0)] 0 [] := by
  unfold wp_X5_neverNow at h
  refine jr_aload_n C 1 rfl dX5_neverNow_0 rfl 0 rfl ?_
  obtain ⟨⟨V, hb⟩, h⟩ := h
  refine jr_callVv (r0 := (RX5, TX5, 53)) (As := []) (st := []) C 4 rfl (m_X5_asTold C.2.2.2.2.2.2.2.2.2.2.2.2.2.2.2 h) rfl hb rfl q1546 q1548 qs53 q102 q1549 (by decide) (by decide) ndV_X5_asTold (Nat.le_of_ble_eq_true rfl) dX5_neverNow_1 (fun S1 _ h => ?_)
  refine jr_iconst (v := 0) C 5 rfl dX5_neverNow_4 (by decide) ?_
  refine jr_istore_n (lv' := [(1, .int 0), (0, .ref x0)]) C 6 rfl dX5_neverNow_5 rfl (Nat.le_of_ble_eq_true rfl) rfl ?_
  refine jr_iconst (v := 0) C 7 rfl dX5_neverNow_6 (by decide) ?_
  refine jr_istore_n (lv' := [(2, .int 0), (1, .int 0), (0, .ref x0)]) C 8 rfl dX5_neverNow_7 rfl (Nat.le_of_ble_eq_true rfl) rfl ?_
  obtain ⟨n, h⟩ := h
  exact jr_sub [2, 1, 0] rfl (wk_X5_neverNow_8_L C  n _ h)
theorem m_X5_neverNow {l : Launch} (hl : l.stackTraces = false) {G : jG} {K : jS → Int32 → Prop} {S : jS} {x0 : Nat} (h : wp_X5_neverNow S x0 K) : jMet l G d_X5_neverNow yX5_neverNow (ws_ yX5_neverNow cX5_neverNow 3 (some .int)) [.ref x0] S tvi K :=
  jMet.of hl rfl (by decide) (Nat.le_of_ble_eq_true rfl) (fun X C => jr_sub [0] rfl (wk_X5_neverNow_0 C h))
theorem wk_X5_ofRow_24 {X : jX} {G : jG} {K : jS → Int32 → Prop} (C : jC (X, G, 3, jA X G tvi K) d_X5_ofRow cX5_ofRow "SamovarModel" (some .int) yX5_ofRow) {S : jS} {t0 : Int32}  (h : wp_X5_ofRow_24 S t0 K) : jJ (X, G, 3, jA X G tvi K) S [] 24 [.int t0] := by
  unfold wp_X5_ofRow_24 at h
  exact jr_ireturn C dX5_ofRow_24 h
theorem wk_X5_ofRow_0 {X : jX} {G : jG} {K : jS → Int32 → Prop} (C : jC (X, G, 3, jA X G tvi K) d_X5_ofRow cX5_ofRow "SamovarModel" (some .int) yX5_ofRow) {S : jS} {x0 : Nat} {x1 : Int32} {x2 : Int32}  (h : wp_X5_ofRow S x0 x1 x2 K) : jJ (X, G, 3, jA X G tvi K) S [(0, .ref x0), (1, .int x1), (2, .int x2)] 0 [] := by
  unfold wp_X5_ofRow at h
  refine jr_iload_n C 1 rfl dX5_ofRow_0 rfl 2 rfl ?_
  refine jr_iconst (v := (-1)) C 2 rfl dX5_ofRow_1 (by decide) ?_
  refine jr_icmp_ne C 9 5 rfl dX5_ofRow_2 (by decide) (fun c4 => ?_) (fun c4 => ?_)
  · have h := h.1 c4
    refine jr_iload_n C 6 rfl dX5_ofRow_5 rfl 1 rfl ?_
    refine jr_goto C 24 dX5_ofRow_6 (by decide) ?_
    exact jr_sub [] rfl (wk_X5_ofRow_24 C  h)
  · have h := h.2 c4
    refine jr_iload_n C 10 rfl dX5_ofRow_9 rfl 2 rfl ?_
    refine jr_iload_n C 11 rfl dX5_ofRow_10 rfl 1 rfl ?_
    refine jr_icmp_ge C 23 14 rfl dX5_ofRow_11 (by decide) (fun c3 => ?_) (fun c3 => ?_)
    · have h := h.1 c3
      refine jr_iconst (v := (-1)) C 24 rfl dX5_ofRow_23 (by decide) ?_
      exact jr_sub [] rfl (wk_X5_ofRow_24 C  h)
    · have h := h.2 c3
      refine jr_aload_n C 15 rfl dX5_ofRow_14 rfl 0 rfl ?_
      refine jr_getr C 18 rfl fo_8_42 q1319 dX5_ofRow_15 h (fun v1 h => ?_)
      refine jr_iload_n C 19 rfl dX5_ofRow_18 rfl 2 rfl ?_
      refine jr_iald C 20 rfl dX5_ofRow_19 h (fun v2 h => ?_)
      refine jr_goto C 24 dX5_ofRow_20 (by decide) ?_
      exact jr_sub [] rfl (wk_X5_ofRow_24 C  h)
theorem m_X5_ofRow {l : Launch} (hl : l.stackTraces = false) {G : jG} {K : jS → Int32 → Prop} {S : jS} {x0 : Nat} {x1 : Int32} {x2 : Int32} (h : wp_X5_ofRow S x0 x1 x2 K) : jMet l G d_X5_ofRow yX5_ofRow (ws_ yX5_ofRow cX5_ofRow 3 (some .int)) [.ref x0, .int x1, .int x2] S tvi K :=
  jMet.of hl rfl (by decide) (Nat.le_of_ble_eq_true rfl) (fun X C => jr_sub [0, 1, 2] rfl (wk_X5_ofRow_0 C h))
theorem wk_X5_kindsBy_46 {X : jX} {G : jG} {K : jS → Int32 → Prop} (C : jC (X, G, 5, jA X G tvi K) d_X5_kindsBy cX5_kindsBy "SamovarModel" (some .int) yX5_kindsBy) {S : jS} {t0 : Int32} {t1 : Int32} {x0 : Nat} {x1 : Int32} {x2 : Int32} {x4 : Int32} {Kc16 : jS × Int32 × Int32 → Prop} (hc16 : ∀ z : jS × Int32 × Int32, Kc16 z → jJ (X, G, 5, jA X G tvi K) z.1 [(0, .ref x0), (1, .int x1), (2, .int x2), (3, .int z.2.1), (4, .int z.2.2)] 16 []) (h : wp_X5_kindsBy_46 S t0 t1 x0 x1 x2 x4 Kc16 K) : jJ (X, G, 5, jA X G tvi K) S [(0, .ref x0), (1, .int x1), (2, .int x2), (4, .int x4)] 46 [.int t1, .int t0] := by
  unfold wp_X5_kindsBy_46 at h
  refine jr_ior C 47 rfl dX5_kindsBy_46 ?_
  refine jr_istore_n (lv' := [(3, .int (t0 ||| t1)), (0, .ref x0), (1, .int x1), (2, .int x2), (4, .int x4)]) C 48 rfl dX5_kindsBy_47 rfl (Nat.le_of_ble_eq_true rfl) rfl ?_
  refine jr_iinc (v := (x4 + 1)) (lv' := [(4, .int (x4 + 1)), (3, .int (t0 ||| t1)), (0, .ref x0), (1, .int x1), (2, .int x2)]) C 51 rfl dX5_kindsBy_48 4 rfl rfl (Nat.le_of_ble_eq_true rfl) rfl ?_
  refine jr_goto C 16 dX5_kindsBy_51 (by decide) ?_
  exact jr_sub [2, 3, 4, 1, 0] rfl (hc16 _ h)
theorem wk_X5_kindsBy_16 {X : jX} {G : jG} {K : jS → Int32 → Prop} (C : jC (X, G, 5, jA X G tvi K) d_X5_kindsBy cX5_kindsBy "SamovarModel" (some .int) yX5_kindsBy) {S : jS} {x0 : Nat} {x1 : Int32} {x2 : Int32} {x3 : Int32} {x4 : Int32} {Kc16 : jS × Int32 × Int32 → Prop} (hc16 : ∀ z : jS × Int32 × Int32, Kc16 z → jJ (X, G, 5, jA X G tvi K) z.1 [(0, .ref x0), (1, .int x1), (2, .int x2), (3, .int z.2.1), (4, .int z.2.2)] 16 []) (h : wp_X5_kindsBy_16 S x0 x1 x2 x3 x4 Kc16 K) : jJ (X, G, 5, jA X G tvi K) S [(0, .ref x0), (1, .int x1), (2, .int x2), (3, .int x3), (4, .int x4)] 16 [] := by
  unfold wp_X5_kindsBy_16 at h
  refine jr_iload C 18 rfl dX5_kindsBy_16 4 rfl ?_
  refine jr_iconst (v := 3) C 19 rfl dX5_kindsBy_18 (by decide) ?_
  refine jr_icmp_ge C 54 22 rfl dX5_kindsBy_19 (by decide) (fun c8 => ?_) (fun c8 => ?_)
  · have h := h.1 c8
    refine jr_aload_n C 55 rfl dX5_kindsBy_54 rfl 0 rfl ?_
    refine jr_getr C 58 rfl fo_8_4 q1281 dX5_kindsBy_55 h (fun v1 h => ?_)
    refine jr_iload_n C 59 rfl dX5_kindsBy_58 rfl 1 rfl ?_
    refine jr_iload_n C 60 rfl dX5_kindsBy_59 rfl 2 rfl ?_
    refine jr_iast C 61 rfl dX5_kindsBy_60 h (fun S2 h => ?_)
    refine jr_iload_n C 62 rfl dX5_kindsBy_61 rfl 3 rfl ?_
    exact jr_ireturn C dX5_kindsBy_62 h
  · have h := h.2 c8
    refine jr_aload_n C 23 rfl dX5_kindsBy_22 rfl 0 rfl ?_
    refine jr_getr C 26 rfl fo_8_4 q1281 dX5_kindsBy_23 h (fun v3 h => ?_)
    refine jr_iload_n C 27 rfl dX5_kindsBy_26 rfl 1 rfl ?_
    refine jr_iload C 29 rfl dX5_kindsBy_27 4 rfl ?_
    refine jr_iast C 30 rfl dX5_kindsBy_29 h (fun S4 h => ?_)
    refine jr_iload_n C 31 rfl dX5_kindsBy_30 rfl 3 rfl ?_
    refine jr_aload_n C 32 rfl dX5_kindsBy_31 rfl 0 rfl ?_
    obtain ⟨⟨V, hb⟩, h⟩ := h
    refine jr_callVi (r0 := (RX5, TX5, 53)) (As := []) (st := [.int x3]) C 35 rfl (m_X5_isSeen C.2.2.2.2.2.2.2.2.2.2.2.2.2.2.2 h) rfl hb rfl q1720 q1722 qs81 q102 q1723 (by decide) (by decide) ndV_X5_isSeen (Nat.le_of_ble_eq_true rfl) dX5_kindsBy_32 (fun S5 r6 h => ?_)
    refine jr_if_eq C 45 38 rfl dX5_kindsBy_35 (by decide) (fun c7 => ?_) (fun c7 => ?_)
    · have h := h.1 c7
      refine jr_iconst (v := 0) C 46 rfl dX5_kindsBy_45 (by decide) ?_
      exact jr_sub [0, 1, 2, 4] rfl (wk_X5_kindsBy_46 C hc16 h)
    · have h := h.2 c7
      refine jr_iconst (v := 1) C 39 rfl dX5_kindsBy_38 (by decide) ?_
      refine jr_iload C 41 rfl dX5_kindsBy_39 4 rfl ?_
      refine jr_ishl C 42 rfl dX5_kindsBy_41 ?_
      refine jr_goto C 46 dX5_kindsBy_42 (by decide) ?_
      exact jr_sub [0, 1, 2, 4] rfl (wk_X5_kindsBy_46 C hc16 h)
theorem wk_X5_kindsBy_16_L {X : jX} {G : jG} {K : jS → Int32 → Prop} (C : jC (X, G, 5, jA X G tvi K) d_X5_kindsBy cX5_kindsBy "SamovarModel" (some .int) yX5_kindsBy) {x0 : Nat} {x1 : Int32} {x2 : Int32}  : ∀ (n : Nat) (z : jS × Int32 × Int32), jlp n (wp_X5_kindsBy_16_L x0 x1 x2 K) z → jJ (X, G, 5, jA X G tvi K) z.1 [(0, .ref x0), (1, .int x1), (2, .int x2), (3, .int z.2.1), (4, .int z.2.2)] 16 [] := by
  intro n
  induction n with
  | zero => intro z h; exact h.elim
  | succ n ih => intro z h; exact wk_X5_kindsBy_16 C ih h
theorem wk_X5_kindsBy_0 {X : jX} {G : jG} {K : jS → Int32 → Prop} (C : jC (X, G, 5, jA X G tvi K) d_X5_kindsBy cX5_kindsBy "SamovarModel" (some .int) yX5_kindsBy) {S : jS} {x0 : Nat} {x1 : Int32}  (h : wp_X5_kindsBy S x0 x1 K) : jJ (X, G, 5, jA X G tvi K) S [(0, .ref x0), (1, .int x1)] 0 [] := by
  unfold wp_X5_kindsBy at h
  refine jr_aload_n C 1 rfl dX5_kindsBy_0 rfl 0 rfl ?_
  obtain ⟨⟨V, hb⟩, h⟩ := h
  refine jr_callVv (r0 := (RX5, TX5, 53)) (As := []) (st := []) C 4 rfl (m_X5_asTold C.2.2.2.2.2.2.2.2.2.2.2.2.2.2.2 h) rfl hb rfl q1546 q1548 qs53 q102 q1549 (by decide) (by decide) ndV_X5_asTold (Nat.le_of_ble_eq_true rfl) dX5_kindsBy_1 (fun S1 _ h => ?_)
  refine jr_aload_n C 5 rfl dX5_kindsBy_4 rfl 0 rfl ?_
  refine jr_getr C 8 rfl fo_8_4 q1281 dX5_kindsBy_5 h (fun v2 h => ?_)
  refine jr_iload_n C 9 rfl dX5_kindsBy_8 rfl 1 rfl ?_
  refine jr_iald C 10 rfl dX5_kindsBy_9 h (fun v3 h => ?_)
  refine jr_istore_n (lv' := [(2, .int v3), (0, .ref x0), (1, .int x1)]) C 11 rfl dX5_kindsBy_10 rfl (Nat.le_of_ble_eq_true rfl) rfl ?_
  refine jr_iconst (v := 0) C 12 rfl dX5_kindsBy_11 (by decide) ?_
  refine jr_istore_n (lv' := [(3, .int 0), (2, .int v3), (0, .ref x0), (1, .int x1)]) C 13 rfl dX5_kindsBy_12 rfl (Nat.le_of_ble_eq_true rfl) rfl ?_
  refine jr_iconst (v := 0) C 14 rfl dX5_kindsBy_13 (by decide) ?_
  refine jr_istore (lv' := [(4, .int 0), (3, .int 0), (2, .int v3), (0, .ref x0), (1, .int x1)]) C 16 rfl dX5_kindsBy_14 (Nat.le_of_ble_eq_true rfl) rfl ?_
  obtain ⟨n, h⟩ := h
  exact jr_sub [3, 4, 2, 1, 0] rfl (wk_X5_kindsBy_16_L C  n _ h)
theorem m_X5_kindsBy {l : Launch} (hl : l.stackTraces = false) {G : jG} {K : jS → Int32 → Prop} {S : jS} {x0 : Nat} {x1 : Int32} (h : wp_X5_kindsBy S x0 x1 K) : jMet l G d_X5_kindsBy yX5_kindsBy (ws_ yX5_kindsBy cX5_kindsBy 5 (some .int)) [.ref x0, .int x1] S tvi K :=
  jMet.of hl rfl (by decide) (Nat.le_of_ble_eq_true rfl) (fun X C => jr_sub [0, 1] rfl (wk_X5_kindsBy_0 C h))
theorem wk_X5_pieceOf_33 {X : jX} {G : jG} {K : jS → Int32 → Prop} (C : jC (X, G, 3, jA X G tvi K) d_X5_pieceOf cX5_pieceOf "SamovarModel" (some .int) yX5_pieceOf) {S : jS} {t0 : Int32}  (h : wp_X5_pieceOf_33 S t0 K) : jJ (X, G, 3, jA X G tvi K) S [] 33 [.int t0] := by
  unfold wp_X5_pieceOf_33 at h
  exact jr_ireturn C dX5_pieceOf_33 h
theorem wk_X5_pieceOf_0 {X : jX} {G : jG} {K : jS → Int32 → Prop} (C : jC (X, G, 3, jA X G tvi K) d_X5_pieceOf cX5_pieceOf "SamovarModel" (some .int) yX5_pieceOf) {S : jS} {x0 : Nat} {x1 : Int32} {x2 : Int32}  (h : wp_X5_pieceOf S x0 x1 x2 K) : jJ (X, G, 3, jA X G tvi K) S [(0, .ref x0), (1, .int x1), (2, .int x2)] 0 [] := by
  unfold wp_X5_pieceOf at h
  refine jr_iload_n C 1 rfl dX5_pieceOf_0 rfl 2 rfl ?_
  refine jr_if_ne C 13 4 rfl dX5_pieceOf_1 (by decide) (fun c8 => ?_) (fun c8 => ?_)
  · have h := h.1 c8
    refine jr_aload_n C 5 rfl dX5_pieceOf_4 rfl 0 rfl ?_
    refine jr_getr C 8 rfl fo_8_3 q1280 dX5_pieceOf_5 h (fun v1 h => ?_)
    refine jr_iload_n C 9 rfl dX5_pieceOf_8 rfl 1 rfl ?_
    refine jr_iald C 10 rfl dX5_pieceOf_9 h (fun v2 h => ?_)
    refine jr_goto C 33 dX5_pieceOf_10 (by decide) ?_
    exact jr_sub [] rfl (wk_X5_pieceOf_33 C  h)
  · have h := h.2 c8
    refine jr_iload_n C 14 rfl dX5_pieceOf_13 rfl 2 rfl ?_
    refine jr_iconst (v := 1) C 15 rfl dX5_pieceOf_14 (by decide) ?_
    refine jr_icmp_ne C 27 18 rfl dX5_pieceOf_15 (by decide) (fun c7 => ?_) (fun c7 => ?_)
    · have h := h.1 c7
      refine jr_aload_n C 19 rfl dX5_pieceOf_18 rfl 0 rfl ?_
      refine jr_getr C 22 rfl fo_8_4 q1281 dX5_pieceOf_19 h (fun v3 h => ?_)
      refine jr_iload_n C 23 rfl dX5_pieceOf_22 rfl 1 rfl ?_
      refine jr_iald C 24 rfl dX5_pieceOf_23 h (fun v4 h => ?_)
      refine jr_goto C 33 dX5_pieceOf_24 (by decide) ?_
      exact jr_sub [] rfl (wk_X5_pieceOf_33 C  h)
    · have h := h.2 c7
      refine jr_aload_n C 28 rfl dX5_pieceOf_27 rfl 0 rfl ?_
      refine jr_getr C 31 rfl fo_8_5 q1282 dX5_pieceOf_28 h (fun v5 h => ?_)
      refine jr_iload_n C 32 rfl dX5_pieceOf_31 rfl 1 rfl ?_
      refine jr_iald C 33 rfl dX5_pieceOf_32 h (fun v6 h => ?_)
      exact jr_sub [] rfl (wk_X5_pieceOf_33 C  h)
theorem m_X5_pieceOf {l : Launch} (hl : l.stackTraces = false) {G : jG} {K : jS → Int32 → Prop} {S : jS} {x0 : Nat} {x1 : Int32} {x2 : Int32} (h : wp_X5_pieceOf S x0 x1 x2 K) : jMet l G d_X5_pieceOf yX5_pieceOf (ws_ yX5_pieceOf cX5_pieceOf 3 (some .int)) [.ref x0, .int x1, .int x2] S tvi K :=
  jMet.of hl rfl (by decide) (Nat.le_of_ble_eq_true rfl) (fun X C => jr_sub [0, 1, 2] rfl (wk_X5_pieceOf_0 C h))
theorem wk_X5_pieceDigest_56 {X : jX} {G : jG} {K : jS → Int64 → Prop} (C : jC (X, G, 7, jA X G tvl K) d_X5_pieceDigest cX5_pieceDigest "SamovarModel" (some .long) yX5_pieceDigest) {S : jS} {t0 : Int64} {t1 : Int64} {x0 : Nat} {x3 : Int32}  (h : wp_X5_pieceDigest_56 S t0 t1 x0 x3 K) : jJ (X, G, 7, jA X G tvl K) S [(0, .ref x0), (3, .int x3)] 56 [.long t1, .long t0] := by
  unfold wp_X5_pieceDigest_56 at h
  refine jr_lmul C 57 rfl dX5_pieceDigest_56 ?_
  refine jr_aload_n C 58 rfl dX5_pieceDigest_57 rfl 0 rfl ?_
  refine jr_iload_n C 59 rfl dX5_pieceDigest_58 rfl 1 rfl ?_
  refine jr_iconst (v := 1) C 60 rfl dX5_pieceDigest_59 (by decide) ?_
  obtain ⟨⟨V, hb⟩, h⟩ := h
  refine jr_callVi (r0 := (RX5, TX5, 53)) (As := [.int x3, .int 1]) (st := [.long (t0 * t1)]) C 63 rfl (m_X5_betterOf C.2.2.2.2.2.2.2.2.2.2.2.2.2.2.2 h) rfl hb rfl q1660 q1662 qs72 q102 q1663 (by decide) (by decide) ndV_X5_betterOf (Nat.le_of_ble_eq_true rfl) dX5_pieceDigest_60 (fun S1 r2 h => ?_)
  refine jr_i2l C 64 rfl dX5_pieceDigest_63 ?_
  refine jr_ladd C 65 rfl dX5_pieceDigest_64 ?_
  refine jr_lstore (lv' := [(4, .long ((t0 * t1) + ((r2 : Int32).toInt64))), (0, .ref x0), (3, .int x3)]) C 67 rfl dX5_pieceDigest_65 (Nat.le_of_ble_eq_true rfl) rfl ?_
  refine jr_ldc2 (v := 31) C 70 rfl dX5_pieceDigest_67 q1821 ?_
  refine jr_lload C 72 rfl dX5_pieceDigest_70 0 rfl ?_
  refine jr_lmul C 73 rfl dX5_pieceDigest_72 ?_
  refine jr_aload_n C 74 rfl dX5_pieceDigest_73 rfl 1 rfl ?_
  refine jr_iload_n C 75 rfl dX5_pieceDigest_74 rfl 2 rfl ?_
  obtain ⟨⟨V, hb⟩, h⟩ := h
  refine jr_callVi (r0 := (RX5, TX5, 53)) (As := [.int x3]) (st := [.long (31 * ((t0 * t1) + ((r2 : Int32).toInt64)))]) C 78 rfl (m_X5_kindsBy C.2.2.2.2.2.2.2.2.2.2.2.2.2.2.2 h) rfl hb rfl q1736 q1738 qs83 q102 q1739 (by decide) (by decide) ndV_X5_kindsBy (Nat.le_of_ble_eq_true rfl) dX5_pieceDigest_75 (fun S3 r4 h => ?_)
  refine jr_i2l C 79 rfl dX5_pieceDigest_78 ?_
  refine jr_ladd C 80 rfl dX5_pieceDigest_79 ?_
  exact jr_lreturn C dX5_pieceDigest_80 h
theorem wk_X5_pieceDigest_6 {X : jX} {G : jG} {K : jS → Int64 → Prop} (C : jC (X, G, 7, jA X G tvl K) d_X5_pieceDigest cX5_pieceDigest "SamovarModel" (some .long) yX5_pieceDigest) {S : jS} {x0 : Nat} {x3 : Int32} {x4 : Int64} {x6 : Int32} {Kc6 : jS × Int64 × Int32 → Prop} (hc6 : ∀ z : jS × Int64 × Int32, Kc6 z → jJ (X, G, 7, jA X G tvl K) z.1 [(0, .ref x0), (3, .int x3), (4, .long z.2.1), (6, .int z.2.2)] 6 []) (h : wp_X5_pieceDigest_6 S x0 x3 x4 x6 Kc6 K) : jJ (X, G, 7, jA X G tvl K) S [(0, .ref x0), (3, .int x3), (4, .long x4), (6, .int x6)] 6 [] := by
  unfold wp_X5_pieceDigest_6 at h
  refine jr_iload C 8 rfl dX5_pieceDigest_6 3 rfl ?_
  refine jr_iconst (v := 3) C 9 rfl dX5_pieceDigest_8 (by decide) ?_
  refine jr_icmp_ge C 35 12 rfl dX5_pieceDigest_9 (by decide) (fun c5 => ?_) (fun c5 => ?_)
  · have h := h.1 c5
    refine jr_ldc2 (v := 31) C 38 rfl dX5_pieceDigest_35 q1821 ?_
    refine jr_lload C 40 rfl dX5_pieceDigest_38 2 rfl ?_
    refine jr_lmul C 41 rfl dX5_pieceDigest_40 ?_
    refine jr_aload_n C 42 rfl dX5_pieceDigest_41 rfl 0 rfl ?_
    refine jr_iload_n C 43 rfl dX5_pieceDigest_42 rfl 1 rfl ?_
    refine jr_iconst (v := 0) C 44 rfl dX5_pieceDigest_43 (by decide) ?_
    obtain ⟨⟨V, hb⟩, h⟩ := h
    refine jr_callVi (r0 := (RX5, TX5, 53)) (As := [.int x3, .int 0]) (st := [.long (31 * x4)]) C 47 rfl (m_X5_betterOf C.2.2.2.2.2.2.2.2.2.2.2.2.2.2.2 h) rfl hb rfl q1660 q1662 qs72 q102 q1663 (by decide) (by decide) ndV_X5_betterOf (Nat.le_of_ble_eq_true rfl) dX5_pieceDigest_44 (fun S1 r2 h => ?_)
    refine jr_i2l C 48 rfl dX5_pieceDigest_47 ?_
    refine jr_ladd C 49 rfl dX5_pieceDigest_48 ?_
    refine jr_lstore (lv' := [(4, .long ((31 * x4) + ((r2 : Int32).toInt64))), (0, .ref x0), (3, .int x3), (6, .int x6)]) C 51 rfl dX5_pieceDigest_49 (Nat.le_of_ble_eq_true rfl) rfl ?_
    refine jr_ldc2 (v := 31) C 54 rfl dX5_pieceDigest_51 q1821 ?_
    refine jr_lload C 56 rfl dX5_pieceDigest_54 0 rfl ?_
    exact jr_sub [1, 2] rfl (wk_X5_pieceDigest_56 C  h)
  · have h := h.2 c5
    refine jr_ldc2 (v := 31) C 15 rfl dX5_pieceDigest_12 q1821 ?_
    refine jr_lload C 17 rfl dX5_pieceDigest_15 2 rfl ?_
    refine jr_lmul C 18 rfl dX5_pieceDigest_17 ?_
    refine jr_aload_n C 19 rfl dX5_pieceDigest_18 rfl 0 rfl ?_
    refine jr_iload_n C 20 rfl dX5_pieceDigest_19 rfl 1 rfl ?_
    refine jr_iload C 22 rfl dX5_pieceDigest_20 3 rfl ?_
    obtain ⟨⟨V, hb⟩, h⟩ := h
    refine jr_callVi (r0 := (RX5, TX5, 53)) (As := [.int x3, .int x6]) (st := [.long (31 * x4)]) C 25 rfl (m_X5_pieceOf C.2.2.2.2.2.2.2.2.2.2.2.2.2.2.2 h) rfl hb rfl q1494 q1496 qs47 q102 q1497 (by decide) (by decide) ndV_X5_pieceOf (Nat.le_of_ble_eq_true rfl) dX5_pieceDigest_22 (fun S3 r4 h => ?_)
    refine jr_i2l C 26 rfl dX5_pieceDigest_25 ?_
    refine jr_ladd C 27 rfl dX5_pieceDigest_26 ?_
    refine jr_lstore (lv' := [(4, .long ((31 * x4) + ((r4 : Int32).toInt64))), (0, .ref x0), (3, .int x3), (6, .int x6)]) C 29 rfl dX5_pieceDigest_27 (Nat.le_of_ble_eq_true rfl) rfl ?_
    refine jr_iinc (v := (x6 + 1)) (lv' := [(6, .int (x6 + 1)), (4, .long ((31 * x4) + ((r4 : Int32).toInt64))), (0, .ref x0), (3, .int x3)]) C 32 rfl dX5_pieceDigest_29 3 rfl rfl (Nat.le_of_ble_eq_true rfl) rfl ?_
    refine jr_goto C 6 dX5_pieceDigest_32 (by decide) ?_
    exact jr_sub [2, 3, 1, 0] rfl (hc6 _ h)
theorem wk_X5_pieceDigest_6_L {X : jX} {G : jG} {K : jS → Int64 → Prop} (C : jC (X, G, 7, jA X G tvl K) d_X5_pieceDigest cX5_pieceDigest "SamovarModel" (some .long) yX5_pieceDigest) {x0 : Nat} {x3 : Int32}  : ∀ (n : Nat) (z : jS × Int64 × Int32), jlp n (wp_X5_pieceDigest_6_L x0 x3 K) z → jJ (X, G, 7, jA X G tvl K) z.1 [(0, .ref x0), (3, .int x3), (4, .long z.2.1), (6, .int z.2.2)] 6 [] := by
  intro n
  induction n with
  | zero => intro z h; exact h.elim
  | succ n ih => intro z h; exact wk_X5_pieceDigest_6 C ih h
theorem wk_X5_pieceDigest_0 {X : jX} {G : jG} {K : jS → Int64 → Prop} (C : jC (X, G, 7, jA X G tvl K) d_X5_pieceDigest cX5_pieceDigest "SamovarModel" (some .long) yX5_pieceDigest) {S : jS} {x0 : Nat} {x1 : Int64} {x3 : Int32}  (h : wp_X5_pieceDigest S x0 x1 x3 K) : jJ (X, G, 7, jA X G tvl K) S [(0, .ref x0), (1, .long x1), (3, .int x3)] 0 [] := by
  unfold wp_X5_pieceDigest at h
  refine jr_lload_n C 1 rfl dX5_pieceDigest_0 rfl 1 rfl ?_
  refine jr_lstore (lv' := [(4, .long x1), (0, .ref x0), (1, .long x1), (3, .int x3)]) C 3 rfl dX5_pieceDigest_1 (Nat.le_of_ble_eq_true rfl) rfl ?_
  refine jr_iconst (v := 0) C 4 rfl dX5_pieceDigest_3 (by decide) ?_
  refine jr_istore (lv' := [(6, .int 0), (4, .long x1), (0, .ref x0), (1, .long x1), (3, .int x3)]) C 6 rfl dX5_pieceDigest_4 (Nat.le_of_ble_eq_true rfl) rfl ?_
  obtain ⟨n, h⟩ := h
  exact jr_sub [2, 4, 1, 0] rfl (wk_X5_pieceDigest_6_L C  n _ h)
theorem m_X5_pieceDigest {l : Launch} (hl : l.stackTraces = false) {G : jG} {K : jS → Int64 → Prop} {S : jS} {x0 : Nat} {x1 : Int64} {x3 : Int32} (h : wp_X5_pieceDigest S x0 x1 x3 K) : jMet l G d_X5_pieceDigest yX5_pieceDigest (ws_ yX5_pieceDigest cX5_pieceDigest 7 (some .long)) [.ref x0, .long x1, .int x3] S tvl K :=
  jMet.of hl rfl (by decide) (Nat.le_of_ble_eq_true rfl) (fun X C => jr_sub [0, 1, 2] rfl (wk_X5_pieceDigest_0 C h))
theorem wk_X5_isSpared_22 {X : jX} {G : jG} {K : jS → Int32 → Prop} (C : jC (X, G, 2, jA X G tvi K) d_X5_isSpared cX5_isSpared "SamovarModel" (some .boolean) yX5_isSpared) {S : jS} {t0 : Int32}  (h : wp_X5_isSpared_22 S t0 K) : jJ (X, G, 2, jA X G tvi K) S [] 22 [.int t0] := by
  unfold wp_X5_isSpared_22 at h
  exact jr_zreturn C dX5_isSpared_22 h
theorem wk_X5_isSpared_0 {X : jX} {G : jG} {K : jS → Int32 → Prop} (C : jC (X, G, 2, jA X G tvi K) d_X5_isSpared cX5_isSpared "SamovarModel" (some .boolean) yX5_isSpared) {S : jS} {x0 : Nat} {x1 : Int32}  (h : wp_X5_isSpared S x0 x1 K) : jJ (X, G, 2, jA X G tvi K) S [(0, .ref x0), (1, .int x1)] 0 [] := by
  unfold wp_X5_isSpared at h
  refine jr_aload_n C 1 rfl dX5_isSpared_0 rfl 0 rfl ?_
  refine jr_iload_n C 2 rfl dX5_isSpared_1 rfl 1 rfl ?_
  refine jr_putv C 5 rfl fo_8_21 (by decide) q1298 dX5_isSpared_2 rfl rfl h (fun S1 h => ?_)
  refine jr_aload_n C 6 rfl dX5_isSpared_5 rfl 0 rfl ?_
  obtain ⟨⟨V, hb⟩, h⟩ := h
  refine jr_callVv (r0 := (RX5, TX5, 53)) (As := []) (st := []) C 9 rfl (m_X5_runs C.2.2.2.2.2.2.2.2.2.2.2.2.2.2.2 h) rfl hb rfl q1550 q1552 qs54 q102 q1553 (by decide) (by decide) ndV_X5_runs (Nat.le_of_ble_eq_true rfl) dX5_isSpared_6 (fun S2 _ h => ?_)
  refine jr_aload_n C 10 rfl dX5_isSpared_9 rfl 0 rfl ?_
  refine jr_iconst (v := 4) C 11 rfl dX5_isSpared_10 (by decide) ?_
  obtain ⟨⟨V, hb⟩, h⟩ := h
  refine jr_callVi (r0 := (RX5, TX5, 53)) (As := [.int 4]) (st := []) C 14 rfl (m_X5_manyOf C.2.2.2.2.2.2.2.2.2.2.2.2.2.2.2 h) rfl hb rfl q1620 q1622 qs67 q102 q1623 (by decide) (by decide) ndV_X5_manyOf (Nat.le_of_ble_eq_true rfl) dX5_isSpared_11 (fun S3 r4 h => ?_)
  refine jr_if_ne C 21 17 rfl dX5_isSpared_14 (by decide) (fun c5 => ?_) (fun c5 => ?_)
  · have h := h.1 c5
    refine jr_iconst (v := 1) C 18 rfl dX5_isSpared_17 (by decide) ?_
    refine jr_goto C 22 dX5_isSpared_18 (by decide) ?_
    exact jr_sub [] rfl (wk_X5_isSpared_22 C  h)
  · have h := h.2 c5
    refine jr_iconst (v := 0) C 22 rfl dX5_isSpared_21 (by decide) ?_
    exact jr_sub [] rfl (wk_X5_isSpared_22 C  h)
theorem m_X5_isSpared {l : Launch} (hl : l.stackTraces = false) {G : jG} {K : jS → Int32 → Prop} {S : jS} {x0 : Nat} {x1 : Int32} (h : wp_X5_isSpared S x0 x1 K) : jMet l G d_X5_isSpared yX5_isSpared (ws_ yX5_isSpared cX5_isSpared 2 (some .boolean)) [.ref x0, .int x1] S tvi K :=
  jMet.of hl rfl (by decide) (Nat.le_of_ble_eq_true rfl) (fun X C => jr_sub [0, 1] rfl (wk_X5_isSpared_0 C h))
theorem wk_X5_spareBy_33 {X : jX} {G : jG} {K : jS → Int32 → Prop} (C : jC (X, G, 3, jA X G tvi K) d_X5_spareBy cX5_spareBy "SamovarModel" (some .int) yX5_spareBy) {S : jS} {t0 : Nat} {t1 : Int32} {x0 : Nat} {x1 : Int32} {Kc16 : jS × Int32 → Prop} (hc16 : ∀ z : jS × Int32, Kc16 z → jJ (X, G, 3, jA X G tvi K) z.1 [(0, .ref x0), (1, .int z.2)] 16 []) (h : wp_X5_spareBy_33 S t0 t1 x0 x1 Kc16 K) : jJ (X, G, 3, jA X G tvi K) S [(0, .ref x0), (1, .int x1)] 33 [.int t1, .ref t0] := by
  unfold wp_X5_spareBy_33 at h
  refine jr_iload_n C 34 rfl dX5_spareBy_33 rfl 1 rfl ?_
  refine jr_ishl C 35 rfl dX5_spareBy_34 ?_
  obtain ⟨⟨V, hb⟩, h⟩ := h
  refine jr_callVi (r0 := (RX5, TX5, 53)) (As := [.int (t1 <<< (x1 &&& 31))]) (st := []) C 38 rfl (m_X5_isSpared C.2.2.2.2.2.2.2.2.2.2.2.2.2.2.2 h) rfl hb rfl q1696 q1698 qs78 q102 q1699 (by decide) (by decide) ndV_X5_isSpared (Nat.le_of_ble_eq_true rfl) dX5_spareBy_35 (fun S1 r2 h => ?_)
  refine jr_if_eq C 43 41 rfl dX5_spareBy_38 (by decide) (fun c3 => ?_) (fun c3 => ?_)
  · have h := h.1 c3
    refine jr_iinc (v := (x1 + 1)) (lv' := [(1, .int (x1 + 1)), (0, .ref x0)]) C 46 rfl dX5_spareBy_43 1 rfl rfl (Nat.le_of_ble_eq_true rfl) rfl ?_
    refine jr_goto C 16 dX5_spareBy_46 (by decide) ?_
    exact jr_sub [1, 0] rfl (hc16 _ h)
  · have h := h.2 c3
    refine jr_iconst (v := 1) C 42 rfl dX5_spareBy_41 (by decide) ?_
    exact jr_ireturn C dX5_spareBy_42 h
theorem wk_X5_spareBy_90 {X : jX} {G : jG} {K : jS → Int32 → Prop} (C : jC (X, G, 3, jA X G tvi K) d_X5_spareBy cX5_spareBy "SamovarModel" (some .int) yX5_spareBy) {S : jS} {t0 : Nat} {t1 : Int32} {t2 : Int32} {x0 : Nat} {x1 : Int32} {x2 : Int32} {Kc51 : jS × Int32 → Prop} (hc51 : ∀ z : jS × Int32, Kc51 z → jJ (X, G, 3, jA X G tvi K) z.1 [(0, .ref x0), (1, .int z.2)] 51 []) {Kc63 : jS × Int32 → Prop} (hc63 : ∀ z : jS × Int32, Kc63 z → jJ (X, G, 3, jA X G tvi K) z.1 [(0, .ref x0), (1, .int x1), (2, .int z.2)] 63 []) (h : wp_X5_spareBy_90 S t0 t1 t2 x0 x1 x2 Kc51 Kc63 K) : jJ (X, G, 3, jA X G tvi K) S [(0, .ref x0), (1, .int x1), (2, .int x2)] 90 [.int t2, .int t1, .ref t0] := by
  unfold wp_X5_spareBy_90 at h
  refine jr_iload_n C 91 rfl dX5_spareBy_90 rfl 2 rfl ?_
  refine jr_ishl C 92 rfl dX5_spareBy_91 ?_
  refine jr_ior C 93 rfl dX5_spareBy_92 ?_
  obtain ⟨⟨V, hb⟩, h⟩ := h
  refine jr_callVi (r0 := (RX5, TX5, 53)) (As := [.int (t1 ||| (t2 <<< (x2 &&& 31)))]) (st := []) C 96 rfl (m_X5_isSpared C.2.2.2.2.2.2.2.2.2.2.2.2.2.2.2 h) rfl hb rfl q1696 q1698 qs78 q102 q1699 (by decide) (by decide) ndV_X5_isSpared (Nat.le_of_ble_eq_true rfl) dX5_spareBy_93 (fun S1 r2 h => ?_)
  refine jr_if_eq C 101 99 rfl dX5_spareBy_96 (by decide) (fun c3 => ?_) (fun c3 => ?_)
  · have h := h.1 c3
    refine jr_iinc (v := (x2 + 1)) (lv' := [(2, .int (x2 + 1)), (0, .ref x0), (1, .int x1)]) C 104 rfl dX5_spareBy_101 2 rfl rfl (Nat.le_of_ble_eq_true rfl) rfl ?_
    refine jr_goto C 63 dX5_spareBy_104 (by decide) ?_
    exact jr_sub [1, 2, 0] rfl (hc63 _ h)
  · have h := h.2 c3
    refine jr_iconst (v := 2) C 100 rfl dX5_spareBy_99 (by decide) ?_
    exact jr_ireturn C dX5_spareBy_100 h
theorem wk_X5_spareBy_63 {X : jX} {G : jG} {K : jS → Int32 → Prop} (C : jC (X, G, 3, jA X G tvi K) d_X5_spareBy cX5_spareBy "SamovarModel" (some .int) yX5_spareBy) {S : jS} {x0 : Nat} {x1 : Int32} {x2 : Int32} {Kc51 : jS × Int32 → Prop} (hc51 : ∀ z : jS × Int32, Kc51 z → jJ (X, G, 3, jA X G tvi K) z.1 [(0, .ref x0), (1, .int z.2)] 51 []) {Kc63 : jS × Int32 → Prop} (hc63 : ∀ z : jS × Int32, Kc63 z → jJ (X, G, 3, jA X G tvi K) z.1 [(0, .ref x0), (1, .int x1), (2, .int z.2)] 63 []) (h : wp_X5_spareBy_63 S x0 x1 x2 Kc51 Kc63 K) : jJ (X, G, 3, jA X G tvi K) S [(0, .ref x0), (1, .int x1), (2, .int x2)] 63 [] := by
  unfold wp_X5_spareBy_63 at h
  refine jr_iload_n C 64 rfl dX5_spareBy_63 rfl 2 rfl ?_
  refine jr_aload_n C 65 rfl dX5_spareBy_64 rfl 0 rfl ?_
  refine jr_geti C 68 rfl fo_8_12 q1289 dX5_spareBy_65 h (fun v1 h => ?_)
  refine jr_icmp_ge C 107 71 rfl dX5_spareBy_68 (by decide) (fun c6 => ?_) (fun c6 => ?_)
  · have h := h.1 c6
    refine jr_iinc (v := (x1 + 1)) (lv' := [(1, .int (x1 + 1)), (0, .ref x0), (2, .int x2)]) C 110 rfl dX5_spareBy_107 1 rfl rfl (Nat.le_of_ble_eq_true rfl) rfl ?_
    refine jr_goto C 51 dX5_spareBy_110 (by decide) ?_
    exact jr_sub [1, 0] rfl (hc51 _ h)
  · have h := h.2 c6
    refine jr_aload_n C 72 rfl dX5_spareBy_71 rfl 0 rfl ?_
    refine jr_getr C 75 rfl fo_8_42 q1319 dX5_spareBy_72 h (fun v2 h => ?_)
    refine jr_iconst (v := 0) C 76 rfl dX5_spareBy_75 (by decide) ?_
    refine jr_iload_n C 77 rfl dX5_spareBy_76 rfl 1 rfl ?_
    refine jr_iast C 78 rfl dX5_spareBy_77 h (fun S3 h => ?_)
    refine jr_aload_n C 79 rfl dX5_spareBy_78 rfl 0 rfl ?_
    refine jr_getr C 82 rfl fo_8_42 q1319 dX5_spareBy_79 h (fun v4 h => ?_)
    refine jr_iconst (v := 1) C 83 rfl dX5_spareBy_82 (by decide) ?_
    refine jr_iload_n C 84 rfl dX5_spareBy_83 rfl 2 rfl ?_
    refine jr_iast C 85 rfl dX5_spareBy_84 h (fun S5 h => ?_)
    refine jr_aload_n C 86 rfl dX5_spareBy_85 rfl 0 rfl ?_
    refine jr_iconst (v := 1) C 87 rfl dX5_spareBy_86 (by decide) ?_
    refine jr_iload_n C 88 rfl dX5_spareBy_87 rfl 1 rfl ?_
    refine jr_ishl C 89 rfl dX5_spareBy_88 ?_
    refine jr_iconst (v := 1) C 90 rfl dX5_spareBy_89 (by decide) ?_
    exact (wk_X5_spareBy_90 C hc51 hc63 h)
theorem wk_X5_spareBy_63_L {X : jX} {G : jG} {K : jS → Int32 → Prop} (C : jC (X, G, 3, jA X G tvi K) d_X5_spareBy cX5_spareBy "SamovarModel" (some .int) yX5_spareBy) {x0 : Nat} {x1 : Int32} {Kc51 : jS × Int32 → Prop} (hc51 : ∀ z : jS × Int32, Kc51 z → jJ (X, G, 3, jA X G tvi K) z.1 [(0, .ref x0), (1, .int z.2)] 51 []) : ∀ (n : Nat) (z : jS × Int32), jlp n (wp_X5_spareBy_63_L x0 x1 Kc51 K) z → jJ (X, G, 3, jA X G tvi K) z.1 [(0, .ref x0), (1, .int x1), (2, .int z.2)] 63 [] := by
  intro n
  induction n with
  | zero => intro z h; exact h.elim
  | succ n ih => intro z h; exact wk_X5_spareBy_63 C hc51 ih h
theorem wk_X5_spareBy_51 {X : jX} {G : jG} {K : jS → Int32 → Prop} (C : jC (X, G, 3, jA X G tvi K) d_X5_spareBy cX5_spareBy "SamovarModel" (some .int) yX5_spareBy) {S : jS} {x0 : Nat} {x1 : Int32} {Kc51 : jS × Int32 → Prop} (hc51 : ∀ z : jS × Int32, Kc51 z → jJ (X, G, 3, jA X G tvi K) z.1 [(0, .ref x0), (1, .int z.2)] 51 []) (h : wp_X5_spareBy_51 S x0 x1 Kc51 K) : jJ (X, G, 3, jA X G tvi K) S [(0, .ref x0), (1, .int x1)] 51 [] := by
  unfold wp_X5_spareBy_51 at h
  refine jr_iload_n C 52 rfl dX5_spareBy_51 rfl 1 rfl ?_
  refine jr_aload_n C 53 rfl dX5_spareBy_52 rfl 0 rfl ?_
  refine jr_geti C 56 rfl fo_8_12 q1289 dX5_spareBy_53 h (fun v1 h => ?_)
  refine jr_icmp_ge C 113 59 rfl dX5_spareBy_56 (by decide) (fun c2 => ?_) (fun c2 => ?_)
  · have h := h.1 c2
    refine jr_iconst (v := (-1)) C 114 rfl dX5_spareBy_113 (by decide) ?_
    exact jr_ireturn C dX5_spareBy_114 h
  · have h := h.2 c2
    refine jr_iload_n C 60 rfl dX5_spareBy_59 rfl 1 rfl ?_
    refine jr_iconst (v := 1) C 61 rfl dX5_spareBy_60 (by decide) ?_
    refine jr_iadd C 62 rfl dX5_spareBy_61 ?_
    refine jr_istore_n (lv' := [(2, .int (x1 + 1)), (0, .ref x0), (1, .int x1)]) C 63 rfl dX5_spareBy_62 rfl (Nat.le_of_ble_eq_true rfl) rfl ?_
    obtain ⟨n, h⟩ := h
    exact jr_sub [1, 2, 0] rfl (wk_X5_spareBy_63_L C hc51 n _ h)
theorem wk_X5_spareBy_51_L {X : jX} {G : jG} {K : jS → Int32 → Prop} (C : jC (X, G, 3, jA X G tvi K) d_X5_spareBy cX5_spareBy "SamovarModel" (some .int) yX5_spareBy) {x0 : Nat}  : ∀ (n : Nat) (z : jS × Int32), jlp n (wp_X5_spareBy_51_L x0 K) z → jJ (X, G, 3, jA X G tvi K) z.1 [(0, .ref x0), (1, .int z.2)] 51 [] := by
  intro n
  induction n with
  | zero => intro z h; exact h.elim
  | succ n ih => intro z h; exact wk_X5_spareBy_51 C ih h
theorem wk_X5_spareBy_16 {X : jX} {G : jG} {K : jS → Int32 → Prop} (C : jC (X, G, 3, jA X G tvi K) d_X5_spareBy cX5_spareBy "SamovarModel" (some .int) yX5_spareBy) {S : jS} {x0 : Nat} {x1 : Int32} {Kc16 : jS × Int32 → Prop} (hc16 : ∀ z : jS × Int32, Kc16 z → jJ (X, G, 3, jA X G tvi K) z.1 [(0, .ref x0), (1, .int z.2)] 16 []) (h : wp_X5_spareBy_16 S x0 x1 Kc16 K) : jJ (X, G, 3, jA X G tvi K) S [(0, .ref x0), (1, .int x1)] 16 [] := by
  unfold wp_X5_spareBy_16 at h
  refine jr_iload_n C 17 rfl dX5_spareBy_16 rfl 1 rfl ?_
  refine jr_aload_n C 18 rfl dX5_spareBy_17 rfl 0 rfl ?_
  refine jr_geti C 21 rfl fo_8_12 q1289 dX5_spareBy_18 h (fun v1 h => ?_)
  refine jr_icmp_ge C 49 24 rfl dX5_spareBy_21 (by decide) (fun c4 => ?_) (fun c4 => ?_)
  · have h := h.1 c4
    refine jr_iconst (v := 0) C 50 rfl dX5_spareBy_49 (by decide) ?_
    refine jr_istore_n (lv' := [(1, .int 0), (0, .ref x0)]) C 51 rfl dX5_spareBy_50 rfl (Nat.le_of_ble_eq_true rfl) rfl ?_
    obtain ⟨n, h⟩ := h
    exact jr_sub [1, 0] rfl (wk_X5_spareBy_51_L C  n _ h)
  · have h := h.2 c4
    refine jr_aload_n C 25 rfl dX5_spareBy_24 rfl 0 rfl ?_
    refine jr_getr C 28 rfl fo_8_42 q1319 dX5_spareBy_25 h (fun v2 h => ?_)
    refine jr_iconst (v := 0) C 29 rfl dX5_spareBy_28 (by decide) ?_
    refine jr_iload_n C 30 rfl dX5_spareBy_29 rfl 1 rfl ?_
    refine jr_iast C 31 rfl dX5_spareBy_30 h (fun S3 h => ?_)
    refine jr_aload_n C 32 rfl dX5_spareBy_31 rfl 0 rfl ?_
    refine jr_iconst (v := 1) C 33 rfl dX5_spareBy_32 (by decide) ?_
    exact (wk_X5_spareBy_33 C hc16 h)
theorem wk_X5_spareBy_16_L {X : jX} {G : jG} {K : jS → Int32 → Prop} (C : jC (X, G, 3, jA X G tvi K) d_X5_spareBy cX5_spareBy "SamovarModel" (some .int) yX5_spareBy) {x0 : Nat}  : ∀ (n : Nat) (z : jS × Int32), jlp n (wp_X5_spareBy_16_L x0 K) z → jJ (X, G, 3, jA X G tvi K) z.1 [(0, .ref x0), (1, .int z.2)] 16 [] := by
  intro n
  induction n with
  | zero => intro z h; exact h.elim
  | succ n ih => intro z h; exact wk_X5_spareBy_16 C ih h
theorem wk_X5_spareBy_0 {X : jX} {G : jG} {K : jS → Int32 → Prop} (C : jC (X, G, 3, jA X G tvi K) d_X5_spareBy cX5_spareBy "SamovarModel" (some .int) yX5_spareBy) {S : jS} {x0 : Nat}  (h : wp_X5_spareBy S x0 K) : jJ (X, G, 3, jA X G tvi K) S [(0, .ref x0)] 0 [] := by
  unfold wp_X5_spareBy at h
  refine jr_aload_n C 1 rfl dX5_spareBy_0 rfl 0 rfl ?_
  obtain ⟨⟨V, hb⟩, h⟩ := h
  refine jr_callVv (r0 := (RX5, TX5, 53)) (As := []) (st := []) C 4 rfl (m_X5_asTold C.2.2.2.2.2.2.2.2.2.2.2.2.2.2.2 h) rfl hb rfl q1546 q1548 qs53 q102 q1549 (by decide) (by decide) ndV_X5_asTold (Nat.le_of_ble_eq_true rfl) dX5_spareBy_1 (fun S1 _ h => ?_)
  refine jr_aload_n C 5 rfl dX5_spareBy_4 rfl 0 rfl ?_
  refine jr_iconst (v := 0) C 6 rfl dX5_spareBy_5 (by decide) ?_
  obtain ⟨⟨V, hb⟩, h⟩ := h
  refine jr_callVi (r0 := (RX5, TX5, 53)) (As := [.int 0]) (st := []) C 9 rfl (m_X5_isSpared C.2.2.2.2.2.2.2.2.2.2.2.2.2.2.2 h) rfl hb rfl q1696 q1698 qs78 q102 q1699 (by decide) (by decide) ndV_X5_isSpared (Nat.le_of_ble_eq_true rfl) dX5_spareBy_6 (fun S2 r3 h => ?_)
  refine jr_if_eq C 14 12 rfl dX5_spareBy_9 (by decide) (fun c4 => ?_) (fun c4 => ?_)
  · have h := h.1 c4
    refine jr_iconst (v := 0) C 15 rfl dX5_spareBy_14 (by decide) ?_
    refine jr_istore_n (lv' := [(1, .int 0), (0, .ref x0)]) C 16 rfl dX5_spareBy_15 rfl (Nat.le_of_ble_eq_true rfl) rfl ?_
    obtain ⟨n, h⟩ := h
    exact jr_sub [1, 0] rfl (wk_X5_spareBy_16_L C  n _ h)
  · have h := h.2 c4
    refine jr_iconst (v := 0) C 13 rfl dX5_spareBy_12 (by decide) ?_
    exact jr_ireturn C dX5_spareBy_13 h
theorem m_X5_spareBy {l : Launch} (hl : l.stackTraces = false) {G : jG} {K : jS → Int32 → Prop} {S : jS} {x0 : Nat} (h : wp_X5_spareBy S x0 K) : jMet l G d_X5_spareBy yX5_spareBy (ws_ yX5_spareBy cX5_spareBy 3 (some .int)) [.ref x0] S tvi K :=
  jMet.of hl rfl (by decide) (Nat.le_of_ble_eq_true rfl) (fun X C => jr_sub [0] rfl (wk_X5_spareBy_0 C h))
theorem wk_X5_thirstOf_39 {X : jX} {G : jG} {K : jS → Int32 → Prop} (C : jC (X, G, 3, jA X G tvi K) d_X5_thirstOf cX5_thirstOf "SamovarModel" (some .int) yX5_thirstOf) {S : jS} {t0 : Int32} {t1 : Int32} {x0 : Nat} {x2 : Int32} {Kc8 : jS × Int32 × Int32 → Prop} (hc8 : ∀ z : jS × Int32 × Int32, Kc8 z → jJ (X, G, 3, jA X G tvi K) z.1 [(0, .ref x0), (1, .int z.2.1), (2, .int z.2.2)] 8 []) (h : wp_X5_thirstOf_39 S t0 t1 x0 x2 Kc8 K) : jJ (X, G, 3, jA X G tvi K) S [(0, .ref x0), (2, .int x2)] 39 [.int t1, .int t0] := by
  unfold wp_X5_thirstOf_39 at h
  refine jr_ior C 40 rfl dX5_thirstOf_39 ?_
  refine jr_istore_n (lv' := [(1, .int (t0 ||| t1)), (0, .ref x0), (2, .int x2)]) C 41 rfl dX5_thirstOf_40 rfl (Nat.le_of_ble_eq_true rfl) rfl ?_
  refine jr_iinc (v := (x2 + 1)) (lv' := [(2, .int (x2 + 1)), (1, .int (t0 ||| t1)), (0, .ref x0)]) C 44 rfl dX5_thirstOf_41 2 rfl rfl (Nat.le_of_ble_eq_true rfl) rfl ?_
  refine jr_goto C 8 dX5_thirstOf_44 (by decide) ?_
  exact jr_sub [2, 1, 0] rfl (hc8 _ h)
theorem wk_X5_thirstOf_8 {X : jX} {G : jG} {K : jS → Int32 → Prop} (C : jC (X, G, 3, jA X G tvi K) d_X5_thirstOf cX5_thirstOf "SamovarModel" (some .int) yX5_thirstOf) {S : jS} {x0 : Nat} {x1 : Int32} {x2 : Int32} {Kc8 : jS × Int32 × Int32 → Prop} (hc8 : ∀ z : jS × Int32 × Int32, Kc8 z → jJ (X, G, 3, jA X G tvi K) z.1 [(0, .ref x0), (1, .int z.2.1), (2, .int z.2.2)] 8 []) (h : wp_X5_thirstOf_8 S x0 x1 x2 Kc8 K) : jJ (X, G, 3, jA X G tvi K) S [(0, .ref x0), (1, .int x1), (2, .int x2)] 8 [] := by
  unfold wp_X5_thirstOf_8 at h
  refine jr_iload_n C 9 rfl dX5_thirstOf_8 rfl 2 rfl ?_
  refine jr_aload_n C 10 rfl dX5_thirstOf_9 rfl 0 rfl ?_
  refine jr_geti C 13 rfl fo_8_6 q1283 dX5_thirstOf_10 h (fun v1 h => ?_)
  refine jr_icmp_ge C 47 16 rfl dX5_thirstOf_13 (by decide) (fun c7 => ?_) (fun c7 => ?_)
  · have h := h.1 c7
    refine jr_iload_n C 48 rfl dX5_thirstOf_47 rfl 1 rfl ?_
    exact jr_ireturn C dX5_thirstOf_48 h
  · have h := h.2 c7
    refine jr_iload_n C 17 rfl dX5_thirstOf_16 rfl 1 rfl ?_
    refine jr_aload_n C 18 rfl dX5_thirstOf_17 rfl 0 rfl ?_
    refine jr_getr C 21 rfl fo_8_32 q1309 dX5_thirstOf_18 h (fun v2 h => ?_)
    refine jr_iload_n C 22 rfl dX5_thirstOf_21 rfl 2 rfl ?_
    refine jr_iald C 23 rfl dX5_thirstOf_22 h (fun v3 h => ?_)
    refine jr_aload_n C 24 rfl dX5_thirstOf_23 rfl 0 rfl ?_
    refine jr_getr C 27 rfl fo_8_9 q1286 dX5_thirstOf_24 h (fun v4 h => ?_)
    refine jr_iload_n C 28 rfl dX5_thirstOf_27 rfl 2 rfl ?_
    refine jr_iald C 29 rfl dX5_thirstOf_28 h (fun v5 h => ?_)
    refine jr_icmp_ge C 38 32 rfl dX5_thirstOf_29 (by decide) (fun c6 => ?_) (fun c6 => ?_)
    · have h := h.1 c6
      refine jr_iconst (v := 0) C 39 rfl dX5_thirstOf_38 (by decide) ?_
      exact jr_sub [0, 2] rfl (wk_X5_thirstOf_39 C hc8 h)
    · have h := h.2 c6
      refine jr_iconst (v := 1) C 33 rfl dX5_thirstOf_32 (by decide) ?_
      refine jr_iload_n C 34 rfl dX5_thirstOf_33 rfl 2 rfl ?_
      refine jr_ishl C 35 rfl dX5_thirstOf_34 ?_
      refine jr_goto C 39 dX5_thirstOf_35 (by decide) ?_
      exact jr_sub [0, 2] rfl (wk_X5_thirstOf_39 C hc8 h)
theorem wk_X5_thirstOf_8_L {X : jX} {G : jG} {K : jS → Int32 → Prop} (C : jC (X, G, 3, jA X G tvi K) d_X5_thirstOf cX5_thirstOf "SamovarModel" (some .int) yX5_thirstOf) {x0 : Nat}  : ∀ (n : Nat) (z : jS × Int32 × Int32), jlp n (wp_X5_thirstOf_8_L x0 K) z → jJ (X, G, 3, jA X G tvi K) z.1 [(0, .ref x0), (1, .int z.2.1), (2, .int z.2.2)] 8 [] := by
  intro n
  induction n with
  | zero => intro z h; exact h.elim
  | succ n ih => intro z h; exact wk_X5_thirstOf_8 C ih h
theorem wk_X5_thirstOf_0 {X : jX} {G : jG} {K : jS → Int32 → Prop} (C : jC (X, G, 3, jA X G tvi K) d_X5_thirstOf cX5_thirstOf "SamovarModel" (some .int) yX5_thirstOf) {S : jS} {x0 : Nat}  (h : wp_X5_thirstOf S x0 K) : jJ (X, G, 3, jA X G tvi K) S [(0, .ref x0)] 0 [] := by
  unfold wp_X5_thirstOf at h
  refine jr_aload_n C 1 rfl dX5_thirstOf_0 rfl 0 rfl ?_
  obtain ⟨⟨V, hb⟩, h⟩ := h
  refine jr_callVv (r0 := (RX5, TX5, 53)) (As := []) (st := []) C 4 rfl (m_X5_runsTold C.2.2.2.2.2.2.2.2.2.2.2.2.2.2.2 h) rfl hb rfl q1542 q1544 qs52 q102 q1545 (by decide) (by decide) ndV_X5_runsTold (Nat.le_of_ble_eq_true rfl) dX5_thirstOf_1 (fun S1 _ h => ?_)
  refine jr_iconst (v := 0) C 5 rfl dX5_thirstOf_4 (by decide) ?_
  refine jr_istore_n (lv' := [(1, .int 0), (0, .ref x0)]) C 6 rfl dX5_thirstOf_5 rfl (Nat.le_of_ble_eq_true rfl) rfl ?_
  refine jr_iconst (v := 0) C 7 rfl dX5_thirstOf_6 (by decide) ?_
  refine jr_istore_n (lv' := [(2, .int 0), (1, .int 0), (0, .ref x0)]) C 8 rfl dX5_thirstOf_7 rfl (Nat.le_of_ble_eq_true rfl) rfl ?_
  obtain ⟨n, h⟩ := h
  exact jr_sub [2, 1, 0] rfl (wk_X5_thirstOf_8_L C  n _ h)
theorem m_X5_thirstOf {l : Launch} (hl : l.stackTraces = false) {G : jG} {K : jS → Int32 → Prop} {S : jS} {x0 : Nat} (h : wp_X5_thirstOf S x0 K) : jMet l G d_X5_thirstOf yX5_thirstOf (ws_ yX5_thirstOf cX5_thirstOf 3 (some .int)) [.ref x0] S tvi K :=
  jMet.of hl rfl (by decide) (Nat.le_of_ble_eq_true rfl) (fun X C => jr_sub [0] rfl (wk_X5_thirstOf_0 C h))
theorem wk_X5_digest_12 {X : jX} {G : jG} {K : jS → Int64 → Prop} (C : jC (X, G, 5, jA X G tvl K) d_X5_digest cX5_digest "SamovarModel" (some .long) yX5_digest) {S : jS} {x0 : Nat} {x1 : Int64} {x3 : Int32} {Kc6 : jS × Int64 × Int32 → Prop} (hc6 : ∀ z : jS × Int64 × Int32, Kc6 z → jJ (X, G, 5, jA X G tvl K) z.1 [(0, .ref x0), (1, .long z.2.1), (3, .int z.2.2)] 6 []) (h : wp_X5_digest_12 S x0 x1 x3 Kc6 K) : jJ (X, G, 5, jA X G tvl K) S [(0, .ref x0), (1, .long x1), (3, .int x3)] 12 [] := by
  unfold wp_X5_digest_12 at h
  refine jr_ldc2 (v := 31) C 15 rfl dX5_digest_12 q1821 ?_
  refine jr_lload_n C 16 rfl dX5_digest_15 rfl 1 rfl ?_
  refine jr_lmul C 17 rfl dX5_digest_16 ?_
  refine jr_aload_n C 18 rfl dX5_digest_17 rfl 0 rfl ?_
  refine jr_iload_n C 19 rfl dX5_digest_18 rfl 2 rfl ?_
  obtain ⟨⟨V, hb⟩, h⟩ := h
  refine jr_callVi (r0 := (RX5, TX5, 53)) (As := [.int x3]) (st := [.long (31 * x1)]) C 22 rfl (m_X5_count C.2.2.2.2.2.2.2.2.2.2.2.2.2.2.2 h) rfl hb rfl q1822 q1809 q1810 q102 q1811 (by decide) (by decide) ndV_X5_count (Nat.le_of_ble_eq_true rfl) dX5_digest_19 (fun S1 r2 h => ?_)
  refine jr_i2l C 23 rfl dX5_digest_22 ?_
  refine jr_ladd C 24 rfl dX5_digest_23 ?_
  refine jr_lstore_n (lv' := [(1, .long ((31 * x1) + ((r2 : Int32).toInt64))), (0, .ref x0), (3, .int x3)]) C 25 rfl dX5_digest_24 rfl (Nat.le_of_ble_eq_true rfl) rfl ?_
  refine jr_iinc (v := (x3 + 1)) (lv' := [(3, .int (x3 + 1)), (1, .long ((31 * x1) + ((r2 : Int32).toInt64))), (0, .ref x0)]) C 28 rfl dX5_digest_25 2 rfl rfl (Nat.le_of_ble_eq_true rfl) rfl ?_
  refine jr_goto C 6 dX5_digest_28 (by decide) ?_
  exact jr_sub [2, 1, 0] rfl (hc6 _ h)
theorem wk_X5_digest_68 {X : jX} {G : jG} {K : jS → Int64 → Prop} (C : jC (X, G, 5, jA X G tvl K) d_X5_digest cX5_digest "SamovarModel" (some .long) yX5_digest) {S : jS} {x0 : Nat} {x1 : Int64} {x3 : Int32} {x4 : Int32} {Kc59 : jS × Int64 × Int32 → Prop} (hc59 : ∀ z : jS × Int64 × Int32, Kc59 z → jJ (X, G, 5, jA X G tvl K) z.1 [(0, .ref x0), (1, .long z.2.1), (3, .int z.2.2)] 59 []) {Kc68 : jS × Int64 × Int32 → Prop} (hc68 : ∀ z : jS × Int64 × Int32, Kc68 z → jJ (X, G, 5, jA X G tvl K) z.1 [(0, .ref x0), (1, .long z.2.1), (3, .int x3), (4, .int z.2.2)] 68 []) (h : wp_X5_digest_68 S x0 x1 x3 x4 Kc59 Kc68 K) : jJ (X, G, 5, jA X G tvl K) S [(0, .ref x0), (1, .long x1), (3, .int x3), (4, .int x4)] 68 [] := by
  unfold wp_X5_digest_68 at h
  refine jr_iload C 70 rfl dX5_digest_68 3 rfl ?_
  refine jr_bipush (v := 6) C 72 rfl dX5_digest_70 (by decide) ?_
  refine jr_icmp_ge C 96 75 rfl dX5_digest_72 (by decide) (fun c5 => ?_) (fun c5 => ?_)
  · have h := h.1 c5
    refine jr_ldc2 (v := 31) C 99 rfl dX5_digest_96 q1821 ?_
    refine jr_lload_n C 100 rfl dX5_digest_99 rfl 1 rfl ?_
    refine jr_lmul C 101 rfl dX5_digest_100 ?_
    refine jr_aload_n C 102 rfl dX5_digest_101 rfl 0 rfl ?_
    refine jr_iload_n C 103 rfl dX5_digest_102 rfl 2 rfl ?_
    obtain ⟨⟨V, hb⟩, h⟩ := h
    refine jr_callVi (r0 := (RX5, TX5, 53)) (As := [.int x3]) (st := [.long (31 * x1)]) C 106 rfl (m_X5_lineOf C.2.2.2.2.2.2.2.2.2.2.2.2.2.2.2 h) rfl hb rfl q1604 q1606 qs64 q102 q1607 (by decide) (by decide) ndV_X5_lineOf (Nat.le_of_ble_eq_true rfl) dX5_digest_103 (fun S1 r2 h => ?_)
    refine jr_i2l C 107 rfl dX5_digest_106 ?_
    refine jr_ladd C 108 rfl dX5_digest_107 ?_
    refine jr_lstore_n (lv' := [(1, .long ((31 * x1) + ((r2 : Int32).toInt64))), (0, .ref x0), (3, .int x3), (4, .int x4)]) C 109 rfl dX5_digest_108 rfl (Nat.le_of_ble_eq_true rfl) rfl ?_
    refine jr_iinc (v := (x3 + 1)) (lv' := [(3, .int (x3 + 1)), (1, .long ((31 * x1) + ((r2 : Int32).toInt64))), (0, .ref x0), (4, .int x4)]) C 112 rfl dX5_digest_109 2 rfl rfl (Nat.le_of_ble_eq_true rfl) rfl ?_
    refine jr_goto C 59 dX5_digest_112 (by decide) ?_
    exact jr_sub [2, 1, 0] rfl (hc59 _ h)
  · have h := h.2 c5
    refine jr_ldc2 (v := 31) C 78 rfl dX5_digest_75 q1821 ?_
    refine jr_lload_n C 79 rfl dX5_digest_78 rfl 1 rfl ?_
    refine jr_lmul C 80 rfl dX5_digest_79 ?_
    refine jr_aload_n C 81 rfl dX5_digest_80 rfl 0 rfl ?_
    refine jr_iload_n C 82 rfl dX5_digest_81 rfl 2 rfl ?_
    refine jr_iload C 84 rfl dX5_digest_82 3 rfl ?_
    obtain ⟨⟨V, hb⟩, h⟩ := h
    refine jr_callVi (r0 := (RX5, TX5, 53)) (As := [.int x3, .int x4]) (st := [.long (31 * x1)]) C 87 rfl (m_X5_atOf C.2.2.2.2.2.2.2.2.2.2.2.2.2.2.2 h) rfl hb rfl q1538 q1540 qs51 q102 q1541 (by decide) (by decide) ndV_X5_atOf (Nat.le_of_ble_eq_true rfl) dX5_digest_84 (fun S3 r4 h => ?_)
    refine jr_i2l C 88 rfl dX5_digest_87 ?_
    refine jr_ladd C 89 rfl dX5_digest_88 ?_
    refine jr_lstore_n (lv' := [(1, .long ((31 * x1) + ((r4 : Int32).toInt64))), (0, .ref x0), (3, .int x3), (4, .int x4)]) C 90 rfl dX5_digest_89 rfl (Nat.le_of_ble_eq_true rfl) rfl ?_
    refine jr_iinc (v := (x4 + 1)) (lv' := [(4, .int (x4 + 1)), (1, .long ((31 * x1) + ((r4 : Int32).toInt64))), (0, .ref x0), (3, .int x3)]) C 93 rfl dX5_digest_90 3 rfl rfl (Nat.le_of_ble_eq_true rfl) rfl ?_
    refine jr_goto C 68 dX5_digest_93 (by decide) ?_
    exact jr_sub [2, 1, 3, 0] rfl (hc68 _ h)
theorem wk_X5_digest_68_L {X : jX} {G : jG} {K : jS → Int64 → Prop} (C : jC (X, G, 5, jA X G tvl K) d_X5_digest cX5_digest "SamovarModel" (some .long) yX5_digest) {x0 : Nat} {x3 : Int32} {Kc59 : jS × Int64 × Int32 → Prop} (hc59 : ∀ z : jS × Int64 × Int32, Kc59 z → jJ (X, G, 5, jA X G tvl K) z.1 [(0, .ref x0), (1, .long z.2.1), (3, .int z.2.2)] 59 []) : ∀ (n : Nat) (z : jS × Int64 × Int32), jlp n (wp_X5_digest_68_L x0 x3 Kc59 K) z → jJ (X, G, 5, jA X G tvl K) z.1 [(0, .ref x0), (1, .long z.2.1), (3, .int x3), (4, .int z.2.2)] 68 [] := by
  intro n
  induction n with
  | zero => intro z h; exact h.elim
  | succ n ih => intro z h; exact wk_X5_digest_68 C hc59 ih h
theorem wk_X5_digest_168 {X : jX} {G : jG} {K : jS → Int64 → Prop} (C : jC (X, G, 5, jA X G tvl K) d_X5_digest cX5_digest "SamovarModel" (some .long) yX5_digest) {S : jS} {x0 : Nat} {x1 : Int64} {x3 : Int32} {Kc163 : jS × Int64 × Int32 → Prop} (hc163 : ∀ z : jS × Int64 × Int32, Kc163 z → jJ (X, G, 5, jA X G tvl K) z.1 [(0, .ref x0), (1, .long z.2.1), (3, .int z.2.2)] 163 []) (h : wp_X5_digest_168 S x0 x1 x3 Kc163 K) : jJ (X, G, 5, jA X G tvl K) S [(0, .ref x0), (1, .long x1), (3, .int x3)] 168 [] := by
  unfold wp_X5_digest_168 at h
  refine jr_ldc2 (v := 31) C 171 rfl dX5_digest_168 q1821 ?_
  refine jr_lload_n C 172 rfl dX5_digest_171 rfl 1 rfl ?_
  refine jr_lmul C 173 rfl dX5_digest_172 ?_
  refine jr_aload_n C 174 rfl dX5_digest_173 rfl 0 rfl ?_
  refine jr_iload_n C 175 rfl dX5_digest_174 rfl 2 rfl ?_
  obtain ⟨⟨V, hb⟩, h⟩ := h
  refine jr_callVi (r0 := (RX5, TX5, 53)) (As := [.int x3]) (st := [.long (31 * x1)]) C 178 rfl (m_X5_sumOf C.2.2.2.2.2.2.2.2.2.2.2.2.2.2.2 h) rfl hb rfl q1612 q1614 qs65 q102 q1615 (by decide) (by decide) ndV_X5_sumOf (Nat.le_of_ble_eq_true rfl) dX5_digest_175 (fun S1 r2 h => ?_)
  refine jr_i2l C 179 rfl dX5_digest_178 ?_
  refine jr_ladd C 180 rfl dX5_digest_179 ?_
  refine jr_lstore_n (lv' := [(1, .long ((31 * x1) + ((r2 : Int32).toInt64))), (0, .ref x0), (3, .int x3)]) C 181 rfl dX5_digest_180 rfl (Nat.le_of_ble_eq_true rfl) rfl ?_
  refine jr_iinc (v := (x3 + 1)) (lv' := [(3, .int (x3 + 1)), (1, .long ((31 * x1) + ((r2 : Int32).toInt64))), (0, .ref x0)]) C 184 rfl dX5_digest_181 2 rfl rfl (Nat.le_of_ble_eq_true rfl) rfl ?_
  refine jr_goto C 163 dX5_digest_184 (by decide) ?_
  exact jr_sub [2, 1, 0] rfl (hc163 _ h)
theorem wk_X5_digest_319 {X : jX} {G : jG} {K : jS → Int64 → Prop} (C : jC (X, G, 5, jA X G tvl K) d_X5_digest cX5_digest "SamovarModel" (some .long) yX5_digest) {S : jS} {t0 : Int64} {t1 : Int64} {x0 : Nat}  (h : wp_X5_digest_319 S t0 t1 x0 K) : jJ (X, G, 5, jA X G tvl K) S [(0, .ref x0)] 319 [.long t1, .long t0] := by
  unfold wp_X5_digest_319 at h
  refine jr_lmul C 320 rfl dX5_digest_319 ?_
  refine jr_aload_n C 321 rfl dX5_digest_320 rfl 0 rfl ?_
  obtain ⟨⟨V, hb⟩, h⟩ := h
  refine jr_callVi (r0 := (RX5, TX5, 53)) (As := []) (st := [.long (t0 * t1)]) C 324 rfl (m_X5_askOf C.2.2.2.2.2.2.2.2.2.2.2.2.2.2.2 h) rfl hb rfl q1744 q1746 qs84 q102 q1747 (by decide) (by decide) ndV_X5_askOf (Nat.le_of_ble_eq_true rfl) dX5_digest_321 (fun S1 r2 h => ?_)
  refine jr_i2l C 325 rfl dX5_digest_324 ?_
  refine jr_ladd C 326 rfl dX5_digest_325 ?_
  refine jr_lstore_n (lv' := [(1, .long ((t0 * t1) + ((r2 : Int32).toInt64))), (0, .ref x0)]) C 327 rfl dX5_digest_326 rfl (Nat.le_of_ble_eq_true rfl) rfl ?_
  refine jr_ldc2 (v := 31) C 330 rfl dX5_digest_327 q1821 ?_
  refine jr_lload_n C 331 rfl dX5_digest_330 rfl 0 rfl ?_
  refine jr_lmul C 332 rfl dX5_digest_331 ?_
  refine jr_aload_n C 333 rfl dX5_digest_332 rfl 1 rfl ?_
  refine jr_bipush (v := 7) C 335 rfl dX5_digest_333 (by decide) ?_
  refine jr_bipush (v := 6) C 337 rfl dX5_digest_335 (by decide) ?_
  refine jr_iconst (v := 0) C 338 rfl dX5_digest_337 (by decide) ?_
  obtain ⟨⟨V, hb⟩, h⟩ := h
  refine jr_callVi (r0 := (RX5, TX5, 53)) (As := [.int 7, .int 6, .int 0]) (st := [.long (31 * ((t0 * t1) + ((r2 : Int32).toInt64)))]) C 341 rfl (m_X5_eveningsOf C.2.2.2.2.2.2.2.2.2.2.2.2.2.2.2 h) rfl hb rfl q1770 q1772 qs86 q102 q1773 (by decide) (by decide) ndV_X5_eveningsOf (Nat.le_of_ble_eq_true rfl) dX5_digest_338 (fun S3 r4 h => ?_)
  refine jr_i2l C 342 rfl dX5_digest_341 ?_
  refine jr_ladd C 343 rfl dX5_digest_342 ?_
  refine jr_lstore_n (lv' := [(1, .long ((31 * ((t0 * t1) + ((r2 : Int32).toInt64))) + ((r4 : Int32).toInt64))), (0, .ref x0)]) C 344 rfl dX5_digest_343 rfl (Nat.le_of_ble_eq_true rfl) rfl ?_
  refine jr_ldc2 (v := 31) C 347 rfl dX5_digest_344 q1821 ?_
  refine jr_lload_n C 348 rfl dX5_digest_347 rfl 0 rfl ?_
  refine jr_lmul C 349 rfl dX5_digest_348 ?_
  refine jr_aload_n C 350 rfl dX5_digest_349 rfl 1 rfl ?_
  refine jr_bipush (v := 7) C 352 rfl dX5_digest_350 (by decide) ?_
  refine jr_bipush (v := 6) C 354 rfl dX5_digest_352 (by decide) ?_
  refine jr_iconst (v := 1) C 355 rfl dX5_digest_354 (by decide) ?_
  obtain ⟨⟨V, hb⟩, h⟩ := h
  refine jr_callVi (r0 := (RX5, TX5, 53)) (As := [.int 7, .int 6, .int 1]) (st := [.long (31 * ((31 * ((t0 * t1) + ((r2 : Int32).toInt64))) + ((r4 : Int32).toInt64)))]) C 358 rfl (m_X5_eveningsOf C.2.2.2.2.2.2.2.2.2.2.2.2.2.2.2 h) rfl hb rfl q1770 q1772 qs86 q102 q1773 (by decide) (by decide) ndV_X5_eveningsOf (Nat.le_of_ble_eq_true rfl) dX5_digest_355 (fun S5 r6 h => ?_)
  refine jr_i2l C 359 rfl dX5_digest_358 ?_
  refine jr_ladd C 360 rfl dX5_digest_359 ?_
  exact jr_lreturn C dX5_digest_360 h
theorem wk_X5_digest_254 {X : jX} {G : jG} {K : jS → Int64 → Prop} (C : jC (X, G, 5, jA X G tvl K) d_X5_digest cX5_digest "SamovarModel" (some .long) yX5_digest) {S : jS} {t0 : Int64} {t1 : Int64} {x0 : Nat}  (h : wp_X5_digest_254 S t0 t1 x0 K) : jJ (X, G, 5, jA X G tvl K) S [(0, .ref x0)] 254 [.long t1, .long t0] := by
  unfold wp_X5_digest_254 at h
  refine jr_lmul C 255 rfl dX5_digest_254 ?_
  refine jr_aload_n C 256 rfl dX5_digest_255 rfl 0 rfl ?_
  refine jr_iconst (v := 1) C 257 rfl dX5_digest_256 (by decide) ?_
  obtain ⟨⟨V, hb⟩, h⟩ := h
  refine jr_callVi (r0 := (RX5, TX5, 53)) (As := [.int 1]) (st := [.long (t0 * t1)]) C 260 rfl (m_X5_fillOf C.2.2.2.2.2.2.2.2.2.2.2.2.2.2.2 h) rfl hb rfl q1676 q1678 qs75 q102 q1679 (by decide) (by decide) ndV_X5_fillOf (Nat.le_of_ble_eq_true rfl) dX5_digest_257 (fun S1 r2 h => ?_)
  refine jr_i2l C 261 rfl dX5_digest_260 ?_
  refine jr_ladd C 262 rfl dX5_digest_261 ?_
  refine jr_lstore_n (lv' := [(1, .long ((t0 * t1) + ((r2 : Int32).toInt64))), (0, .ref x0)]) C 263 rfl dX5_digest_262 rfl (Nat.le_of_ble_eq_true rfl) rfl ?_
  refine jr_aload_n C 264 rfl dX5_digest_263 rfl 1 rfl ?_
  obtain ⟨⟨V, hb⟩, h⟩ := h
  refine jr_callVi (r0 := (RX5, TX5, 53)) (As := []) (st := []) C 267 rfl (m_X5_spareBy C.2.2.2.2.2.2.2.2.2.2.2.2.2.2.2 h) rfl hb rfl q1692 q1694 qs77 q102 q1695 (by decide) (by decide) ndV_X5_spareBy (Nat.le_of_ble_eq_true rfl) dX5_digest_264 (fun S3 r4 h => ?_)
  refine jr_istore_n (lv' := [(3, .int r4), (1, .long ((t0 * t1) + ((r2 : Int32).toInt64))), (0, .ref x0)]) C 268 rfl dX5_digest_267 rfl (Nat.le_of_ble_eq_true rfl) rfl ?_
  refine jr_ldc2 (v := 31) C 271 rfl dX5_digest_268 q1821 ?_
  refine jr_lload_n C 272 rfl dX5_digest_271 rfl 1 rfl ?_
  refine jr_lmul C 273 rfl dX5_digest_272 ?_
  refine jr_iload_n C 274 rfl dX5_digest_273 rfl 0 rfl ?_
  refine jr_i2l C 275 rfl dX5_digest_274 ?_
  refine jr_ladd C 276 rfl dX5_digest_275 ?_
  refine jr_lstore_n (lv' := [(1, .long ((31 * ((t0 * t1) + ((r2 : Int32).toInt64))) + ((r4 : Int32).toInt64))), (3, .int r4), (0, .ref x0)]) C 277 rfl dX5_digest_276 rfl (Nat.le_of_ble_eq_true rfl) rfl ?_
  refine jr_ldc2 (v := 31) C 280 rfl dX5_digest_277 q1821 ?_
  refine jr_lload_n C 281 rfl dX5_digest_280 rfl 0 rfl ?_
  refine jr_lmul C 282 rfl dX5_digest_281 ?_
  refine jr_aload_n C 283 rfl dX5_digest_282 rfl 2 rfl ?_
  refine jr_iload_n C 284 rfl dX5_digest_283 rfl 1 rfl ?_
  refine jr_iconst (v := 0) C 285 rfl dX5_digest_284 (by decide) ?_
  obtain ⟨⟨V, hb⟩, h⟩ := h
  refine jr_callVi (r0 := (RX5, TX5, 53)) (As := [.int r4, .int 0]) (st := [.long (31 * ((31 * ((t0 * t1) + ((r2 : Int32).toInt64))) + ((r4 : Int32).toInt64)))]) C 288 rfl (m_X5_ofRow C.2.2.2.2.2.2.2.2.2.2.2.2.2.2.2 h) rfl hb rfl q1700 q1702 qs79 q102 q1703 (by decide) (by decide) ndV_X5_ofRow (Nat.le_of_ble_eq_true rfl) dX5_digest_285 (fun S5 r6 h => ?_)
  refine jr_i2l C 289 rfl dX5_digest_288 ?_
  refine jr_ladd C 290 rfl dX5_digest_289 ?_
  refine jr_lstore_n (lv' := [(1, .long ((31 * ((31 * ((t0 * t1) + ((r2 : Int32).toInt64))) + ((r4 : Int32).toInt64))) + ((r6 : Int32).toInt64))), (3, .int r4), (0, .ref x0)]) C 291 rfl dX5_digest_290 rfl (Nat.le_of_ble_eq_true rfl) rfl ?_
  refine jr_ldc2 (v := 31) C 294 rfl dX5_digest_291 q1821 ?_
  refine jr_lload_n C 295 rfl dX5_digest_294 rfl 0 rfl ?_
  refine jr_lmul C 296 rfl dX5_digest_295 ?_
  refine jr_aload_n C 297 rfl dX5_digest_296 rfl 2 rfl ?_
  obtain ⟨⟨V, hb⟩, h⟩ := h
  refine jr_callVi (r0 := (RX5, TX5, 53)) (As := []) (st := [.long (31 * ((31 * ((31 * ((t0 * t1) + ((r2 : Int32).toInt64))) + ((r4 : Int32).toInt64))) + ((r6 : Int32).toInt64)))]) C 300 rfl (m_X5_neverNow C.2.2.2.2.2.2.2.2.2.2.2.2.2.2.2 h) rfl hb rfl q1716 q1718 qs80 q102 q1719 (by decide) (by decide) ndV_X5_neverNow (Nat.le_of_ble_eq_true rfl) dX5_digest_297 (fun S7 r8 h => ?_)
  refine jr_i2l C 301 rfl dX5_digest_300 ?_
  refine jr_ladd C 302 rfl dX5_digest_301 ?_
  refine jr_lstore_n (lv' := [(1, .long ((31 * ((31 * ((31 * ((t0 * t1) + ((r2 : Int32).toInt64))) + ((r4 : Int32).toInt64))) + ((r6 : Int32).toInt64))) + ((r8 : Int32).toInt64))), (3, .int r4), (0, .ref x0)]) C 303 rfl dX5_digest_302 rfl (Nat.le_of_ble_eq_true rfl) rfl ?_
  refine jr_ldc2 (v := 31) C 306 rfl dX5_digest_303 q1821 ?_
  refine jr_lload_n C 307 rfl dX5_digest_306 rfl 0 rfl ?_
  refine jr_lmul C 308 rfl dX5_digest_307 ?_
  refine jr_aload_n C 309 rfl dX5_digest_308 rfl 2 rfl ?_
  obtain ⟨⟨V, hb⟩, h⟩ := h
  refine jr_callVi (r0 := (RX5, TX5, 53)) (As := []) (st := [.long (31 * ((31 * ((31 * ((31 * ((t0 * t1) + ((r2 : Int32).toInt64))) + ((r4 : Int32).toInt64))) + ((r6 : Int32).toInt64))) + ((r8 : Int32).toInt64)))]) C 312 rfl (m_X5_watersBy C.2.2.2.2.2.2.2.2.2.2.2.2.2.2.2 h) rfl hb rfl q1728 q1730 qs82 q102 q1731 (by decide) (by decide) ndV_X5_watersBy (Nat.le_of_ble_eq_true rfl) dX5_digest_309 (fun S9 r10 h => ?_)
  refine jr_i2l C 313 rfl dX5_digest_312 ?_
  refine jr_ladd C 314 rfl dX5_digest_313 ?_
  refine jr_lstore_n (lv' := [(1, .long ((31 * ((31 * ((31 * ((31 * ((t0 * t1) + ((r2 : Int32).toInt64))) + ((r4 : Int32).toInt64))) + ((r6 : Int32).toInt64))) + ((r8 : Int32).toInt64))) + ((r10 : Int32).toInt64))), (3, .int r4), (0, .ref x0)]) C 315 rfl dX5_digest_314 rfl (Nat.le_of_ble_eq_true rfl) rfl ?_
  refine jr_ldc2 (v := 31) C 318 rfl dX5_digest_315 q1821 ?_
  refine jr_lload_n C 319 rfl dX5_digest_318 rfl 0 rfl ?_
  exact jr_sub [2] rfl (wk_X5_digest_319 C  h)
theorem wk_X5_digest_187 {X : jX} {G : jG} {K : jS → Int64 → Prop} (C : jC (X, G, 5, jA X G tvl K) d_X5_digest cX5_digest "SamovarModel" (some .long) yX5_digest) {S : jS} {x0 : Nat} {x1 : Int64}  (h : wp_X5_digest_187 S x0 x1 K) : jJ (X, G, 5, jA X G tvl K) S [(0, .ref x0), (1, .long x1)] 187 [] := by
  unfold wp_X5_digest_187 at h
  refine jr_ldc2 (v := 31) C 190 rfl dX5_digest_187 q1821 ?_
  refine jr_lload_n C 191 rfl dX5_digest_190 rfl 1 rfl ?_
  refine jr_lmul C 192 rfl dX5_digest_191 ?_
  refine jr_aload_n C 193 rfl dX5_digest_192 rfl 0 rfl ?_
  obtain ⟨⟨V, hb⟩, h⟩ := h
  refine jr_callVi (r0 := (RX5, TX5, 53)) (As := []) (st := [.long (31 * x1)]) C 196 rfl (m_X5_firstOf C.2.2.2.2.2.2.2.2.2.2.2.2.2.2.2 h) rfl hb rfl q1628 q1630 qs68 q102 q1631 (by decide) (by decide) ndV_X5_firstOf (Nat.le_of_ble_eq_true rfl) dX5_digest_193 (fun S1 r2 h => ?_)
  refine jr_i2l C 197 rfl dX5_digest_196 ?_
  refine jr_ladd C 198 rfl dX5_digest_197 ?_
  refine jr_lstore_n (lv' := [(1, .long ((31 * x1) + ((r2 : Int32).toInt64))), (0, .ref x0)]) C 199 rfl dX5_digest_198 rfl (Nat.le_of_ble_eq_true rfl) rfl ?_
  refine jr_ldc2 (v := 31) C 202 rfl dX5_digest_199 q1821 ?_
  refine jr_lload_n C 203 rfl dX5_digest_202 rfl 0 rfl ?_
  refine jr_lmul C 204 rfl dX5_digest_203 ?_
  refine jr_aload_n C 205 rfl dX5_digest_204 rfl 1 rfl ?_
  refine jr_iconst (v := 0) C 206 rfl dX5_digest_205 (by decide) ?_
  obtain ⟨⟨V, hb⟩, h⟩ := h
  refine jr_callVi (r0 := (RX5, TX5, 53)) (As := [.int 0]) (st := [.long (31 * ((31 * x1) + ((r2 : Int32).toInt64)))]) C 209 rfl (m_X5_hottestOf C.2.2.2.2.2.2.2.2.2.2.2.2.2.2.2 h) rfl hb rfl q1636 q1638 qs69 q102 q1639 (by decide) (by decide) ndV_X5_hottestOf (Nat.le_of_ble_eq_true rfl) dX5_digest_206 (fun S3 r4 h => ?_)
  refine jr_i2l C 210 rfl dX5_digest_209 ?_
  refine jr_ladd C 211 rfl dX5_digest_210 ?_
  refine jr_lstore_n (lv' := [(1, .long ((31 * ((31 * x1) + ((r2 : Int32).toInt64))) + ((r4 : Int32).toInt64))), (0, .ref x0)]) C 212 rfl dX5_digest_211 rfl (Nat.le_of_ble_eq_true rfl) rfl ?_
  refine jr_ldc2 (v := 31) C 215 rfl dX5_digest_212 q1821 ?_
  refine jr_lload_n C 216 rfl dX5_digest_215 rfl 0 rfl ?_
  refine jr_lmul C 217 rfl dX5_digest_216 ?_
  refine jr_aload_n C 218 rfl dX5_digest_217 rfl 1 rfl ?_
  refine jr_iconst (v := 1) C 219 rfl dX5_digest_218 (by decide) ?_
  obtain ⟨⟨V, hb⟩, h⟩ := h
  refine jr_callVi (r0 := (RX5, TX5, 53)) (As := [.int 1]) (st := [.long (31 * ((31 * ((31 * x1) + ((r2 : Int32).toInt64))) + ((r4 : Int32).toInt64)))]) C 222 rfl (m_X5_hottestOf C.2.2.2.2.2.2.2.2.2.2.2.2.2.2.2 h) rfl hb rfl q1636 q1638 qs69 q102 q1639 (by decide) (by decide) ndV_X5_hottestOf (Nat.le_of_ble_eq_true rfl) dX5_digest_219 (fun S5 r6 h => ?_)
  refine jr_i2l C 223 rfl dX5_digest_222 ?_
  refine jr_ladd C 224 rfl dX5_digest_223 ?_
  refine jr_lstore_n (lv' := [(1, .long ((31 * ((31 * ((31 * x1) + ((r2 : Int32).toInt64))) + ((r4 : Int32).toInt64))) + ((r6 : Int32).toInt64))), (0, .ref x0)]) C 225 rfl dX5_digest_224 rfl (Nat.le_of_ble_eq_true rfl) rfl ?_
  refine jr_ldc2 (v := 31) C 228 rfl dX5_digest_225 q1821 ?_
  refine jr_lload_n C 229 rfl dX5_digest_228 rfl 0 rfl ?_
  refine jr_lmul C 230 rfl dX5_digest_229 ?_
  refine jr_aload_n C 231 rfl dX5_digest_230 rfl 1 rfl ?_
  obtain ⟨⟨V, hb⟩, h⟩ := h
  refine jr_callVi (r0 := (RX5, TX5, 53)) (As := []) (st := [.long (31 * ((31 * ((31 * ((31 * x1) + ((r2 : Int32).toInt64))) + ((r4 : Int32).toInt64))) + ((r6 : Int32).toInt64)))]) C 234 rfl (m_X5_thirstOf C.2.2.2.2.2.2.2.2.2.2.2.2.2.2.2 h) rfl hb rfl q1652 q1654 qs71 q102 q1655 (by decide) (by decide) ndV_X5_thirstOf (Nat.le_of_ble_eq_true rfl) dX5_digest_231 (fun S7 r8 h => ?_)
  refine jr_i2l C 235 rfl dX5_digest_234 ?_
  refine jr_ladd C 236 rfl dX5_digest_235 ?_
  refine jr_lstore_n (lv' := [(1, .long ((31 * ((31 * ((31 * ((31 * x1) + ((r2 : Int32).toInt64))) + ((r4 : Int32).toInt64))) + ((r6 : Int32).toInt64))) + ((r8 : Int32).toInt64))), (0, .ref x0)]) C 237 rfl dX5_digest_236 rfl (Nat.le_of_ble_eq_true rfl) rfl ?_
  refine jr_ldc2 (v := 31) C 240 rfl dX5_digest_237 q1821 ?_
  refine jr_lload_n C 241 rfl dX5_digest_240 rfl 0 rfl ?_
  refine jr_lmul C 242 rfl dX5_digest_241 ?_
  refine jr_aload_n C 243 rfl dX5_digest_242 rfl 1 rfl ?_
  refine jr_iconst (v := 0) C 244 rfl dX5_digest_243 (by decide) ?_
  obtain ⟨⟨V, hb⟩, h⟩ := h
  refine jr_callVi (r0 := (RX5, TX5, 53)) (As := [.int 0]) (st := [.long (31 * ((31 * ((31 * ((31 * ((31 * x1) + ((r2 : Int32).toInt64))) + ((r4 : Int32).toInt64))) + ((r6 : Int32).toInt64))) + ((r8 : Int32).toInt64)))]) C 247 rfl (m_X5_fillOf C.2.2.2.2.2.2.2.2.2.2.2.2.2.2.2 h) rfl hb rfl q1676 q1678 qs75 q102 q1679 (by decide) (by decide) ndV_X5_fillOf (Nat.le_of_ble_eq_true rfl) dX5_digest_244 (fun S9 r10 h => ?_)
  refine jr_i2l C 248 rfl dX5_digest_247 ?_
  refine jr_ladd C 249 rfl dX5_digest_248 ?_
  refine jr_lstore_n (lv' := [(1, .long ((31 * ((31 * ((31 * ((31 * ((31 * x1) + ((r2 : Int32).toInt64))) + ((r4 : Int32).toInt64))) + ((r6 : Int32).toInt64))) + ((r8 : Int32).toInt64))) + ((r10 : Int32).toInt64))), (0, .ref x0)]) C 250 rfl dX5_digest_249 rfl (Nat.le_of_ble_eq_true rfl) rfl ?_
  refine jr_ldc2 (v := 31) C 253 rfl dX5_digest_250 q1821 ?_
  refine jr_lload_n C 254 rfl dX5_digest_253 rfl 0 rfl ?_
  exact jr_sub [1] rfl (wk_X5_digest_254 C  h)
theorem wk_X5_digest_163 {X : jX} {G : jG} {K : jS → Int64 → Prop} (C : jC (X, G, 5, jA X G tvl K) d_X5_digest cX5_digest "SamovarModel" (some .long) yX5_digest) {S : jS} {x0 : Nat} {x1 : Int64} {x3 : Int32} {Kc163 : jS × Int64 × Int32 → Prop} (hc163 : ∀ z : jS × Int64 × Int32, Kc163 z → jJ (X, G, 5, jA X G tvl K) z.1 [(0, .ref x0), (1, .long z.2.1), (3, .int z.2.2)] 163 []) (h : wp_X5_digest_163 S x0 x1 x3 Kc163 K) : jJ (X, G, 5, jA X G tvl K) S [(0, .ref x0), (1, .long x1), (3, .int x3)] 163 [] := by
  unfold wp_X5_digest_163 at h
  refine jr_iload_n C 164 rfl dX5_digest_163 rfl 2 rfl ?_
  refine jr_iconst (v := 5) C 165 rfl dX5_digest_164 (by decide) ?_
  refine jr_icmp_ge C 187 168 rfl dX5_digest_165 (by decide) (fun c1 => ?_) (fun c1 => ?_)
  · have h := h.1 c1
    exact jr_sub [0, 1] rfl (wk_X5_digest_187 C  h)
  · have h := h.2 c1
    exact (wk_X5_digest_168 C hc163 h)
theorem wk_X5_digest_163_L {X : jX} {G : jG} {K : jS → Int64 → Prop} (C : jC (X, G, 5, jA X G tvl K) d_X5_digest cX5_digest "SamovarModel" (some .long) yX5_digest) {x0 : Nat}  : ∀ (n : Nat) (z : jS × Int64 × Int32), jlp n (wp_X5_digest_163_L x0 K) z → jJ (X, G, 5, jA X G tvl K) z.1 [(0, .ref x0), (1, .long z.2.1), (3, .int z.2.2)] 163 [] := by
  intro n
  induction n with
  | zero => intro z h; exact h.elim
  | succ n ih => intro z h; exact wk_X5_digest_163 C ih h
theorem wk_X5_digest_141 {X : jX} {G : jG} {K : jS → Int64 → Prop} (C : jC (X, G, 5, jA X G tvl K) d_X5_digest cX5_digest "SamovarModel" (some .long) yX5_digest) {S : jS} {t0 : Int32} {x0 : Nat} {x1 : Int64} {x3 : Int32} {Kc140 : jS × Int64 × Int32 → Prop} (hc140 : ∀ z : jS × Int64 × Int32, Kc140 z → jJ (X, G, 5, jA X G tvl K) z.1 [(0, .ref x0), (1, .long z.2.1), (3, .int z.2.2)] 140 []) (h : wp_X5_digest_141 S t0 x0 x1 x3 Kc140 K) : jJ (X, G, 5, jA X G tvl K) S [(0, .ref x0), (1, .long x1), (3, .int x3)] 141 [.int t0] := by
  unfold wp_X5_digest_141 at h
  refine jr_aload_n C 142 rfl dX5_digest_141 rfl 0 rfl ?_
  refine jr_geti C 145 rfl fo_8_6 q1283 dX5_digest_142 h (fun v1 h => ?_)
  refine jr_icmp_ge C 161 148 rfl dX5_digest_145 (by decide) (fun c4 => ?_) (fun c4 => ?_)
  · have h := h.1 c4
    refine jr_iconst (v := 0) C 162 rfl dX5_digest_161 (by decide) ?_
    refine jr_istore_n (lv' := [(3, .int 0), (0, .ref x0), (1, .long x1)]) C 163 rfl dX5_digest_162 rfl (Nat.le_of_ble_eq_true rfl) rfl ?_
    obtain ⟨n, h⟩ := h
    exact jr_sub [1, 2, 0] rfl (wk_X5_digest_163_L C  n _ h)
  · have h := h.2 c4
    refine jr_aload_n C 149 rfl dX5_digest_148 rfl 0 rfl ?_
    refine jr_lload_n C 150 rfl dX5_digest_149 rfl 1 rfl ?_
    refine jr_iload_n C 151 rfl dX5_digest_150 rfl 2 rfl ?_
    obtain ⟨⟨V, hb⟩, h⟩ := h
    refine jr_callVl (r0 := (RX5, TX5, 53)) (As := [.long x1, .int x3]) (st := []) C 154 rfl (m_X5_guestDigest C.2.2.2.2.2.2.2.2.2.2.2.2.2.2.2 h) rfl hb rfl q1827 q1829 qs91 q102 q1830 (by decide) (by decide) ndV_X5_guestDigest (Nat.le_of_ble_eq_true rfl) dX5_digest_151 (fun S2 r3 h => ?_)
    refine jr_lstore_n (lv' := [(1, .long r3), (0, .ref x0), (3, .int x3)]) C 155 rfl dX5_digest_154 rfl (Nat.le_of_ble_eq_true rfl) rfl ?_
    refine jr_iinc (v := (x3 + 1)) (lv' := [(3, .int (x3 + 1)), (1, .long r3), (0, .ref x0)]) C 158 rfl dX5_digest_155 2 rfl rfl (Nat.le_of_ble_eq_true rfl) rfl ?_
    refine jr_goto C 140 dX5_digest_158 (by decide) ?_
    exact jr_sub [2, 1, 0] rfl (hc140 _ h)
theorem wk_X5_digest_140 {X : jX} {G : jG} {K : jS → Int64 → Prop} (C : jC (X, G, 5, jA X G tvl K) d_X5_digest cX5_digest "SamovarModel" (some .long) yX5_digest) {S : jS} {x0 : Nat} {x1 : Int64} {x3 : Int32} {Kc140 : jS × Int64 × Int32 → Prop} (hc140 : ∀ z : jS × Int64 × Int32, Kc140 z → jJ (X, G, 5, jA X G tvl K) z.1 [(0, .ref x0), (1, .long z.2.1), (3, .int z.2.2)] 140 []) (h : wp_X5_digest_140 S x0 x1 x3 Kc140 K) : jJ (X, G, 5, jA X G tvl K) S [(0, .ref x0), (1, .long x1), (3, .int x3)] 140 [] := by
  unfold wp_X5_digest_140 at h
  refine jr_iload_n C 141 rfl dX5_digest_140 rfl 2 rfl ?_
  exact (wk_X5_digest_141 C hc140 h)
theorem wk_X5_digest_140_L {X : jX} {G : jG} {K : jS → Int64 → Prop} (C : jC (X, G, 5, jA X G tvl K) d_X5_digest cX5_digest "SamovarModel" (some .long) yX5_digest) {x0 : Nat}  : ∀ (n : Nat) (z : jS × Int64 × Int32), jlp n (wp_X5_digest_140_L x0 K) z → jJ (X, G, 5, jA X G tvl K) z.1 [(0, .ref x0), (1, .long z.2.1), (3, .int z.2.2)] 140 [] := by
  intro n
  induction n with
  | zero => intro z h; exact h.elim
  | succ n ih => intro z h; exact wk_X5_digest_140 C ih h
theorem wk_X5_digest_118 {X : jX} {G : jG} {K : jS → Int64 → Prop} (C : jC (X, G, 5, jA X G tvl K) d_X5_digest cX5_digest "SamovarModel" (some .long) yX5_digest) {S : jS} {t0 : Int32} {x0 : Nat} {x1 : Int64} {x3 : Int32} {Kc117 : jS × Int64 × Int32 → Prop} (hc117 : ∀ z : jS × Int64 × Int32, Kc117 z → jJ (X, G, 5, jA X G tvl K) z.1 [(0, .ref x0), (1, .long z.2.1), (3, .int z.2.2)] 117 []) (h : wp_X5_digest_118 S t0 x0 x1 x3 Kc117 K) : jJ (X, G, 5, jA X G tvl K) S [(0, .ref x0), (1, .long x1), (3, .int x3)] 118 [.int t0] := by
  unfold wp_X5_digest_118 at h
  refine jr_aload_n C 119 rfl dX5_digest_118 rfl 0 rfl ?_
  refine jr_geti C 122 rfl fo_8_2 q1279 dX5_digest_119 h (fun v1 h => ?_)
  refine jr_icmp_ge C 138 125 rfl dX5_digest_122 (by decide) (fun c4 => ?_) (fun c4 => ?_)
  · have h := h.1 c4
    refine jr_iconst (v := 0) C 139 rfl dX5_digest_138 (by decide) ?_
    refine jr_istore_n (lv' := [(3, .int 0), (0, .ref x0), (1, .long x1)]) C 140 rfl dX5_digest_139 rfl (Nat.le_of_ble_eq_true rfl) rfl ?_
    obtain ⟨n, h⟩ := h
    exact jr_sub [1, 2, 0] rfl (wk_X5_digest_140_L C  n _ h)
  · have h := h.2 c4
    refine jr_aload_n C 126 rfl dX5_digest_125 rfl 0 rfl ?_
    refine jr_lload_n C 127 rfl dX5_digest_126 rfl 1 rfl ?_
    refine jr_iload_n C 128 rfl dX5_digest_127 rfl 2 rfl ?_
    obtain ⟨⟨V, hb⟩, h⟩ := h
    refine jr_callVl (r0 := (RX5, TX5, 53)) (As := [.long x1, .int x3]) (st := []) C 131 rfl (m_X5_pieceDigest C.2.2.2.2.2.2.2.2.2.2.2.2.2.2.2 h) rfl hb rfl q1823 q1825 qs90 q102 q1826 (by decide) (by decide) ndV_X5_pieceDigest (Nat.le_of_ble_eq_true rfl) dX5_digest_128 (fun S2 r3 h => ?_)
    refine jr_lstore_n (lv' := [(1, .long r3), (0, .ref x0), (3, .int x3)]) C 132 rfl dX5_digest_131 rfl (Nat.le_of_ble_eq_true rfl) rfl ?_
    refine jr_iinc (v := (x3 + 1)) (lv' := [(3, .int (x3 + 1)), (1, .long r3), (0, .ref x0)]) C 135 rfl dX5_digest_132 2 rfl rfl (Nat.le_of_ble_eq_true rfl) rfl ?_
    refine jr_goto C 117 dX5_digest_135 (by decide) ?_
    exact jr_sub [2, 1, 0] rfl (hc117 _ h)
theorem wk_X5_digest_117 {X : jX} {G : jG} {K : jS → Int64 → Prop} (C : jC (X, G, 5, jA X G tvl K) d_X5_digest cX5_digest "SamovarModel" (some .long) yX5_digest) {S : jS} {x0 : Nat} {x1 : Int64} {x3 : Int32} {Kc117 : jS × Int64 × Int32 → Prop} (hc117 : ∀ z : jS × Int64 × Int32, Kc117 z → jJ (X, G, 5, jA X G tvl K) z.1 [(0, .ref x0), (1, .long z.2.1), (3, .int z.2.2)] 117 []) (h : wp_X5_digest_117 S x0 x1 x3 Kc117 K) : jJ (X, G, 5, jA X G tvl K) S [(0, .ref x0), (1, .long x1), (3, .int x3)] 117 [] := by
  unfold wp_X5_digest_117 at h
  refine jr_iload_n C 118 rfl dX5_digest_117 rfl 2 rfl ?_
  exact (wk_X5_digest_118 C hc117 h)
theorem wk_X5_digest_117_L {X : jX} {G : jG} {K : jS → Int64 → Prop} (C : jC (X, G, 5, jA X G tvl K) d_X5_digest cX5_digest "SamovarModel" (some .long) yX5_digest) {x0 : Nat}  : ∀ (n : Nat) (z : jS × Int64 × Int32), jlp n (wp_X5_digest_117_L x0 K) z → jJ (X, G, 5, jA X G tvl K) z.1 [(0, .ref x0), (1, .long z.2.1), (3, .int z.2.2)] 117 [] := by
  intro n
  induction n with
  | zero => intro z h; exact h.elim
  | succ n ih => intro z h; exact wk_X5_digest_117 C ih h
theorem wk_X5_digest_59 {X : jX} {G : jG} {K : jS → Int64 → Prop} (C : jC (X, G, 5, jA X G tvl K) d_X5_digest cX5_digest "SamovarModel" (some .long) yX5_digest) {S : jS} {x0 : Nat} {x1 : Int64} {x3 : Int32} {Kc59 : jS × Int64 × Int32 → Prop} (hc59 : ∀ z : jS × Int64 × Int32, Kc59 z → jJ (X, G, 5, jA X G tvl K) z.1 [(0, .ref x0), (1, .long z.2.1), (3, .int z.2.2)] 59 []) (h : wp_X5_digest_59 S x0 x1 x3 Kc59 K) : jJ (X, G, 5, jA X G tvl K) S [(0, .ref x0), (1, .long x1), (3, .int x3)] 59 [] := by
  unfold wp_X5_digest_59 at h
  refine jr_iload_n C 60 rfl dX5_digest_59 rfl 2 rfl ?_
  refine jr_bipush (v := 24) C 62 rfl dX5_digest_60 (by decide) ?_
  refine jr_icmp_ge C 115 65 rfl dX5_digest_62 (by decide) (fun c1 => ?_) (fun c1 => ?_)
  · have h := h.1 c1
    refine jr_iconst (v := 0) C 116 rfl dX5_digest_115 (by decide) ?_
    refine jr_istore_n (lv' := [(3, .int 0), (0, .ref x0), (1, .long x1)]) C 117 rfl dX5_digest_116 rfl (Nat.le_of_ble_eq_true rfl) rfl ?_
    obtain ⟨n, h⟩ := h
    exact jr_sub [1, 2, 0] rfl (wk_X5_digest_117_L C  n _ h)
  · have h := h.2 c1
    refine jr_iconst (v := 0) C 66 rfl dX5_digest_65 (by decide) ?_
    refine jr_istore (lv' := [(4, .int 0), (0, .ref x0), (1, .long x1), (3, .int x3)]) C 68 rfl dX5_digest_66 (Nat.le_of_ble_eq_true rfl) rfl ?_
    obtain ⟨n, h⟩ := h
    exact jr_sub [1, 2, 3, 0] rfl (wk_X5_digest_68_L C hc59 n _ h)
theorem wk_X5_digest_59_L {X : jX} {G : jG} {K : jS → Int64 → Prop} (C : jC (X, G, 5, jA X G tvl K) d_X5_digest cX5_digest "SamovarModel" (some .long) yX5_digest) {x0 : Nat}  : ∀ (n : Nat) (z : jS × Int64 × Int32), jlp n (wp_X5_digest_59_L x0 K) z → jJ (X, G, 5, jA X G tvl K) z.1 [(0, .ref x0), (1, .long z.2.1), (3, .int z.2.2)] 59 [] := by
  intro n
  induction n with
  | zero => intro z h; exact h.elim
  | succ n ih => intro z h; exact wk_X5_digest_59 C ih h
theorem wk_X5_digest_31 {X : jX} {G : jG} {K : jS → Int64 → Prop} (C : jC (X, G, 5, jA X G tvl K) d_X5_digest cX5_digest "SamovarModel" (some .long) yX5_digest) {S : jS} {x0 : Nat} {x1 : Int64}  (h : wp_X5_digest_31 S x0 x1 K) : jJ (X, G, 5, jA X G tvl K) S [(0, .ref x0), (1, .long x1)] 31 [] := by
  unfold wp_X5_digest_31 at h
  refine jr_ldc2 (v := 31) C 34 rfl dX5_digest_31 q1821 ?_
  refine jr_lload_n C 35 rfl dX5_digest_34 rfl 1 rfl ?_
  refine jr_lmul C 36 rfl dX5_digest_35 ?_
  refine jr_aload_n C 37 rfl dX5_digest_36 rfl 0 rfl ?_
  refine jr_iconst (v := 0) C 38 rfl dX5_digest_37 (by decide) ?_
  obtain ⟨⟨V, hb⟩, h⟩ := h
  refine jr_callVi (r0 := (RX5, TX5, 53)) (As := [.int 0]) (st := [.long (31 * x1)]) C 41 rfl (m_X5_faultOf C.2.2.2.2.2.2.2.2.2.2.2.2.2.2.2 h) rfl hb rfl q1460 q1462 qs41 q102 q1463 (by decide) (by decide) ndV_X5_faultOf (Nat.le_of_ble_eq_true rfl) dX5_digest_38 (fun S1 r2 h => ?_)
  refine jr_i2l C 42 rfl dX5_digest_41 ?_
  refine jr_ladd C 43 rfl dX5_digest_42 ?_
  refine jr_lstore_n (lv' := [(1, .long ((31 * x1) + ((r2 : Int32).toInt64))), (0, .ref x0)]) C 44 rfl dX5_digest_43 rfl (Nat.le_of_ble_eq_true rfl) rfl ?_
  refine jr_ldc2 (v := 31) C 47 rfl dX5_digest_44 q1821 ?_
  refine jr_lload_n C 48 rfl dX5_digest_47 rfl 0 rfl ?_
  refine jr_lmul C 49 rfl dX5_digest_48 ?_
  refine jr_aload_n C 50 rfl dX5_digest_49 rfl 1 rfl ?_
  refine jr_iconst (v := 1) C 51 rfl dX5_digest_50 (by decide) ?_
  obtain ⟨⟨V, hb⟩, h⟩ := h
  refine jr_callVi (r0 := (RX5, TX5, 53)) (As := [.int 1]) (st := [.long (31 * ((31 * x1) + ((r2 : Int32).toInt64)))]) C 54 rfl (m_X5_faultOf C.2.2.2.2.2.2.2.2.2.2.2.2.2.2.2 h) rfl hb rfl q1460 q1462 qs41 q102 q1463 (by decide) (by decide) ndV_X5_faultOf (Nat.le_of_ble_eq_true rfl) dX5_digest_51 (fun S3 r4 h => ?_)
  refine jr_i2l C 55 rfl dX5_digest_54 ?_
  refine jr_ladd C 56 rfl dX5_digest_55 ?_
  refine jr_lstore_n (lv' := [(1, .long ((31 * ((31 * x1) + ((r2 : Int32).toInt64))) + ((r4 : Int32).toInt64))), (0, .ref x0)]) C 57 rfl dX5_digest_56 rfl (Nat.le_of_ble_eq_true rfl) rfl ?_
  refine jr_iconst (v := 0) C 58 rfl dX5_digest_57 (by decide) ?_
  refine jr_istore_n (lv' := [(3, .int 0), (1, .long ((31 * ((31 * x1) + ((r2 : Int32).toInt64))) + ((r4 : Int32).toInt64))), (0, .ref x0)]) C 59 rfl dX5_digest_58 rfl (Nat.le_of_ble_eq_true rfl) rfl ?_
  obtain ⟨n, h⟩ := h
  exact jr_sub [2, 1, 0] rfl (wk_X5_digest_59_L C  n _ h)
theorem wk_X5_digest_6 {X : jX} {G : jG} {K : jS → Int64 → Prop} (C : jC (X, G, 5, jA X G tvl K) d_X5_digest cX5_digest "SamovarModel" (some .long) yX5_digest) {S : jS} {x0 : Nat} {x1 : Int64} {x3 : Int32} {Kc6 : jS × Int64 × Int32 → Prop} (hc6 : ∀ z : jS × Int64 × Int32, Kc6 z → jJ (X, G, 5, jA X G tvl K) z.1 [(0, .ref x0), (1, .long z.2.1), (3, .int z.2.2)] 6 []) (h : wp_X5_digest_6 S x0 x1 x3 Kc6 K) : jJ (X, G, 5, jA X G tvl K) S [(0, .ref x0), (1, .long x1), (3, .int x3)] 6 [] := by
  unfold wp_X5_digest_6 at h
  refine jr_iload_n C 7 rfl dX5_digest_6 rfl 2 rfl ?_
  refine jr_bipush (v := 8) C 9 rfl dX5_digest_7 (by decide) ?_
  refine jr_icmp_ge C 31 12 rfl dX5_digest_9 (by decide) (fun c1 => ?_) (fun c1 => ?_)
  · have h := h.1 c1
    exact jr_sub [0, 1] rfl (wk_X5_digest_31 C  h)
  · have h := h.2 c1
    exact (wk_X5_digest_12 C hc6 h)
theorem wk_X5_digest_6_L {X : jX} {G : jG} {K : jS → Int64 → Prop} (C : jC (X, G, 5, jA X G tvl K) d_X5_digest cX5_digest "SamovarModel" (some .long) yX5_digest) {x0 : Nat}  : ∀ (n : Nat) (z : jS × Int64 × Int32), jlp n (wp_X5_digest_6_L x0 K) z → jJ (X, G, 5, jA X G tvl K) z.1 [(0, .ref x0), (1, .long z.2.1), (3, .int z.2.2)] 6 [] := by
  intro n
  induction n with
  | zero => intro z h; exact h.elim
  | succ n ih => intro z h; exact wk_X5_digest_6 C ih h
theorem wk_X5_digest_0 {X : jX} {G : jG} {K : jS → Int64 → Prop} (C : jC (X, G, 5, jA X G tvl K) d_X5_digest cX5_digest "SamovarModel" (some .long) yX5_digest) {S : jS} {x0 : Nat}  (h : wp_X5_digest S x0 K) : jJ (X, G, 5, jA X G tvl K) S [(0, .ref x0)] 0 [] := by
  unfold wp_X5_digest at h
  refine jr_ldc2 (v := 17) C 3 rfl dX5_digest_0 q1820 ?_
  refine jr_lstore_n (lv' := [(1, .long 17), (0, .ref x0)]) C 4 rfl dX5_digest_3 rfl (Nat.le_of_ble_eq_true rfl) rfl ?_
  refine jr_iconst (v := 0) C 5 rfl dX5_digest_4 (by decide) ?_
  refine jr_istore_n (lv' := [(3, .int 0), (1, .long 17), (0, .ref x0)]) C 6 rfl dX5_digest_5 rfl (Nat.le_of_ble_eq_true rfl) rfl ?_
  obtain ⟨n, h⟩ := h
  exact jr_sub [2, 1, 0] rfl (wk_X5_digest_6_L C  n _ h)
theorem m_X5_digest {l : Launch} (hl : l.stackTraces = false) {G : jG} {K : jS → Int64 → Prop} {S : jS} {x0 : Nat} (h : wp_X5_digest S x0 K) : jMet l G d_X5_digest yX5_digest (ws_ yX5_digest cX5_digest 5 (some .long)) [.ref x0] S tvl K :=
  jMet.of hl rfl (by decide) (Nat.le_of_ble_eq_true rfl) (fun X C => jr_sub [0] rfl (wk_X5_digest_0 C h))
theorem wk_X5_evenings_29 {X : jX} {G : jG} {K : jS → Int32 → Prop} (C : jC (X, G, 4, jA X G tvi K) d_X5_evenings cX5_evenings "SamovarModel" (some .int) yX5_evenings) {S : jS} {t0 : Int32}  (h : wp_X5_evenings_29 S t0 K) : jJ (X, G, 4, jA X G tvi K) S [] 29 [.int t0] := by
  unfold wp_X5_evenings_29 at h
  exact jr_ireturn C dX5_evenings_29 h
theorem wk_X5_evenings_27 {X : jX} {G : jG} {K : jS → Int32 → Prop} (C : jC (X, G, 4, jA X G tvi K) d_X5_evenings cX5_evenings "SamovarModel" (some .int) yX5_evenings) {S : jS}   (h : wp_X5_evenings_27 S K) : jJ (X, G, 4, jA X G tvi K) S [] 27 [] := by
  unfold wp_X5_evenings_27 at h
  refine jr_bipush (v := (-2)) C 29 rfl dX5_evenings_27 (by decide) ?_
  exact (wk_X5_evenings_29 C  h)
theorem wk_X5_evenings_0 {X : jX} {G : jG} {K : jS → Int32 → Prop} (C : jC (X, G, 4, jA X G tvi K) d_X5_evenings cX5_evenings "SamovarModel" (some .int) yX5_evenings) {S : jS} {x0 : Nat} {x1 : Int32} {x2 : Int32} {x3 : Int32}  (h : wp_X5_evenings S x0 x1 x2 x3 K) : jJ (X, G, 4, jA X G tvi K) S [(0, .ref x0), (1, .int x1), (2, .int x2), (3, .int x3)] 0 [] := by
  unfold wp_X5_evenings at h
  refine jr_iload_n C 1 rfl dX5_evenings_0 rfl 2 rfl ?_
  refine jr_iconst (v := 0) C 2 rfl dX5_evenings_1 (by decide) ?_
  refine jr_bipush (v := 8) C 4 rfl dX5_evenings_2 (by decide) ?_
  refine jr_callSi (As := [.int x2, .int 0, .int 8]) (st := []) C 7 rfl (m_X5_in C.2.2.2.2.2.2.2.2.2.2.2.2.2.2.2 h) rfl q1445 q1446 q102 q1447 (by decide) (by decide) nd_X5_in (Nat.le_of_ble_eq_true rfl) dX5_evenings_4 (fun S1 r2 h => ?_)
  refine jr_if_eq C 27 10 rfl dX5_evenings_7 (by decide) (fun c8 => ?_) (fun c8 => ?_)
  · have h := h.1 c8
    exact jr_sub [] rfl (wk_X5_evenings_27 C  h)
  · have h := h.2 c8
    refine jr_iload_n C 11 rfl dX5_evenings_10 rfl 3 rfl ?_
    refine jr_callSi (As := [.int x3]) (st := []) C 14 rfl (m_X5_isTwo C.2.2.2.2.2.2.2.2.2.2.2.2.2.2.2 h) rfl q1442 q1443 q102 q1444 (by decide) (by decide) nd_X5_isTwo (Nat.le_of_ble_eq_true rfl) dX5_evenings_11 (fun S3 r4 h => ?_)
    refine jr_if_eq C 27 17 rfl dX5_evenings_14 (by decide) (fun c7 => ?_) (fun c7 => ?_)
    · have h := h.1 c7
      exact jr_sub [] rfl (wk_X5_evenings_27 C  h)
    · have h := h.2 c7
      refine jr_aload_n C 18 rfl dX5_evenings_17 rfl 0 rfl ?_
      refine jr_iload_n C 19 rfl dX5_evenings_18 rfl 1 rfl ?_
      refine jr_iload_n C 20 rfl dX5_evenings_19 rfl 2 rfl ?_
      refine jr_iload_n C 21 rfl dX5_evenings_20 rfl 3 rfl ?_
      obtain ⟨⟨V, hb⟩, h⟩ := h
      refine jr_callVi (r0 := (RX5, TX5, 53)) (As := [.int x1, .int x2, .int x3]) (st := []) C 24 rfl (m_X5_eveningsOf C.2.2.2.2.2.2.2.2.2.2.2.2.2.2.2 h) rfl hb rfl q1770 q1772 qs86 q102 q1773 (by decide) (by decide) ndV_X5_eveningsOf (Nat.le_of_ble_eq_true rfl) dX5_evenings_21 (fun S5 r6 h => ?_)
      refine jr_goto C 29 dX5_evenings_24 (by decide) ?_
      exact jr_sub [] rfl (wk_X5_evenings_29 C  h)
theorem m_X5_evenings {l : Launch} (hl : l.stackTraces = false) {G : jG} {K : jS → Int32 → Prop} {S : jS} {x0 : Nat} {x1 : Int32} {x2 : Int32} {x3 : Int32} (h : wp_X5_evenings S x0 x1 x2 x3 K) : jMet l G d_X5_evenings yX5_evenings (ws_ yX5_evenings cX5_evenings 4 (some .int)) [.ref x0, .int x1, .int x2, .int x3] S tvi K :=
  jMet.of hl rfl (by decide) (Nat.le_of_ble_eq_true rfl) (fun X C => jr_sub [0, 1, 2, 3] rfl (wk_X5_evenings_0 C h))
theorem wk_X5_isThree_0 {X : jX} {G : jG} {K : jS → Int32 → Prop} (C : jC (X, G, 1, jA X G tvi K) d_X5_isThree cX5_isThree "SamovarModel" (some .boolean) yX5_isThree) {S : jS} {x0 : Int32}  (h : wp_X5_isThree S x0 K) : jJ (X, G, 1, jA X G tvi K) S [(0, .int x0)] 0 [] := by
  unfold wp_X5_isThree at h
  refine jr_iload_n C 1 rfl dX5_isThree_0 rfl 0 rfl ?_
  refine jr_iconst (v := 0) C 2 rfl dX5_isThree_1 (by decide) ?_
  refine jr_iconst (v := 2) C 3 rfl dX5_isThree_2 (by decide) ?_
  refine jr_callSi (As := [.int x0, .int 0, .int 2]) (st := []) C 6 rfl (m_X5_in C.2.2.2.2.2.2.2.2.2.2.2.2.2.2.2 h) rfl q1445 q1446 q102 q1447 (by decide) (by decide) nd_X5_in (Nat.le_of_ble_eq_true rfl) dX5_isThree_3 (fun S1 r2 h => ?_)
  exact jr_zreturn C dX5_isThree_6 h
theorem m_X5_isThree {l : Launch} (hl : l.stackTraces = false) {G : jG} {K : jS → Int32 → Prop} {S : jS} {x0 : Int32} (h : wp_X5_isThree S x0 K) : jMet l G d_X5_isThree yX5_isThree (ws_ yX5_isThree cX5_isThree 1 (some .boolean)) [.int x0] S tvi K :=
  jMet.of hl rfl (by decide) (Nat.le_of_ble_eq_true rfl) (fun X C => jr_sub [0] rfl (wk_X5_isThree_0 C h))
theorem wk_X5_event_24 {X : jX} {G : jG} {K : jS → Int32 → Prop} (C : jC (X, G, 4, jA X G tvi K) d_X5_event cX5_event "SamovarModel" (some .int) yX5_event) {S : jS}   (h : wp_X5_event_24 S K) : jJ (X, G, 4, jA X G tvi K) S [] 24 [] := by
  unfold wp_X5_event_24 at h
  refine jr_bipush (v := (-2)) C 26 rfl dX5_event_24 (by decide) ?_
  exact jr_ireturn C dX5_event_26 h
theorem wk_X5_event_0 {X : jX} {G : jG} {K : jS → Int32 → Prop} (C : jC (X, G, 4, jA X G tvi K) d_X5_event cX5_event "SamovarModel" (some .int) yX5_event) {S : jS} {x0 : Nat} {x1 : Int32} {x2 : Int32} {x3 : Int32}  (h : wp_X5_event S x0 x1 x2 x3 K) : jJ (X, G, 4, jA X G tvi K) S [(0, .ref x0), (1, .int x1), (2, .int x2), (3, .int x3)] 0 [] := by
  unfold wp_X5_event at h
  refine jr_iload_n C 1 rfl dX5_event_0 rfl 1 rfl ?_
  refine jr_callSi (As := [.int x1]) (st := []) C 4 rfl (m_X5_isThree C.2.2.2.2.2.2.2.2.2.2.2.2.2.2.2 h) rfl q1491 q1492 q102 q1493 (by decide) (by decide) nd_X5_isThree (Nat.le_of_ble_eq_true rfl) dX5_event_1 (fun S1 r2 h => ?_)
  refine jr_if_eq C 24 7 rfl dX5_event_4 (by decide) (fun c23 => ?_) (fun c23 => ?_)
  · have h := h.1 c23
    exact jr_sub [] rfl (wk_X5_event_24 C  h)
  · have h := h.2 c23
    refine jr_iload_n C 8 rfl dX5_event_7 rfl 2 rfl ?_
    refine jr_callSi (As := [.int x2]) (st := []) C 11 rfl (m_X5_isMinute C.2.2.2.2.2.2.2.2.2.2.2.2.2.2.2 h) rfl q1476 q1477 q102 q1478 (by decide) (by decide) nd_X5_isMinute (Nat.le_of_ble_eq_true rfl) dX5_event_8 (fun S3 r4 h => ?_)
    refine jr_if_eq C 24 14 rfl dX5_event_11 (by decide) (fun c22 => ?_) (fun c22 => ?_)
    · have h := h.1 c22
      exact jr_sub [] rfl (wk_X5_event_24 C  h)
    · have h := h.2 c22
      refine jr_iload_n C 15 rfl dX5_event_14 rfl 3 rfl ?_
      refine jr_iconst (v := 0) C 16 rfl dX5_event_15 (by decide) ?_
      refine jr_bipush (v := 9) C 18 rfl dX5_event_16 (by decide) ?_
      refine jr_callSi (As := [.int x3, .int 0, .int 9]) (st := []) C 21 rfl (m_X5_in C.2.2.2.2.2.2.2.2.2.2.2.2.2.2.2 h) rfl q1445 q1446 q102 q1447 (by decide) (by decide) nd_X5_in (Nat.le_of_ble_eq_true rfl) dX5_event_18 (fun S5 r6 h => ?_)
      refine jr_if_ne C 27 24 rfl dX5_event_21 (by decide) (fun c21 => ?_) (fun c21 => ?_)
      · have h := h.1 c21
        exact jr_sub [] rfl (wk_X5_event_24 C  h)
      · have h := h.2 c21
        refine jr_aload_n C 28 rfl dX5_event_27 rfl 0 rfl ?_
        refine jr_geti C 31 rfl fo_8_12 q1289 dX5_event_28 h (fun v7 h => ?_)
        refine jr_bipush (v := 8) C 33 rfl dX5_event_31 (by decide) ?_
        refine jr_icmp_ne C 39 36 rfl dX5_event_33 (by decide) (fun c20 => ?_) (fun c20 => ?_)
        · have h := h.1 c20
          refine jr_bipush (v := (-4)) C 38 rfl dX5_event_36 (by decide) ?_
          exact jr_ireturn C dX5_event_38 h
        · have h := h.2 c20
          refine jr_aload_n C 40 rfl dX5_event_39 rfl 0 rfl ?_
          refine jr_getr C 43 rfl fo_8_13 q1290 dX5_event_40 h (fun v8 h => ?_)
          refine jr_aload_n C 44 rfl dX5_event_43 rfl 0 rfl ?_
          refine jr_geti C 47 rfl fo_8_12 q1289 dX5_event_44 h (fun v9 h => ?_)
          refine jr_iload_n C 48 rfl dX5_event_47 rfl 1 rfl ?_
          refine jr_iast C 49 rfl dX5_event_48 h (fun S10 h => ?_)
          refine jr_aload_n C 50 rfl dX5_event_49 rfl 0 rfl ?_
          refine jr_getr C 53 rfl fo_8_14 q1291 dX5_event_50 h (fun v11 h => ?_)
          refine jr_aload_n C 54 rfl dX5_event_53 rfl 0 rfl ?_
          refine jr_geti C 57 rfl fo_8_12 q1289 dX5_event_54 h (fun v12 h => ?_)
          refine jr_iload_n C 58 rfl dX5_event_57 rfl 2 rfl ?_
          refine jr_iast C 59 rfl dX5_event_58 h (fun S13 h => ?_)
          refine jr_aload_n C 60 rfl dX5_event_59 rfl 0 rfl ?_
          refine jr_getr C 63 rfl fo_8_15 q1292 dX5_event_60 h (fun v14 h => ?_)
          refine jr_aload_n C 64 rfl dX5_event_63 rfl 0 rfl ?_
          refine jr_geti C 67 rfl fo_8_12 q1289 dX5_event_64 h (fun v15 h => ?_)
          refine jr_iload_n C 68 rfl dX5_event_67 rfl 3 rfl ?_
          refine jr_iast C 69 rfl dX5_event_68 h (fun S16 h => ?_)
          refine jr_aload_n C 70 rfl dX5_event_69 rfl 0 rfl ?_
          refine jr_dup C 71 rfl dX5_event_70 rfl ?_
          refine jr_geti C 74 rfl fo_8_12 q1289 dX5_event_71 h (fun v17 h => ?_)
          refine jr_iconst (v := 1) C 75 rfl dX5_event_74 (by decide) ?_
          refine jr_iadd C 76 rfl dX5_event_75 ?_
          refine jr_putv C 79 rfl fo_8_12 (by decide) q1289 dX5_event_76 rfl rfl h (fun S18 h => ?_)
          refine jr_aload_n C 80 rfl dX5_event_79 rfl 0 rfl ?_
          refine jr_geti C 83 rfl fo_8_12 q1289 dX5_event_80 h (fun v19 h => ?_)
          exact jr_ireturn C dX5_event_83 h
theorem m_X5_event {l : Launch} (hl : l.stackTraces = false) {G : jG} {K : jS → Int32 → Prop} {S : jS} {x0 : Nat} {x1 : Int32} {x2 : Int32} {x3 : Int32} (h : wp_X5_event S x0 x1 x2 x3 K) : jMet l G d_X5_event yX5_event (ws_ yX5_event cX5_event 4 (some .int)) [.ref x0, .int x1, .int x2, .int x3] S tvi K :=
  jMet.of hl rfl (by decide) (Nat.le_of_ble_eq_true rfl) (fun X C => jr_sub [0, 1, 2, 3] rfl (wk_X5_event_0 C h))
theorem wk_X5_fault_17 {X : jX} {G : jG} {K : jS → Int32 → Prop} (C : jC (X, G, 2, jA X G tvi K) d_X5_fault cX5_fault "SamovarModel" (some .int) yX5_fault) {S : jS} {t0 : Int32}  (h : wp_X5_fault_17 S t0 K) : jJ (X, G, 2, jA X G tvi K) S [] 17 [.int t0] := by
  unfold wp_X5_fault_17 at h
  exact jr_ireturn C dX5_fault_17 h
theorem wk_X5_fault_0 {X : jX} {G : jG} {K : jS → Int32 → Prop} (C : jC (X, G, 2, jA X G tvi K) d_X5_fault cX5_fault "SamovarModel" (some .int) yX5_fault) {S : jS} {x0 : Nat} {x1 : Int32}  (h : wp_X5_fault S x0 x1 K) : jJ (X, G, 2, jA X G tvi K) S [(0, .ref x0), (1, .int x1)] 0 [] := by
  unfold wp_X5_fault at h
  refine jr_iload_n C 1 rfl dX5_fault_0 rfl 1 rfl ?_
  refine jr_callSi (As := [.int x1]) (st := []) C 4 rfl (m_X5_isTwo C.2.2.2.2.2.2.2.2.2.2.2.2.2.2.2 h) rfl q1442 q1443 q102 q1444 (by decide) (by decide) nd_X5_isTwo (Nat.le_of_ble_eq_true rfl) dX5_fault_1 (fun S1 r2 h => ?_)
  refine jr_if_eq C 15 7 rfl dX5_fault_4 (by decide) (fun c5 => ?_) (fun c5 => ?_)
  · have h := h.1 c5
    refine jr_bipush (v := (-2)) C 17 rfl dX5_fault_15 (by decide) ?_
    exact jr_sub [] rfl (wk_X5_fault_17 C  h)
  · have h := h.2 c5
    refine jr_aload_n C 8 rfl dX5_fault_7 rfl 0 rfl ?_
    refine jr_iload_n C 9 rfl dX5_fault_8 rfl 1 rfl ?_
    obtain ⟨⟨V, hb⟩, h⟩ := h
    refine jr_callVi (r0 := (RX5, TX5, 53)) (As := [.int x1]) (st := []) C 12 rfl (m_X5_faultOf C.2.2.2.2.2.2.2.2.2.2.2.2.2.2.2 h) rfl hb rfl q1460 q1462 qs41 q102 q1463 (by decide) (by decide) ndV_X5_faultOf (Nat.le_of_ble_eq_true rfl) dX5_fault_9 (fun S3 r4 h => ?_)
    refine jr_goto C 17 dX5_fault_12 (by decide) ?_
    exact jr_sub [] rfl (wk_X5_fault_17 C  h)
theorem m_X5_fault {l : Launch} (hl : l.stackTraces = false) {G : jG} {K : jS → Int32 → Prop} {S : jS} {x0 : Nat} {x1 : Int32} (h : wp_X5_fault S x0 x1 K) : jMet l G d_X5_fault yX5_fault (ws_ yX5_fault cX5_fault 2 (some .int)) [.ref x0, .int x1] S tvi K :=
  jMet.of hl rfl (by decide) (Nat.le_of_ble_eq_true rfl) (fun X C => jr_sub [0, 1] rfl (wk_X5_fault_0 C h))
theorem wk_X5_fill_17 {X : jX} {G : jG} {K : jS → Int32 → Prop} (C : jC (X, G, 2, jA X G tvi K) d_X5_fill cX5_fill "SamovarModel" (some .int) yX5_fill) {S : jS} {t0 : Int32}  (h : wp_X5_fill_17 S t0 K) : jJ (X, G, 2, jA X G tvi K) S [] 17 [.int t0] := by
  unfold wp_X5_fill_17 at h
  exact jr_ireturn C dX5_fill_17 h
theorem wk_X5_fill_0 {X : jX} {G : jG} {K : jS → Int32 → Prop} (C : jC (X, G, 2, jA X G tvi K) d_X5_fill cX5_fill "SamovarModel" (some .int) yX5_fill) {S : jS} {x0 : Nat} {x1 : Int32}  (h : wp_X5_fill S x0 x1 K) : jJ (X, G, 2, jA X G tvi K) S [(0, .ref x0), (1, .int x1)] 0 [] := by
  unfold wp_X5_fill at h
  refine jr_iload_n C 1 rfl dX5_fill_0 rfl 1 rfl ?_
  refine jr_callSi (As := [.int x1]) (st := []) C 4 rfl (m_X5_isTwo C.2.2.2.2.2.2.2.2.2.2.2.2.2.2.2 h) rfl q1442 q1443 q102 q1444 (by decide) (by decide) nd_X5_isTwo (Nat.le_of_ble_eq_true rfl) dX5_fill_1 (fun S1 r2 h => ?_)
  refine jr_if_eq C 15 7 rfl dX5_fill_4 (by decide) (fun c5 => ?_) (fun c5 => ?_)
  · have h := h.1 c5
    refine jr_bipush (v := (-2)) C 17 rfl dX5_fill_15 (by decide) ?_
    exact jr_sub [] rfl (wk_X5_fill_17 C  h)
  · have h := h.2 c5
    refine jr_aload_n C 8 rfl dX5_fill_7 rfl 0 rfl ?_
    refine jr_iload_n C 9 rfl dX5_fill_8 rfl 1 rfl ?_
    obtain ⟨⟨V, hb⟩, h⟩ := h
    refine jr_callVi (r0 := (RX5, TX5, 53)) (As := [.int x1]) (st := []) C 12 rfl (m_X5_fillOf C.2.2.2.2.2.2.2.2.2.2.2.2.2.2.2 h) rfl hb rfl q1676 q1678 qs75 q102 q1679 (by decide) (by decide) ndV_X5_fillOf (Nat.le_of_ble_eq_true rfl) dX5_fill_9 (fun S3 r4 h => ?_)
    refine jr_goto C 17 dX5_fill_12 (by decide) ?_
    exact jr_sub [] rfl (wk_X5_fill_17 C  h)
theorem m_X5_fill {l : Launch} (hl : l.stackTraces = false) {G : jG} {K : jS → Int32 → Prop} {S : jS} {x0 : Nat} {x1 : Int32} (h : wp_X5_fill S x0 x1 K) : jMet l G d_X5_fill yX5_fill (ws_ yX5_fill cX5_fill 2 (some .int)) [.ref x0, .int x1] S tvi K :=
  jMet.of hl rfl (by decide) (Nat.le_of_ble_eq_true rfl) (fun X C => jr_sub [0, 1] rfl (wk_X5_fill_0 C h))
theorem wk_X5_first_0 {X : jX} {G : jG} {K : jS → Int32 → Prop} (C : jC (X, G, 1, jA X G tvi K) d_X5_first cX5_first "SamovarModel" (some .int) yX5_first) {S : jS} {x0 : Nat}  (h : wp_X5_first S x0 K) : jJ (X, G, 1, jA X G tvi K) S [(0, .ref x0)] 0 [] := by
  unfold wp_X5_first at h
  refine jr_aload_n C 1 rfl dX5_first_0 rfl 0 rfl ?_
  obtain ⟨⟨V, hb⟩, h⟩ := h
  refine jr_callVi (r0 := (RX5, TX5, 53)) (As := []) (st := []) C 4 rfl (m_X5_firstOf C.2.2.2.2.2.2.2.2.2.2.2.2.2.2.2 h) rfl hb rfl q1628 q1630 qs68 q102 q1631 (by decide) (by decide) ndV_X5_firstOf (Nat.le_of_ble_eq_true rfl) dX5_first_1 (fun S1 r2 h => ?_)
  exact jr_ireturn C dX5_first_4 h
theorem m_X5_first {l : Launch} (hl : l.stackTraces = false) {G : jG} {K : jS → Int32 → Prop} {S : jS} {x0 : Nat} (h : wp_X5_first S x0 K) : jMet l G d_X5_first yX5_first (ws_ yX5_first cX5_first 1 (some .int)) [.ref x0] S tvi K :=
  jMet.of hl rfl (by decide) (Nat.le_of_ble_eq_true rfl) (fun X C => jr_sub [0] rfl (wk_X5_first_0 C h))
theorem wk_X5_forget_0 {X : jX} {G : jG} {K : jS → Int32 → Prop} (C : jC (X, G, 2, jA X G tvi K) d_X5_forget cX5_forget "SamovarModel" (some .int) yX5_forget) {S : jS} {x0 : Nat}  (h : wp_X5_forget S x0 K) : jJ (X, G, 2, jA X G tvi K) S [(0, .ref x0)] 0 [] := by
  unfold wp_X5_forget at h
  refine jr_aload_n C 1 rfl dX5_forget_0 rfl 0 rfl ?_
  refine jr_geti C 4 rfl fo_8_43 q1320 dX5_forget_1 h (fun v1 h => ?_)
  refine jr_istore_n (lv' := [(1, .int v1), (0, .ref x0)]) C 5 rfl dX5_forget_4 rfl (Nat.le_of_ble_eq_true rfl) rfl ?_
  refine jr_aload_n C 6 rfl dX5_forget_5 rfl 1 rfl ?_
  refine jr_iconst (v := 0) C 7 rfl dX5_forget_6 (by decide) ?_
  refine jr_putv C 10 rfl fo_8_43 (by decide) q1320 dX5_forget_7 rfl rfl h (fun S2 h => ?_)
  refine jr_iload_n C 11 rfl dX5_forget_10 rfl 0 rfl ?_
  exact jr_ireturn C dX5_forget_11 h
theorem m_X5_forget {l : Launch} (hl : l.stackTraces = false) {G : jG} {K : jS → Int32 → Prop} {S : jS} {x0 : Nat} (h : wp_X5_forget S x0 K) : jMet l G d_X5_forget yX5_forget (ws_ yX5_forget cX5_forget 2 (some .int)) [.ref x0] S tvi K :=
  jMet.of hl rfl (by decide) (Nat.le_of_ble_eq_true rfl) (fun X C => jr_sub [0] rfl (wk_X5_forget_0 C h))
theorem wk_X5_lacks_48 {X : jX} {G : jG} {K : jS → Int32 → Prop} (C : jC (X, G, 4, jA X G tvi K) d_X5_lacks cX5_lacks "SamovarModel" (some .int) yX5_lacks) {S : jS} {t0 : Int32}  (h : wp_X5_lacks_48 S t0 K) : jJ (X, G, 4, jA X G tvi K) S [] 48 [.int t0] := by
  unfold wp_X5_lacks_48 at h
  exact jr_ireturn C dX5_lacks_48 h
theorem wk_X5_lacks_0 {X : jX} {G : jG} {K : jS → Int32 → Prop} (C : jC (X, G, 4, jA X G tvi K) d_X5_lacks cX5_lacks "SamovarModel" (some .int) yX5_lacks) {S : jS} {x0 : Nat} {x1 : Int32} {x2 : Int32} {x3 : Int32}  (h : wp_X5_lacks S x0 x1 x2 x3 K) : jJ (X, G, 4, jA X G tvi K) S [(0, .ref x0), (1, .int x1), (2, .int x2), (3, .int x3)] 0 [] := by
  unfold wp_X5_lacks at h
  refine jr_aload_n C 1 rfl dX5_lacks_0 rfl 0 rfl ?_
  refine jr_getr C 4 rfl fo_8_47 q1324 dX5_lacks_1 h (fun v1 h => ?_)
  refine jr_iload_n C 5 rfl dX5_lacks_4 rfl 1 rfl ?_
  refine jr_zald C 6 rfl dX5_lacks_5 h (fun v2 h => ?_)
  refine jr_if_ne C 13 9 rfl dX5_lacks_6 (by decide) (fun c11 => ?_) (fun c11 => ?_)
  · have h := h.1 c11
    refine jr_iconst (v := 1) C 10 rfl dX5_lacks_9 (by decide) ?_
    refine jr_goto C 48 dX5_lacks_10 (by decide) ?_
    exact jr_sub [] rfl (wk_X5_lacks_48 C  h)
  · have h := h.2 c11
    refine jr_aload_n C 14 rfl dX5_lacks_13 rfl 0 rfl ?_
    refine jr_getr C 17 rfl fo_8_48 q1325 dX5_lacks_14 h (fun v3 h => ?_)
    refine jr_iload_n C 18 rfl dX5_lacks_17 rfl 1 rfl ?_
    refine jr_iald C 19 rfl dX5_lacks_18 h (fun v4 h => ?_)
    refine jr_iload_n C 20 rfl dX5_lacks_19 rfl 2 rfl ?_
    refine jr_icmp_eq C 27 23 rfl dX5_lacks_20 (by decide) (fun c10 => ?_) (fun c10 => ?_)
    · have h := h.1 c10
      refine jr_iload_n C 28 rfl dX5_lacks_27 rfl 3 rfl ?_
      refine jr_iconst (v := 0) C 29 rfl dX5_lacks_28 (by decide) ?_
      refine jr_aload_n C 30 rfl dX5_lacks_29 rfl 0 rfl ?_
      refine jr_getr C 33 rfl fo_8_49 q1326 dX5_lacks_30 h (fun v5 h => ?_)
      refine jr_iload_n C 34 rfl dX5_lacks_33 rfl 1 rfl ?_
      refine jr_iald C 35 rfl dX5_lacks_34 h (fun v6 h => ?_)
      refine jr_iconst (v := 1) C 36 rfl dX5_lacks_35 (by decide) ?_
      refine jr_isub C 37 rfl dX5_lacks_36 ?_
      refine jr_callSi (As := [.int x3, .int 0, .int (v6 - 1)]) (st := []) C 40 rfl (m_X5_in C.2.2.2.2.2.2.2.2.2.2.2.2.2.2.2 h) rfl q1445 q1446 q102 q1447 (by decide) (by decide) nd_X5_in (Nat.le_of_ble_eq_true rfl) dX5_lacks_37 (fun S7 r8 h => ?_)
      refine jr_if_eq C 47 43 rfl dX5_lacks_40 (by decide) (fun c9 => ?_) (fun c9 => ?_)
      · have h := h.1 c9
        refine jr_iconst (v := 2) C 48 rfl dX5_lacks_47 (by decide) ?_
        exact jr_sub [] rfl (wk_X5_lacks_48 C  h)
      · have h := h.2 c9
        refine jr_iconst (v := 0) C 44 rfl dX5_lacks_43 (by decide) ?_
        refine jr_goto C 48 dX5_lacks_44 (by decide) ?_
        exact jr_sub [] rfl (wk_X5_lacks_48 C  h)
    · have h := h.2 c10
      refine jr_iconst (v := 3) C 24 rfl dX5_lacks_23 (by decide) ?_
      refine jr_goto C 48 dX5_lacks_24 (by decide) ?_
      exact jr_sub [] rfl (wk_X5_lacks_48 C  h)
theorem m_X5_lacks {l : Launch} (hl : l.stackTraces = false) {G : jG} {K : jS → Int32 → Prop} {S : jS} {x0 : Nat} {x1 : Int32} {x2 : Int32} {x3 : Int32} (h : wp_X5_lacks S x0 x1 x2 x3 K) : jMet l G d_X5_lacks yX5_lacks (ws_ yX5_lacks cX5_lacks 4 (some .int)) [.ref x0, .int x1, .int x2, .int x3] S tvi K :=
  jMet.of hl rfl (by decide) (Nat.le_of_ble_eq_true rfl) (fun X C => jr_sub [0, 1, 2, 3] rfl (wk_X5_lacks_0 C h))
theorem wk_X5_get_16 {X : jX} {G : jG} {K : jS → Int32 → Prop} (C : jC (X, G, 5, jA X G tvi K) d_X5_get cX5_get "SamovarModel" (some .int) yX5_get) {S : jS}   (h : wp_X5_get_16 S K) : jJ (X, G, 5, jA X G tvi K) S [] 16 [] := by
  unfold wp_X5_get_16 at h
  refine jr_ldcw (v := (-2147483648)) C 19 rfl dX5_get_16 q1799 ?_
  exact jr_ireturn C dX5_get_19 h
theorem wk_X5_get_0 {X : jX} {G : jG} {K : jS → Int32 → Prop} (C : jC (X, G, 5, jA X G tvi K) d_X5_get cX5_get "SamovarModel" (some .int) yX5_get) {S : jS} {x0 : Nat} {x1 : Int32} {x2 : Int32} {x3 : Int32}  (h : wp_X5_get S x0 x1 x2 x3 K) : jJ (X, G, 5, jA X G tvi K) S [(0, .ref x0), (1, .int x1), (2, .int x2), (3, .int x3)] 0 [] := by
  unfold wp_X5_get at h
  refine jr_iload_n C 1 rfl dX5_get_0 rfl 1 rfl ?_
  refine jr_callSi (As := [.int x1]) (st := []) C 4 rfl (m_X5_isSheet C.2.2.2.2.2.2.2.2.2.2.2.2.2.2.2 h) rfl q1526 q1527 q102 q1528 (by decide) (by decide) nd_X5_isSheet (Nat.le_of_ble_eq_true rfl) dX5_get_1 (fun S1 r2 h => ?_)
  refine jr_if_eq C 16 7 rfl dX5_get_4 (by decide) (fun c12 => ?_) (fun c12 => ?_)
  · have h := h.1 c12
    exact jr_sub [] rfl (wk_X5_get_16 C  h)
  · have h := h.2 c12
    refine jr_iload_n C 8 rfl dX5_get_7 rfl 2 rfl ?_
    refine jr_iconst (v := 0) C 9 rfl dX5_get_8 (by decide) ?_
    refine jr_iconst (v := 2) C 10 rfl dX5_get_9 (by decide) ?_
    refine jr_callSi (As := [.int x2, .int 0, .int 2]) (st := []) C 13 rfl (m_X5_in C.2.2.2.2.2.2.2.2.2.2.2.2.2.2.2 h) rfl q1445 q1446 q102 q1447 (by decide) (by decide) nd_X5_in (Nat.le_of_ble_eq_true rfl) dX5_get_10 (fun S3 r4 h => ?_)
    refine jr_if_ne C 20 16 rfl dX5_get_13 (by decide) (fun c11 => ?_) (fun c11 => ?_)
    · have h := h.1 c11
      exact jr_sub [] rfl (wk_X5_get_16 C  h)
    · have h := h.2 c11
      refine jr_aload_n C 21 rfl dX5_get_20 rfl 0 rfl ?_
      refine jr_iload_n C 22 rfl dX5_get_21 rfl 1 rfl ?_
      refine jr_iload_n C 23 rfl dX5_get_22 rfl 2 rfl ?_
      refine jr_iload_n C 24 rfl dX5_get_23 rfl 3 rfl ?_
      obtain ⟨⟨V, hb⟩, h⟩ := h
      refine jr_callVi (r0 := (RX5, TX5, 53)) (As := [.int x1, .int x2, .int x3]) (st := []) C 27 rfl (m_X5_lacks C.2.2.2.2.2.2.2.2.2.2.2.2.2.2.2 h) rfl hb rfl q1787 q1789 qs87 q102 q1790 (by decide) (by decide) ndV_X5_lacks (Nat.le_of_ble_eq_true rfl) dX5_get_24 (fun S5 r6 h => ?_)
      refine jr_istore (lv' := [(4, .int r6), (0, .ref x0), (1, .int x1), (2, .int x2), (3, .int x3)]) C 29 rfl dX5_get_27 (Nat.le_of_ble_eq_true rfl) rfl ?_
      refine jr_iload C 31 rfl dX5_get_29 0 rfl ?_
      refine jr_if_le C 44 34 rfl dX5_get_31 (by decide) (fun c10 => ?_) (fun c10 => ?_)
      · have h := h.1 c10
        refine jr_aload_n C 45 rfl dX5_get_44 rfl 1 rfl ?_
        refine jr_getr C 48 rfl fo_8_50 q1327 dX5_get_45 h (fun v7 h => ?_)
        refine jr_bipush (v := 60) C 50 rfl dX5_get_48 (by decide) ?_
        refine jr_iload_n C 51 rfl dX5_get_50 rfl 2 rfl ?_
        refine jr_imul C 52 rfl dX5_get_51 ?_
        refine jr_iload_n C 53 rfl dX5_get_52 rfl 4 rfl ?_
        refine jr_iadd C 54 rfl dX5_get_53 ?_
        refine jr_iald C 55 rfl dX5_get_54 h (fun v8 h => ?_)
        exact jr_ireturn C dX5_get_55 h
      · have h := h.2 c10
        refine jr_aload_n C 35 rfl dX5_get_34 rfl 1 rfl ?_
        refine jr_iload C 37 rfl dX5_get_35 0 rfl ?_
        refine jr_putv C 40 rfl fo_8_52 (by decide) q1329 dX5_get_37 rfl rfl h (fun S9 h => ?_)
        refine jr_ldcw (v := (-2147483648)) C 43 rfl dX5_get_40 q1799 ?_
        exact jr_ireturn C dX5_get_43 h
theorem m_X5_get {l : Launch} (hl : l.stackTraces = false) {G : jG} {K : jS → Int32 → Prop} {S : jS} {x0 : Nat} {x1 : Int32} {x2 : Int32} {x3 : Int32} (h : wp_X5_get S x0 x1 x2 x3 K) : jMet l G d_X5_get yX5_get (ws_ yX5_get cX5_get 5 (some .int)) [.ref x0, .int x1, .int x2, .int x3] S tvi K :=
  jMet.of hl rfl (by decide) (Nat.le_of_ble_eq_true rfl) (fun X C => jr_sub [0, 1, 2, 3] rfl (wk_X5_get_0 C h))
theorem wk_X5_guest_26 {X : jX} {G : jG} {K : jS → Int32 → Prop} (C : jC (X, G, 3, jA X G tvi K) d_X5_guest cX5_guest "SamovarModel" (some .int) yX5_guest) {S : jS} {t0 : Int32}  (h : wp_X5_guest_26 S t0 K) : jJ (X, G, 3, jA X G tvi K) S [] 26 [.int t0] := by
  unfold wp_X5_guest_26 at h
  exact jr_ireturn C dX5_guest_26 h
theorem wk_X5_guest_24 {X : jX} {G : jG} {K : jS → Int32 → Prop} (C : jC (X, G, 3, jA X G tvi K) d_X5_guest cX5_guest "SamovarModel" (some .int) yX5_guest) {S : jS}   (h : wp_X5_guest_24 S K) : jJ (X, G, 3, jA X G tvi K) S [] 24 [] := by
  unfold wp_X5_guest_24 at h
  refine jr_bipush (v := (-2)) C 26 rfl dX5_guest_24 (by decide) ?_
  exact (wk_X5_guest_26 C  h)
theorem wk_X5_guest_0 {X : jX} {G : jG} {K : jS → Int32 → Prop} (C : jC (X, G, 3, jA X G tvi K) d_X5_guest cX5_guest "SamovarModel" (some .int) yX5_guest) {S : jS} {x0 : Nat} {x1 : Int32} {x2 : Int32}  (h : wp_X5_guest S x0 x1 x2 K) : jJ (X, G, 3, jA X G tvi K) S [(0, .ref x0), (1, .int x1), (2, .int x2)] 0 [] := by
  unfold wp_X5_guest at h
  refine jr_aload_n C 1 rfl dX5_guest_0 rfl 0 rfl ?_
  refine jr_iload_n C 2 rfl dX5_guest_1 rfl 1 rfl ?_
  obtain ⟨⟨V, hb⟩, h⟩ := h
  refine jr_callVi (r0 := (RX5, TX5, 53)) (As := [.int x1]) (st := []) C 5 rfl (m_X5_isGuest C.2.2.2.2.2.2.2.2.2.2.2.2.2.2.2 h) rfl hb rfl q1502 q1504 qs48 q102 q1505 (by decide) (by decide) ndV_X5_isGuest (Nat.le_of_ble_eq_true rfl) dX5_guest_2 (fun S1 r2 h => ?_)
  refine jr_if_eq C 24 8 rfl dX5_guest_5 (by decide) (fun c8 => ?_) (fun c8 => ?_)
  · have h := h.1 c8
    exact jr_sub [] rfl (wk_X5_guest_24 C  h)
  · have h := h.2 c8
    refine jr_iload_n C 9 rfl dX5_guest_8 rfl 2 rfl ?_
    refine jr_callSi (As := [.int x2]) (st := []) C 12 rfl (m_X5_isThree C.2.2.2.2.2.2.2.2.2.2.2.2.2.2.2 h) rfl q1491 q1492 q102 q1493 (by decide) (by decide) nd_X5_isThree (Nat.le_of_ble_eq_true rfl) dX5_guest_9 (fun S3 r4 h => ?_)
    refine jr_if_eq C 24 15 rfl dX5_guest_12 (by decide) (fun c7 => ?_) (fun c7 => ?_)
    · have h := h.1 c7
      exact jr_sub [] rfl (wk_X5_guest_24 C  h)
    · have h := h.2 c7
      refine jr_aload_n C 16 rfl dX5_guest_15 rfl 0 rfl ?_
      refine jr_iload_n C 17 rfl dX5_guest_16 rfl 1 rfl ?_
      refine jr_iload_n C 18 rfl dX5_guest_17 rfl 2 rfl ?_
      obtain ⟨⟨V, hb⟩, h⟩ := h
      refine jr_callVi (r0 := (RX5, TX5, 53)) (As := [.int x1, .int x2]) (st := []) C 21 rfl (m_X5_guestOf C.2.2.2.2.2.2.2.2.2.2.2.2.2.2.2 h) rfl hb rfl q1506 q1508 qs49 q102 q1509 (by decide) (by decide) ndV_X5_guestOf (Nat.le_of_ble_eq_true rfl) dX5_guest_18 (fun S5 r6 h => ?_)
      refine jr_goto C 26 dX5_guest_21 (by decide) ?_
      exact jr_sub [] rfl (wk_X5_guest_26 C  h)
theorem m_X5_guest {l : Launch} (hl : l.stackTraces = false) {G : jG} {K : jS → Int32 → Prop} {S : jS} {x0 : Nat} {x1 : Int32} {x2 : Int32} (h : wp_X5_guest S x0 x1 x2 K) : jMet l G d_X5_guest yX5_guest (ws_ yX5_guest cX5_guest 3 (some .int)) [.ref x0, .int x1, .int x2] S tvi K :=
  jMet.of hl rfl (by decide) (Nat.le_of_ble_eq_true rfl) (fun X C => jr_sub [0, 1, 2] rfl (wk_X5_guest_0 C h))
theorem wk_X5_hottest_17 {X : jX} {G : jG} {K : jS → Int32 → Prop} (C : jC (X, G, 2, jA X G tvi K) d_X5_hottest cX5_hottest "SamovarModel" (some .int) yX5_hottest) {S : jS} {t0 : Int32}  (h : wp_X5_hottest_17 S t0 K) : jJ (X, G, 2, jA X G tvi K) S [] 17 [.int t0] := by
  unfold wp_X5_hottest_17 at h
  exact jr_ireturn C dX5_hottest_17 h
theorem wk_X5_hottest_0 {X : jX} {G : jG} {K : jS → Int32 → Prop} (C : jC (X, G, 2, jA X G tvi K) d_X5_hottest cX5_hottest "SamovarModel" (some .int) yX5_hottest) {S : jS} {x0 : Nat} {x1 : Int32}  (h : wp_X5_hottest S x0 x1 K) : jJ (X, G, 2, jA X G tvi K) S [(0, .ref x0), (1, .int x1)] 0 [] := by
  unfold wp_X5_hottest at h
  refine jr_iload_n C 1 rfl dX5_hottest_0 rfl 1 rfl ?_
  refine jr_callSi (As := [.int x1]) (st := []) C 4 rfl (m_X5_isTwo C.2.2.2.2.2.2.2.2.2.2.2.2.2.2.2 h) rfl q1442 q1443 q102 q1444 (by decide) (by decide) nd_X5_isTwo (Nat.le_of_ble_eq_true rfl) dX5_hottest_1 (fun S1 r2 h => ?_)
  refine jr_if_eq C 15 7 rfl dX5_hottest_4 (by decide) (fun c5 => ?_) (fun c5 => ?_)
  · have h := h.1 c5
    refine jr_bipush (v := (-2)) C 17 rfl dX5_hottest_15 (by decide) ?_
    exact jr_sub [] rfl (wk_X5_hottest_17 C  h)
  · have h := h.2 c5
    refine jr_aload_n C 8 rfl dX5_hottest_7 rfl 0 rfl ?_
    refine jr_iload_n C 9 rfl dX5_hottest_8 rfl 1 rfl ?_
    obtain ⟨⟨V, hb⟩, h⟩ := h
    refine jr_callVi (r0 := (RX5, TX5, 53)) (As := [.int x1]) (st := []) C 12 rfl (m_X5_hottestOf C.2.2.2.2.2.2.2.2.2.2.2.2.2.2.2 h) rfl hb rfl q1636 q1638 qs69 q102 q1639 (by decide) (by decide) ndV_X5_hottestOf (Nat.le_of_ble_eq_true rfl) dX5_hottest_9 (fun S3 r4 h => ?_)
    refine jr_goto C 17 dX5_hottest_12 (by decide) ?_
    exact jr_sub [] rfl (wk_X5_hottest_17 C  h)
theorem m_X5_hottest {l : Launch} (hl : l.stackTraces = false) {G : jG} {K : jS → Int32 → Prop} {S : jS} {x0 : Nat} {x1 : Int32} (h : wp_X5_hottest S x0 x1 K) : jMet l G d_X5_hottest yX5_hottest (ws_ yX5_hottest cX5_hottest 2 (some .int)) [.ref x0, .int x1] S tvi K :=
  jMet.of hl rfl (by decide) (Nat.le_of_ble_eq_true rfl) (fun X C => jr_sub [0, 1] rfl (wk_X5_hottest_0 C h))
theorem wk_X5_init_268 {X : jX} {G : jG} {K : jS → Unit → Prop} (C : jC (X, G, 1, jA X G tvv K) d_X5_init cX5_init "SamovarModel" none yX5_init) {S : jS} {t0 : Nat} {x0 : Nat}  (h : wp_X5_init_268 S t0 x0 K) : jJ (X, G, 1, jA X G tvv K) S [(0, .ref x0)] 268 [.ref t0] := by
  unfold wp_X5_init_268 at h
  refine jr_bipush (v := 16) C 270 rfl dX5_init_268 (by decide) ?_
  refine jr_putv C 273 rfl fo_8_10 (by decide) q1287 dX5_init_270 rfl rfl h (fun S1 h => ?_)
  refine jr_aload_n C 274 rfl dX5_init_273 rfl 0 rfl ?_
  refine jr_bipush (v := 16) C 276 rfl dX5_init_274 (by decide) ?_
  refine jr_putv C 279 rfl fo_8_11 (by decide) q1288 dX5_init_276 rfl rfl h (fun S2 h => ?_)
  exact jr_return C dX5_init_279 h
theorem wk_X5_init_180 {X : jX} {G : jG} {K : jS → Unit → Prop} (C : jC (X, G, 1, jA X G tvv K) d_X5_init cX5_init "SamovarModel" none yX5_init) {S : jS} {x0 : Nat}  (h : wp_X5_init_180 S x0 K) : jJ (X, G, 1, jA X G tvv K) S [(0, .ref x0)] 180 [] := by
  unfold wp_X5_init_180 at h
  refine jr_aload_n C 181 rfl dX5_init_180 rfl 0 rfl ?_
  refine jr_sipush (v := 192) C 184 rfl dX5_init_181 (by decide) ?_
  refine jr_newa C 186 rfl (t := 0) rfl (by decide) rfl rfl (by decide) q227 dX5_init_184 h (fun S1 a2 h => ?_)
  refine jr_putvF C 189 rfl rfl fo_8_38 fo_8_38_d (by decide) q1315 dX5_init_186 rfl rfl h (fun S3 h => ?_)
  refine jr_aload_n C 190 rfl dX5_init_189 rfl 0 rfl ?_
  refine jr_sipush (v := 192) C 193 rfl dX5_init_190 (by decide) ?_
  refine jr_newa C 195 rfl (t := 0) rfl (by decide) rfl rfl (by decide) q227 dX5_init_193 h (fun S4 a5 h => ?_)
  refine jr_putvF C 198 rfl rfl fo_8_39 fo_8_39_d (by decide) q1316 dX5_init_195 rfl rfl h (fun S6 h => ?_)
  refine jr_aload_n C 199 rfl dX5_init_198 rfl 0 rfl ?_
  refine jr_iconst (v := 2) C 200 rfl dX5_init_199 (by decide) ?_
  refine jr_newa C 202 rfl (t := 0) rfl (by decide) rfl rfl (by decide) q227 dX5_init_200 h (fun S7 a8 h => ?_)
  refine jr_putvF C 205 rfl rfl fo_8_42 fo_8_42_d (by decide) q1319 dX5_init_202 rfl rfl h (fun S9 h => ?_)
  refine jr_aload_n C 206 rfl dX5_init_205 rfl 0 rfl ?_
  refine jr_bipush (v := 8) C 208 rfl dX5_init_206 (by decide) ?_
  refine jr_newa C 210 rfl (t := 0) rfl (by decide) rfl rfl (by decide) q227 dX5_init_208 h (fun S10 a11 h => ?_)
  refine jr_putvF C 213 rfl rfl fo_8_44 fo_8_44_d (by decide) q1321 dX5_init_210 rfl rfl h (fun S12 h => ?_)
  refine jr_aload_n C 214 rfl dX5_init_213 rfl 0 rfl ?_
  refine jr_bipush (v := 8) C 216 rfl dX5_init_214 (by decide) ?_
  refine jr_newa C 218 rfl (t := 0) rfl (by decide) rfl rfl (by decide) q227 dX5_init_216 h (fun S13 a14 h => ?_)
  refine jr_putvF C 221 rfl rfl fo_8_45 fo_8_45_d (by decide) q1322 dX5_init_218 rfl rfl h (fun S15 h => ?_)
  refine jr_aload_n C 222 rfl dX5_init_221 rfl 0 rfl ?_
  refine jr_bipush (v := 24) C 224 rfl dX5_init_222 (by decide) ?_
  refine jr_newa C 226 rfl (t := 0) rfl (by decide) rfl rfl (by decide) q227 dX5_init_224 h (fun S16 a17 h => ?_)
  refine jr_putvF C 229 rfl rfl fo_8_46 fo_8_46_d (by decide) q1323 dX5_init_226 rfl rfl h (fun S18 h => ?_)
  refine jr_aload_n C 230 rfl dX5_init_229 rfl 0 rfl ?_
  refine jr_iconst (v := 4) C 231 rfl dX5_init_230 (by decide) ?_
  refine jr_newa C 233 rfl (t := 3) rfl (by decide) rfl rfl (by decide) q1437 dX5_init_231 h (fun S19 a20 h => ?_)
  refine jr_putvF C 236 rfl rfl fo_8_47 fo_8_47_d (by decide) q1324 dX5_init_233 rfl rfl h (fun S21 h => ?_)
  refine jr_aload_n C 237 rfl dX5_init_236 rfl 0 rfl ?_
  refine jr_iconst (v := 4) C 238 rfl dX5_init_237 (by decide) ?_
  refine jr_newa C 240 rfl (t := 0) rfl (by decide) rfl rfl (by decide) q227 dX5_init_238 h (fun S22 a23 h => ?_)
  refine jr_putvF C 243 rfl rfl fo_8_48 fo_8_48_d (by decide) q1325 dX5_init_240 rfl rfl h (fun S24 h => ?_)
  refine jr_aload_n C 244 rfl dX5_init_243 rfl 0 rfl ?_
  refine jr_iconst (v := 4) C 245 rfl dX5_init_244 (by decide) ?_
  refine jr_newa C 247 rfl (t := 0) rfl (by decide) rfl rfl (by decide) q227 dX5_init_245 h (fun S25 a26 h => ?_)
  refine jr_putvF C 250 rfl rfl fo_8_49 fo_8_49_d (by decide) q1326 dX5_init_247 rfl rfl h (fun S27 h => ?_)
  refine jr_aload_n C 251 rfl dX5_init_250 rfl 0 rfl ?_
  refine jr_sipush (v := 240) C 254 rfl dX5_init_251 (by decide) ?_
  refine jr_newa C 256 rfl (t := 0) rfl (by decide) rfl rfl (by decide) q227 dX5_init_254 h (fun S28 a29 h => ?_)
  refine jr_putvF C 259 rfl rfl fo_8_50 fo_8_50_d (by decide) q1327 dX5_init_256 rfl rfl h (fun S30 h => ?_)
  refine jr_aload_n C 260 rfl dX5_init_259 rfl 0 rfl ?_
  refine jr_bipush (v := 60) C 262 rfl dX5_init_260 (by decide) ?_
  refine jr_newa C 264 rfl (t := 0) rfl (by decide) rfl rfl (by decide) q227 dX5_init_262 h (fun S31 a32 h => ?_)
  refine jr_putvF C 267 rfl rfl fo_8_51 fo_8_51_d (by decide) q1328 dX5_init_264 rfl rfl h (fun S33 h => ?_)
  refine jr_aload_n C 268 rfl dX5_init_267 rfl 0 rfl ?_
  exact (wk_X5_init_268 C  h)
theorem wk_X5_init_88 {X : jX} {G : jG} {K : jS → Unit → Prop} (C : jC (X, G, 1, jA X G tvv K) d_X5_init cX5_init "SamovarModel" none yX5_init) {S : jS} {t0 : Nat} {t1 : Nat} {x0 : Nat}  (h : wp_X5_init_88 S t0 t1 x0 K) : jJ (X, G, 1, jA X G tvv K) S [(0, .ref x0)] 88 [.ref t1, .ref t0] := by
  unfold wp_X5_init_88 at h
  refine jr_putvF C 91 rfl rfl fo_8_15 fo_8_15_d (by decide) q1292 dX5_init_88 rfl rfl h (fun S1 h => ?_)
  refine jr_aload_n C 92 rfl dX5_init_91 rfl 0 rfl ?_
  refine jr_bipush (v := 8) C 94 rfl dX5_init_92 (by decide) ?_
  refine jr_newa C 96 rfl (t := 0) rfl (by decide) rfl rfl (by decide) q227 dX5_init_94 h (fun S2 a3 h => ?_)
  refine jr_putvF C 99 rfl rfl fo_8_17 fo_8_17_d (by decide) q1294 dX5_init_96 rfl rfl h (fun S4 h => ?_)
  refine jr_aload_n C 100 rfl dX5_init_99 rfl 0 rfl ?_
  refine jr_bipush (v := 8) C 102 rfl dX5_init_100 (by decide) ?_
  refine jr_newa C 104 rfl (t := 0) rfl (by decide) rfl rfl (by decide) q227 dX5_init_102 h (fun S5 a6 h => ?_)
  refine jr_putvF C 107 rfl rfl fo_8_18 fo_8_18_d (by decide) q1295 dX5_init_104 rfl rfl h (fun S7 h => ?_)
  refine jr_aload_n C 108 rfl dX5_init_107 rfl 0 rfl ?_
  refine jr_bipush (v := 8) C 110 rfl dX5_init_108 (by decide) ?_
  refine jr_newa C 112 rfl (t := 0) rfl (by decide) rfl rfl (by decide) q227 dX5_init_110 h (fun S8 a9 h => ?_)
  refine jr_putvF C 115 rfl rfl fo_8_19 fo_8_19_d (by decide) q1296 dX5_init_112 rfl rfl h (fun S10 h => ?_)
  refine jr_aload_n C 116 rfl dX5_init_115 rfl 0 rfl ?_
  refine jr_bipush (v := 8) C 118 rfl dX5_init_116 (by decide) ?_
  refine jr_newa C 120 rfl (t := 0) rfl (by decide) rfl rfl (by decide) q227 dX5_init_118 h (fun S11 a12 h => ?_)
  refine jr_putvF C 123 rfl rfl fo_8_30 fo_8_30_d (by decide) q1307 dX5_init_120 rfl rfl h (fun S13 h => ?_)
  refine jr_aload_n C 124 rfl dX5_init_123 rfl 0 rfl ?_
  refine jr_bipush (v := 8) C 126 rfl dX5_init_124 (by decide) ?_
  refine jr_newa C 128 rfl (t := 0) rfl (by decide) rfl rfl (by decide) q227 dX5_init_126 h (fun S14 a15 h => ?_)
  refine jr_putvF C 131 rfl rfl fo_8_31 fo_8_31_d (by decide) q1308 dX5_init_128 rfl rfl h (fun S16 h => ?_)
  refine jr_aload_n C 132 rfl dX5_init_131 rfl 0 rfl ?_
  refine jr_bipush (v := 8) C 134 rfl dX5_init_132 (by decide) ?_
  refine jr_newa C 136 rfl (t := 0) rfl (by decide) rfl rfl (by decide) q227 dX5_init_134 h (fun S17 a18 h => ?_)
  refine jr_putvF C 139 rfl rfl fo_8_32 fo_8_32_d (by decide) q1309 dX5_init_136 rfl rfl h (fun S19 h => ?_)
  refine jr_aload_n C 140 rfl dX5_init_139 rfl 0 rfl ?_
  refine jr_bipush (v := 8) C 142 rfl dX5_init_140 (by decide) ?_
  refine jr_newa C 144 rfl (t := 0) rfl (by decide) rfl rfl (by decide) q227 dX5_init_142 h (fun S20 a21 h => ?_)
  refine jr_putvF C 147 rfl rfl fo_8_33 fo_8_33_d (by decide) q1310 dX5_init_144 rfl rfl h (fun S22 h => ?_)
  refine jr_aload_n C 148 rfl dX5_init_147 rfl 0 rfl ?_
  refine jr_bipush (v := 8) C 150 rfl dX5_init_148 (by decide) ?_
  refine jr_newa C 152 rfl (t := 0) rfl (by decide) rfl rfl (by decide) q227 dX5_init_150 h (fun S23 a24 h => ?_)
  refine jr_putvF C 155 rfl rfl fo_8_34 fo_8_34_d (by decide) q1311 dX5_init_152 rfl rfl h (fun S25 h => ?_)
  refine jr_aload_n C 156 rfl dX5_init_155 rfl 0 rfl ?_
  refine jr_bipush (v := 8) C 158 rfl dX5_init_156 (by decide) ?_
  refine jr_newa C 160 rfl (t := 0) rfl (by decide) rfl rfl (by decide) q227 dX5_init_158 h (fun S26 a27 h => ?_)
  refine jr_putvF C 163 rfl rfl fo_8_35 fo_8_35_d (by decide) q1312 dX5_init_160 rfl rfl h (fun S28 h => ?_)
  refine jr_aload_n C 164 rfl dX5_init_163 rfl 0 rfl ?_
  refine jr_sipush (v := 144) C 167 rfl dX5_init_164 (by decide) ?_
  refine jr_newa C 169 rfl (t := 0) rfl (by decide) rfl rfl (by decide) q227 dX5_init_167 h (fun S29 a30 h => ?_)
  refine jr_putvF C 172 rfl rfl fo_8_36 fo_8_36_d (by decide) q1313 dX5_init_169 rfl rfl h (fun S31 h => ?_)
  refine jr_aload_n C 173 rfl dX5_init_172 rfl 0 rfl ?_
  refine jr_bipush (v := 24) C 175 rfl dX5_init_173 (by decide) ?_
  refine jr_newa C 177 rfl (t := 0) rfl (by decide) rfl rfl (by decide) q227 dX5_init_175 h (fun S32 a33 h => ?_)
  refine jr_putvF C 180 rfl rfl fo_8_37 fo_8_37_d (by decide) q1314 dX5_init_177 rfl rfl h (fun S34 h => ?_)
  exact (wk_X5_init_180 C  h)
theorem wk_X5_init_0 {X : jX} {G : jG} {K : jS → Unit → Prop} (C : jC (X, G, 1, jA X G tvv K) d_X5_init cX5_init "SamovarModel" none yX5_init) {S : jS} {x0 : Nat}  (h : wp_X5_init S x0 K) : jJ (X, G, 1, jA X G tvv K) S [(0, .ref x0)] 0 [] := by
  unfold wp_X5_init at h
  refine jr_aload_n C 1 rfl dX5_init_0 rfl 0 rfl ?_
  refine jr_objInit C 4 rfl (by decide) q1276 q129 q130 (Nat.le_of_ble_eq_true rfl) dX5_init_1 ?_
  refine jr_aload_n C 5 rfl dX5_init_4 rfl 0 rfl ?_
  refine jr_iconst (v := 2) C 6 rfl dX5_init_5 (by decide) ?_
  refine jr_newa C 8 rfl (t := 0) rfl (by decide) rfl rfl (by decide) q227 dX5_init_6 h (fun S1 a2 h => ?_)
  refine jr_putvF C 11 rfl rfl fo_8_0 fo_8_0_d (by decide) q1277 dX5_init_8 rfl rfl h (fun S3 h => ?_)
  refine jr_aload_n C 12 rfl dX5_init_11 rfl 0 rfl ?_
  refine jr_bipush (v := 62) C 14 rfl dX5_init_12 (by decide) ?_
  refine jr_newa C 16 rfl (t := 0) rfl (by decide) rfl rfl (by decide) q227 dX5_init_14 h (fun S4 a5 h => ?_)
  refine jr_putvF C 19 rfl rfl fo_8_1 fo_8_1_d (by decide) q1278 dX5_init_16 rfl rfl h (fun S6 h => ?_)
  refine jr_aload_n C 20 rfl dX5_init_19 rfl 0 rfl ?_
  refine jr_bipush (v := 9) C 22 rfl dX5_init_20 (by decide) ?_
  refine jr_newa C 24 rfl (t := 0) rfl (by decide) rfl rfl (by decide) q227 dX5_init_22 h (fun S7 a8 h => ?_)
  refine jr_putvF C 27 rfl rfl fo_8_3 fo_8_3_d (by decide) q1280 dX5_init_24 rfl rfl h (fun S9 h => ?_)
  refine jr_aload_n C 28 rfl dX5_init_27 rfl 0 rfl ?_
  refine jr_bipush (v := 9) C 30 rfl dX5_init_28 (by decide) ?_
  refine jr_newa C 32 rfl (t := 0) rfl (by decide) rfl rfl (by decide) q227 dX5_init_30 h (fun S10 a11 h => ?_)
  refine jr_putvF C 35 rfl rfl fo_8_4 fo_8_4_d (by decide) q1281 dX5_init_32 rfl rfl h (fun S12 h => ?_)
  refine jr_aload_n C 36 rfl dX5_init_35 rfl 0 rfl ?_
  refine jr_bipush (v := 9) C 38 rfl dX5_init_36 (by decide) ?_
  refine jr_newa C 40 rfl (t := 0) rfl (by decide) rfl rfl (by decide) q227 dX5_init_38 h (fun S13 a14 h => ?_)
  refine jr_putvF C 43 rfl rfl fo_8_5 fo_8_5_d (by decide) q1282 dX5_init_40 rfl rfl h (fun S15 h => ?_)
  refine jr_aload_n C 44 rfl dX5_init_43 rfl 0 rfl ?_
  refine jr_bipush (v := 9) C 46 rfl dX5_init_44 (by decide) ?_
  refine jr_newa C 48 rfl (t := 0) rfl (by decide) rfl rfl (by decide) q227 dX5_init_46 h (fun S16 a17 h => ?_)
  refine jr_putvF C 51 rfl rfl fo_8_7 fo_8_7_d (by decide) q1284 dX5_init_48 rfl rfl h (fun S18 h => ?_)
  refine jr_aload_n C 52 rfl dX5_init_51 rfl 0 rfl ?_
  refine jr_bipush (v := 9) C 54 rfl dX5_init_52 (by decide) ?_
  refine jr_newa C 56 rfl (t := 0) rfl (by decide) rfl rfl (by decide) q227 dX5_init_54 h (fun S19 a20 h => ?_)
  refine jr_putvF C 59 rfl rfl fo_8_8 fo_8_8_d (by decide) q1285 dX5_init_56 rfl rfl h (fun S21 h => ?_)
  refine jr_aload_n C 60 rfl dX5_init_59 rfl 0 rfl ?_
  refine jr_bipush (v := 9) C 62 rfl dX5_init_60 (by decide) ?_
  refine jr_newa C 64 rfl (t := 0) rfl (by decide) rfl rfl (by decide) q227 dX5_init_62 h (fun S22 a23 h => ?_)
  refine jr_putvF C 67 rfl rfl fo_8_9 fo_8_9_d (by decide) q1286 dX5_init_64 rfl rfl h (fun S24 h => ?_)
  refine jr_aload_n C 68 rfl dX5_init_67 rfl 0 rfl ?_
  refine jr_bipush (v := 8) C 70 rfl dX5_init_68 (by decide) ?_
  refine jr_newa C 72 rfl (t := 0) rfl (by decide) rfl rfl (by decide) q227 dX5_init_70 h (fun S25 a26 h => ?_)
  refine jr_putvF C 75 rfl rfl fo_8_13 fo_8_13_d (by decide) q1290 dX5_init_72 rfl rfl h (fun S27 h => ?_)
  refine jr_aload_n C 76 rfl dX5_init_75 rfl 0 rfl ?_
  refine jr_bipush (v := 8) C 78 rfl dX5_init_76 (by decide) ?_
  refine jr_newa C 80 rfl (t := 0) rfl (by decide) rfl rfl (by decide) q227 dX5_init_78 h (fun S28 a29 h => ?_)
  refine jr_putvF C 83 rfl rfl fo_8_14 fo_8_14_d (by decide) q1291 dX5_init_80 rfl rfl h (fun S30 h => ?_)
  refine jr_aload_n C 84 rfl dX5_init_83 rfl 0 rfl ?_
  refine jr_bipush (v := 8) C 86 rfl dX5_init_84 (by decide) ?_
  refine jr_newa C 88 rfl (t := 0) rfl (by decide) rfl rfl (by decide) q227 dX5_init_86 h (fun S31 a32 h => ?_)
  exact (wk_X5_init_88 C  h)
theorem m_X5_init {l : Launch} (hl : l.stackTraces = false) {G : jG} {K : jS → Unit → Prop} {S : jS} {x0 : Nat} (h : wp_X5_init S x0 K) : jMet l G d_X5_init yX5_init (ws_ yX5_init cX5_init 1 none) [.ref x0] S tvv K :=
  jMet.of hl rfl (by decide) (Nat.le_of_ble_eq_true rfl) (fun X C => jr_sub [0] rfl (wk_X5_init_0 C h))
theorem wk_X5_is_34 {X : jX} {G : jG} {K : jS → Int32 → Prop} (C : jC (X, G, 4, jA X G tvi K) d_X5_is cX5_is "SamovarModel" (some .int) yX5_is) {S : jS} {t0 : Int32}  (h : wp_X5_is_34 S t0 K) : jJ (X, G, 4, jA X G tvi K) S [] 34 [.int t0] := by
  unfold wp_X5_is_34 at h
  exact jr_ireturn C dX5_is_34 h
theorem wk_X5_is_32 {X : jX} {G : jG} {K : jS → Int32 → Prop} (C : jC (X, G, 4, jA X G tvi K) d_X5_is cX5_is "SamovarModel" (some .int) yX5_is) {S : jS}   (h : wp_X5_is_32 S K) : jJ (X, G, 4, jA X G tvi K) S [] 32 [] := by
  unfold wp_X5_is_32 at h
  refine jr_bipush (v := (-2)) C 34 rfl dX5_is_32 (by decide) ?_
  exact (wk_X5_is_34 C  h)
theorem wk_X5_is_0 {X : jX} {G : jG} {K : jS → Int32 → Prop} (C : jC (X, G, 4, jA X G tvi K) d_X5_is cX5_is "SamovarModel" (some .int) yX5_is) {S : jS} {x0 : Nat} {x1 : Int32} {x2 : Int32} {x3 : Int32}  (h : wp_X5_is S x0 x1 x2 x3 K) : jJ (X, G, 4, jA X G tvi K) S [(0, .ref x0), (1, .int x1), (2, .int x2), (3, .int x3)] 0 [] := by
  unfold wp_X5_is at h
  refine jr_iload_n C 1 rfl dX5_is_0 rfl 1 rfl ?_
  refine jr_callSi (As := [.int x1]) (st := []) C 4 rfl (m_X5_isMinute C.2.2.2.2.2.2.2.2.2.2.2.2.2.2.2 h) rfl q1476 q1477 q102 q1478 (by decide) (by decide) nd_X5_isMinute (Nat.le_of_ble_eq_true rfl) dX5_is_1 (fun S1 r2 h => ?_)
  refine jr_if_eq C 32 7 rfl dX5_is_4 (by decide) (fun c11 => ?_) (fun c11 => ?_)
  · have h := h.1 c11
    exact jr_sub [] rfl (wk_X5_is_32 C  h)
  · have h := h.2 c11
    refine jr_aload_n C 8 rfl dX5_is_7 rfl 0 rfl ?_
    refine jr_iload_n C 9 rfl dX5_is_8 rfl 2 rfl ?_
    obtain ⟨⟨V, hb⟩, h⟩ := h
    refine jr_callVi (r0 := (RX5, TX5, 53)) (As := [.int x2]) (st := []) C 12 rfl (m_X5_isGuest C.2.2.2.2.2.2.2.2.2.2.2.2.2.2.2 h) rfl hb rfl q1502 q1504 qs48 q102 q1505 (by decide) (by decide) ndV_X5_isGuest (Nat.le_of_ble_eq_true rfl) dX5_is_9 (fun S3 r4 h => ?_)
    refine jr_if_eq C 32 15 rfl dX5_is_12 (by decide) (fun c10 => ?_) (fun c10 => ?_)
    · have h := h.1 c10
      exact jr_sub [] rfl (wk_X5_is_32 C  h)
    · have h := h.2 c10
      refine jr_iload_n C 16 rfl dX5_is_15 rfl 3 rfl ?_
      refine jr_callSi (As := [.int x3]) (st := []) C 19 rfl (m_X5_isTwo C.2.2.2.2.2.2.2.2.2.2.2.2.2.2.2 h) rfl q1442 q1443 q102 q1444 (by decide) (by decide) nd_X5_isTwo (Nat.le_of_ble_eq_true rfl) dX5_is_16 (fun S5 r6 h => ?_)
      refine jr_if_eq C 32 22 rfl dX5_is_19 (by decide) (fun c9 => ?_) (fun c9 => ?_)
      · have h := h.1 c9
        exact jr_sub [] rfl (wk_X5_is_32 C  h)
      · have h := h.2 c9
        refine jr_aload_n C 23 rfl dX5_is_22 rfl 0 rfl ?_
        refine jr_iload_n C 24 rfl dX5_is_23 rfl 1 rfl ?_
        refine jr_iload_n C 25 rfl dX5_is_24 rfl 2 rfl ?_
        refine jr_iload_n C 26 rfl dX5_is_25 rfl 3 rfl ?_
        obtain ⟨⟨V, hb⟩, h⟩ := h
        refine jr_callVi (r0 := (RX5, TX5, 53)) (As := [.int x1, .int x2, .int x3]) (st := []) C 29 rfl (m_X5_isOf C.2.2.2.2.2.2.2.2.2.2.2.2.2.2.2 h) rfl hb rfl q1596 q1598 qs63 q102 q1599 (by decide) (by decide) ndV_X5_isOf (Nat.le_of_ble_eq_true rfl) dX5_is_26 (fun S7 r8 h => ?_)
        refine jr_goto C 34 dX5_is_29 (by decide) ?_
        exact jr_sub [] rfl (wk_X5_is_34 C  h)
theorem m_X5_is {l : Launch} (hl : l.stackTraces = false) {G : jG} {K : jS → Int32 → Prop} {S : jS} {x0 : Nat} {x1 : Int32} {x2 : Int32} {x3 : Int32} (h : wp_X5_is S x0 x1 x2 x3 K) : jMet l G d_X5_is yX5_is (ws_ yX5_is cX5_is 4 (some .int)) [.ref x0, .int x1, .int x2, .int x3] S tvi K :=
  jMet.of hl rfl (by decide) (Nat.le_of_ble_eq_true rfl) (fun X C => jr_sub [0, 1, 2, 3] rfl (wk_X5_is_0 C h))
theorem wk_X5_keep_40 {X : jX} {G : jG} {K : jS → Unit → Prop} (C : jC (X, G, 4, jA X G tvv K) d_X5_keep cX5_keep "SamovarModel" none yX5_keep) {S : jS} {t0 : Nat} {t1 : Int32} {t2 : Int32}  (h : wp_X5_keep_40 S t0 t1 t2 K) : jJ (X, G, 4, jA X G tvv K) S [] 40 [.int t2, .int t1, .ref t0] := by
  unfold wp_X5_keep_40 at h
  refine jr_iast C 41 rfl dX5_keep_40 h (fun S1 h => ?_)
  exact jr_return C dX5_keep_41 h
theorem wk_X5_keep_0 {X : jX} {G : jG} {K : jS → Unit → Prop} (C : jC (X, G, 4, jA X G tvv K) d_X5_keep cX5_keep "SamovarModel" none yX5_keep) {S : jS} {x0 : Nat} {x1 : Int32} {x2 : Int32} {x3 : Int32}  (h : wp_X5_keep S x0 x1 x2 x3 K) : jJ (X, G, 4, jA X G tvv K) S [(0, .ref x0), (1, .int x1), (2, .int x2), (3, .int x3)] 0 [] := by
  unfold wp_X5_keep at h
  refine jr_aload_n C 1 rfl dX5_keep_0 rfl 0 rfl ?_
  refine jr_getr C 4 rfl fo_8_50 q1327 dX5_keep_1 h (fun v1 h => ?_)
  refine jr_bipush (v := 60) C 6 rfl dX5_keep_4 (by decide) ?_
  refine jr_iload_n C 7 rfl dX5_keep_6 rfl 1 rfl ?_
  refine jr_imul C 8 rfl dX5_keep_7 ?_
  refine jr_iload_n C 9 rfl dX5_keep_8 rfl 2 rfl ?_
  refine jr_iadd C 10 rfl dX5_keep_9 ?_
  refine jr_aload_n C 11 rfl dX5_keep_10 rfl 0 rfl ?_
  refine jr_getr C 14 rfl fo_8_48 q1325 dX5_keep_11 h (fun v2 h => ?_)
  refine jr_iload_n C 15 rfl dX5_keep_14 rfl 1 rfl ?_
  refine jr_iald C 16 rfl dX5_keep_15 h (fun v3 h => ?_)
  refine jr_if_ne C 24 19 rfl dX5_keep_16 (by decide) (fun c7 => ?_) (fun c7 => ?_)
  · have h := h.1 c7
    refine jr_iload_n C 20 rfl dX5_keep_19 rfl 3 rfl ?_
    refine jr_i2b C 21 rfl dX5_keep_20 ?_
    refine jr_goto C 40 dX5_keep_21 (by decide) ?_
    exact jr_sub [] rfl (wk_X5_keep_40 C  h)
  · have h := h.2 c7
    refine jr_aload_n C 25 rfl dX5_keep_24 rfl 0 rfl ?_
    refine jr_getr C 28 rfl fo_8_48 q1325 dX5_keep_25 h (fun v4 h => ?_)
    refine jr_iload_n C 29 rfl dX5_keep_28 rfl 1 rfl ?_
    refine jr_iald C 30 rfl dX5_keep_29 h (fun v5 h => ?_)
    refine jr_iconst (v := 1) C 31 rfl dX5_keep_30 (by decide) ?_
    refine jr_icmp_ne C 39 34 rfl dX5_keep_31 (by decide) (fun c6 => ?_) (fun c6 => ?_)
    · have h := h.1 c6
      refine jr_iload_n C 35 rfl dX5_keep_34 rfl 3 rfl ?_
      refine jr_i2s C 36 rfl dX5_keep_35 ?_
      refine jr_goto C 40 dX5_keep_36 (by decide) ?_
      exact jr_sub [] rfl (wk_X5_keep_40 C  h)
    · have h := h.2 c6
      refine jr_iload_n C 40 rfl dX5_keep_39 rfl 3 rfl ?_
      exact jr_sub [] rfl (wk_X5_keep_40 C  h)
theorem m_X5_keep {l : Launch} (hl : l.stackTraces = false) {G : jG} {K : jS → Unit → Prop} {S : jS} {x0 : Nat} {x1 : Int32} {x2 : Int32} {x3 : Int32} (h : wp_X5_keep S x0 x1 x2 x3 K) : jMet l G d_X5_keep yX5_keep (ws_ yX5_keep cX5_keep 4 none) [.ref x0, .int x1, .int x2, .int x3] S tvv K :=
  jMet.of hl rfl (by decide) (Nat.le_of_ble_eq_true rfl) (fun X C => jr_sub [0, 1, 2, 3] rfl (wk_X5_keep_0 C h))
theorem wk_X5_kind_18 {X : jX} {G : jG} {K : jS → Int32 → Prop} (C : jC (X, G, 2, jA X G tvi K) d_X5_kind cX5_kind "SamovarModel" (some .int) yX5_kind) {S : jS} {t0 : Int32}  (h : wp_X5_kind_18 S t0 K) : jJ (X, G, 2, jA X G tvi K) S [] 18 [.int t0] := by
  unfold wp_X5_kind_18 at h
  exact jr_ireturn C dX5_kind_18 h
theorem wk_X5_kind_0 {X : jX} {G : jG} {K : jS → Int32 → Prop} (C : jC (X, G, 2, jA X G tvi K) d_X5_kind cX5_kind "SamovarModel" (some .int) yX5_kind) {S : jS} {x0 : Nat} {x1 : Int32}  (h : wp_X5_kind S x0 x1 K) : jJ (X, G, 2, jA X G tvi K) S [(0, .ref x0), (1, .int x1)] 0 [] := by
  unfold wp_X5_kind at h
  refine jr_aload_n C 1 rfl dX5_kind_0 rfl 0 rfl ?_
  refine jr_iload_n C 2 rfl dX5_kind_1 rfl 1 rfl ?_
  obtain ⟨⟨V, hb⟩, h⟩ := h
  refine jr_callVi (r0 := (RX5, TX5, 53)) (As := [.int x1]) (st := []) C 5 rfl (m_X5_isPiece C.2.2.2.2.2.2.2.2.2.2.2.2.2.2.2 h) rfl hb rfl q1483 q1485 qs45 q102 q1486 (by decide) (by decide) ndV_X5_isPiece (Nat.le_of_ble_eq_true rfl) dX5_kind_2 (fun S1 r2 h => ?_)
  refine jr_if_eq C 16 8 rfl dX5_kind_5 (by decide) (fun c5 => ?_) (fun c5 => ?_)
  · have h := h.1 c5
    refine jr_bipush (v := (-2)) C 18 rfl dX5_kind_16 (by decide) ?_
    exact jr_sub [] rfl (wk_X5_kind_18 C  h)
  · have h := h.2 c5
    refine jr_aload_n C 9 rfl dX5_kind_8 rfl 0 rfl ?_
    refine jr_iload_n C 10 rfl dX5_kind_9 rfl 1 rfl ?_
    obtain ⟨⟨V, hb⟩, h⟩ := h
    refine jr_callVi (r0 := (RX5, TX5, 53)) (As := [.int x1]) (st := []) C 13 rfl (m_X5_kindsBy C.2.2.2.2.2.2.2.2.2.2.2.2.2.2.2 h) rfl hb rfl q1736 q1738 qs83 q102 q1739 (by decide) (by decide) ndV_X5_kindsBy (Nat.le_of_ble_eq_true rfl) dX5_kind_10 (fun S3 r4 h => ?_)
    refine jr_goto C 18 dX5_kind_13 (by decide) ?_
    exact jr_sub [] rfl (wk_X5_kind_18 C  h)
theorem m_X5_kind {l : Launch} (hl : l.stackTraces = false) {G : jG} {K : jS → Int32 → Prop} {S : jS} {x0 : Nat} {x1 : Int32} (h : wp_X5_kind S x0 x1 K) : jMet l G d_X5_kind yX5_kind (ws_ yX5_kind cX5_kind 2 (some .int)) [.ref x0, .int x1] S tvi K :=
  jMet.of hl rfl (by decide) (Nat.le_of_ble_eq_true rfl) (fun X C => jr_sub [0, 1] rfl (wk_X5_kind_0 C h))
theorem wk_X5_line_17 {X : jX} {G : jG} {K : jS → Int32 → Prop} (C : jC (X, G, 2, jA X G tvi K) d_X5_line cX5_line "SamovarModel" (some .int) yX5_line) {S : jS} {t0 : Int32}  (h : wp_X5_line_17 S t0 K) : jJ (X, G, 2, jA X G tvi K) S [] 17 [.int t0] := by
  unfold wp_X5_line_17 at h
  exact jr_ireturn C dX5_line_17 h
theorem wk_X5_line_0 {X : jX} {G : jG} {K : jS → Int32 → Prop} (C : jC (X, G, 2, jA X G tvi K) d_X5_line cX5_line "SamovarModel" (some .int) yX5_line) {S : jS} {x0 : Nat} {x1 : Int32}  (h : wp_X5_line S x0 x1 K) : jJ (X, G, 2, jA X G tvi K) S [(0, .ref x0), (1, .int x1)] 0 [] := by
  unfold wp_X5_line at h
  refine jr_iload_n C 1 rfl dX5_line_0 rfl 1 rfl ?_
  refine jr_callSi (As := [.int x1]) (st := []) C 4 rfl (m_X5_isMinute C.2.2.2.2.2.2.2.2.2.2.2.2.2.2.2 h) rfl q1476 q1477 q102 q1478 (by decide) (by decide) nd_X5_isMinute (Nat.le_of_ble_eq_true rfl) dX5_line_1 (fun S1 r2 h => ?_)
  refine jr_if_eq C 15 7 rfl dX5_line_4 (by decide) (fun c5 => ?_) (fun c5 => ?_)
  · have h := h.1 c5
    refine jr_bipush (v := (-2)) C 17 rfl dX5_line_15 (by decide) ?_
    exact jr_sub [] rfl (wk_X5_line_17 C  h)
  · have h := h.2 c5
    refine jr_aload_n C 8 rfl dX5_line_7 rfl 0 rfl ?_
    refine jr_iload_n C 9 rfl dX5_line_8 rfl 1 rfl ?_
    obtain ⟨⟨V, hb⟩, h⟩ := h
    refine jr_callVi (r0 := (RX5, TX5, 53)) (As := [.int x1]) (st := []) C 12 rfl (m_X5_lineOf C.2.2.2.2.2.2.2.2.2.2.2.2.2.2.2 h) rfl hb rfl q1604 q1606 qs64 q102 q1607 (by decide) (by decide) ndV_X5_lineOf (Nat.le_of_ble_eq_true rfl) dX5_line_9 (fun S3 r4 h => ?_)
    refine jr_goto C 17 dX5_line_12 (by decide) ?_
    exact jr_sub [] rfl (wk_X5_line_17 C  h)
theorem m_X5_line {l : Launch} (hl : l.stackTraces = false) {G : jG} {K : jS → Int32 → Prop} {S : jS} {x0 : Nat} {x1 : Int32} (h : wp_X5_line S x0 x1 K) : jMet l G d_X5_line yX5_line (ws_ yX5_line cX5_line 2 (some .int)) [.ref x0, .int x1] S tvi K :=
  jMet.of hl rfl (by decide) (Nat.le_of_ble_eq_true rfl) (fun X C => jr_sub [0, 1] rfl (wk_X5_line_0 C h))
theorem wk_X5_lose_0 {X : jX} {G : jG} {K : jS → Int32 → Prop} (C : jC (X, G, 2, jA X G tvi K) d_X5_lose cX5_lose "SamovarModel" (some .int) yX5_lose) {S : jS} {x0 : Nat} {x1 : Int32}  (h : wp_X5_lose S x0 x1 K) : jJ (X, G, 2, jA X G tvi K) S [(0, .ref x0), (1, .int x1)] 0 [] := by
  unfold wp_X5_lose at h
  refine jr_iload_n C 1 rfl dX5_lose_0 rfl 1 rfl ?_
  refine jr_callSi (As := [.int x1]) (st := []) C 4 rfl (m_X5_isSheet C.2.2.2.2.2.2.2.2.2.2.2.2.2.2.2 h) rfl q1526 q1527 q102 q1528 (by decide) (by decide) nd_X5_isSheet (Nat.le_of_ble_eq_true rfl) dX5_lose_1 (fun S1 r2 h => ?_)
  refine jr_if_ne C 10 7 rfl dX5_lose_4 (by decide) (fun c12 => ?_) (fun c12 => ?_)
  · have h := h.1 c12
    refine jr_bipush (v := (-2)) C 9 rfl dX5_lose_7 (by decide) ?_
    exact jr_ireturn C dX5_lose_9 h
  · have h := h.2 c12
    refine jr_aload_n C 11 rfl dX5_lose_10 rfl 0 rfl ?_
    refine jr_getr C 14 rfl fo_8_47 q1324 dX5_lose_11 h (fun v3 h => ?_)
    refine jr_iload_n C 15 rfl dX5_lose_14 rfl 1 rfl ?_
    refine jr_zald C 16 rfl dX5_lose_15 h (fun v4 h => ?_)
    refine jr_if_ne C 25 19 rfl dX5_lose_16 (by decide) (fun c11 => ?_) (fun c11 => ?_)
    · have h := h.1 c11
      refine jr_aload_n C 20 rfl dX5_lose_19 rfl 0 rfl ?_
      refine jr_iconst (v := 1) C 21 rfl dX5_lose_20 (by decide) ?_
      obtain ⟨⟨V, hb⟩, h⟩ := h
      refine jr_callVi (r0 := (RX5, TX5, 53)) (As := [.int 1]) (st := []) C 24 rfl (m_X5_meets C.2.2.2.2.2.2.2.2.2.2.2.2.2.2.2 h) rfl hb rfl q1529 q1531 qs50 q102 q1532 (by decide) (by decide) ndV_X5_meets (Nat.le_of_ble_eq_true rfl) dX5_lose_21 (fun S5 r6 h => ?_)
      exact jr_ireturn C dX5_lose_24 h
    · have h := h.2 c11
      refine jr_aload_n C 26 rfl dX5_lose_25 rfl 0 rfl ?_
      refine jr_getr C 29 rfl fo_8_47 q1324 dX5_lose_26 h (fun v7 h => ?_)
      refine jr_iload_n C 30 rfl dX5_lose_29 rfl 1 rfl ?_
      refine jr_iconst (v := 0) C 31 rfl dX5_lose_30 (by decide) ?_
      refine jr_zast C 32 rfl dX5_lose_31 h (fun S8 h => ?_)
      refine jr_aload_n C 33 rfl dX5_lose_32 rfl 0 rfl ?_
      refine jr_getr C 36 rfl fo_8_49 q1326 dX5_lose_33 h (fun v9 h => ?_)
      refine jr_iload_n C 37 rfl dX5_lose_36 rfl 1 rfl ?_
      refine jr_iald C 38 rfl dX5_lose_37 h (fun v10 h => ?_)
      exact jr_ireturn C dX5_lose_38 h
theorem m_X5_lose {l : Launch} (hl : l.stackTraces = false) {G : jG} {K : jS → Int32 → Prop} {S : jS} {x0 : Nat} {x1 : Int32} (h : wp_X5_lose S x0 x1 K) : jMet l G d_X5_lose yX5_lose (ws_ yX5_lose cX5_lose 2 (some .int)) [.ref x0, .int x1] S tvi K :=
  jMet.of hl rfl (by decide) (Nat.le_of_ble_eq_true rfl) (fun X C => jr_sub [0, 1] rfl (wk_X5_lose_0 C h))
theorem wk_X5_never_0 {X : jX} {G : jG} {K : jS → Int32 → Prop} (C : jC (X, G, 1, jA X G tvi K) d_X5_never cX5_never "SamovarModel" (some .int) yX5_never) {S : jS} {x0 : Nat}  (h : wp_X5_never S x0 K) : jJ (X, G, 1, jA X G tvi K) S [(0, .ref x0)] 0 [] := by
  unfold wp_X5_never at h
  refine jr_aload_n C 1 rfl dX5_never_0 rfl 0 rfl ?_
  obtain ⟨⟨V, hb⟩, h⟩ := h
  refine jr_callVi (r0 := (RX5, TX5, 53)) (As := []) (st := []) C 4 rfl (m_X5_neverNow C.2.2.2.2.2.2.2.2.2.2.2.2.2.2.2 h) rfl hb rfl q1716 q1718 qs80 q102 q1719 (by decide) (by decide) ndV_X5_neverNow (Nat.le_of_ble_eq_true rfl) dX5_never_1 (fun S1 r2 h => ?_)
  exact jr_ireturn C dX5_never_4 h
theorem m_X5_never {l : Launch} (hl : l.stackTraces = false) {G : jG} {K : jS → Int32 → Prop} {S : jS} {x0 : Nat} (h : wp_X5_never S x0 K) : jMet l G d_X5_never yX5_never (ws_ yX5_never cX5_never 1 (some .int)) [.ref x0] S tvi K :=
  jMet.of hl rfl (by decide) (Nat.le_of_ble_eq_true rfl) (fun X C => jr_sub [0] rfl (wk_X5_never_0 C h))
theorem wk_X5_piece_26 {X : jX} {G : jG} {K : jS → Int32 → Prop} (C : jC (X, G, 3, jA X G tvi K) d_X5_piece cX5_piece "SamovarModel" (some .int) yX5_piece) {S : jS} {t0 : Int32}  (h : wp_X5_piece_26 S t0 K) : jJ (X, G, 3, jA X G tvi K) S [] 26 [.int t0] := by
  unfold wp_X5_piece_26 at h
  exact jr_ireturn C dX5_piece_26 h
theorem wk_X5_piece_24 {X : jX} {G : jG} {K : jS → Int32 → Prop} (C : jC (X, G, 3, jA X G tvi K) d_X5_piece cX5_piece "SamovarModel" (some .int) yX5_piece) {S : jS}   (h : wp_X5_piece_24 S K) : jJ (X, G, 3, jA X G tvi K) S [] 24 [] := by
  unfold wp_X5_piece_24 at h
  refine jr_bipush (v := (-2)) C 26 rfl dX5_piece_24 (by decide) ?_
  exact (wk_X5_piece_26 C  h)
theorem wk_X5_piece_0 {X : jX} {G : jG} {K : jS → Int32 → Prop} (C : jC (X, G, 3, jA X G tvi K) d_X5_piece cX5_piece "SamovarModel" (some .int) yX5_piece) {S : jS} {x0 : Nat} {x1 : Int32} {x2 : Int32}  (h : wp_X5_piece S x0 x1 x2 K) : jJ (X, G, 3, jA X G tvi K) S [(0, .ref x0), (1, .int x1), (2, .int x2)] 0 [] := by
  unfold wp_X5_piece at h
  refine jr_aload_n C 1 rfl dX5_piece_0 rfl 0 rfl ?_
  refine jr_iload_n C 2 rfl dX5_piece_1 rfl 1 rfl ?_
  obtain ⟨⟨V, hb⟩, h⟩ := h
  refine jr_callVi (r0 := (RX5, TX5, 53)) (As := [.int x1]) (st := []) C 5 rfl (m_X5_isPiece C.2.2.2.2.2.2.2.2.2.2.2.2.2.2.2 h) rfl hb rfl q1483 q1485 qs45 q102 q1486 (by decide) (by decide) ndV_X5_isPiece (Nat.le_of_ble_eq_true rfl) dX5_piece_2 (fun S1 r2 h => ?_)
  refine jr_if_eq C 24 8 rfl dX5_piece_5 (by decide) (fun c8 => ?_) (fun c8 => ?_)
  · have h := h.1 c8
    exact jr_sub [] rfl (wk_X5_piece_24 C  h)
  · have h := h.2 c8
    refine jr_iload_n C 9 rfl dX5_piece_8 rfl 2 rfl ?_
    refine jr_callSi (As := [.int x2]) (st := []) C 12 rfl (m_X5_isThree C.2.2.2.2.2.2.2.2.2.2.2.2.2.2.2 h) rfl q1491 q1492 q102 q1493 (by decide) (by decide) nd_X5_isThree (Nat.le_of_ble_eq_true rfl) dX5_piece_9 (fun S3 r4 h => ?_)
    refine jr_if_eq C 24 15 rfl dX5_piece_12 (by decide) (fun c7 => ?_) (fun c7 => ?_)
    · have h := h.1 c7
      exact jr_sub [] rfl (wk_X5_piece_24 C  h)
    · have h := h.2 c7
      refine jr_aload_n C 16 rfl dX5_piece_15 rfl 0 rfl ?_
      refine jr_iload_n C 17 rfl dX5_piece_16 rfl 1 rfl ?_
      refine jr_iload_n C 18 rfl dX5_piece_17 rfl 2 rfl ?_
      obtain ⟨⟨V, hb⟩, h⟩ := h
      refine jr_callVi (r0 := (RX5, TX5, 53)) (As := [.int x1, .int x2]) (st := []) C 21 rfl (m_X5_pieceOf C.2.2.2.2.2.2.2.2.2.2.2.2.2.2.2 h) rfl hb rfl q1494 q1496 qs47 q102 q1497 (by decide) (by decide) ndV_X5_pieceOf (Nat.le_of_ble_eq_true rfl) dX5_piece_18 (fun S5 r6 h => ?_)
      refine jr_goto C 26 dX5_piece_21 (by decide) ?_
      exact jr_sub [] rfl (wk_X5_piece_26 C  h)
theorem m_X5_piece {l : Launch} (hl : l.stackTraces = false) {G : jG} {K : jS → Int32 → Prop} {S : jS} {x0 : Nat} {x1 : Int32} {x2 : Int32} (h : wp_X5_piece S x0 x1 x2 K) : jMet l G d_X5_piece yX5_piece (ws_ yX5_piece cX5_piece 3 (some .int)) [.ref x0, .int x1, .int x2] S tvi K :=
  jMet.of hl rfl (by decide) (Nat.le_of_ble_eq_true rfl) (fun X C => jr_sub [0, 1, 2] rfl (wk_X5_piece_0 C h))
theorem wk_X5_put_16 {X : jX} {G : jG} {K : jS → Int32 → Prop} (C : jC (X, G, 6, jA X G tvi K) d_X5_put cX5_put "SamovarModel" (some .int) yX5_put) {S : jS}   (h : wp_X5_put_16 S K) : jJ (X, G, 6, jA X G tvi K) S [] 16 [] := by
  unfold wp_X5_put_16 at h
  refine jr_bipush (v := (-2)) C 18 rfl dX5_put_16 (by decide) ?_
  exact jr_ireturn C dX5_put_18 h
theorem wk_X5_put_0 {X : jX} {G : jG} {K : jS → Int32 → Prop} (C : jC (X, G, 6, jA X G tvi K) d_X5_put cX5_put "SamovarModel" (some .int) yX5_put) {S : jS} {x0 : Nat} {x1 : Int32} {x2 : Int32} {x3 : Int32} {x4 : Int32}  (h : wp_X5_put S x0 x1 x2 x3 x4 K) : jJ (X, G, 6, jA X G tvi K) S [(0, .ref x0), (1, .int x1), (2, .int x2), (3, .int x3), (4, .int x4)] 0 [] := by
  unfold wp_X5_put at h
  refine jr_iload_n C 1 rfl dX5_put_0 rfl 1 rfl ?_
  refine jr_callSi (As := [.int x1]) (st := []) C 4 rfl (m_X5_isSheet C.2.2.2.2.2.2.2.2.2.2.2.2.2.2.2 h) rfl q1526 q1527 q102 q1528 (by decide) (by decide) nd_X5_isSheet (Nat.le_of_ble_eq_true rfl) dX5_put_1 (fun S1 r2 h => ?_)
  refine jr_if_eq C 16 7 rfl dX5_put_4 (by decide) (fun c12 => ?_) (fun c12 => ?_)
  · have h := h.1 c12
    exact jr_sub [] rfl (wk_X5_put_16 C  h)
  · have h := h.2 c12
    refine jr_iload_n C 8 rfl dX5_put_7 rfl 2 rfl ?_
    refine jr_iconst (v := 0) C 9 rfl dX5_put_8 (by decide) ?_
    refine jr_iconst (v := 2) C 10 rfl dX5_put_9 (by decide) ?_
    refine jr_callSi (As := [.int x2, .int 0, .int 2]) (st := []) C 13 rfl (m_X5_in C.2.2.2.2.2.2.2.2.2.2.2.2.2.2.2 h) rfl q1445 q1446 q102 q1447 (by decide) (by decide) nd_X5_in (Nat.le_of_ble_eq_true rfl) dX5_put_10 (fun S3 r4 h => ?_)
    refine jr_if_ne C 19 16 rfl dX5_put_13 (by decide) (fun c11 => ?_) (fun c11 => ?_)
    · have h := h.1 c11
      exact jr_sub [] rfl (wk_X5_put_16 C  h)
    · have h := h.2 c11
      refine jr_aload_n C 20 rfl dX5_put_19 rfl 0 rfl ?_
      refine jr_iload_n C 21 rfl dX5_put_20 rfl 1 rfl ?_
      refine jr_iload_n C 22 rfl dX5_put_21 rfl 2 rfl ?_
      refine jr_iload_n C 23 rfl dX5_put_22 rfl 3 rfl ?_
      obtain ⟨⟨V, hb⟩, h⟩ := h
      refine jr_callVi (r0 := (RX5, TX5, 53)) (As := [.int x1, .int x2, .int x3]) (st := []) C 26 rfl (m_X5_lacks C.2.2.2.2.2.2.2.2.2.2.2.2.2.2.2 h) rfl hb rfl q1787 q1789 qs87 q102 q1790 (by decide) (by decide) ndV_X5_lacks (Nat.le_of_ble_eq_true rfl) dX5_put_23 (fun S5 r6 h => ?_)
      refine jr_istore (lv' := [(5, .int r6), (0, .ref x0), (1, .int x1), (2, .int x2), (3, .int x3), (4, .int x4)]) C 28 rfl dX5_put_26 (Nat.le_of_ble_eq_true rfl) rfl ?_
      refine jr_iload C 30 rfl dX5_put_28 0 rfl ?_
      refine jr_if_le C 40 33 rfl dX5_put_30 (by decide) (fun c10 => ?_) (fun c10 => ?_)
      · have h := h.1 c10
        refine jr_aload_n C 41 rfl dX5_put_40 rfl 1 rfl ?_
        refine jr_iload_n C 42 rfl dX5_put_41 rfl 2 rfl ?_
        refine jr_iload_n C 43 rfl dX5_put_42 rfl 4 rfl ?_
        refine jr_iload C 45 rfl dX5_put_43 5 rfl ?_
        obtain ⟨⟨V, hb⟩, h⟩ := h
        refine jr_callVv (r0 := (RX5, TX5, 53)) (As := [.int x1, .int x3, .int x4]) (st := []) C 48 rfl (m_X5_keep C.2.2.2.2.2.2.2.2.2.2.2.2.2.2.2 h) rfl hb rfl q1791 q1793 qs88 q102 q1794 (by decide) (by decide) ndV_X5_keep (Nat.le_of_ble_eq_true rfl) dX5_put_45 (fun S7 _ h => ?_)
        refine jr_iconst (v := 1) C 49 rfl dX5_put_48 (by decide) ?_
        exact jr_ireturn C dX5_put_49 h
      · have h := h.2 c10
        refine jr_aload_n C 34 rfl dX5_put_33 rfl 1 rfl ?_
        refine jr_iload C 36 rfl dX5_put_34 0 rfl ?_
        obtain ⟨⟨V, hb⟩, h⟩ := h
        refine jr_callVi (r0 := (RX5, TX5, 53)) (As := [.int r6]) (st := []) C 39 rfl (m_X5_meets C.2.2.2.2.2.2.2.2.2.2.2.2.2.2.2 h) rfl hb rfl q1529 q1531 qs50 q102 q1532 (by decide) (by decide) ndV_X5_meets (Nat.le_of_ble_eq_true rfl) dX5_put_36 (fun S8 r9 h => ?_)
        exact jr_ireturn C dX5_put_39 h
theorem m_X5_put {l : Launch} (hl : l.stackTraces = false) {G : jG} {K : jS → Int32 → Prop} {S : jS} {x0 : Nat} {x1 : Int32} {x2 : Int32} {x3 : Int32} {x4 : Int32} (h : wp_X5_put S x0 x1 x2 x3 x4 K) : jMet l G d_X5_put yX5_put (ws_ yX5_put cX5_put 6 (some .int)) [.ref x0, .int x1, .int x2, .int x3, .int x4] S tvi K :=
  jMet.of hl rfl (by decide) (Nat.le_of_ble_eq_true rfl) (fun X C => jr_sub [0, 1, 2, 3, 4] rfl (wk_X5_put_0 C h))
theorem wk_X5_read_93 {X : jX} {G : jG} {K : jS → Int32 → Prop} (C : jC (X, G, 4, jA X G tvi K) d_X5_read cX5_read "SamovarModel" (some .int) yX5_read) {S : jS} {x2 : Int32}  (h : wp_X5_read_93 S x2 K) : jJ (X, G, 4, jA X G tvi K) S [(2, .int x2)] 93 [] := by
  unfold wp_X5_read_93 at h
  refine jr_iload_n C 94 rfl dX5_read_93 rfl 0 rfl ?_
  exact jr_ireturn C dX5_read_94 h
theorem wk_X5_read_34 {X : jX} {G : jG} {K : jS → Int32 → Prop} (C : jC (X, G, 4, jA X G tvi K) d_X5_read cX5_read "SamovarModel" (some .int) yX5_read) {S : jS} {t0 : Int32} {t1 : Int32} {x0 : Nat} {x1 : Int32} {x2 : Int32} {x3 : Int32} {Kc32 : jS × Int32 → Prop} (hc32 : ∀ z : jS × Int32, Kc32 z → jJ (X, G, 4, jA X G tvi K) z.1 [(0, .ref x0), (1, .int x1), (2, .int z.2), (3, .int x3)] 32 []) (h : wp_X5_read_34 S t0 t1 x0 x1 x2 x3 Kc32 K) : jJ (X, G, 4, jA X G tvi K) S [(0, .ref x0), (1, .int x1), (2, .int x2), (3, .int x3)] 34 [.int t1, .int t0] := by
  unfold wp_X5_read_34 at h
  refine jr_imul C 35 rfl dX5_read_34 ?_
  refine jr_iconst (v := 2) C 36 rfl dX5_read_35 (by decide) ?_
  refine jr_iadd C 37 rfl dX5_read_36 ?_
  refine jr_aload_n C 38 rfl dX5_read_37 rfl 0 rfl ?_
  refine jr_getr C 41 rfl fo_8_49 q1326 dX5_read_38 h (fun v1 h => ?_)
  refine jr_iload_n C 42 rfl dX5_read_41 rfl 1 rfl ?_
  refine jr_iald C 43 rfl dX5_read_42 h (fun v2 h => ?_)
  refine jr_icmp_ge C 93 46 rfl dX5_read_43 (by decide) (fun c12 => ?_) (fun c12 => ?_)
  · have h := h.1 c12
    exact jr_sub [2] rfl (wk_X5_read_93 C  h)
  · have h := h.2 c12
    refine jr_aload_n C 47 rfl dX5_read_46 rfl 0 rfl ?_
    refine jr_aload_n C 48 rfl dX5_read_47 rfl 0 rfl ?_
    refine jr_getr C 51 rfl fo_8_50 q1327 dX5_read_48 h (fun v3 h => ?_)
    refine jr_iload_n C 52 rfl dX5_read_51 rfl 3 rfl ?_
    refine jr_iconst (v := 3) C 53 rfl dX5_read_52 (by decide) ?_
    refine jr_iload_n C 54 rfl dX5_read_53 rfl 2 rfl ?_
    refine jr_imul C 55 rfl dX5_read_54 ?_
    refine jr_iadd C 56 rfl dX5_read_55 ?_
    refine jr_iald C 57 rfl dX5_read_56 h (fun v4 h => ?_)
    refine jr_aload_n C 58 rfl dX5_read_57 rfl 0 rfl ?_
    refine jr_getr C 61 rfl fo_8_50 q1327 dX5_read_58 h (fun v5 h => ?_)
    refine jr_iload_n C 62 rfl dX5_read_61 rfl 3 rfl ?_
    refine jr_iconst (v := 3) C 63 rfl dX5_read_62 (by decide) ?_
    refine jr_iload_n C 64 rfl dX5_read_63 rfl 2 rfl ?_
    refine jr_imul C 65 rfl dX5_read_64 ?_
    refine jr_iadd C 66 rfl dX5_read_65 ?_
    refine jr_iconst (v := 1) C 67 rfl dX5_read_66 (by decide) ?_
    refine jr_iadd C 68 rfl dX5_read_67 ?_
    refine jr_iald C 69 rfl dX5_read_68 h (fun v6 h => ?_)
    refine jr_aload_n C 70 rfl dX5_read_69 rfl 0 rfl ?_
    refine jr_getr C 73 rfl fo_8_50 q1327 dX5_read_70 h (fun v7 h => ?_)
    refine jr_iload_n C 74 rfl dX5_read_73 rfl 3 rfl ?_
    refine jr_iconst (v := 3) C 75 rfl dX5_read_74 (by decide) ?_
    refine jr_iload_n C 76 rfl dX5_read_75 rfl 2 rfl ?_
    refine jr_imul C 77 rfl dX5_read_76 ?_
    refine jr_iadd C 78 rfl dX5_read_77 ?_
    refine jr_iconst (v := 2) C 79 rfl dX5_read_78 (by decide) ?_
    refine jr_iadd C 80 rfl dX5_read_79 ?_
    refine jr_iald C 81 rfl dX5_read_80 h (fun v8 h => ?_)
    obtain ⟨⟨V, hb⟩, h⟩ := h
    refine jr_callVi (r0 := (RX5, TX5, 53)) (As := [.int v4, .int v6, .int v8]) (st := []) C 84 rfl (m_X5_event C.2.2.2.2.2.2.2.2.2.2.2.2.2.2.2 h) rfl hb rfl q1533 q1515 q1516 q102 q1517 (by decide) (by decide) ndV_X5_event (Nat.le_of_ble_eq_true rfl) dX5_read_81 (fun S9 r10 h => ?_)
    refine jr_if_le C 93 87 rfl dX5_read_84 (by decide) (fun c11 => ?_) (fun c11 => ?_)
    · have h := h.1 c11
      exact jr_sub [2] rfl (wk_X5_read_93 C  h)
    · have h := h.2 c11
      refine jr_iinc (v := (x2 + 1)) (lv' := [(2, .int (x2 + 1)), (0, .ref x0), (1, .int x1), (3, .int x3)]) C 90 rfl dX5_read_87 2 rfl rfl (Nat.le_of_ble_eq_true rfl) rfl ?_
      refine jr_goto C 32 dX5_read_90 (by decide) ?_
      exact jr_sub [1, 2, 0, 3] rfl (hc32 _ h)
theorem wk_X5_read_32 {X : jX} {G : jG} {K : jS → Int32 → Prop} (C : jC (X, G, 4, jA X G tvi K) d_X5_read cX5_read "SamovarModel" (some .int) yX5_read) {S : jS} {x0 : Nat} {x1 : Int32} {x2 : Int32} {x3 : Int32} {Kc32 : jS × Int32 → Prop} (hc32 : ∀ z : jS × Int32, Kc32 z → jJ (X, G, 4, jA X G tvi K) z.1 [(0, .ref x0), (1, .int x1), (2, .int z.2), (3, .int x3)] 32 []) (h : wp_X5_read_32 S x0 x1 x2 x3 Kc32 K) : jJ (X, G, 4, jA X G tvi K) S [(0, .ref x0), (1, .int x1), (2, .int x2), (3, .int x3)] 32 [] := by
  unfold wp_X5_read_32 at h
  refine jr_iconst (v := 3) C 33 rfl dX5_read_32 (by decide) ?_
  refine jr_iload_n C 34 rfl dX5_read_33 rfl 2 rfl ?_
  exact (wk_X5_read_34 C hc32 h)
theorem wk_X5_read_32_L {X : jX} {G : jG} {K : jS → Int32 → Prop} (C : jC (X, G, 4, jA X G tvi K) d_X5_read cX5_read "SamovarModel" (some .int) yX5_read) {x0 : Nat} {x1 : Int32} {x3 : Int32}  : ∀ (n : Nat) (z : jS × Int32), jlp n (wp_X5_read_32_L x0 x1 x3 K) z → jJ (X, G, 4, jA X G tvi K) z.1 [(0, .ref x0), (1, .int x1), (2, .int z.2), (3, .int x3)] 32 [] := by
  intro n
  induction n with
  | zero => intro z h; exact h.elim
  | succ n ih => intro z h; exact wk_X5_read_32 C ih h
theorem wk_X5_read_0 {X : jX} {G : jG} {K : jS → Int32 → Prop} (C : jC (X, G, 4, jA X G tvi K) d_X5_read cX5_read "SamovarModel" (some .int) yX5_read) {S : jS} {x0 : Nat} {x1 : Int32}  (h : wp_X5_read S x0 x1 K) : jJ (X, G, 4, jA X G tvi K) S [(0, .ref x0), (1, .int x1)] 0 [] := by
  unfold wp_X5_read at h
  refine jr_iload_n C 1 rfl dX5_read_0 rfl 1 rfl ?_
  refine jr_callSi (As := [.int x1]) (st := []) C 4 rfl (m_X5_isSheet C.2.2.2.2.2.2.2.2.2.2.2.2.2.2.2 h) rfl q1526 q1527 q102 q1528 (by decide) (by decide) nd_X5_isSheet (Nat.le_of_ble_eq_true rfl) dX5_read_1 (fun S1 r2 h => ?_)
  refine jr_if_ne C 10 7 rfl dX5_read_4 (by decide) (fun c8 => ?_) (fun c8 => ?_)
  · have h := h.1 c8
    refine jr_bipush (v := (-2)) C 9 rfl dX5_read_7 (by decide) ?_
    exact jr_ireturn C dX5_read_9 h
  · have h := h.2 c8
    refine jr_aload_n C 11 rfl dX5_read_10 rfl 0 rfl ?_
    refine jr_getr C 14 rfl fo_8_47 q1324 dX5_read_11 h (fun v3 h => ?_)
    refine jr_iload_n C 15 rfl dX5_read_14 rfl 1 rfl ?_
    refine jr_zald C 16 rfl dX5_read_15 h (fun v4 h => ?_)
    refine jr_if_ne C 25 19 rfl dX5_read_16 (by decide) (fun c7 => ?_) (fun c7 => ?_)
    · have h := h.1 c7
      refine jr_aload_n C 20 rfl dX5_read_19 rfl 0 rfl ?_
      refine jr_iconst (v := 1) C 21 rfl dX5_read_20 (by decide) ?_
      obtain ⟨⟨V, hb⟩, h⟩ := h
      refine jr_callVi (r0 := (RX5, TX5, 53)) (As := [.int 1]) (st := []) C 24 rfl (m_X5_meets C.2.2.2.2.2.2.2.2.2.2.2.2.2.2.2 h) rfl hb rfl q1529 q1531 qs50 q102 q1532 (by decide) (by decide) ndV_X5_meets (Nat.le_of_ble_eq_true rfl) dX5_read_21 (fun S5 r6 h => ?_)
      exact jr_ireturn C dX5_read_24 h
    · have h := h.2 c7
      refine jr_iconst (v := 0) C 26 rfl dX5_read_25 (by decide) ?_
      refine jr_istore_n (lv' := [(2, .int 0), (0, .ref x0), (1, .int x1)]) C 27 rfl dX5_read_26 rfl (Nat.le_of_ble_eq_true rfl) rfl ?_
      refine jr_bipush (v := 60) C 29 rfl dX5_read_27 (by decide) ?_
      refine jr_iload_n C 30 rfl dX5_read_29 rfl 2 rfl ?_
      refine jr_imul C 31 rfl dX5_read_30 ?_
      refine jr_istore_n (lv' := [(3, .int (60 * x1)), (2, .int 0), (0, .ref x0), (1, .int x1)]) C 32 rfl dX5_read_31 rfl (Nat.le_of_ble_eq_true rfl) rfl ?_
      obtain ⟨n, h⟩ := h
      exact jr_sub [2, 3, 1, 0] rfl (wk_X5_read_32_L C  n _ h)
theorem m_X5_read {l : Launch} (hl : l.stackTraces = false) {G : jG} {K : jS → Int32 → Prop} {S : jS} {x0 : Nat} {x1 : Int32} (h : wp_X5_read S x0 x1 K) : jMet l G d_X5_read yX5_read (ws_ yX5_read cX5_read 4 (some .int)) [.ref x0, .int x1] S tvi K :=
  jMet.of hl rfl (by decide) (Nat.le_of_ble_eq_true rfl) (fun X C => jr_sub [0, 1] rfl (wk_X5_read_0 C h))
theorem wk_X5_seen_14 {X : jX} {G : jG} {K : jS → Int32 → Prop} (C : jC (X, G, 3, jA X G tvi K) d_X5_seen cX5_seen "SamovarModel" (some .int) yX5_seen) {S : jS}   (h : wp_X5_seen_14 S K) : jJ (X, G, 3, jA X G tvi K) S [] 14 [] := by
  unfold wp_X5_seen_14 at h
  refine jr_bipush (v := (-2)) C 16 rfl dX5_seen_14 (by decide) ?_
  exact jr_ireturn C dX5_seen_16 h
theorem wk_X5_seen_0 {X : jX} {G : jG} {K : jS → Int32 → Prop} (C : jC (X, G, 3, jA X G tvi K) d_X5_seen cX5_seen "SamovarModel" (some .int) yX5_seen) {S : jS} {x0 : Nat} {x1 : Int32} {x2 : Int32}  (h : wp_X5_seen S x0 x1 x2 K) : jJ (X, G, 3, jA X G tvi K) S [(0, .ref x0), (1, .int x1), (2, .int x2)] 0 [] := by
  unfold wp_X5_seen at h
  refine jr_iload_n C 1 rfl dX5_seen_0 rfl 1 rfl ?_
  refine jr_callSi (As := [.int x1]) (st := []) C 4 rfl (m_X5_isMinute C.2.2.2.2.2.2.2.2.2.2.2.2.2.2.2 h) rfl q1476 q1477 q102 q1478 (by decide) (by decide) nd_X5_isMinute (Nat.le_of_ble_eq_true rfl) dX5_seen_1 (fun S1 r2 h => ?_)
  refine jr_if_eq C 14 7 rfl dX5_seen_4 (by decide) (fun c17 => ?_) (fun c17 => ?_)
  · have h := h.1 c17
    exact jr_sub [] rfl (wk_X5_seen_14 C  h)
  · have h := h.2 c17
    refine jr_iload_n C 8 rfl dX5_seen_7 rfl 2 rfl ?_
    refine jr_callSi (As := [.int x2]) (st := []) C 11 rfl (m_X5_isTwo C.2.2.2.2.2.2.2.2.2.2.2.2.2.2.2 h) rfl q1442 q1443 q102 q1444 (by decide) (by decide) nd_X5_isTwo (Nat.le_of_ble_eq_true rfl) dX5_seen_8 (fun S3 r4 h => ?_)
    refine jr_if_ne C 17 14 rfl dX5_seen_11 (by decide) (fun c16 => ?_) (fun c16 => ?_)
    · have h := h.1 c16
      exact jr_sub [] rfl (wk_X5_seen_14 C  h)
    · have h := h.2 c16
      refine jr_aload_n C 18 rfl dX5_seen_17 rfl 0 rfl ?_
      refine jr_geti C 21 rfl fo_8_43 q1320 dX5_seen_18 h (fun v5 h => ?_)
      refine jr_bipush (v := 8) C 23 rfl dX5_seen_21 (by decide) ?_
      refine jr_icmp_ne C 29 26 rfl dX5_seen_23 (by decide) (fun c15 => ?_) (fun c15 => ?_)
      · have h := h.1 c15
        refine jr_bipush (v := (-4)) C 28 rfl dX5_seen_26 (by decide) ?_
        exact jr_ireturn C dX5_seen_28 h
      · have h := h.2 c15
        refine jr_aload_n C 30 rfl dX5_seen_29 rfl 0 rfl ?_
        refine jr_getr C 33 rfl fo_8_44 q1321 dX5_seen_30 h (fun v6 h => ?_)
        refine jr_aload_n C 34 rfl dX5_seen_33 rfl 0 rfl ?_
        refine jr_geti C 37 rfl fo_8_43 q1320 dX5_seen_34 h (fun v7 h => ?_)
        refine jr_iload_n C 38 rfl dX5_seen_37 rfl 1 rfl ?_
        refine jr_iast C 39 rfl dX5_seen_38 h (fun S8 h => ?_)
        refine jr_aload_n C 40 rfl dX5_seen_39 rfl 0 rfl ?_
        refine jr_getr C 43 rfl fo_8_45 q1322 dX5_seen_40 h (fun v9 h => ?_)
        refine jr_aload_n C 44 rfl dX5_seen_43 rfl 0 rfl ?_
        refine jr_geti C 47 rfl fo_8_43 q1320 dX5_seen_44 h (fun v10 h => ?_)
        refine jr_iload_n C 48 rfl dX5_seen_47 rfl 2 rfl ?_
        refine jr_iast C 49 rfl dX5_seen_48 h (fun S11 h => ?_)
        refine jr_aload_n C 50 rfl dX5_seen_49 rfl 0 rfl ?_
        refine jr_dup C 51 rfl dX5_seen_50 rfl ?_
        refine jr_geti C 54 rfl fo_8_43 q1320 dX5_seen_51 h (fun v12 h => ?_)
        refine jr_iconst (v := 1) C 55 rfl dX5_seen_54 (by decide) ?_
        refine jr_iadd C 56 rfl dX5_seen_55 ?_
        refine jr_putv C 59 rfl fo_8_43 (by decide) q1320 dX5_seen_56 rfl rfl h (fun S13 h => ?_)
        refine jr_aload_n C 60 rfl dX5_seen_59 rfl 0 rfl ?_
        refine jr_geti C 63 rfl fo_8_43 q1320 dX5_seen_60 h (fun v14 h => ?_)
        exact jr_ireturn C dX5_seen_63 h
theorem m_X5_seen {l : Launch} (hl : l.stackTraces = false) {G : jG} {K : jS → Int32 → Prop} {S : jS} {x0 : Nat} {x1 : Int32} {x2 : Int32} (h : wp_X5_seen S x0 x1 x2 K) : jMet l G d_X5_seen yX5_seen (ws_ yX5_seen cX5_seen 3 (some .int)) [.ref x0, .int x1, .int x2] S tvi K :=
  jMet.of hl rfl (by decide) (Nat.le_of_ble_eq_true rfl) (fun X C => jr_sub [0, 1, 2] rfl (wk_X5_seen_0 C h))
theorem wk_X5_set_26 {X : jX} {G : jG} {K : jS → Int32 → Prop} (C : jC (X, G, 4, jA X G tvi K) d_X5_set cX5_set "SamovarModel" (some .int) yX5_set) {S : jS}   (h : wp_X5_set_26 S K) : jJ (X, G, 4, jA X G tvi K) S [] 26 [] := by
  unfold wp_X5_set_26 at h
  refine jr_bipush (v := (-2)) C 28 rfl dX5_set_26 (by decide) ?_
  exact jr_ireturn C dX5_set_28 h
theorem wk_X5_set_75 {X : jX} {G : jG} {K : jS → Int32 → Prop} (C : jC (X, G, 4, jA X G tvi K) d_X5_set cX5_set "SamovarModel" (some .int) yX5_set) {S : jS} {t0 : Nat} {t1 : Int32} {x3 : Int32}  (h : wp_X5_set_75 S t0 t1 x3 K) : jJ (X, G, 4, jA X G tvi K) S [(3, .int x3)] 75 [.int t1, .ref t0] := by
  unfold wp_X5_set_75 at h
  refine jr_putv C 78 rfl fo_8_11 (by decide) q1288 dX5_set_75 rfl rfl h (fun S1 h => ?_)
  refine jr_iload_n C 79 rfl dX5_set_78 rfl 0 rfl ?_
  exact jr_ireturn C dX5_set_79 h
theorem wk_X5_set_58 {X : jX} {G : jG} {K : jS → Int32 → Prop} (C : jC (X, G, 4, jA X G tvi K) d_X5_set cX5_set "SamovarModel" (some .int) yX5_set) {S : jS} {t0 : Nat} {t1 : Int32} {x0 : Nat} {x1 : Int32} {x2 : Int32} {x3 : Int32}  (h : wp_X5_set_58 S t0 t1 x0 x1 x2 x3 K) : jJ (X, G, 4, jA X G tvi K) S [(0, .ref x0), (1, .int x1), (2, .int x2), (3, .int x3)] 58 [.int t1, .ref t0] := by
  unfold wp_X5_set_58 at h
  refine jr_putv C 61 rfl fo_8_10 (by decide) q1287 dX5_set_58 rfl rfl h (fun S1 h => ?_)
  refine jr_aload_n C 62 rfl dX5_set_61 rfl 0 rfl ?_
  refine jr_iload_n C 63 rfl dX5_set_62 rfl 1 rfl ?_
  refine jr_iconst (v := 1) C 64 rfl dX5_set_63 (by decide) ?_
  refine jr_icmp_ne C 71 67 rfl dX5_set_64 (by decide) (fun c3 => ?_) (fun c3 => ?_)
  · have h := h.1 c3
    refine jr_iload_n C 68 rfl dX5_set_67 rfl 2 rfl ?_
    refine jr_goto C 75 dX5_set_68 (by decide) ?_
    exact jr_sub [3] rfl (wk_X5_set_75 C  h)
  · have h := h.2 c3
    refine jr_aload_n C 72 rfl dX5_set_71 rfl 0 rfl ?_
    refine jr_geti C 75 rfl fo_8_11 q1288 dX5_set_72 h (fun v2 h => ?_)
    exact jr_sub [3] rfl (wk_X5_set_75 C  h)
theorem wk_X5_set_44 {X : jX} {G : jG} {K : jS → Int32 → Prop} (C : jC (X, G, 4, jA X G tvi K) d_X5_set cX5_set "SamovarModel" (some .int) yX5_set) {S : jS} {t0 : Int32} {x0 : Nat} {x1 : Int32} {x2 : Int32}  (h : wp_X5_set_44 S t0 x0 x1 x2 K) : jJ (X, G, 4, jA X G tvi K) S [(0, .ref x0), (1, .int x1), (2, .int x2)] 44 [.int t0] := by
  unfold wp_X5_set_44 at h
  refine jr_istore_n (lv' := [(3, .int t0), (0, .ref x0), (1, .int x1), (2, .int x2)]) C 45 rfl dX5_set_44 rfl (Nat.le_of_ble_eq_true rfl) rfl ?_
  refine jr_aload_n C 46 rfl dX5_set_45 rfl 1 rfl ?_
  refine jr_iload_n C 47 rfl dX5_set_46 rfl 2 rfl ?_
  refine jr_if_ne C 54 50 rfl dX5_set_47 (by decide) (fun c2 => ?_) (fun c2 => ?_)
  · have h := h.1 c2
    refine jr_iload_n C 51 rfl dX5_set_50 rfl 3 rfl ?_
    refine jr_goto C 58 dX5_set_51 (by decide) ?_
    exact jr_sub [1, 2, 3, 0] rfl (wk_X5_set_58 C  h)
  · have h := h.2 c2
    refine jr_aload_n C 55 rfl dX5_set_54 rfl 1 rfl ?_
    refine jr_geti C 58 rfl fo_8_10 q1287 dX5_set_55 h (fun v1 h => ?_)
    exact jr_sub [1, 2, 3, 0] rfl (wk_X5_set_58 C  h)
theorem wk_X5_set_20 {X : jX} {G : jG} {K : jS → Int32 → Prop} (C : jC (X, G, 4, jA X G tvi K) d_X5_set cX5_set "SamovarModel" (some .int) yX5_set) {S : jS} {t0 : Int32} {t1 : Int32} {t2 : Int32} {x0 : Nat} {x1 : Int32} {x2 : Int32}  (h : wp_X5_set_20 S t0 t1 t2 x0 x1 x2 K) : jJ (X, G, 4, jA X G tvi K) S [(0, .ref x0), (1, .int x1), (2, .int x2)] 20 [.int t2, .int t1, .int t0] := by
  unfold wp_X5_set_20 at h
  refine jr_callSi (As := [.int t0, .int t1, .int t2]) (st := []) C 23 rfl (m_X5_in C.2.2.2.2.2.2.2.2.2.2.2.2.2.2.2 h) rfl q1445 q1446 q102 q1447 (by decide) (by decide) nd_X5_in (Nat.le_of_ble_eq_true rfl) dX5_set_20 (fun S1 r2 h => ?_)
  refine jr_if_ne C 29 26 rfl dX5_set_23 (by decide) (fun c6 => ?_) (fun c6 => ?_)
  · have h := h.1 c6
    exact jr_sub [] rfl (wk_X5_set_26 C  h)
  · have h := h.2 c6
    refine jr_iload_n C 30 rfl dX5_set_29 rfl 1 rfl ?_
    refine jr_if_ne C 40 33 rfl dX5_set_30 (by decide) (fun c5 => ?_) (fun c5 => ?_)
    · have h := h.1 c5
      refine jr_aload_n C 34 rfl dX5_set_33 rfl 0 rfl ?_
      refine jr_geti C 37 rfl fo_8_10 q1287 dX5_set_34 h (fun v3 h => ?_)
      refine jr_goto C 44 dX5_set_37 (by decide) ?_
      exact (wk_X5_set_44 C  h)
    · have h := h.2 c5
      refine jr_aload_n C 41 rfl dX5_set_40 rfl 0 rfl ?_
      refine jr_geti C 44 rfl fo_8_11 q1288 dX5_set_41 h (fun v4 h => ?_)
      exact (wk_X5_set_44 C  h)
theorem wk_X5_set_0 {X : jX} {G : jG} {K : jS → Int32 → Prop} (C : jC (X, G, 4, jA X G tvi K) d_X5_set cX5_set "SamovarModel" (some .int) yX5_set) {S : jS} {x0 : Nat} {x1 : Int32} {x2 : Int32}  (h : wp_X5_set S x0 x1 x2 K) : jJ (X, G, 4, jA X G tvi K) S [(0, .ref x0), (1, .int x1), (2, .int x2)] 0 [] := by
  unfold wp_X5_set at h
  refine jr_iload_n C 1 rfl dX5_set_0 rfl 1 rfl ?_
  refine jr_callSi (As := [.int x1]) (st := []) C 4 rfl (m_X5_isTwo C.2.2.2.2.2.2.2.2.2.2.2.2.2.2.2 h) rfl q1442 q1443 q102 q1444 (by decide) (by decide) nd_X5_isTwo (Nat.le_of_ble_eq_true rfl) dX5_set_1 (fun S1 r2 h => ?_)
  refine jr_if_eq C 26 7 rfl dX5_set_4 (by decide) (fun c4 => ?_) (fun c4 => ?_)
  · have h := h.1 c4
    exact jr_sub [] rfl (wk_X5_set_26 C  h)
  · have h := h.2 c4
    refine jr_iload_n C 8 rfl dX5_set_7 rfl 2 rfl ?_
    refine jr_iconst (v := 0) C 9 rfl dX5_set_8 (by decide) ?_
    refine jr_iload_n C 10 rfl dX5_set_9 rfl 1 rfl ?_
    refine jr_if_ne C 18 13 rfl dX5_set_10 (by decide) (fun c3 => ?_) (fun c3 => ?_)
    · have h := h.1 c3
      refine jr_bipush (v := 30) C 15 rfl dX5_set_13 (by decide) ?_
      refine jr_goto C 20 dX5_set_15 (by decide) ?_
      exact (wk_X5_set_20 C  h)
    · have h := h.2 c3
      refine jr_bipush (v := 40) C 20 rfl dX5_set_18 (by decide) ?_
      exact (wk_X5_set_20 C  h)
theorem m_X5_set {l : Launch} (hl : l.stackTraces = false) {G : jG} {K : jS → Int32 → Prop} {S : jS} {x0 : Nat} {x1 : Int32} {x2 : Int32} (h : wp_X5_set S x0 x1 x2 K) : jMet l G d_X5_set yX5_set (ws_ yX5_set cX5_set 4 (some .int)) [.ref x0, .int x1, .int x2] S tvi K :=
  jMet.of hl rfl (by decide) (Nat.le_of_ble_eq_true rfl) (fun X C => jr_sub [0, 1, 2] rfl (wk_X5_set_0 C h))
theorem wk_X5_sheet_22 {X : jX} {G : jG} {K : jS → Int32 → Prop} (C : jC (X, G, 5, jA X G tvi K) d_X5_sheet cX5_sheet "SamovarModel" (some .int) yX5_sheet) {S : jS}   (h : wp_X5_sheet_22 S K) : jJ (X, G, 5, jA X G tvi K) S [] 22 [] := by
  unfold wp_X5_sheet_22 at h
  refine jr_bipush (v := (-2)) C 24 rfl dX5_sheet_22 (by decide) ?_
  exact jr_ireturn C dX5_sheet_24 h
theorem wk_X5_sheet_66 {X : jX} {G : jG} {K : jS → Int32 → Prop} (C : jC (X, G, 5, jA X G tvi K) d_X5_sheet cX5_sheet "SamovarModel" (some .int) yX5_sheet) {S : jS} {x0 : Nat} {x1 : Int32} {x3 : Int32} {x4 : Int32} {Kc59 : jS × Int32 → Prop} (hc59 : ∀ z : jS × Int32, Kc59 z → jJ (X, G, 5, jA X G tvi K) z.1 [(0, .ref x0), (1, .int x1), (3, .int x3), (4, .int z.2)] 59 []) (h : wp_X5_sheet_66 S x0 x1 x3 x4 Kc59 K) : jJ (X, G, 5, jA X G tvi K) S [(0, .ref x0), (1, .int x1), (3, .int x3), (4, .int x4)] 66 [] := by
  unfold wp_X5_sheet_66 at h
  refine jr_aload_n C 67 rfl dX5_sheet_66 rfl 0 rfl ?_
  refine jr_getr C 70 rfl fo_8_50 q1327 dX5_sheet_67 h (fun v1 h => ?_)
  refine jr_bipush (v := 60) C 72 rfl dX5_sheet_70 (by decide) ?_
  refine jr_iload_n C 73 rfl dX5_sheet_72 rfl 1 rfl ?_
  refine jr_imul C 74 rfl dX5_sheet_73 ?_
  refine jr_iload C 76 rfl dX5_sheet_74 3 rfl ?_
  refine jr_iadd C 77 rfl dX5_sheet_76 ?_
  refine jr_iconst (v := 0) C 78 rfl dX5_sheet_77 (by decide) ?_
  refine jr_iast C 79 rfl dX5_sheet_78 h (fun S2 h => ?_)
  refine jr_iinc (v := (x4 + 1)) (lv' := [(4, .int (x4 + 1)), (0, .ref x0), (1, .int x1), (3, .int x3)]) C 82 rfl dX5_sheet_79 3 rfl rfl (Nat.le_of_ble_eq_true rfl) rfl ?_
  refine jr_goto C 59 dX5_sheet_82 (by decide) ?_
  exact jr_sub [1, 2, 3, 0] rfl (hc59 _ h)
theorem wk_X5_sheet_85 {X : jX} {G : jG} {K : jS → Int32 → Prop} (C : jC (X, G, 5, jA X G tvi K) d_X5_sheet cX5_sheet "SamovarModel" (some .int) yX5_sheet) {S : jS} {x3 : Int32}  (h : wp_X5_sheet_85 S x3 K) : jJ (X, G, 5, jA X G tvi K) S [(3, .int x3)] 85 [] := by
  unfold wp_X5_sheet_85 at h
  refine jr_iload_n C 86 rfl dX5_sheet_85 rfl 0 rfl ?_
  exact jr_ireturn C dX5_sheet_86 h
theorem wk_X5_sheet_59 {X : jX} {G : jG} {K : jS → Int32 → Prop} (C : jC (X, G, 5, jA X G tvi K) d_X5_sheet cX5_sheet "SamovarModel" (some .int) yX5_sheet) {S : jS} {x0 : Nat} {x1 : Int32} {x3 : Int32} {x4 : Int32} {Kc59 : jS × Int32 → Prop} (hc59 : ∀ z : jS × Int32, Kc59 z → jJ (X, G, 5, jA X G tvi K) z.1 [(0, .ref x0), (1, .int x1), (3, .int x3), (4, .int z.2)] 59 []) (h : wp_X5_sheet_59 S x0 x1 x3 x4 Kc59 K) : jJ (X, G, 5, jA X G tvi K) S [(0, .ref x0), (1, .int x1), (3, .int x3), (4, .int x4)] 59 [] := by
  unfold wp_X5_sheet_59 at h
  refine jr_iload C 61 rfl dX5_sheet_59 3 rfl ?_
  refine jr_bipush (v := 60) C 63 rfl dX5_sheet_61 (by decide) ?_
  refine jr_icmp_ge C 85 66 rfl dX5_sheet_63 (by decide) (fun c1 => ?_) (fun c1 => ?_)
  · have h := h.1 c1
    exact jr_sub [2] rfl (wk_X5_sheet_85 C  h)
  · have h := h.2 c1
    exact (wk_X5_sheet_66 C hc59 h)
theorem wk_X5_sheet_59_L {X : jX} {G : jG} {K : jS → Int32 → Prop} (C : jC (X, G, 5, jA X G tvi K) d_X5_sheet cX5_sheet "SamovarModel" (some .int) yX5_sheet) {x0 : Nat} {x1 : Int32} {x3 : Int32}  : ∀ (n : Nat) (z : jS × Int32), jlp n (wp_X5_sheet_59_L x0 x1 x3 K) z → jJ (X, G, 5, jA X G tvi K) z.1 [(0, .ref x0), (1, .int x1), (3, .int x3), (4, .int z.2)] 59 [] := by
  intro n
  induction n with
  | zero => intro z h; exact h.elim
  | succ n ih => intro z h; exact wk_X5_sheet_59 C ih h
theorem wk_X5_sheet_0 {X : jX} {G : jG} {K : jS → Int32 → Prop} (C : jC (X, G, 5, jA X G tvi K) d_X5_sheet cX5_sheet "SamovarModel" (some .int) yX5_sheet) {S : jS} {x0 : Nat} {x1 : Int32} {x2 : Int32} {x3 : Int32}  (h : wp_X5_sheet S x0 x1 x2 x3 K) : jJ (X, G, 5, jA X G tvi K) S [(0, .ref x0), (1, .int x1), (2, .int x2), (3, .int x3)] 0 [] := by
  unfold wp_X5_sheet at h
  refine jr_iload_n C 1 rfl dX5_sheet_0 rfl 1 rfl ?_
  refine jr_callSi (As := [.int x1]) (st := []) C 4 rfl (m_X5_isSheet C.2.2.2.2.2.2.2.2.2.2.2.2.2.2.2 h) rfl q1526 q1527 q102 q1528 (by decide) (by decide) nd_X5_isSheet (Nat.le_of_ble_eq_true rfl) dX5_sheet_1 (fun S1 r2 h => ?_)
  refine jr_if_eq C 22 7 rfl dX5_sheet_4 (by decide) (fun c16 => ?_) (fun c16 => ?_)
  · have h := h.1 c16
    exact jr_sub [] rfl (wk_X5_sheet_22 C  h)
  · have h := h.2 c16
    refine jr_iload_n C 8 rfl dX5_sheet_7 rfl 2 rfl ?_
    refine jr_iconst (v := 0) C 9 rfl dX5_sheet_8 (by decide) ?_
    refine jr_iconst (v := 2) C 10 rfl dX5_sheet_9 (by decide) ?_
    refine jr_callSi (As := [.int x2, .int 0, .int 2]) (st := []) C 13 rfl (m_X5_in C.2.2.2.2.2.2.2.2.2.2.2.2.2.2.2 h) rfl q1445 q1446 q102 q1447 (by decide) (by decide) nd_X5_in (Nat.le_of_ble_eq_true rfl) dX5_sheet_10 (fun S3 r4 h => ?_)
    refine jr_if_eq C 22 16 rfl dX5_sheet_13 (by decide) (fun c15 => ?_) (fun c15 => ?_)
    · have h := h.1 c15
      exact jr_sub [] rfl (wk_X5_sheet_22 C  h)
    · have h := h.2 c15
      refine jr_iload_n C 17 rfl dX5_sheet_16 rfl 3 rfl ?_
      refine jr_bipush (v := 60) C 19 rfl dX5_sheet_17 (by decide) ?_
      refine jr_icmp_le C 25 22 rfl dX5_sheet_19 (by decide) (fun c14 => ?_) (fun c14 => ?_)
      · have h := h.1 c14
        refine jr_iload_n C 26 rfl dX5_sheet_25 rfl 3 rfl ?_
        refine jr_if_ge C 35 29 rfl dX5_sheet_26 (by decide) (fun c13 => ?_) (fun c13 => ?_)
        · have h := h.1 c13
          refine jr_aload_n C 36 rfl dX5_sheet_35 rfl 0 rfl ?_
          refine jr_getr C 39 rfl fo_8_47 q1324 dX5_sheet_36 h (fun v5 h => ?_)
          refine jr_iload_n C 40 rfl dX5_sheet_39 rfl 1 rfl ?_
          refine jr_iconst (v := 1) C 41 rfl dX5_sheet_40 (by decide) ?_
          refine jr_zast C 42 rfl dX5_sheet_41 h (fun S6 h => ?_)
          refine jr_aload_n C 43 rfl dX5_sheet_42 rfl 0 rfl ?_
          refine jr_getr C 46 rfl fo_8_48 q1325 dX5_sheet_43 h (fun v7 h => ?_)
          refine jr_iload_n C 47 rfl dX5_sheet_46 rfl 1 rfl ?_
          refine jr_iload_n C 48 rfl dX5_sheet_47 rfl 2 rfl ?_
          refine jr_iast C 49 rfl dX5_sheet_48 h (fun S8 h => ?_)
          refine jr_aload_n C 50 rfl dX5_sheet_49 rfl 0 rfl ?_
          refine jr_getr C 53 rfl fo_8_49 q1326 dX5_sheet_50 h (fun v9 h => ?_)
          refine jr_iload_n C 54 rfl dX5_sheet_53 rfl 1 rfl ?_
          refine jr_iload_n C 55 rfl dX5_sheet_54 rfl 3 rfl ?_
          refine jr_iast C 56 rfl dX5_sheet_55 h (fun S10 h => ?_)
          refine jr_iconst (v := 0) C 57 rfl dX5_sheet_56 (by decide) ?_
          refine jr_istore (lv' := [(4, .int 0), (0, .ref x0), (1, .int x1), (2, .int x2), (3, .int x3)]) C 59 rfl dX5_sheet_57 (Nat.le_of_ble_eq_true rfl) rfl ?_
          obtain ⟨n, h⟩ := h
          exact jr_sub [1, 2, 4, 0] rfl (wk_X5_sheet_59_L C  n _ h)
        · have h := h.2 c13
          refine jr_aload_n C 30 rfl dX5_sheet_29 rfl 0 rfl ?_
          refine jr_iconst (v := 5) C 31 rfl dX5_sheet_30 (by decide) ?_
          obtain ⟨⟨V, hb⟩, h⟩ := h
          refine jr_callVi (r0 := (RX5, TX5, 53)) (As := [.int 5]) (st := []) C 34 rfl (m_X5_meets C.2.2.2.2.2.2.2.2.2.2.2.2.2.2.2 h) rfl hb rfl q1529 q1531 qs50 q102 q1532 (by decide) (by decide) ndV_X5_meets (Nat.le_of_ble_eq_true rfl) dX5_sheet_31 (fun S11 r12 h => ?_)
          exact jr_ireturn C dX5_sheet_34 h
      · have h := h.2 c14
        exact jr_sub [] rfl (wk_X5_sheet_22 C  h)
theorem m_X5_sheet {l : Launch} (hl : l.stackTraces = false) {G : jG} {K : jS → Int32 → Prop} {S : jS} {x0 : Nat} {x1 : Int32} {x2 : Int32} {x3 : Int32} (h : wp_X5_sheet S x0 x1 x2 x3 K) : jMet l G d_X5_sheet yX5_sheet (ws_ yX5_sheet cX5_sheet 5 (some .int)) [.ref x0, .int x1, .int x2, .int x3] S tvi K :=
  jMet.of hl rfl (by decide) (Nat.le_of_ble_eq_true rfl) (fun X C => jr_sub [0, 1, 2, 3] rfl (wk_X5_sheet_0 C h))
theorem wk_X5_spare_23 {X : jX} {G : jG} {K : jS → Int32 → Prop} (C : jC (X, G, 2, jA X G tvi K) d_X5_spare cX5_spare "SamovarModel" (some .int) yX5_spare) {S : jS} {t0 : Int32}  (h : wp_X5_spare_23 S t0 K) : jJ (X, G, 2, jA X G tvi K) S [] 23 [.int t0] := by
  unfold wp_X5_spare_23 at h
  exact jr_ireturn C dX5_spare_23 h
theorem wk_X5_spare_0 {X : jX} {G : jG} {K : jS → Int32 → Prop} (C : jC (X, G, 2, jA X G tvi K) d_X5_spare cX5_spare "SamovarModel" (some .int) yX5_spare) {S : jS} {x0 : Nat} {x1 : Int32}  (h : wp_X5_spare S x0 x1 K) : jJ (X, G, 2, jA X G tvi K) S [(0, .ref x0), (1, .int x1)] 0 [] := by
  unfold wp_X5_spare at h
  refine jr_iload_n C 1 rfl dX5_spare_0 rfl 1 rfl ?_
  refine jr_iconst (v := (-1)) C 2 rfl dX5_spare_1 (by decide) ?_
  refine jr_iconst (v := 1) C 3 rfl dX5_spare_2 (by decide) ?_
  refine jr_callSi (As := [.int x1, .int (-1), .int 1]) (st := []) C 6 rfl (m_X5_in C.2.2.2.2.2.2.2.2.2.2.2.2.2.2.2 h) rfl q1445 q1446 q102 q1447 (by decide) (by decide) nd_X5_in (Nat.le_of_ble_eq_true rfl) dX5_spare_3 (fun S1 r2 h => ?_)
  refine jr_if_eq C 21 9 rfl dX5_spare_6 (by decide) (fun c7 => ?_) (fun c7 => ?_)
  · have h := h.1 c7
    refine jr_bipush (v := (-2)) C 23 rfl dX5_spare_21 (by decide) ?_
    exact jr_sub [] rfl (wk_X5_spare_23 C  h)
  · have h := h.2 c7
    refine jr_aload_n C 10 rfl dX5_spare_9 rfl 0 rfl ?_
    refine jr_aload_n C 11 rfl dX5_spare_10 rfl 0 rfl ?_
    obtain ⟨⟨V, hb⟩, h⟩ := h
    refine jr_callVi (r0 := (RX5, TX5, 53)) (As := []) (st := [.ref x0]) C 14 rfl (m_X5_spareBy C.2.2.2.2.2.2.2.2.2.2.2.2.2.2.2 h) rfl hb rfl q1692 q1694 qs77 q102 q1695 (by decide) (by decide) ndV_X5_spareBy (Nat.le_of_ble_eq_true rfl) dX5_spare_11 (fun S3 r4 h => ?_)
    refine jr_iload_n C 15 rfl dX5_spare_14 rfl 1 rfl ?_
    obtain ⟨⟨V, hb⟩, h⟩ := h
    refine jr_callVi (r0 := (RX5, TX5, 53)) (As := [.int r4, .int x1]) (st := []) C 18 rfl (m_X5_ofRow C.2.2.2.2.2.2.2.2.2.2.2.2.2.2.2 h) rfl hb rfl q1700 q1702 qs79 q102 q1703 (by decide) (by decide) ndV_X5_ofRow (Nat.le_of_ble_eq_true rfl) dX5_spare_15 (fun S5 r6 h => ?_)
    refine jr_goto C 23 dX5_spare_18 (by decide) ?_
    exact jr_sub [] rfl (wk_X5_spare_23 C  h)
theorem m_X5_spare {l : Launch} (hl : l.stackTraces = false) {G : jG} {K : jS → Int32 → Prop} {S : jS} {x0 : Nat} {x1 : Int32} (h : wp_X5_spare S x0 x1 K) : jMet l G d_X5_spare yX5_spare (ws_ yX5_spare cX5_spare 2 (some .int)) [.ref x0, .int x1] S tvi K :=
  jMet.of hl rfl (by decide) (Nat.le_of_ble_eq_true rfl) (fun X C => jr_sub [0, 1] rfl (wk_X5_spare_0 C h))
theorem wk_X5_sum_19 {X : jX} {G : jG} {K : jS → Int32 → Prop} (C : jC (X, G, 2, jA X G tvi K) d_X5_sum cX5_sum "SamovarModel" (some .int) yX5_sum) {S : jS} {t0 : Int32}  (h : wp_X5_sum_19 S t0 K) : jJ (X, G, 2, jA X G tvi K) S [] 19 [.int t0] := by
  unfold wp_X5_sum_19 at h
  exact jr_ireturn C dX5_sum_19 h
theorem wk_X5_sum_0 {X : jX} {G : jG} {K : jS → Int32 → Prop} (C : jC (X, G, 2, jA X G tvi K) d_X5_sum cX5_sum "SamovarModel" (some .int) yX5_sum) {S : jS} {x0 : Nat} {x1 : Int32}  (h : wp_X5_sum S x0 x1 K) : jJ (X, G, 2, jA X G tvi K) S [(0, .ref x0), (1, .int x1)] 0 [] := by
  unfold wp_X5_sum at h
  refine jr_iload_n C 1 rfl dX5_sum_0 rfl 1 rfl ?_
  refine jr_iconst (v := 0) C 2 rfl dX5_sum_1 (by decide) ?_
  refine jr_iconst (v := 4) C 3 rfl dX5_sum_2 (by decide) ?_
  refine jr_callSi (As := [.int x1, .int 0, .int 4]) (st := []) C 6 rfl (m_X5_in C.2.2.2.2.2.2.2.2.2.2.2.2.2.2.2 h) rfl q1445 q1446 q102 q1447 (by decide) (by decide) nd_X5_in (Nat.le_of_ble_eq_true rfl) dX5_sum_3 (fun S1 r2 h => ?_)
  refine jr_if_eq C 17 9 rfl dX5_sum_6 (by decide) (fun c5 => ?_) (fun c5 => ?_)
  · have h := h.1 c5
    refine jr_bipush (v := (-2)) C 19 rfl dX5_sum_17 (by decide) ?_
    exact jr_sub [] rfl (wk_X5_sum_19 C  h)
  · have h := h.2 c5
    refine jr_aload_n C 10 rfl dX5_sum_9 rfl 0 rfl ?_
    refine jr_iload_n C 11 rfl dX5_sum_10 rfl 1 rfl ?_
    obtain ⟨⟨V, hb⟩, h⟩ := h
    refine jr_callVi (r0 := (RX5, TX5, 53)) (As := [.int x1]) (st := []) C 14 rfl (m_X5_sumOf C.2.2.2.2.2.2.2.2.2.2.2.2.2.2.2 h) rfl hb rfl q1612 q1614 qs65 q102 q1615 (by decide) (by decide) ndV_X5_sumOf (Nat.le_of_ble_eq_true rfl) dX5_sum_11 (fun S3 r4 h => ?_)
    refine jr_goto C 19 dX5_sum_14 (by decide) ?_
    exact jr_sub [] rfl (wk_X5_sum_19 C  h)
theorem m_X5_sum {l : Launch} (hl : l.stackTraces = false) {G : jG} {K : jS → Int32 → Prop} {S : jS} {x0 : Nat} {x1 : Int32} (h : wp_X5_sum S x0 x1 K) : jMet l G d_X5_sum yX5_sum (ws_ yX5_sum cX5_sum 2 (some .int)) [.ref x0, .int x1] S tvi K :=
  jMet.of hl rfl (by decide) (Nat.le_of_ble_eq_true rfl) (fun X C => jr_sub [0, 1] rfl (wk_X5_sum_0 C h))
theorem wk_X5_thirst_0 {X : jX} {G : jG} {K : jS → Int32 → Prop} (C : jC (X, G, 1, jA X G tvi K) d_X5_thirst cX5_thirst "SamovarModel" (some .int) yX5_thirst) {S : jS} {x0 : Nat}  (h : wp_X5_thirst S x0 K) : jJ (X, G, 1, jA X G tvi K) S [(0, .ref x0)] 0 [] := by
  unfold wp_X5_thirst at h
  refine jr_aload_n C 1 rfl dX5_thirst_0 rfl 0 rfl ?_
  obtain ⟨⟨V, hb⟩, h⟩ := h
  refine jr_callVi (r0 := (RX5, TX5, 53)) (As := []) (st := []) C 4 rfl (m_X5_thirstOf C.2.2.2.2.2.2.2.2.2.2.2.2.2.2.2 h) rfl hb rfl q1652 q1654 qs71 q102 q1655 (by decide) (by decide) ndV_X5_thirstOf (Nat.le_of_ble_eq_true rfl) dX5_thirst_1 (fun S1 r2 h => ?_)
  exact jr_ireturn C dX5_thirst_4 h
theorem m_X5_thirst {l : Launch} (hl : l.stackTraces = false) {G : jG} {K : jS → Int32 → Prop} {S : jS} {x0 : Nat} (h : wp_X5_thirst S x0 K) : jMet l G d_X5_thirst yX5_thirst (ws_ yX5_thirst cX5_thirst 1 (some .int)) [.ref x0] S tvi K :=
  jMet.of hl rfl (by decide) (Nat.le_of_ble_eq_true rfl) (fun X C => jr_sub [0] rfl (wk_X5_thirst_0 C h))
theorem wk_X5_type_18 {X : jX} {G : jG} {K : jS → Int32 → Prop} (C : jC (X, G, 3, jA X G tvi K) d_X5_type cX5_type "SamovarModel" (some .int) yX5_type) {S : jS}   (h : wp_X5_type_18 S K) : jJ (X, G, 3, jA X G tvi K) S [] 18 [] := by
  unfold wp_X5_type_18 at h
  refine jr_bipush (v := (-2)) C 20 rfl dX5_type_18 (by decide) ?_
  exact jr_ireturn C dX5_type_20 h
theorem wk_X5_type_0 {X : jX} {G : jG} {K : jS → Int32 → Prop} (C : jC (X, G, 3, jA X G tvi K) d_X5_type cX5_type "SamovarModel" (some .int) yX5_type) {S : jS} {x0 : Nat} {x1 : Int32} {x2 : Int32}  (h : wp_X5_type S x0 x1 x2 K) : jJ (X, G, 3, jA X G tvi K) S [(0, .ref x0), (1, .int x1), (2, .int x2)] 0 [] := by
  unfold wp_X5_type at h
  refine jr_iload_n C 1 rfl dX5_type_0 rfl 1 rfl ?_
  refine jr_callSi (As := [.int x1]) (st := []) C 4 rfl (m_X5_isTwo C.2.2.2.2.2.2.2.2.2.2.2.2.2.2.2 h) rfl q1442 q1443 q102 q1444 (by decide) (by decide) nd_X5_isTwo (Nat.le_of_ble_eq_true rfl) dX5_type_1 (fun S1 r2 h => ?_)
  refine jr_if_eq C 18 7 rfl dX5_type_4 (by decide) (fun c18 => ?_) (fun c18 => ?_)
  · have h := h.1 c18
    exact jr_sub [] rfl (wk_X5_type_18 C  h)
  · have h := h.2 c18
    refine jr_iload_n C 8 rfl dX5_type_7 rfl 2 rfl ?_
    refine jr_iconst (v := 0) C 9 rfl dX5_type_8 (by decide) ?_
    refine jr_sipush (v := 255) C 12 rfl dX5_type_9 (by decide) ?_
    refine jr_callSi (As := [.int x2, .int 0, .int 255]) (st := []) C 15 rfl (m_X5_in C.2.2.2.2.2.2.2.2.2.2.2.2.2.2.2 h) rfl q1445 q1446 q102 q1447 (by decide) (by decide) nd_X5_in (Nat.le_of_ble_eq_true rfl) dX5_type_12 (fun S3 r4 h => ?_)
    refine jr_if_ne C 21 18 rfl dX5_type_15 (by decide) (fun c17 => ?_) (fun c17 => ?_)
    · have h := h.1 c17
      exact jr_sub [] rfl (wk_X5_type_18 C  h)
    · have h := h.2 c17
      refine jr_aload_n C 22 rfl dX5_type_21 rfl 0 rfl ?_
      refine jr_getr C 25 rfl fo_8_0 q1277 dX5_type_22 h (fun v5 h => ?_)
      refine jr_iload_n C 26 rfl dX5_type_25 rfl 1 rfl ?_
      refine jr_iald C 27 rfl dX5_type_26 h (fun v6 h => ?_)
      refine jr_bipush (v := 31) C 29 rfl dX5_type_27 (by decide) ?_
      refine jr_icmp_ne C 35 32 rfl dX5_type_29 (by decide) (fun c16 => ?_) (fun c16 => ?_)
      · have h := h.1 c16
        refine jr_bipush (v := (-4)) C 34 rfl dX5_type_32 (by decide) ?_
        exact jr_ireturn C dX5_type_34 h
      · have h := h.2 c16
        refine jr_aload_n C 36 rfl dX5_type_35 rfl 0 rfl ?_
        refine jr_getr C 39 rfl fo_8_1 q1278 dX5_type_36 h (fun v7 h => ?_)
        refine jr_bipush (v := 31) C 41 rfl dX5_type_39 (by decide) ?_
        refine jr_iload_n C 42 rfl dX5_type_41 rfl 1 rfl ?_
        refine jr_imul C 43 rfl dX5_type_42 ?_
        refine jr_aload_n C 44 rfl dX5_type_43 rfl 0 rfl ?_
        refine jr_getr C 47 rfl fo_8_0 q1277 dX5_type_44 h (fun v8 h => ?_)
        refine jr_iload_n C 48 rfl dX5_type_47 rfl 1 rfl ?_
        refine jr_iald C 49 rfl dX5_type_48 h (fun v9 h => ?_)
        refine jr_iadd C 50 rfl dX5_type_49 ?_
        refine jr_iload_n C 51 rfl dX5_type_50 rfl 2 rfl ?_
        refine jr_iast C 52 rfl dX5_type_51 h (fun S10 h => ?_)
        refine jr_aload_n C 53 rfl dX5_type_52 rfl 0 rfl ?_
        refine jr_getr C 56 rfl fo_8_0 q1277 dX5_type_53 h (fun v11 h => ?_)
        refine jr_iload_n C 57 rfl dX5_type_56 rfl 1 rfl ?_
        refine jr_dup2 C 58 rfl dX5_type_57 rfl rfl ?_
        refine jr_iald C 59 rfl dX5_type_58 h (fun v12 h => ?_)
        refine jr_iconst (v := 1) C 60 rfl dX5_type_59 (by decide) ?_
        refine jr_iadd C 61 rfl dX5_type_60 ?_
        refine jr_iast C 62 rfl dX5_type_61 h (fun S13 h => ?_)
        refine jr_aload_n C 63 rfl dX5_type_62 rfl 0 rfl ?_
        refine jr_getr C 66 rfl fo_8_0 q1277 dX5_type_63 h (fun v14 h => ?_)
        refine jr_iload_n C 67 rfl dX5_type_66 rfl 1 rfl ?_
        refine jr_iald C 68 rfl dX5_type_67 h (fun v15 h => ?_)
        exact jr_ireturn C dX5_type_68 h
theorem m_X5_type {l : Launch} (hl : l.stackTraces = false) {G : jG} {K : jS → Int32 → Prop} {S : jS} {x0 : Nat} {x1 : Int32} {x2 : Int32} (h : wp_X5_type S x0 x1 x2 K) : jMet l G d_X5_type yX5_type (ws_ yX5_type cX5_type 3 (some .int)) [.ref x0, .int x1, .int x2] S tvi K :=
  jMet.of hl rfl (by decide) (Nat.le_of_ble_eq_true rfl) (fun X C => jr_sub [0, 1, 2] rfl (wk_X5_type_0 C h))
theorem wk_X5_undo_0 {X : jX} {G : jG} {K : jS → Int32 → Prop} (C : jC (X, G, 2, jA X G tvi K) d_X5_undo cX5_undo "SamovarModel" (some .int) yX5_undo) {S : jS} {x0 : Nat} {x1 : Int32}  (h : wp_X5_undo S x0 x1 K) : jJ (X, G, 2, jA X G tvi K) S [(0, .ref x0), (1, .int x1)] 0 [] := by
  unfold wp_X5_undo at h
  refine jr_iload_n C 1 rfl dX5_undo_0 rfl 1 rfl ?_
  refine jr_callSi (As := [.int x1]) (st := []) C 4 rfl (m_X5_isTwo C.2.2.2.2.2.2.2.2.2.2.2.2.2.2.2 h) rfl q1442 q1443 q102 q1444 (by decide) (by decide) nd_X5_isTwo (Nat.le_of_ble_eq_true rfl) dX5_undo_1 (fun S1 r2 h => ?_)
  refine jr_if_ne C 10 7 rfl dX5_undo_4 (by decide) (fun c11 => ?_) (fun c11 => ?_)
  · have h := h.1 c11
    refine jr_bipush (v := (-2)) C 9 rfl dX5_undo_7 (by decide) ?_
    exact jr_ireturn C dX5_undo_9 h
  · have h := h.2 c11
    refine jr_aload_n C 11 rfl dX5_undo_10 rfl 0 rfl ?_
    refine jr_getr C 14 rfl fo_8_0 q1277 dX5_undo_11 h (fun v3 h => ?_)
    refine jr_iload_n C 15 rfl dX5_undo_14 rfl 1 rfl ?_
    refine jr_iald C 16 rfl dX5_undo_15 h (fun v4 h => ?_)
    refine jr_if_ne C 22 19 rfl dX5_undo_16 (by decide) (fun c10 => ?_) (fun c10 => ?_)
    · have h := h.1 c10
      refine jr_bipush (v := (-3)) C 21 rfl dX5_undo_19 (by decide) ?_
      exact jr_ireturn C dX5_undo_21 h
    · have h := h.2 c10
      refine jr_aload_n C 23 rfl dX5_undo_22 rfl 0 rfl ?_
      refine jr_getr C 26 rfl fo_8_0 q1277 dX5_undo_23 h (fun v5 h => ?_)
      refine jr_iload_n C 27 rfl dX5_undo_26 rfl 1 rfl ?_
      refine jr_dup2 C 28 rfl dX5_undo_27 rfl rfl ?_
      refine jr_iald C 29 rfl dX5_undo_28 h (fun v6 h => ?_)
      refine jr_iconst (v := 1) C 30 rfl dX5_undo_29 (by decide) ?_
      refine jr_isub C 31 rfl dX5_undo_30 ?_
      refine jr_iast C 32 rfl dX5_undo_31 h (fun S7 h => ?_)
      refine jr_aload_n C 33 rfl dX5_undo_32 rfl 0 rfl ?_
      refine jr_getr C 36 rfl fo_8_0 q1277 dX5_undo_33 h (fun v8 h => ?_)
      refine jr_iload_n C 37 rfl dX5_undo_36 rfl 1 rfl ?_
      refine jr_iald C 38 rfl dX5_undo_37 h (fun v9 h => ?_)
      exact jr_ireturn C dX5_undo_38 h
theorem m_X5_undo {l : Launch} (hl : l.stackTraces = false) {G : jG} {K : jS → Int32 → Prop} {S : jS} {x0 : Nat} {x1 : Int32} (h : wp_X5_undo S x0 x1 K) : jMet l G d_X5_undo yX5_undo (ws_ yX5_undo cX5_undo 2 (some .int)) [.ref x0, .int x1] S tvi K :=
  jMet.of hl rfl (by decide) (Nat.le_of_ble_eq_true rfl) (fun X C => jr_sub [0, 1] rfl (wk_X5_undo_0 C h))
theorem wk_X5_waited_18 {X : jX} {G : jG} {K : jS → Int32 → Prop} (C : jC (X, G, 2, jA X G tvi K) d_X5_waited cX5_waited "SamovarModel" (some .int) yX5_waited) {S : jS} {t0 : Int32}  (h : wp_X5_waited_18 S t0 K) : jJ (X, G, 2, jA X G tvi K) S [] 18 [.int t0] := by
  unfold wp_X5_waited_18 at h
  exact jr_ireturn C dX5_waited_18 h
theorem wk_X5_waited_0 {X : jX} {G : jG} {K : jS → Int32 → Prop} (C : jC (X, G, 2, jA X G tvi K) d_X5_waited cX5_waited "SamovarModel" (some .int) yX5_waited) {S : jS} {x0 : Nat} {x1 : Int32}  (h : wp_X5_waited S x0 x1 K) : jJ (X, G, 2, jA X G tvi K) S [(0, .ref x0), (1, .int x1)] 0 [] := by
  unfold wp_X5_waited at h
  refine jr_aload_n C 1 rfl dX5_waited_0 rfl 0 rfl ?_
  refine jr_iload_n C 2 rfl dX5_waited_1 rfl 1 rfl ?_
  obtain ⟨⟨V, hb⟩, h⟩ := h
  refine jr_callVi (r0 := (RX5, TX5, 53)) (As := [.int x1]) (st := []) C 5 rfl (m_X5_isGuest C.2.2.2.2.2.2.2.2.2.2.2.2.2.2.2 h) rfl hb rfl q1502 q1504 qs48 q102 q1505 (by decide) (by decide) ndV_X5_isGuest (Nat.le_of_ble_eq_true rfl) dX5_waited_2 (fun S1 r2 h => ?_)
  refine jr_if_eq C 16 8 rfl dX5_waited_5 (by decide) (fun c5 => ?_) (fun c5 => ?_)
  · have h := h.1 c5
    refine jr_bipush (v := (-2)) C 18 rfl dX5_waited_16 (by decide) ?_
    exact jr_sub [] rfl (wk_X5_waited_18 C  h)
  · have h := h.2 c5
    refine jr_aload_n C 9 rfl dX5_waited_8 rfl 0 rfl ?_
    refine jr_iload_n C 10 rfl dX5_waited_9 rfl 1 rfl ?_
    obtain ⟨⟨V, hb⟩, h⟩ := h
    refine jr_callVi (r0 := (RX5, TX5, 53)) (As := [.int x1]) (st := []) C 13 rfl (m_X5_waitedOf C.2.2.2.2.2.2.2.2.2.2.2.2.2.2.2 h) rfl hb rfl q1644 q1646 qs70 q102 q1647 (by decide) (by decide) ndV_X5_waitedOf (Nat.le_of_ble_eq_true rfl) dX5_waited_10 (fun S3 r4 h => ?_)
    refine jr_goto C 18 dX5_waited_13 (by decide) ?_
    exact jr_sub [] rfl (wk_X5_waited_18 C  h)
theorem m_X5_waited {l : Launch} (hl : l.stackTraces = false) {G : jG} {K : jS → Int32 → Prop} {S : jS} {x0 : Nat} {x1 : Int32} (h : wp_X5_waited S x0 x1 K) : jMet l G d_X5_waited yX5_waited (ws_ yX5_waited cX5_waited 2 (some .int)) [.ref x0, .int x1] S tvi K :=
  jMet.of hl rfl (by decide) (Nat.le_of_ble_eq_true rfl) (fun X C => jr_sub [0, 1] rfl (wk_X5_waited_0 C h))
theorem wk_X5_waters_0 {X : jX} {G : jG} {K : jS → Int32 → Prop} (C : jC (X, G, 1, jA X G tvi K) d_X5_waters cX5_waters "SamovarModel" (some .int) yX5_waters) {S : jS} {x0 : Nat}  (h : wp_X5_waters S x0 K) : jJ (X, G, 1, jA X G tvi K) S [(0, .ref x0)] 0 [] := by
  unfold wp_X5_waters at h
  refine jr_aload_n C 1 rfl dX5_waters_0 rfl 0 rfl ?_
  obtain ⟨⟨V, hb⟩, h⟩ := h
  refine jr_callVi (r0 := (RX5, TX5, 53)) (As := []) (st := []) C 4 rfl (m_X5_watersBy C.2.2.2.2.2.2.2.2.2.2.2.2.2.2.2 h) rfl hb rfl q1728 q1730 qs82 q102 q1731 (by decide) (by decide) ndV_X5_watersBy (Nat.le_of_ble_eq_true rfl) dX5_waters_1 (fun S1 r2 h => ?_)
  exact jr_ireturn C dX5_waters_4 h
theorem m_X5_waters {l : Launch} (hl : l.stackTraces = false) {G : jG} {K : jS → Int32 → Prop} {S : jS} {x0 : Nat} (h : wp_X5_waters S x0 K) : jMet l G d_X5_waters yX5_waters (ws_ yX5_waters cX5_waters 1 (some .int)) [.ref x0] S tvi K :=
  jMet.of hl rfl (by decide) (Nat.le_of_ble_eq_true rfl) (fun X C => jr_sub [0] rfl (wk_X5_waters_0 C h))
theorem wk_X5_wipe_0 {X : jX} {G : jG} {K : jS → Int32 → Prop} (C : jC (X, G, 3, jA X G tvi K) d_X5_wipe cX5_wipe "SamovarModel" (some .int) yX5_wipe) {S : jS} {x0 : Nat} {x1 : Int32}  (h : wp_X5_wipe S x0 x1 K) : jJ (X, G, 3, jA X G tvi K) S [(0, .ref x0), (1, .int x1)] 0 [] := by
  unfold wp_X5_wipe at h
  refine jr_iload_n C 1 rfl dX5_wipe_0 rfl 1 rfl ?_
  refine jr_callSi (As := [.int x1]) (st := []) C 4 rfl (m_X5_isTwo C.2.2.2.2.2.2.2.2.2.2.2.2.2.2.2 h) rfl q1442 q1443 q102 q1444 (by decide) (by decide) nd_X5_isTwo (Nat.le_of_ble_eq_true rfl) dX5_wipe_1 (fun S1 r2 h => ?_)
  refine jr_if_ne C 10 7 rfl dX5_wipe_4 (by decide) (fun c7 => ?_) (fun c7 => ?_)
  · have h := h.1 c7
    refine jr_bipush (v := (-2)) C 9 rfl dX5_wipe_7 (by decide) ?_
    exact jr_ireturn C dX5_wipe_9 h
  · have h := h.2 c7
    refine jr_aload_n C 11 rfl dX5_wipe_10 rfl 0 rfl ?_
    refine jr_getr C 14 rfl fo_8_0 q1277 dX5_wipe_11 h (fun v3 h => ?_)
    refine jr_iload_n C 15 rfl dX5_wipe_14 rfl 1 rfl ?_
    refine jr_iald C 16 rfl dX5_wipe_15 h (fun v4 h => ?_)
    refine jr_istore_n (lv' := [(2, .int v4), (0, .ref x0), (1, .int x1)]) C 17 rfl dX5_wipe_16 rfl (Nat.le_of_ble_eq_true rfl) rfl ?_
    refine jr_aload_n C 18 rfl dX5_wipe_17 rfl 1 rfl ?_
    refine jr_getr C 21 rfl fo_8_0 q1277 dX5_wipe_18 h (fun v5 h => ?_)
    refine jr_iload_n C 22 rfl dX5_wipe_21 rfl 2 rfl ?_
    refine jr_iconst (v := 0) C 23 rfl dX5_wipe_22 (by decide) ?_
    refine jr_iast C 24 rfl dX5_wipe_23 h (fun S6 h => ?_)
    refine jr_iload_n C 25 rfl dX5_wipe_24 rfl 0 rfl ?_
    exact jr_ireturn C dX5_wipe_25 h
theorem m_X5_wipe {l : Launch} (hl : l.stackTraces = false) {G : jG} {K : jS → Int32 → Prop} {S : jS} {x0 : Nat} {x1 : Int32} (h : wp_X5_wipe S x0 x1 K) : jMet l G d_X5_wipe yX5_wipe (ws_ yX5_wipe cX5_wipe 3 (some .int)) [.ref x0, .int x1] S tvi K :=
  jMet.of hl rfl (by decide) (Nat.le_of_ble_eq_true rfl) (fun X C => jr_sub [0, 1] rfl (wk_X5_wipe_0 C h))
theorem wk_X5_write_14 {X : jX} {G : jG} {K : jS → Int32 → Prop} (C : jC (X, G, 4, jA X G tvi K) d_X5_write cX5_write "SamovarModel" (some .int) yX5_write) {S : jS}   (h : wp_X5_write_14 S K) : jJ (X, G, 4, jA X G tvi K) S [] 14 [] := by
  unfold wp_X5_write_14 at h
  refine jr_bipush (v := (-2)) C 16 rfl dX5_write_14 (by decide) ?_
  exact jr_ireturn C dX5_write_16 h
theorem wk_X5_write_74 {X : jX} {G : jG} {K : jS → Int32 → Prop} (C : jC (X, G, 4, jA X G tvi K) d_X5_write cX5_write "SamovarModel" (some .int) yX5_write) {S : jS} {x0 : Nat} {x1 : Int32} {x2 : Int32} {x3 : Int32} {Kc38 : jS × Int32 → Prop} (hc38 : ∀ z : jS × Int32, Kc38 z → jJ (X, G, 4, jA X G tvi K) z.1 [(0, .ref x0), (1, .int x1), (2, .int x2), (3, .int z.2)] 38 []) (h : wp_X5_write_74 S x0 x1 x2 x3 Kc38 K) : jJ (X, G, 4, jA X G tvi K) S [(0, .ref x0), (1, .int x1), (2, .int x2), (3, .int x3)] 74 [] := by
  unfold wp_X5_write_74 at h
  refine jr_goto C 38 dX5_write_74 (by decide) ?_
  exact (hc38 _ h)
theorem wk_X5_write_77 {X : jX} {G : jG} {K : jS → Int32 → Prop} (C : jC (X, G, 4, jA X G tvi K) d_X5_write cX5_write "SamovarModel" (some .int) yX5_write) {S : jS} {x3 : Int32}  (h : wp_X5_write_77 S x3 K) : jJ (X, G, 4, jA X G tvi K) S [(3, .int x3)] 77 [] := by
  unfold wp_X5_write_77 at h
  refine jr_iload_n C 78 rfl dX5_write_77 rfl 0 rfl ?_
  exact jr_ireturn C dX5_write_78 h
theorem wk_X5_write_38 {X : jX} {G : jG} {K : jS → Int32 → Prop} (C : jC (X, G, 4, jA X G tvi K) d_X5_write cX5_write "SamovarModel" (some .int) yX5_write) {S : jS} {x0 : Nat} {x1 : Int32} {x2 : Int32} {x3 : Int32} {Kc38 : jS × Int32 → Prop} (hc38 : ∀ z : jS × Int32, Kc38 z → jJ (X, G, 4, jA X G tvi K) z.1 [(0, .ref x0), (1, .int x1), (2, .int x2), (3, .int z.2)] 38 []) (h : wp_X5_write_38 S x0 x1 x2 x3 Kc38 K) : jJ (X, G, 4, jA X G tvi K) S [(0, .ref x0), (1, .int x1), (2, .int x2), (3, .int x3)] 38 [] := by
  unfold wp_X5_write_38 at h
  refine jr_iload_n C 39 rfl dX5_write_38 rfl 3 rfl ?_
  refine jr_aload_n C 40 rfl dX5_write_39 rfl 0 rfl ?_
  refine jr_getr C 43 rfl fo_8_49 q1326 dX5_write_40 h (fun v1 h => ?_)
  refine jr_iload_n C 44 rfl dX5_write_43 rfl 2 rfl ?_
  refine jr_iald C 45 rfl dX5_write_44 h (fun v2 h => ?_)
  refine jr_icmp_ge C 77 48 rfl dX5_write_45 (by decide) (fun c7 => ?_) (fun c7 => ?_)
  · have h := h.1 c7
    exact jr_sub [3] rfl (wk_X5_write_77 C  h)
  · have h := h.2 c7
    refine jr_iload_n C 49 rfl dX5_write_48 rfl 3 rfl ?_
    refine jr_bipush (v := 24) C 51 rfl dX5_write_49 (by decide) ?_
    refine jr_icmp_ge C 77 54 rfl dX5_write_51 (by decide) (fun c6 => ?_) (fun c6 => ?_)
    · have h := h.1 c6
      exact jr_sub [3] rfl (wk_X5_write_77 C  h)
    · have h := h.2 c6
      refine jr_aload_n C 55 rfl dX5_write_54 rfl 0 rfl ?_
      refine jr_iload_n C 56 rfl dX5_write_55 rfl 2 rfl ?_
      refine jr_iload_n C 57 rfl dX5_write_56 rfl 3 rfl ?_
      refine jr_aload_n C 58 rfl dX5_write_57 rfl 0 rfl ?_
      refine jr_getr C 61 rfl fo_8_36 q1313 dX5_write_58 h (fun v3 h => ?_)
      refine jr_bipush (v := 6) C 63 rfl dX5_write_61 (by decide) ?_
      refine jr_iload_n C 64 rfl dX5_write_63 rfl 3 rfl ?_
      refine jr_imul C 65 rfl dX5_write_64 ?_
      refine jr_iload_n C 66 rfl dX5_write_65 rfl 1 rfl ?_
      refine jr_iadd C 67 rfl dX5_write_66 ?_
      refine jr_iald C 68 rfl dX5_write_67 h (fun v4 h => ?_)
      obtain ⟨⟨V, hb⟩, h⟩ := h
      refine jr_callVv (r0 := (RX5, TX5, 53)) (As := [.int x2, .int x3, .int v4]) (st := []) C 71 rfl (m_X5_keep C.2.2.2.2.2.2.2.2.2.2.2.2.2.2.2 h) rfl hb rfl q1791 q1793 qs88 q102 q1794 (by decide) (by decide) ndV_X5_keep (Nat.le_of_ble_eq_true rfl) dX5_write_68 (fun S5 _ h => ?_)
      refine jr_iinc (v := (x3 + 1)) (lv' := [(3, .int (x3 + 1)), (0, .ref x0), (1, .int x1), (2, .int x2)]) C 74 rfl dX5_write_71 3 rfl rfl (Nat.le_of_ble_eq_true rfl) rfl ?_
      exact jr_sub [1, 2, 3, 0] rfl (wk_X5_write_74 C hc38 h)
theorem wk_X5_write_38_L {X : jX} {G : jG} {K : jS → Int32 → Prop} (C : jC (X, G, 4, jA X G tvi K) d_X5_write cX5_write "SamovarModel" (some .int) yX5_write) {x0 : Nat} {x1 : Int32} {x2 : Int32}  : ∀ (n : Nat) (z : jS × Int32), jlp n (wp_X5_write_38_L x0 x1 x2 K) z → jJ (X, G, 4, jA X G tvi K) z.1 [(0, .ref x0), (1, .int x1), (2, .int x2), (3, .int z.2)] 38 [] := by
  intro n
  induction n with
  | zero => intro z h; exact h.elim
  | succ n ih => intro z h; exact wk_X5_write_38 C ih h
theorem wk_X5_write_0 {X : jX} {G : jG} {K : jS → Int32 → Prop} (C : jC (X, G, 4, jA X G tvi K) d_X5_write cX5_write "SamovarModel" (some .int) yX5_write) {S : jS} {x0 : Nat} {x1 : Int32} {x2 : Int32}  (h : wp_X5_write S x0 x1 x2 K) : jJ (X, G, 4, jA X G tvi K) S [(0, .ref x0), (1, .int x1), (2, .int x2)] 0 [] := by
  unfold wp_X5_write at h
  refine jr_iload_n C 1 rfl dX5_write_0 rfl 1 rfl ?_
  refine jr_callSi (As := [.int x1]) (st := []) C 4 rfl (m_X5_isThree C.2.2.2.2.2.2.2.2.2.2.2.2.2.2.2 h) rfl q1491 q1492 q102 q1493 (by decide) (by decide) nd_X5_isThree (Nat.le_of_ble_eq_true rfl) dX5_write_1 (fun S1 r2 h => ?_)
  refine jr_if_eq C 14 7 rfl dX5_write_4 (by decide) (fun c12 => ?_) (fun c12 => ?_)
  · have h := h.1 c12
    exact jr_sub [] rfl (wk_X5_write_14 C  h)
  · have h := h.2 c12
    refine jr_iload_n C 8 rfl dX5_write_7 rfl 2 rfl ?_
    refine jr_callSi (As := [.int x2]) (st := []) C 11 rfl (m_X5_isSheet C.2.2.2.2.2.2.2.2.2.2.2.2.2.2.2 h) rfl q1526 q1527 q102 q1528 (by decide) (by decide) nd_X5_isSheet (Nat.le_of_ble_eq_true rfl) dX5_write_8 (fun S3 r4 h => ?_)
    refine jr_if_ne C 17 14 rfl dX5_write_11 (by decide) (fun c11 => ?_) (fun c11 => ?_)
    · have h := h.1 c11
      exact jr_sub [] rfl (wk_X5_write_14 C  h)
    · have h := h.2 c11
      refine jr_aload_n C 18 rfl dX5_write_17 rfl 0 rfl ?_
      refine jr_getr C 21 rfl fo_8_47 q1324 dX5_write_18 h (fun v5 h => ?_)
      refine jr_iload_n C 22 rfl dX5_write_21 rfl 2 rfl ?_
      refine jr_zald C 23 rfl dX5_write_22 h (fun v6 h => ?_)
      refine jr_if_ne C 32 26 rfl dX5_write_23 (by decide) (fun c10 => ?_) (fun c10 => ?_)
      · have h := h.1 c10
        refine jr_aload_n C 27 rfl dX5_write_26 rfl 0 rfl ?_
        refine jr_iconst (v := 1) C 28 rfl dX5_write_27 (by decide) ?_
        obtain ⟨⟨V, hb⟩, h⟩ := h
        refine jr_callVi (r0 := (RX5, TX5, 53)) (As := [.int 1]) (st := []) C 31 rfl (m_X5_meets C.2.2.2.2.2.2.2.2.2.2.2.2.2.2.2 h) rfl hb rfl q1529 q1531 qs50 q102 q1532 (by decide) (by decide) ndV_X5_meets (Nat.le_of_ble_eq_true rfl) dX5_write_28 (fun S7 r8 h => ?_)
        exact jr_ireturn C dX5_write_31 h
      · have h := h.2 c10
        refine jr_aload_n C 33 rfl dX5_write_32 rfl 0 rfl ?_
        obtain ⟨⟨V, hb⟩, h⟩ := h
        refine jr_callVv (r0 := (RX5, TX5, 53)) (As := []) (st := []) C 36 rfl (m_X5_runsTold C.2.2.2.2.2.2.2.2.2.2.2.2.2.2.2 h) rfl hb rfl q1542 q1544 qs52 q102 q1545 (by decide) (by decide) ndV_X5_runsTold (Nat.le_of_ble_eq_true rfl) dX5_write_33 (fun S9 _ h => ?_)
        refine jr_iconst (v := 0) C 37 rfl dX5_write_36 (by decide) ?_
        refine jr_istore_n (lv' := [(3, .int 0), (0, .ref x0), (1, .int x1), (2, .int x2)]) C 38 rfl dX5_write_37 rfl (Nat.le_of_ble_eq_true rfl) rfl ?_
        obtain ⟨n, h⟩ := h
        exact jr_sub [1, 2, 3, 0] rfl (wk_X5_write_38_L C  n _ h)
theorem m_X5_write {l : Launch} (hl : l.stackTraces = false) {G : jG} {K : jS → Int32 → Prop} {S : jS} {x0 : Nat} {x1 : Int32} {x2 : Int32} (h : wp_X5_write S x0 x1 x2 K) : jMet l G d_X5_write yX5_write (ws_ yX5_write cX5_write 4 (some .int)) [.ref x0, .int x1, .int x2] S tvi K :=
  jMet.of hl rfl (by decide) (Nat.le_of_ble_eq_true rfl) (fun X C => jr_sub [0, 1, 2] rfl (wk_X5_write_0 C h))
