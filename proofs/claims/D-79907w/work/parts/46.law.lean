theorem jr_iald14 {Z : jZ} {d : Nat} {cc : ByteArray} {own : String} {ret : Option FieldType} {y : MethodName} {pc : Nat} {S : jS} {lv : List (Nat × Value)} {st : List Value} (C : jC Z d cc own ret y) (pc' : Nat) (hp : pc + 1 = pc') (hdg : decode cc pc = .ok (.iaload, 1)) {a : Nat} {i : Int32} {K : Int32 → Prop} (h : jal 14 S a i K) (kk : ∀ v : Int32, K v → jJ Z S lv pc' (.int v :: st)) : jJ Z S lv pc (.int i :: .ref a :: st) := by
  subst hp
  intro H locs cells slots ls hW hz hL hls
  obtain ⟨n, f, h1, h2, h3⟩ := h
  obtain ⟨cell, ty, q0, q1, q2, q3, q4, q5, q6⟩ := j_arrI hW C.2.2.2.2.2.2.2.1 h1
  cases q0
  exact W.iald C.1 C.2.1 q1 q2 q3 (j_nin q4 h2) (q6 _ (j_lt h2)) rfl rfl hdg (kk _ h3 H locs cells slots ls hW hz hL hls)
/-- the law's own aim: it ends with 1, nothing of the start's heap written -/
def jLQ (Z : jZ) : Prop := ∃ b : Nat, za Z = #[Value.ref b] ∧ zR Z = room_1 ∧ Z.2.2.2 = lw_Z (zb Z) #[Value.ref b] (zs Z) ∧ gz Z.2.1 = (zs Z).heap.size
theorem jr_lawret {X : jX} {G : jG} {nL : Nat} {Q : State → Prop} {S : jS} {lv : List (Nat × Value)} {pc : Nat} {y : MethodName} (C : jC (X, G, nL, Q) 1000 cL_law "SamovarLaw" ret y) (hQ : jLQ (X, G, nL, Q)) (hdg : decode cL_law pc = .ok (.ireturn, 1)) {v : Int32} (h : v = 1) : jJ (X, G, nL, Q) S lv pc [.int v] := by
  subst h
  intro H locs cells slots ls hW hz hL hls
  obtain ⟨b, h1, h2, h3, h4⟩ := hQ
  refine j_end C hW ?_
  have e1 : X.2.2.2.2.2.2.1 = #[Value.ref b] := h1
  have e2 : X.2.2.2.1 = room_1 := h2
  have e3 : Q = lw_Z X.2.2.2.2.2.2.2.1 #[Value.ref b] X.2.2.2.2.1 := h3
  intro T hT X9
  have X8 : Stand X.1 X.2.1 X.2.2.1 X.2.2.2.1 X.2.2.2.2.1 X.2.2.2.2.2.1 X.2.2.2.2.2.2.1 X.2.2.2.2.2.2.2.1 X.2.2.2.2.2.2.2.2.1 X.2.2.2.2.2.2.2.2.2 T [] X.2.2.2.1.cells X.2.2.2.1.slots := Stand.dropFresh (J := locs) X9 (fun q hq => by have h6 : gz G ≤ q.base := hL q hq; have h5 : gz G = X.2.2.2.2.1.heap.size := h4; omega)
  rw [e1, e2] at X8
  rw [e3]
  exact lw_ret C.1 C.2.1 C.2.2.2.2.2.1 C.2.2.2.2.2.2.1 hdg T hT X8
theorem nd_X0_init : yX0_init.cls ≠ "java/lang/invoke/MethodHandle" ∧ yX0_init.cls ≠ "java/lang/invoke/VarHandle" ∧ (parseMethodDescriptor yX0_init.desc).map (fun d => d.parameters.length) = some 0 := by decide +kernel
theorem nd_X0_ask : yX0_ask.cls ≠ "java/lang/invoke/MethodHandle" ∧ yX0_ask.cls ≠ "java/lang/invoke/VarHandle" ∧ (parseMethodDescriptor yX0_ask.desc).map (fun d => d.parameters.length) = some 0 := by decide +kernel
theorem ndV_X0_ask : yX0_ask.cls = ((RX0, TX0, 24) : vw_C).1 ∧ yX0_ask.cls ≠ "java/lang/invoke/MethodHandle" ∧ yX0_ask.cls ≠ "java/lang/invoke/VarHandle" ∧ (parseMethodDescriptor yX0_ask.desc).map (fun d => d.parameters.length) = some 0 := ⟨rfl, nd_X0_ask⟩
theorem nd_X0_at : yX0_at.cls ≠ "java/lang/invoke/MethodHandle" ∧ yX0_at.cls ≠ "java/lang/invoke/VarHandle" ∧ (parseMethodDescriptor yX0_at.desc).map (fun d => d.parameters.length) = some 2 := by decide +kernel
theorem ndV_X0_at : yX0_at.cls = ((RX0, TX0, 24) : vw_C).1 ∧ yX0_at.cls ≠ "java/lang/invoke/MethodHandle" ∧ yX0_at.cls ≠ "java/lang/invoke/VarHandle" ∧ (parseMethodDescriptor yX0_at.desc).map (fun d => d.parameters.length) = some 2 := ⟨rfl, nd_X0_at⟩
theorem nd_X0_back : yX0_back.cls ≠ "java/lang/invoke/MethodHandle" ∧ yX0_back.cls ≠ "java/lang/invoke/VarHandle" ∧ (parseMethodDescriptor yX0_back.desc).map (fun d => d.parameters.length) = some 0 := by decide +kernel
theorem ndV_X0_back : yX0_back.cls = ((RX0, TX0, 24) : vw_C).1 ∧ yX0_back.cls ≠ "java/lang/invoke/MethodHandle" ∧ yX0_back.cls ≠ "java/lang/invoke/VarHandle" ∧ (parseMethodDescriptor yX0_back.desc).map (fun d => d.parameters.length) = some 0 := ⟨rfl, nd_X0_back⟩
theorem nd_X0_better : yX0_better.cls ≠ "java/lang/invoke/MethodHandle" ∧ yX0_better.cls ≠ "java/lang/invoke/VarHandle" ∧ (parseMethodDescriptor yX0_better.desc).map (fun d => d.parameters.length) = some 2 := by decide +kernel
theorem ndV_X0_better : yX0_better.cls = ((RX0, TX0, 24) : vw_C).1 ∧ yX0_better.cls ≠ "java/lang/invoke/MethodHandle" ∧ yX0_better.cls ≠ "java/lang/invoke/VarHandle" ∧ (parseMethodDescriptor yX0_better.desc).map (fun d => d.parameters.length) = some 2 := ⟨rfl, nd_X0_better⟩
theorem nd_X0_chance : yX0_chance.cls ≠ "java/lang/invoke/MethodHandle" ∧ yX0_chance.cls ≠ "java/lang/invoke/VarHandle" ∧ (parseMethodDescriptor yX0_chance.desc).map (fun d => d.parameters.length) = some 3 := by decide +kernel
theorem ndV_X0_chance : yX0_chance.cls = ((RX0, TX0, 24) : vw_C).1 ∧ yX0_chance.cls ≠ "java/lang/invoke/MethodHandle" ∧ yX0_chance.cls ≠ "java/lang/invoke/VarHandle" ∧ (parseMethodDescriptor yX0_chance.desc).map (fun d => d.parameters.length) = some 3 := ⟨rfl, nd_X0_chance⟩
theorem nd_X0_come : yX0_come.cls ≠ "java/lang/invoke/MethodHandle" ∧ yX0_come.cls ≠ "java/lang/invoke/VarHandle" ∧ (parseMethodDescriptor yX0_come.desc).map (fun d => d.parameters.length) = some 2 := by decide +kernel
theorem ndV_X0_come : yX0_come.cls = ((RX0, TX0, 24) : vw_C).1 ∧ yX0_come.cls ≠ "java/lang/invoke/MethodHandle" ∧ yX0_come.cls ≠ "java/lang/invoke/VarHandle" ∧ (parseMethodDescriptor yX0_come.desc).map (fun d => d.parameters.length) = some 2 := ⟨rfl, nd_X0_come⟩
theorem nd_X0_copy : yX0_copy.cls ≠ "java/lang/invoke/MethodHandle" ∧ yX0_copy.cls ≠ "java/lang/invoke/VarHandle" ∧ (parseMethodDescriptor yX0_copy.desc).map (fun d => d.parameters.length) = some 5 := by decide +kernel
theorem ndV_X0_copy : yX0_copy.cls = ((RX0, TX0, 24) : vw_C).1 ∧ yX0_copy.cls ≠ "java/lang/invoke/MethodHandle" ∧ yX0_copy.cls ≠ "java/lang/invoke/VarHandle" ∧ (parseMethodDescriptor yX0_copy.desc).map (fun d => d.parameters.length) = some 5 := ⟨rfl, nd_X0_copy⟩
theorem nd_X0_digest : yX0_digest.cls ≠ "java/lang/invoke/MethodHandle" ∧ yX0_digest.cls ≠ "java/lang/invoke/VarHandle" ∧ (parseMethodDescriptor yX0_digest.desc).map (fun d => d.parameters.length) = some 0 := by decide +kernel
theorem ndV_X0_digest : yX0_digest.cls = ((RX0, TX0, 24) : vw_C).1 ∧ yX0_digest.cls ≠ "java/lang/invoke/MethodHandle" ∧ yX0_digest.cls ≠ "java/lang/invoke/VarHandle" ∧ (parseMethodDescriptor yX0_digest.desc).map (fun d => d.parameters.length) = some 0 := ⟨rfl, nd_X0_digest⟩
theorem nd_X0_evenings : yX0_evenings.cls ≠ "java/lang/invoke/MethodHandle" ∧ yX0_evenings.cls ≠ "java/lang/invoke/VarHandle" ∧ (parseMethodDescriptor yX0_evenings.desc).map (fun d => d.parameters.length) = some 3 := by decide +kernel
theorem ndV_X0_evenings : yX0_evenings.cls = ((RX0, TX0, 24) : vw_C).1 ∧ yX0_evenings.cls ≠ "java/lang/invoke/MethodHandle" ∧ yX0_evenings.cls ≠ "java/lang/invoke/VarHandle" ∧ (parseMethodDescriptor yX0_evenings.desc).map (fun d => d.parameters.length) = some 3 := ⟨rfl, nd_X0_evenings⟩
theorem nd_X0_fault : yX0_fault.cls ≠ "java/lang/invoke/MethodHandle" ∧ yX0_fault.cls ≠ "java/lang/invoke/VarHandle" ∧ (parseMethodDescriptor yX0_fault.desc).map (fun d => d.parameters.length) = some 1 := by decide +kernel
theorem ndV_X0_fault : yX0_fault.cls = ((RX0, TX0, 24) : vw_C).1 ∧ yX0_fault.cls ≠ "java/lang/invoke/MethodHandle" ∧ yX0_fault.cls ≠ "java/lang/invoke/VarHandle" ∧ (parseMethodDescriptor yX0_fault.desc).map (fun d => d.parameters.length) = some 1 := ⟨rfl, nd_X0_fault⟩
theorem nd_X0_fill : yX0_fill.cls ≠ "java/lang/invoke/MethodHandle" ∧ yX0_fill.cls ≠ "java/lang/invoke/VarHandle" ∧ (parseMethodDescriptor yX0_fill.desc).map (fun d => d.parameters.length) = some 1 := by decide +kernel
theorem ndV_X0_fill : yX0_fill.cls = ((RX0, TX0, 24) : vw_C).1 ∧ yX0_fill.cls ≠ "java/lang/invoke/MethodHandle" ∧ yX0_fill.cls ≠ "java/lang/invoke/VarHandle" ∧ (parseMethodDescriptor yX0_fill.desc).map (fun d => d.parameters.length) = some 1 := ⟨rfl, nd_X0_fill⟩
theorem nd_X0_first : yX0_first.cls ≠ "java/lang/invoke/MethodHandle" ∧ yX0_first.cls ≠ "java/lang/invoke/VarHandle" ∧ (parseMethodDescriptor yX0_first.desc).map (fun d => d.parameters.length) = some 0 := by decide +kernel
theorem ndV_X0_first : yX0_first.cls = ((RX0, TX0, 24) : vw_C).1 ∧ yX0_first.cls ≠ "java/lang/invoke/MethodHandle" ∧ yX0_first.cls ≠ "java/lang/invoke/VarHandle" ∧ (parseMethodDescriptor yX0_first.desc).map (fun d => d.parameters.length) = some 0 := ⟨rfl, nd_X0_first⟩
theorem nd_X0_forget : yX0_forget.cls ≠ "java/lang/invoke/MethodHandle" ∧ yX0_forget.cls ≠ "java/lang/invoke/VarHandle" ∧ (parseMethodDescriptor yX0_forget.desc).map (fun d => d.parameters.length) = some 0 := by decide +kernel
theorem ndV_X0_forget : yX0_forget.cls = ((RX0, TX0, 24) : vw_C).1 ∧ yX0_forget.cls ≠ "java/lang/invoke/MethodHandle" ∧ yX0_forget.cls ≠ "java/lang/invoke/VarHandle" ∧ (parseMethodDescriptor yX0_forget.desc).map (fun d => d.parameters.length) = some 0 := ⟨rfl, nd_X0_forget⟩
theorem nd_X0_get : yX0_get.cls ≠ "java/lang/invoke/MethodHandle" ∧ yX0_get.cls ≠ "java/lang/invoke/VarHandle" ∧ (parseMethodDescriptor yX0_get.desc).map (fun d => d.parameters.length) = some 3 := by decide +kernel
theorem ndV_X0_get : yX0_get.cls = ((RX0, TX0, 24) : vw_C).1 ∧ yX0_get.cls ≠ "java/lang/invoke/MethodHandle" ∧ yX0_get.cls ≠ "java/lang/invoke/VarHandle" ∧ (parseMethodDescriptor yX0_get.desc).map (fun d => d.parameters.length) = some 3 := ⟨rfl, nd_X0_get⟩
theorem nd_X0_guest : yX0_guest.cls ≠ "java/lang/invoke/MethodHandle" ∧ yX0_guest.cls ≠ "java/lang/invoke/VarHandle" ∧ (parseMethodDescriptor yX0_guest.desc).map (fun d => d.parameters.length) = some 2 := by decide +kernel
theorem ndV_X0_guest : yX0_guest.cls = ((RX0, TX0, 24) : vw_C).1 ∧ yX0_guest.cls ≠ "java/lang/invoke/MethodHandle" ∧ yX0_guest.cls ≠ "java/lang/invoke/VarHandle" ∧ (parseMethodDescriptor yX0_guest.desc).map (fun d => d.parameters.length) = some 2 := ⟨rfl, nd_X0_guest⟩
theorem nd_X0_hottest : yX0_hottest.cls ≠ "java/lang/invoke/MethodHandle" ∧ yX0_hottest.cls ≠ "java/lang/invoke/VarHandle" ∧ (parseMethodDescriptor yX0_hottest.desc).map (fun d => d.parameters.length) = some 1 := by decide +kernel
theorem ndV_X0_hottest : yX0_hottest.cls = ((RX0, TX0, 24) : vw_C).1 ∧ yX0_hottest.cls ≠ "java/lang/invoke/MethodHandle" ∧ yX0_hottest.cls ≠ "java/lang/invoke/VarHandle" ∧ (parseMethodDescriptor yX0_hottest.desc).map (fun d => d.parameters.length) = some 1 := ⟨rfl, nd_X0_hottest⟩
theorem nd_X0_is : yX0_is.cls ≠ "java/lang/invoke/MethodHandle" ∧ yX0_is.cls ≠ "java/lang/invoke/VarHandle" ∧ (parseMethodDescriptor yX0_is.desc).map (fun d => d.parameters.length) = some 3 := by decide +kernel
theorem ndV_X0_is : yX0_is.cls = ((RX0, TX0, 24) : vw_C).1 ∧ yX0_is.cls ≠ "java/lang/invoke/MethodHandle" ∧ yX0_is.cls ≠ "java/lang/invoke/VarHandle" ∧ (parseMethodDescriptor yX0_is.desc).map (fun d => d.parameters.length) = some 3 := ⟨rfl, nd_X0_is⟩
theorem nd_X0_kind : yX0_kind.cls ≠ "java/lang/invoke/MethodHandle" ∧ yX0_kind.cls ≠ "java/lang/invoke/VarHandle" ∧ (parseMethodDescriptor yX0_kind.desc).map (fun d => d.parameters.length) = some 1 := by decide +kernel
theorem ndV_X0_kind : yX0_kind.cls = ((RX0, TX0, 24) : vw_C).1 ∧ yX0_kind.cls ≠ "java/lang/invoke/MethodHandle" ∧ yX0_kind.cls ≠ "java/lang/invoke/VarHandle" ∧ (parseMethodDescriptor yX0_kind.desc).map (fun d => d.parameters.length) = some 1 := ⟨rfl, nd_X0_kind⟩
theorem nd_X0_line : yX0_line.cls ≠ "java/lang/invoke/MethodHandle" ∧ yX0_line.cls ≠ "java/lang/invoke/VarHandle" ∧ (parseMethodDescriptor yX0_line.desc).map (fun d => d.parameters.length) = some 1 := by decide +kernel
theorem ndV_X0_line : yX0_line.cls = ((RX0, TX0, 24) : vw_C).1 ∧ yX0_line.cls ≠ "java/lang/invoke/MethodHandle" ∧ yX0_line.cls ≠ "java/lang/invoke/VarHandle" ∧ (parseMethodDescriptor yX0_line.desc).map (fun d => d.parameters.length) = some 1 := ⟨rfl, nd_X0_line⟩
theorem nd_X0_lose : yX0_lose.cls ≠ "java/lang/invoke/MethodHandle" ∧ yX0_lose.cls ≠ "java/lang/invoke/VarHandle" ∧ (parseMethodDescriptor yX0_lose.desc).map (fun d => d.parameters.length) = some 1 := by decide +kernel
theorem ndV_X0_lose : yX0_lose.cls = ((RX0, TX0, 24) : vw_C).1 ∧ yX0_lose.cls ≠ "java/lang/invoke/MethodHandle" ∧ yX0_lose.cls ≠ "java/lang/invoke/VarHandle" ∧ (parseMethodDescriptor yX0_lose.desc).map (fun d => d.parameters.length) = some 1 := ⟨rfl, nd_X0_lose⟩
theorem nd_X0_never : yX0_never.cls ≠ "java/lang/invoke/MethodHandle" ∧ yX0_never.cls ≠ "java/lang/invoke/VarHandle" ∧ (parseMethodDescriptor yX0_never.desc).map (fun d => d.parameters.length) = some 0 := by decide +kernel
theorem ndV_X0_never : yX0_never.cls = ((RX0, TX0, 24) : vw_C).1 ∧ yX0_never.cls ≠ "java/lang/invoke/MethodHandle" ∧ yX0_never.cls ≠ "java/lang/invoke/VarHandle" ∧ (parseMethodDescriptor yX0_never.desc).map (fun d => d.parameters.length) = some 0 := ⟨rfl, nd_X0_never⟩
theorem nd_X0_piece : yX0_piece.cls ≠ "java/lang/invoke/MethodHandle" ∧ yX0_piece.cls ≠ "java/lang/invoke/VarHandle" ∧ (parseMethodDescriptor yX0_piece.desc).map (fun d => d.parameters.length) = some 2 := by decide +kernel
theorem ndV_X0_piece : yX0_piece.cls = ((RX0, TX0, 24) : vw_C).1 ∧ yX0_piece.cls ≠ "java/lang/invoke/MethodHandle" ∧ yX0_piece.cls ≠ "java/lang/invoke/VarHandle" ∧ (parseMethodDescriptor yX0_piece.desc).map (fun d => d.parameters.length) = some 2 := ⟨rfl, nd_X0_piece⟩
theorem nd_X0_put : yX0_put.cls ≠ "java/lang/invoke/MethodHandle" ∧ yX0_put.cls ≠ "java/lang/invoke/VarHandle" ∧ (parseMethodDescriptor yX0_put.desc).map (fun d => d.parameters.length) = some 4 := by decide +kernel
theorem ndV_X0_put : yX0_put.cls = ((RX0, TX0, 24) : vw_C).1 ∧ yX0_put.cls ≠ "java/lang/invoke/MethodHandle" ∧ yX0_put.cls ≠ "java/lang/invoke/VarHandle" ∧ (parseMethodDescriptor yX0_put.desc).map (fun d => d.parameters.length) = some 4 := ⟨rfl, nd_X0_put⟩
theorem nd_X0_read : yX0_read.cls ≠ "java/lang/invoke/MethodHandle" ∧ yX0_read.cls ≠ "java/lang/invoke/VarHandle" ∧ (parseMethodDescriptor yX0_read.desc).map (fun d => d.parameters.length) = some 1 := by decide +kernel
theorem ndV_X0_read : yX0_read.cls = ((RX0, TX0, 24) : vw_C).1 ∧ yX0_read.cls ≠ "java/lang/invoke/MethodHandle" ∧ yX0_read.cls ≠ "java/lang/invoke/VarHandle" ∧ (parseMethodDescriptor yX0_read.desc).map (fun d => d.parameters.length) = some 1 := ⟨rfl, nd_X0_read⟩
theorem nd_X0_seen : yX0_seen.cls ≠ "java/lang/invoke/MethodHandle" ∧ yX0_seen.cls ≠ "java/lang/invoke/VarHandle" ∧ (parseMethodDescriptor yX0_seen.desc).map (fun d => d.parameters.length) = some 2 := by decide +kernel
theorem ndV_X0_seen : yX0_seen.cls = ((RX0, TX0, 24) : vw_C).1 ∧ yX0_seen.cls ≠ "java/lang/invoke/MethodHandle" ∧ yX0_seen.cls ≠ "java/lang/invoke/VarHandle" ∧ (parseMethodDescriptor yX0_seen.desc).map (fun d => d.parameters.length) = some 2 := ⟨rfl, nd_X0_seen⟩
theorem nd_X0_set : yX0_set.cls ≠ "java/lang/invoke/MethodHandle" ∧ yX0_set.cls ≠ "java/lang/invoke/VarHandle" ∧ (parseMethodDescriptor yX0_set.desc).map (fun d => d.parameters.length) = some 2 := by decide +kernel
theorem ndV_X0_set : yX0_set.cls = ((RX0, TX0, 24) : vw_C).1 ∧ yX0_set.cls ≠ "java/lang/invoke/MethodHandle" ∧ yX0_set.cls ≠ "java/lang/invoke/VarHandle" ∧ (parseMethodDescriptor yX0_set.desc).map (fun d => d.parameters.length) = some 2 := ⟨rfl, nd_X0_set⟩
theorem nd_X0_sheet : yX0_sheet.cls ≠ "java/lang/invoke/MethodHandle" ∧ yX0_sheet.cls ≠ "java/lang/invoke/VarHandle" ∧ (parseMethodDescriptor yX0_sheet.desc).map (fun d => d.parameters.length) = some 3 := by decide +kernel
theorem ndV_X0_sheet : yX0_sheet.cls = ((RX0, TX0, 24) : vw_C).1 ∧ yX0_sheet.cls ≠ "java/lang/invoke/MethodHandle" ∧ yX0_sheet.cls ≠ "java/lang/invoke/VarHandle" ∧ (parseMethodDescriptor yX0_sheet.desc).map (fun d => d.parameters.length) = some 3 := ⟨rfl, nd_X0_sheet⟩
theorem nd_X0_spare : yX0_spare.cls ≠ "java/lang/invoke/MethodHandle" ∧ yX0_spare.cls ≠ "java/lang/invoke/VarHandle" ∧ (parseMethodDescriptor yX0_spare.desc).map (fun d => d.parameters.length) = some 1 := by decide +kernel
theorem ndV_X0_spare : yX0_spare.cls = ((RX0, TX0, 24) : vw_C).1 ∧ yX0_spare.cls ≠ "java/lang/invoke/MethodHandle" ∧ yX0_spare.cls ≠ "java/lang/invoke/VarHandle" ∧ (parseMethodDescriptor yX0_spare.desc).map (fun d => d.parameters.length) = some 1 := ⟨rfl, nd_X0_spare⟩
theorem nd_X0_sum : yX0_sum.cls ≠ "java/lang/invoke/MethodHandle" ∧ yX0_sum.cls ≠ "java/lang/invoke/VarHandle" ∧ (parseMethodDescriptor yX0_sum.desc).map (fun d => d.parameters.length) = some 1 := by decide +kernel
theorem ndV_X0_sum : yX0_sum.cls = ((RX0, TX0, 24) : vw_C).1 ∧ yX0_sum.cls ≠ "java/lang/invoke/MethodHandle" ∧ yX0_sum.cls ≠ "java/lang/invoke/VarHandle" ∧ (parseMethodDescriptor yX0_sum.desc).map (fun d => d.parameters.length) = some 1 := ⟨rfl, nd_X0_sum⟩
theorem nd_X0_thirst : yX0_thirst.cls ≠ "java/lang/invoke/MethodHandle" ∧ yX0_thirst.cls ≠ "java/lang/invoke/VarHandle" ∧ (parseMethodDescriptor yX0_thirst.desc).map (fun d => d.parameters.length) = some 0 := by decide +kernel
theorem ndV_X0_thirst : yX0_thirst.cls = ((RX0, TX0, 24) : vw_C).1 ∧ yX0_thirst.cls ≠ "java/lang/invoke/MethodHandle" ∧ yX0_thirst.cls ≠ "java/lang/invoke/VarHandle" ∧ (parseMethodDescriptor yX0_thirst.desc).map (fun d => d.parameters.length) = some 0 := ⟨rfl, nd_X0_thirst⟩
theorem nd_X0_type : yX0_type.cls ≠ "java/lang/invoke/MethodHandle" ∧ yX0_type.cls ≠ "java/lang/invoke/VarHandle" ∧ (parseMethodDescriptor yX0_type.desc).map (fun d => d.parameters.length) = some 2 := by decide +kernel
theorem ndV_X0_type : yX0_type.cls = ((RX0, TX0, 24) : vw_C).1 ∧ yX0_type.cls ≠ "java/lang/invoke/MethodHandle" ∧ yX0_type.cls ≠ "java/lang/invoke/VarHandle" ∧ (parseMethodDescriptor yX0_type.desc).map (fun d => d.parameters.length) = some 2 := ⟨rfl, nd_X0_type⟩
theorem nd_X0_undo : yX0_undo.cls ≠ "java/lang/invoke/MethodHandle" ∧ yX0_undo.cls ≠ "java/lang/invoke/VarHandle" ∧ (parseMethodDescriptor yX0_undo.desc).map (fun d => d.parameters.length) = some 1 := by decide +kernel
theorem ndV_X0_undo : yX0_undo.cls = ((RX0, TX0, 24) : vw_C).1 ∧ yX0_undo.cls ≠ "java/lang/invoke/MethodHandle" ∧ yX0_undo.cls ≠ "java/lang/invoke/VarHandle" ∧ (parseMethodDescriptor yX0_undo.desc).map (fun d => d.parameters.length) = some 1 := ⟨rfl, nd_X0_undo⟩
theorem nd_X0_waited : yX0_waited.cls ≠ "java/lang/invoke/MethodHandle" ∧ yX0_waited.cls ≠ "java/lang/invoke/VarHandle" ∧ (parseMethodDescriptor yX0_waited.desc).map (fun d => d.parameters.length) = some 1 := by decide +kernel
theorem ndV_X0_waited : yX0_waited.cls = ((RX0, TX0, 24) : vw_C).1 ∧ yX0_waited.cls ≠ "java/lang/invoke/MethodHandle" ∧ yX0_waited.cls ≠ "java/lang/invoke/VarHandle" ∧ (parseMethodDescriptor yX0_waited.desc).map (fun d => d.parameters.length) = some 1 := ⟨rfl, nd_X0_waited⟩
theorem nd_X0_waters : yX0_waters.cls ≠ "java/lang/invoke/MethodHandle" ∧ yX0_waters.cls ≠ "java/lang/invoke/VarHandle" ∧ (parseMethodDescriptor yX0_waters.desc).map (fun d => d.parameters.length) = some 0 := by decide +kernel
theorem ndV_X0_waters : yX0_waters.cls = ((RX0, TX0, 24) : vw_C).1 ∧ yX0_waters.cls ≠ "java/lang/invoke/MethodHandle" ∧ yX0_waters.cls ≠ "java/lang/invoke/VarHandle" ∧ (parseMethodDescriptor yX0_waters.desc).map (fun d => d.parameters.length) = some 0 := ⟨rfl, nd_X0_waters⟩
theorem nd_X0_wipe : yX0_wipe.cls ≠ "java/lang/invoke/MethodHandle" ∧ yX0_wipe.cls ≠ "java/lang/invoke/VarHandle" ∧ (parseMethodDescriptor yX0_wipe.desc).map (fun d => d.parameters.length) = some 1 := by decide +kernel
theorem ndV_X0_wipe : yX0_wipe.cls = ((RX0, TX0, 24) : vw_C).1 ∧ yX0_wipe.cls ≠ "java/lang/invoke/MethodHandle" ∧ yX0_wipe.cls ≠ "java/lang/invoke/VarHandle" ∧ (parseMethodDescriptor yX0_wipe.desc).map (fun d => d.parameters.length) = some 1 := ⟨rfl, nd_X0_wipe⟩
theorem nd_X0_write : yX0_write.cls ≠ "java/lang/invoke/MethodHandle" ∧ yX0_write.cls ≠ "java/lang/invoke/VarHandle" ∧ (parseMethodDescriptor yX0_write.desc).map (fun d => d.parameters.length) = some 2 := by decide +kernel
theorem ndV_X0_write : yX0_write.cls = ((RX0, TX0, 24) : vw_C).1 ∧ yX0_write.cls ≠ "java/lang/invoke/MethodHandle" ∧ yX0_write.cls ≠ "java/lang/invoke/VarHandle" ∧ (parseMethodDescriptor yX0_write.desc).map (fun d => d.parameters.length) = some 2 := ⟨rfl, nd_X0_write⟩
theorem nd_X5_init : yX5_init.cls ≠ "java/lang/invoke/MethodHandle" ∧ yX5_init.cls ≠ "java/lang/invoke/VarHandle" ∧ (parseMethodDescriptor yX5_init.desc).map (fun d => d.parameters.length) = some 0 := by decide +kernel
theorem nd_X5_ask : yX5_ask.cls ≠ "java/lang/invoke/MethodHandle" ∧ yX5_ask.cls ≠ "java/lang/invoke/VarHandle" ∧ (parseMethodDescriptor yX5_ask.desc).map (fun d => d.parameters.length) = some 0 := by decide +kernel
theorem ndV_X5_ask : yX5_ask.cls = ((RX5, TX5, 53) : vw_C).1 ∧ yX5_ask.cls ≠ "java/lang/invoke/MethodHandle" ∧ yX5_ask.cls ≠ "java/lang/invoke/VarHandle" ∧ (parseMethodDescriptor yX5_ask.desc).map (fun d => d.parameters.length) = some 0 := ⟨rfl, nd_X5_ask⟩
theorem nd_X5_at : yX5_at.cls ≠ "java/lang/invoke/MethodHandle" ∧ yX5_at.cls ≠ "java/lang/invoke/VarHandle" ∧ (parseMethodDescriptor yX5_at.desc).map (fun d => d.parameters.length) = some 2 := by decide +kernel
theorem ndV_X5_at : yX5_at.cls = ((RX5, TX5, 53) : vw_C).1 ∧ yX5_at.cls ≠ "java/lang/invoke/MethodHandle" ∧ yX5_at.cls ≠ "java/lang/invoke/VarHandle" ∧ (parseMethodDescriptor yX5_at.desc).map (fun d => d.parameters.length) = some 2 := ⟨rfl, nd_X5_at⟩
theorem nd_X5_back : yX5_back.cls ≠ "java/lang/invoke/MethodHandle" ∧ yX5_back.cls ≠ "java/lang/invoke/VarHandle" ∧ (parseMethodDescriptor yX5_back.desc).map (fun d => d.parameters.length) = some 0 := by decide +kernel
theorem ndV_X5_back : yX5_back.cls = ((RX5, TX5, 53) : vw_C).1 ∧ yX5_back.cls ≠ "java/lang/invoke/MethodHandle" ∧ yX5_back.cls ≠ "java/lang/invoke/VarHandle" ∧ (parseMethodDescriptor yX5_back.desc).map (fun d => d.parameters.length) = some 0 := ⟨rfl, nd_X5_back⟩
theorem nd_X5_better : yX5_better.cls ≠ "java/lang/invoke/MethodHandle" ∧ yX5_better.cls ≠ "java/lang/invoke/VarHandle" ∧ (parseMethodDescriptor yX5_better.desc).map (fun d => d.parameters.length) = some 2 := by decide +kernel
theorem ndV_X5_better : yX5_better.cls = ((RX5, TX5, 53) : vw_C).1 ∧ yX5_better.cls ≠ "java/lang/invoke/MethodHandle" ∧ yX5_better.cls ≠ "java/lang/invoke/VarHandle" ∧ (parseMethodDescriptor yX5_better.desc).map (fun d => d.parameters.length) = some 2 := ⟨rfl, nd_X5_better⟩
theorem nd_X5_chance : yX5_chance.cls ≠ "java/lang/invoke/MethodHandle" ∧ yX5_chance.cls ≠ "java/lang/invoke/VarHandle" ∧ (parseMethodDescriptor yX5_chance.desc).map (fun d => d.parameters.length) = some 3 := by decide +kernel
theorem ndV_X5_chance : yX5_chance.cls = ((RX5, TX5, 53) : vw_C).1 ∧ yX5_chance.cls ≠ "java/lang/invoke/MethodHandle" ∧ yX5_chance.cls ≠ "java/lang/invoke/VarHandle" ∧ (parseMethodDescriptor yX5_chance.desc).map (fun d => d.parameters.length) = some 3 := ⟨rfl, nd_X5_chance⟩
theorem nd_X5_come : yX5_come.cls ≠ "java/lang/invoke/MethodHandle" ∧ yX5_come.cls ≠ "java/lang/invoke/VarHandle" ∧ (parseMethodDescriptor yX5_come.desc).map (fun d => d.parameters.length) = some 2 := by decide +kernel
theorem ndV_X5_come : yX5_come.cls = ((RX5, TX5, 53) : vw_C).1 ∧ yX5_come.cls ≠ "java/lang/invoke/MethodHandle" ∧ yX5_come.cls ≠ "java/lang/invoke/VarHandle" ∧ (parseMethodDescriptor yX5_come.desc).map (fun d => d.parameters.length) = some 2 := ⟨rfl, nd_X5_come⟩
theorem nd_X5_copy : yX5_copy.cls ≠ "java/lang/invoke/MethodHandle" ∧ yX5_copy.cls ≠ "java/lang/invoke/VarHandle" ∧ (parseMethodDescriptor yX5_copy.desc).map (fun d => d.parameters.length) = some 5 := by decide +kernel
theorem ndV_X5_copy : yX5_copy.cls = ((RX5, TX5, 53) : vw_C).1 ∧ yX5_copy.cls ≠ "java/lang/invoke/MethodHandle" ∧ yX5_copy.cls ≠ "java/lang/invoke/VarHandle" ∧ (parseMethodDescriptor yX5_copy.desc).map (fun d => d.parameters.length) = some 5 := ⟨rfl, nd_X5_copy⟩
theorem nd_X5_digest : yX5_digest.cls ≠ "java/lang/invoke/MethodHandle" ∧ yX5_digest.cls ≠ "java/lang/invoke/VarHandle" ∧ (parseMethodDescriptor yX5_digest.desc).map (fun d => d.parameters.length) = some 0 := by decide +kernel
theorem ndV_X5_digest : yX5_digest.cls = ((RX5, TX5, 53) : vw_C).1 ∧ yX5_digest.cls ≠ "java/lang/invoke/MethodHandle" ∧ yX5_digest.cls ≠ "java/lang/invoke/VarHandle" ∧ (parseMethodDescriptor yX5_digest.desc).map (fun d => d.parameters.length) = some 0 := ⟨rfl, nd_X5_digest⟩
theorem nd_X5_evenings : yX5_evenings.cls ≠ "java/lang/invoke/MethodHandle" ∧ yX5_evenings.cls ≠ "java/lang/invoke/VarHandle" ∧ (parseMethodDescriptor yX5_evenings.desc).map (fun d => d.parameters.length) = some 3 := by decide +kernel
theorem ndV_X5_evenings : yX5_evenings.cls = ((RX5, TX5, 53) : vw_C).1 ∧ yX5_evenings.cls ≠ "java/lang/invoke/MethodHandle" ∧ yX5_evenings.cls ≠ "java/lang/invoke/VarHandle" ∧ (parseMethodDescriptor yX5_evenings.desc).map (fun d => d.parameters.length) = some 3 := ⟨rfl, nd_X5_evenings⟩
theorem nd_X5_fault : yX5_fault.cls ≠ "java/lang/invoke/MethodHandle" ∧ yX5_fault.cls ≠ "java/lang/invoke/VarHandle" ∧ (parseMethodDescriptor yX5_fault.desc).map (fun d => d.parameters.length) = some 1 := by decide +kernel
theorem ndV_X5_fault : yX5_fault.cls = ((RX5, TX5, 53) : vw_C).1 ∧ yX5_fault.cls ≠ "java/lang/invoke/MethodHandle" ∧ yX5_fault.cls ≠ "java/lang/invoke/VarHandle" ∧ (parseMethodDescriptor yX5_fault.desc).map (fun d => d.parameters.length) = some 1 := ⟨rfl, nd_X5_fault⟩
theorem nd_X5_fill : yX5_fill.cls ≠ "java/lang/invoke/MethodHandle" ∧ yX5_fill.cls ≠ "java/lang/invoke/VarHandle" ∧ (parseMethodDescriptor yX5_fill.desc).map (fun d => d.parameters.length) = some 1 := by decide +kernel
theorem ndV_X5_fill : yX5_fill.cls = ((RX5, TX5, 53) : vw_C).1 ∧ yX5_fill.cls ≠ "java/lang/invoke/MethodHandle" ∧ yX5_fill.cls ≠ "java/lang/invoke/VarHandle" ∧ (parseMethodDescriptor yX5_fill.desc).map (fun d => d.parameters.length) = some 1 := ⟨rfl, nd_X5_fill⟩
theorem nd_X5_first : yX5_first.cls ≠ "java/lang/invoke/MethodHandle" ∧ yX5_first.cls ≠ "java/lang/invoke/VarHandle" ∧ (parseMethodDescriptor yX5_first.desc).map (fun d => d.parameters.length) = some 0 := by decide +kernel
theorem ndV_X5_first : yX5_first.cls = ((RX5, TX5, 53) : vw_C).1 ∧ yX5_first.cls ≠ "java/lang/invoke/MethodHandle" ∧ yX5_first.cls ≠ "java/lang/invoke/VarHandle" ∧ (parseMethodDescriptor yX5_first.desc).map (fun d => d.parameters.length) = some 0 := ⟨rfl, nd_X5_first⟩
theorem nd_X5_forget : yX5_forget.cls ≠ "java/lang/invoke/MethodHandle" ∧ yX5_forget.cls ≠ "java/lang/invoke/VarHandle" ∧ (parseMethodDescriptor yX5_forget.desc).map (fun d => d.parameters.length) = some 0 := by decide +kernel
theorem ndV_X5_forget : yX5_forget.cls = ((RX5, TX5, 53) : vw_C).1 ∧ yX5_forget.cls ≠ "java/lang/invoke/MethodHandle" ∧ yX5_forget.cls ≠ "java/lang/invoke/VarHandle" ∧ (parseMethodDescriptor yX5_forget.desc).map (fun d => d.parameters.length) = some 0 := ⟨rfl, nd_X5_forget⟩
theorem nd_X5_get : yX5_get.cls ≠ "java/lang/invoke/MethodHandle" ∧ yX5_get.cls ≠ "java/lang/invoke/VarHandle" ∧ (parseMethodDescriptor yX5_get.desc).map (fun d => d.parameters.length) = some 3 := by decide +kernel
theorem ndV_X5_get : yX5_get.cls = ((RX5, TX5, 53) : vw_C).1 ∧ yX5_get.cls ≠ "java/lang/invoke/MethodHandle" ∧ yX5_get.cls ≠ "java/lang/invoke/VarHandle" ∧ (parseMethodDescriptor yX5_get.desc).map (fun d => d.parameters.length) = some 3 := ⟨rfl, nd_X5_get⟩
theorem nd_X5_guest : yX5_guest.cls ≠ "java/lang/invoke/MethodHandle" ∧ yX5_guest.cls ≠ "java/lang/invoke/VarHandle" ∧ (parseMethodDescriptor yX5_guest.desc).map (fun d => d.parameters.length) = some 2 := by decide +kernel
theorem ndV_X5_guest : yX5_guest.cls = ((RX5, TX5, 53) : vw_C).1 ∧ yX5_guest.cls ≠ "java/lang/invoke/MethodHandle" ∧ yX5_guest.cls ≠ "java/lang/invoke/VarHandle" ∧ (parseMethodDescriptor yX5_guest.desc).map (fun d => d.parameters.length) = some 2 := ⟨rfl, nd_X5_guest⟩
theorem nd_X5_hottest : yX5_hottest.cls ≠ "java/lang/invoke/MethodHandle" ∧ yX5_hottest.cls ≠ "java/lang/invoke/VarHandle" ∧ (parseMethodDescriptor yX5_hottest.desc).map (fun d => d.parameters.length) = some 1 := by decide +kernel
theorem ndV_X5_hottest : yX5_hottest.cls = ((RX5, TX5, 53) : vw_C).1 ∧ yX5_hottest.cls ≠ "java/lang/invoke/MethodHandle" ∧ yX5_hottest.cls ≠ "java/lang/invoke/VarHandle" ∧ (parseMethodDescriptor yX5_hottest.desc).map (fun d => d.parameters.length) = some 1 := ⟨rfl, nd_X5_hottest⟩
theorem nd_X5_is : yX5_is.cls ≠ "java/lang/invoke/MethodHandle" ∧ yX5_is.cls ≠ "java/lang/invoke/VarHandle" ∧ (parseMethodDescriptor yX5_is.desc).map (fun d => d.parameters.length) = some 3 := by decide +kernel
theorem ndV_X5_is : yX5_is.cls = ((RX5, TX5, 53) : vw_C).1 ∧ yX5_is.cls ≠ "java/lang/invoke/MethodHandle" ∧ yX5_is.cls ≠ "java/lang/invoke/VarHandle" ∧ (parseMethodDescriptor yX5_is.desc).map (fun d => d.parameters.length) = some 3 := ⟨rfl, nd_X5_is⟩
theorem nd_X5_kind : yX5_kind.cls ≠ "java/lang/invoke/MethodHandle" ∧ yX5_kind.cls ≠ "java/lang/invoke/VarHandle" ∧ (parseMethodDescriptor yX5_kind.desc).map (fun d => d.parameters.length) = some 1 := by decide +kernel
theorem ndV_X5_kind : yX5_kind.cls = ((RX5, TX5, 53) : vw_C).1 ∧ yX5_kind.cls ≠ "java/lang/invoke/MethodHandle" ∧ yX5_kind.cls ≠ "java/lang/invoke/VarHandle" ∧ (parseMethodDescriptor yX5_kind.desc).map (fun d => d.parameters.length) = some 1 := ⟨rfl, nd_X5_kind⟩
theorem nd_X5_line : yX5_line.cls ≠ "java/lang/invoke/MethodHandle" ∧ yX5_line.cls ≠ "java/lang/invoke/VarHandle" ∧ (parseMethodDescriptor yX5_line.desc).map (fun d => d.parameters.length) = some 1 := by decide +kernel
theorem ndV_X5_line : yX5_line.cls = ((RX5, TX5, 53) : vw_C).1 ∧ yX5_line.cls ≠ "java/lang/invoke/MethodHandle" ∧ yX5_line.cls ≠ "java/lang/invoke/VarHandle" ∧ (parseMethodDescriptor yX5_line.desc).map (fun d => d.parameters.length) = some 1 := ⟨rfl, nd_X5_line⟩
theorem nd_X5_lose : yX5_lose.cls ≠ "java/lang/invoke/MethodHandle" ∧ yX5_lose.cls ≠ "java/lang/invoke/VarHandle" ∧ (parseMethodDescriptor yX5_lose.desc).map (fun d => d.parameters.length) = some 1 := by decide +kernel
theorem ndV_X5_lose : yX5_lose.cls = ((RX5, TX5, 53) : vw_C).1 ∧ yX5_lose.cls ≠ "java/lang/invoke/MethodHandle" ∧ yX5_lose.cls ≠ "java/lang/invoke/VarHandle" ∧ (parseMethodDescriptor yX5_lose.desc).map (fun d => d.parameters.length) = some 1 := ⟨rfl, nd_X5_lose⟩
theorem nd_X5_never : yX5_never.cls ≠ "java/lang/invoke/MethodHandle" ∧ yX5_never.cls ≠ "java/lang/invoke/VarHandle" ∧ (parseMethodDescriptor yX5_never.desc).map (fun d => d.parameters.length) = some 0 := by decide +kernel
theorem ndV_X5_never : yX5_never.cls = ((RX5, TX5, 53) : vw_C).1 ∧ yX5_never.cls ≠ "java/lang/invoke/MethodHandle" ∧ yX5_never.cls ≠ "java/lang/invoke/VarHandle" ∧ (parseMethodDescriptor yX5_never.desc).map (fun d => d.parameters.length) = some 0 := ⟨rfl, nd_X5_never⟩
theorem nd_X5_piece : yX5_piece.cls ≠ "java/lang/invoke/MethodHandle" ∧ yX5_piece.cls ≠ "java/lang/invoke/VarHandle" ∧ (parseMethodDescriptor yX5_piece.desc).map (fun d => d.parameters.length) = some 2 := by decide +kernel
theorem ndV_X5_piece : yX5_piece.cls = ((RX5, TX5, 53) : vw_C).1 ∧ yX5_piece.cls ≠ "java/lang/invoke/MethodHandle" ∧ yX5_piece.cls ≠ "java/lang/invoke/VarHandle" ∧ (parseMethodDescriptor yX5_piece.desc).map (fun d => d.parameters.length) = some 2 := ⟨rfl, nd_X5_piece⟩
theorem nd_X5_put : yX5_put.cls ≠ "java/lang/invoke/MethodHandle" ∧ yX5_put.cls ≠ "java/lang/invoke/VarHandle" ∧ (parseMethodDescriptor yX5_put.desc).map (fun d => d.parameters.length) = some 4 := by decide +kernel
theorem ndV_X5_put : yX5_put.cls = ((RX5, TX5, 53) : vw_C).1 ∧ yX5_put.cls ≠ "java/lang/invoke/MethodHandle" ∧ yX5_put.cls ≠ "java/lang/invoke/VarHandle" ∧ (parseMethodDescriptor yX5_put.desc).map (fun d => d.parameters.length) = some 4 := ⟨rfl, nd_X5_put⟩
theorem nd_X5_read : yX5_read.cls ≠ "java/lang/invoke/MethodHandle" ∧ yX5_read.cls ≠ "java/lang/invoke/VarHandle" ∧ (parseMethodDescriptor yX5_read.desc).map (fun d => d.parameters.length) = some 1 := by decide +kernel
theorem ndV_X5_read : yX5_read.cls = ((RX5, TX5, 53) : vw_C).1 ∧ yX5_read.cls ≠ "java/lang/invoke/MethodHandle" ∧ yX5_read.cls ≠ "java/lang/invoke/VarHandle" ∧ (parseMethodDescriptor yX5_read.desc).map (fun d => d.parameters.length) = some 1 := ⟨rfl, nd_X5_read⟩
theorem nd_X5_seen : yX5_seen.cls ≠ "java/lang/invoke/MethodHandle" ∧ yX5_seen.cls ≠ "java/lang/invoke/VarHandle" ∧ (parseMethodDescriptor yX5_seen.desc).map (fun d => d.parameters.length) = some 2 := by decide +kernel
theorem ndV_X5_seen : yX5_seen.cls = ((RX5, TX5, 53) : vw_C).1 ∧ yX5_seen.cls ≠ "java/lang/invoke/MethodHandle" ∧ yX5_seen.cls ≠ "java/lang/invoke/VarHandle" ∧ (parseMethodDescriptor yX5_seen.desc).map (fun d => d.parameters.length) = some 2 := ⟨rfl, nd_X5_seen⟩
theorem nd_X5_set : yX5_set.cls ≠ "java/lang/invoke/MethodHandle" ∧ yX5_set.cls ≠ "java/lang/invoke/VarHandle" ∧ (parseMethodDescriptor yX5_set.desc).map (fun d => d.parameters.length) = some 2 := by decide +kernel
theorem ndV_X5_set : yX5_set.cls = ((RX5, TX5, 53) : vw_C).1 ∧ yX5_set.cls ≠ "java/lang/invoke/MethodHandle" ∧ yX5_set.cls ≠ "java/lang/invoke/VarHandle" ∧ (parseMethodDescriptor yX5_set.desc).map (fun d => d.parameters.length) = some 2 := ⟨rfl, nd_X5_set⟩
theorem nd_X5_sheet : yX5_sheet.cls ≠ "java/lang/invoke/MethodHandle" ∧ yX5_sheet.cls ≠ "java/lang/invoke/VarHandle" ∧ (parseMethodDescriptor yX5_sheet.desc).map (fun d => d.parameters.length) = some 3 := by decide +kernel
theorem ndV_X5_sheet : yX5_sheet.cls = ((RX5, TX5, 53) : vw_C).1 ∧ yX5_sheet.cls ≠ "java/lang/invoke/MethodHandle" ∧ yX5_sheet.cls ≠ "java/lang/invoke/VarHandle" ∧ (parseMethodDescriptor yX5_sheet.desc).map (fun d => d.parameters.length) = some 3 := ⟨rfl, nd_X5_sheet⟩
theorem nd_X5_spare : yX5_spare.cls ≠ "java/lang/invoke/MethodHandle" ∧ yX5_spare.cls ≠ "java/lang/invoke/VarHandle" ∧ (parseMethodDescriptor yX5_spare.desc).map (fun d => d.parameters.length) = some 1 := by decide +kernel
theorem ndV_X5_spare : yX5_spare.cls = ((RX5, TX5, 53) : vw_C).1 ∧ yX5_spare.cls ≠ "java/lang/invoke/MethodHandle" ∧ yX5_spare.cls ≠ "java/lang/invoke/VarHandle" ∧ (parseMethodDescriptor yX5_spare.desc).map (fun d => d.parameters.length) = some 1 := ⟨rfl, nd_X5_spare⟩
theorem nd_X5_sum : yX5_sum.cls ≠ "java/lang/invoke/MethodHandle" ∧ yX5_sum.cls ≠ "java/lang/invoke/VarHandle" ∧ (parseMethodDescriptor yX5_sum.desc).map (fun d => d.parameters.length) = some 1 := by decide +kernel
theorem ndV_X5_sum : yX5_sum.cls = ((RX5, TX5, 53) : vw_C).1 ∧ yX5_sum.cls ≠ "java/lang/invoke/MethodHandle" ∧ yX5_sum.cls ≠ "java/lang/invoke/VarHandle" ∧ (parseMethodDescriptor yX5_sum.desc).map (fun d => d.parameters.length) = some 1 := ⟨rfl, nd_X5_sum⟩
theorem nd_X5_thirst : yX5_thirst.cls ≠ "java/lang/invoke/MethodHandle" ∧ yX5_thirst.cls ≠ "java/lang/invoke/VarHandle" ∧ (parseMethodDescriptor yX5_thirst.desc).map (fun d => d.parameters.length) = some 0 := by decide +kernel
theorem ndV_X5_thirst : yX5_thirst.cls = ((RX5, TX5, 53) : vw_C).1 ∧ yX5_thirst.cls ≠ "java/lang/invoke/MethodHandle" ∧ yX5_thirst.cls ≠ "java/lang/invoke/VarHandle" ∧ (parseMethodDescriptor yX5_thirst.desc).map (fun d => d.parameters.length) = some 0 := ⟨rfl, nd_X5_thirst⟩
theorem nd_X5_type : yX5_type.cls ≠ "java/lang/invoke/MethodHandle" ∧ yX5_type.cls ≠ "java/lang/invoke/VarHandle" ∧ (parseMethodDescriptor yX5_type.desc).map (fun d => d.parameters.length) = some 2 := by decide +kernel
theorem ndV_X5_type : yX5_type.cls = ((RX5, TX5, 53) : vw_C).1 ∧ yX5_type.cls ≠ "java/lang/invoke/MethodHandle" ∧ yX5_type.cls ≠ "java/lang/invoke/VarHandle" ∧ (parseMethodDescriptor yX5_type.desc).map (fun d => d.parameters.length) = some 2 := ⟨rfl, nd_X5_type⟩
theorem nd_X5_undo : yX5_undo.cls ≠ "java/lang/invoke/MethodHandle" ∧ yX5_undo.cls ≠ "java/lang/invoke/VarHandle" ∧ (parseMethodDescriptor yX5_undo.desc).map (fun d => d.parameters.length) = some 1 := by decide +kernel
theorem ndV_X5_undo : yX5_undo.cls = ((RX5, TX5, 53) : vw_C).1 ∧ yX5_undo.cls ≠ "java/lang/invoke/MethodHandle" ∧ yX5_undo.cls ≠ "java/lang/invoke/VarHandle" ∧ (parseMethodDescriptor yX5_undo.desc).map (fun d => d.parameters.length) = some 1 := ⟨rfl, nd_X5_undo⟩
theorem nd_X5_waited : yX5_waited.cls ≠ "java/lang/invoke/MethodHandle" ∧ yX5_waited.cls ≠ "java/lang/invoke/VarHandle" ∧ (parseMethodDescriptor yX5_waited.desc).map (fun d => d.parameters.length) = some 1 := by decide +kernel
theorem ndV_X5_waited : yX5_waited.cls = ((RX5, TX5, 53) : vw_C).1 ∧ yX5_waited.cls ≠ "java/lang/invoke/MethodHandle" ∧ yX5_waited.cls ≠ "java/lang/invoke/VarHandle" ∧ (parseMethodDescriptor yX5_waited.desc).map (fun d => d.parameters.length) = some 1 := ⟨rfl, nd_X5_waited⟩
theorem nd_X5_waters : yX5_waters.cls ≠ "java/lang/invoke/MethodHandle" ∧ yX5_waters.cls ≠ "java/lang/invoke/VarHandle" ∧ (parseMethodDescriptor yX5_waters.desc).map (fun d => d.parameters.length) = some 0 := by decide +kernel
theorem ndV_X5_waters : yX5_waters.cls = ((RX5, TX5, 53) : vw_C).1 ∧ yX5_waters.cls ≠ "java/lang/invoke/MethodHandle" ∧ yX5_waters.cls ≠ "java/lang/invoke/VarHandle" ∧ (parseMethodDescriptor yX5_waters.desc).map (fun d => d.parameters.length) = some 0 := ⟨rfl, nd_X5_waters⟩
theorem nd_X5_wipe : yX5_wipe.cls ≠ "java/lang/invoke/MethodHandle" ∧ yX5_wipe.cls ≠ "java/lang/invoke/VarHandle" ∧ (parseMethodDescriptor yX5_wipe.desc).map (fun d => d.parameters.length) = some 1 := by decide +kernel
theorem ndV_X5_wipe : yX5_wipe.cls = ((RX5, TX5, 53) : vw_C).1 ∧ yX5_wipe.cls ≠ "java/lang/invoke/MethodHandle" ∧ yX5_wipe.cls ≠ "java/lang/invoke/VarHandle" ∧ (parseMethodDescriptor yX5_wipe.desc).map (fun d => d.parameters.length) = some 1 := ⟨rfl, nd_X5_wipe⟩
theorem nd_X5_write : yX5_write.cls ≠ "java/lang/invoke/MethodHandle" ∧ yX5_write.cls ≠ "java/lang/invoke/VarHandle" ∧ (parseMethodDescriptor yX5_write.desc).map (fun d => d.parameters.length) = some 2 := by decide +kernel
theorem ndV_X5_write : yX5_write.cls = ((RX5, TX5, 53) : vw_C).1 ∧ yX5_write.cls ≠ "java/lang/invoke/MethodHandle" ∧ yX5_write.cls ≠ "java/lang/invoke/VarHandle" ∧ (parseMethodDescriptor yX5_write.desc).map (fun d => d.parameters.length) = some 2 := ⟨rfl, nd_X5_write⟩
def wp_L_law_1276 (S : jS) (x0 : Nat) (x1 : Nat) (x2 : Nat) (x3 : Int32) (Kc18 : jS × Int32 → Prop) : Prop :=
  Kc18 (S, (x3 + 6))
def wp_L_law_436 (S : jS) (t0 : Int32) (t1 : Nat) (t2 : Int32) (t3 : Int32) (t4 : Int32) (x0 : Nat) (x1 : Nat) (x2 : Nat) (x3 : Int32) (Kc18 : jS × Int32 → Prop) : Prop :=
  jis 8 S t1 ∧ wp_X5_event S t1 t2 t3 t4 (fun S1 r2 => ((t0 = r2) → wp_L_law_1276 S1 x0 x1 x2 x3 Kc18) ∧ ((¬ (t0 = r2)) → (0 : Int32) = 1))
def wp_L_law_548 (S : jS) (t0 : Int32) (t1 : Nat) (t2 : Int32) (t3 : Int32) (t4 : Int32) (x0 : Nat) (x1 : Nat) (x2 : Nat) (x3 : Int32) (Kc18 : jS × Int32 → Prop) : Prop :=
  jis 8 S t1 ∧ wp_X5_is S t1 t2 t3 t4 (fun S1 r2 => ((t0 = r2) → wp_L_law_1276 S1 x0 x1 x2 x3 Kc18) ∧ ((¬ (t0 = r2)) → (0 : Int32) = 1))
def wp_L_law_929 (S : jS) (t0 : Int64) (t1 : Nat) (t2 : Int32) (t3 : Int32) (t4 : Int32) (x0 : Nat) (x1 : Nat) (x2 : Nat) (x3 : Int32) (Kc18 : jS × Int32 → Prop) : Prop :=
  jis 8 S t1 ∧ wp_X5_chance S t1 t2 t3 t4 (fun S1 r2 => (((lg_cmp t0 r2) = 0) → wp_L_law_1276 S1 x0 x1 x2 x3 Kc18) ∧ ((¬ ((lg_cmp t0 r2) = 0)) → (0 : Int32) = 1))
def wp_L_law_973 (S : jS) (t0 : Int32) (t1 : Nat) (t2 : Int32) (t3 : Int32) (t4 : Int32) (x0 : Nat) (x1 : Nat) (x2 : Nat) (x3 : Int32) (Kc18 : jS × Int32 → Prop) : Prop :=
  jis 8 S t1 ∧ wp_X5_evenings S t1 t2 t3 t4 (fun S1 r2 => ((t0 = r2) → wp_L_law_1276 S1 x0 x1 x2 x3 Kc18) ∧ ((¬ (t0 = r2)) → (0 : Int32) = 1))
def wp_L_law_1016 (S : jS) (t0 : Int32) (t1 : Nat) (t2 : Int32) (t3 : Int32) (t4 : Int32) (x0 : Nat) (x1 : Nat) (x2 : Nat) (x3 : Int32) (Kc18 : jS × Int32 → Prop) : Prop :=
  jis 8 S t1 ∧ wp_X5_sheet S t1 t2 t3 t4 (fun S1 r2 => ((t0 = r2) → wp_L_law_1276 S1 x0 x1 x2 x3 Kc18) ∧ ((¬ (t0 = r2)) → (0 : Int32) = 1))
def wp_L_law_1082 (S : jS) (t0 : Int32) (t1 : Nat) (t2 : Int32) (t3 : Int32) (x0 : Nat) (x1 : Nat) (x2 : Nat) (x3 : Int32) (Kc18 : jS × Int32 → Prop) : Prop :=
  jal 14 S x0 (x3 + 3) (fun v1 => jal 14 S x0 (x3 + 4) (fun v2 => jis 8 S t1 ∧ wp_X5_put S t1 t2 t3 v1 v2 (fun S3 r4 => ((t0 = r4) → wp_L_law_1276 S3 x0 x1 x2 x3 Kc18) ∧ ((¬ (t0 = r4)) → (0 : Int32) = 1))))
def wp_L_law_1135 (S : jS) (t0 : Int32) (t1 : Nat) (t2 : Int32) (t3 : Int32) (t4 : Int32) (x0 : Nat) (x1 : Nat) (x2 : Nat) (x3 : Int32) (Kc18 : jS × Int32 → Prop) : Prop :=
  jis 8 S t1 ∧ wp_X5_get S t1 t2 t3 t4 (fun S1 r2 => ((t0 = r2) → wp_L_law_1276 S1 x0 x1 x2 x3 Kc18) ∧ ((¬ (t0 = r2)) → (0 : Int32) = 1))
def wp_L_law_1178 (S : jS) (t0 : Int32) (t1 : Nat) (t2 : Int32) (x0 : Nat) (x1 : Nat) (x2 : Nat) (x3 : Int32) (Kc18 : jS × Int32 → Prop) : Prop :=
  jal 14 S x0 (x3 + 2) (fun v1 => jal 14 S x0 (x3 + 3) (fun v2 => jal 14 S x0 (x3 + 4) (fun v3 => jal 14 S x0 (x3 + 5) (fun v4 => jis 8 S t1 ∧ wp_X5_copy S t1 t2 v1 v2 v3 v4 (fun S5 r6 => ((t0 = r6) → wp_L_law_1276 S5 x0 x1 x2 x3 Kc18) ∧ ((¬ (t0 = r6)) → (0 : Int32) = 1))))))
def wp_L_law_18 (S : jS) (x0 : Nat) (x1 : Nat) (x2 : Nat) (x3 : Int32) (Kc18 : jS × Int32 → Prop) : Prop :=
  jlen S x0 (fun v1 => (((v1 - 6) < x3) → (1 : Int32) = 1) ∧ ((¬ ((v1 - 6) < x3)) → jal 14 S x0 x3 (fun v2 => (((v2 &&& 63) = 0) → jal 14 S x0 (x3 + 1) (fun v4 => jal 14 S x0 (x3 + 2) (fun v5 => jis 0 S x1 ∧ wp_X0_type S x1 v4 v5 (fun S6 r7 => jal 14 S6 x0 (x3 + 1) (fun v8 => jal 14 S6 x0 (x3 + 2) (fun v9 => jis 8 S6 x2 ∧ wp_X5_type S6 x2 v8 v9 (fun S10 r11 => ((r7 = r11) → wp_L_law_1276 S10 x0 x1 x2 x3 Kc18) ∧ ((¬ (r7 = r11)) → (0 : Int32) = 1)))))))) ∧ ((¬ ((v2 &&& 63) = 0)) → (((v2 &&& 63) = 1) → jal 14 S x0 (x3 + 1) (fun v14 => jis 0 S x1 ∧ wp_X0_wipe S x1 v14 (fun S15 r16 => jal 14 S15 x0 (x3 + 1) (fun v17 => jis 8 S15 x2 ∧ wp_X5_wipe S15 x2 v17 (fun S18 r19 => ((r16 = r19) → wp_L_law_1276 S18 x0 x1 x2 x3 Kc18) ∧ ((¬ (r16 = r19)) → (0 : Int32) = 1)))))) ∧ ((¬ ((v2 &&& 63) = 1)) → (((v2 &&& 63) = 2) → jal 14 S x0 (x3 + 1) (fun v22 => jis 0 S x1 ∧ wp_X0_undo S x1 v22 (fun S23 r24 => jal 14 S23 x0 (x3 + 1) (fun v25 => jis 8 S23 x2 ∧ wp_X5_undo S23 x2 v25 (fun S26 r27 => ((r24 = r27) → wp_L_law_1276 S26 x0 x1 x2 x3 Kc18) ∧ ((¬ (r24 = r27)) → (0 : Int32) = 1)))))) ∧ ((¬ ((v2 &&& 63) = 2)) → (((v2 &&& 63) = 3) → jal 14 S x0 (x3 + 1) (fun v30 => jis 0 S x1 ∧ wp_X0_fault S x1 v30 (fun S31 r32 => jal 14 S31 x0 (x3 + 1) (fun v33 => jis 8 S31 x2 ∧ wp_X5_fault S31 x2 v33 (fun S34 r35 => ((r32 = r35) → wp_L_law_1276 S34 x0 x1 x2 x3 Kc18) ∧ ((¬ (r32 = r35)) → (0 : Int32) = 1)))))) ∧ ((¬ ((v2 &&& 63) = 3)) → (((v2 &&& 63) = 4) → jal 14 S x0 (x3 + 1) (fun v38 => jal 14 S x0 (x3 + 2) (fun v39 => jis 0 S x1 ∧ wp_X0_piece S x1 v38 v39 (fun S40 r41 => jal 14 S40 x0 (x3 + 1) (fun v42 => jal 14 S40 x0 (x3 + 2) (fun v43 => jis 8 S40 x2 ∧ wp_X5_piece S40 x2 v42 v43 (fun S44 r45 => ((r41 = r45) → wp_L_law_1276 S44 x0 x1 x2 x3 Kc18) ∧ ((¬ (r41 = r45)) → (0 : Int32) = 1)))))))) ∧ ((¬ ((v2 &&& 63) = 4)) → (((v2 &&& 63) = 5) → jal 14 S x0 (x3 + 1) (fun v48 => jal 14 S x0 (x3 + 2) (fun v49 => jis 0 S x1 ∧ wp_X0_guest S x1 v48 v49 (fun S50 r51 => jal 14 S50 x0 (x3 + 1) (fun v52 => jal 14 S50 x0 (x3 + 2) (fun v53 => jis 8 S50 x2 ∧ wp_X5_guest S50 x2 v52 v53 (fun S54 r55 => ((r51 = r55) → wp_L_law_1276 S54 x0 x1 x2 x3 Kc18) ∧ ((¬ (r51 = r55)) → (0 : Int32) = 1)))))))) ∧ ((¬ ((v2 &&& 63) = 5)) → (((v2 &&& 63) = 6) → jal 14 S x0 (x3 + 1) (fun v58 => jal 14 S x0 (x3 + 2) (fun v59 => jis 0 S x1 ∧ wp_X0_set S x1 v58 v59 (fun S60 r61 => jal 14 S60 x0 (x3 + 1) (fun v62 => jal 14 S60 x0 (x3 + 2) (fun v63 => jis 8 S60 x2 ∧ wp_X5_set S60 x2 v62 v63 (fun S64 r65 => ((r61 = r65) → wp_L_law_1276 S64 x0 x1 x2 x3 Kc18) ∧ ((¬ (r61 = r65)) → (0 : Int32) = 1)))))))) ∧ ((¬ ((v2 &&& 63) = 6)) → (((v2 &&& 63) = 7) → jal 14 S x0 (x3 + 1) (fun v68 => jal 14 S x0 (x3 + 2) (fun v69 => jal 14 S x0 (x3 + 3) (fun v70 => jis 0 S x1 ∧ wp_X0_event S x1 v68 v69 v70 (fun S71 r72 => jal 14 S71 x0 (x3 + 1) (fun v73 => jal 14 S71 x0 (x3 + 2) (fun v74 => jal 14 S71 x0 (x3 + 3) (fun v75 => wp_L_law_436 S71 r72 x2 v73 v74 v75 x0 x1 x2 x3 Kc18)))))))) ∧ ((¬ ((v2 &&& 63) = 7)) → (((v2 &&& 63) = 8) → jis 0 S x1 ∧ wp_X0_back S x1 (fun S77 r78 => jis 8 S77 x2 ∧ wp_X5_back S77 x2 (fun S79 r80 => ((r78 = r80) → wp_L_law_1276 S79 x0 x1 x2 x3 Kc18) ∧ ((¬ (r78 = r80)) → (0 : Int32) = 1)))) ∧ ((¬ ((v2 &&& 63) = 8)) → (((v2 &&& 63) = 9) → jal 14 S x0 (x3 + 1) (fun v83 => jis 0 S x1 ∧ wp_X0_read S x1 v83 (fun S84 r85 => jal 14 S84 x0 (x3 + 1) (fun v86 => jis 8 S84 x2 ∧ wp_X5_read S84 x2 v86 (fun S87 r88 => ((r85 = r88) → wp_L_law_1276 S87 x0 x1 x2 x3 Kc18) ∧ ((¬ (r85 = r88)) → (0 : Int32) = 1)))))) ∧ ((¬ ((v2 &&& 63) = 9)) → (((v2 &&& 63) = 10) → jal 14 S x0 (x3 + 1) (fun v91 => jal 14 S x0 (x3 + 2) (fun v92 => jis 0 S x1 ∧ wp_X0_at S x1 v91 v92 (fun S93 r94 => jal 14 S93 x0 (x3 + 1) (fun v95 => jal 14 S93 x0 (x3 + 2) (fun v96 => jis 8 S93 x2 ∧ wp_X5_at S93 x2 v95 v96 (fun S97 r98 => ((r94 = r98) → wp_L_law_1276 S97 x0 x1 x2 x3 Kc18) ∧ ((¬ (r94 = r98)) → (0 : Int32) = 1)))))))) ∧ ((¬ ((v2 &&& 63) = 10)) → (((v2 &&& 63) = 11) → jal 14 S x0 (x3 + 1) (fun v101 => jal 14 S x0 (x3 + 2) (fun v102 => jal 14 S x0 (x3 + 3) (fun v103 => jis 0 S x1 ∧ wp_X0_is S x1 v101 v102 v103 (fun S104 r105 => jal 14 S104 x0 (x3 + 1) (fun v106 => jal 14 S104 x0 (x3 + 2) (fun v107 => jal 14 S104 x0 (x3 + 3) (fun v108 => wp_L_law_548 S104 r105 x2 v106 v107 v108 x0 x1 x2 x3 Kc18)))))))) ∧ ((¬ ((v2 &&& 63) = 11)) → (((v2 &&& 63) = 12) → jal 14 S x0 (x3 + 1) (fun v110 => jis 0 S x1 ∧ wp_X0_line S x1 v110 (fun S111 r112 => jal 14 S111 x0 (x3 + 1) (fun v113 => jis 8 S111 x2 ∧ wp_X5_line S111 x2 v113 (fun S114 r115 => ((r112 = r115) → wp_L_law_1276 S114 x0 x1 x2 x3 Kc18) ∧ ((¬ (r112 = r115)) → (0 : Int32) = 1)))))) ∧ ((¬ ((v2 &&& 63) = 12)) → (((v2 &&& 63) = 13) → jal 14 S x0 (x3 + 1) (fun v118 => jis 0 S x1 ∧ wp_X0_sum S x1 v118 (fun S119 r120 => jal 14 S119 x0 (x3 + 1) (fun v121 => jis 8 S119 x2 ∧ wp_X5_sum S119 x2 v121 (fun S122 r123 => ((r120 = r123) → wp_L_law_1276 S122 x0 x1 x2 x3 Kc18) ∧ ((¬ (r120 = r123)) → (0 : Int32) = 1)))))) ∧ ((¬ ((v2 &&& 63) = 13)) → (((v2 &&& 63) = 14) → jis 0 S x1 ∧ wp_X0_first S x1 (fun S126 r127 => jis 8 S126 x2 ∧ wp_X5_first S126 x2 (fun S128 r129 => ((r127 = r129) → wp_L_law_1276 S128 x0 x1 x2 x3 Kc18) ∧ ((¬ (r127 = r129)) → (0 : Int32) = 1)))) ∧ ((¬ ((v2 &&& 63) = 14)) → (((v2 &&& 63) = 15) → jal 14 S x0 (x3 + 1) (fun v132 => jis 0 S x1 ∧ wp_X0_hottest S x1 v132 (fun S133 r134 => jal 14 S133 x0 (x3 + 1) (fun v135 => jis 8 S133 x2 ∧ wp_X5_hottest S133 x2 v135 (fun S136 r137 => ((r134 = r137) → wp_L_law_1276 S136 x0 x1 x2 x3 Kc18) ∧ ((¬ (r134 = r137)) → (0 : Int32) = 1)))))) ∧ ((¬ ((v2 &&& 63) = 15)) → (((v2 &&& 63) = 16) → jal 14 S x0 (x3 + 1) (fun v140 => jis 0 S x1 ∧ wp_X0_waited S x1 v140 (fun S141 r142 => jal 14 S141 x0 (x3 + 1) (fun v143 => jis 8 S141 x2 ∧ wp_X5_waited S141 x2 v143 (fun S144 r145 => ((r142 = r145) → wp_L_law_1276 S144 x0 x1 x2 x3 Kc18) ∧ ((¬ (r142 = r145)) → (0 : Int32) = 1)))))) ∧ ((¬ ((v2 &&& 63) = 16)) → (((v2 &&& 63) = 17) → jis 0 S x1 ∧ wp_X0_thirst S x1 (fun S148 r149 => jis 8 S148 x2 ∧ wp_X5_thirst S148 x2 (fun S150 r151 => ((r149 = r151) → wp_L_law_1276 S150 x0 x1 x2 x3 Kc18) ∧ ((¬ (r149 = r151)) → (0 : Int32) = 1)))) ∧ ((¬ ((v2 &&& 63) = 17)) → (((v2 &&& 63) = 18) → jal 14 S x0 (x3 + 1) (fun v154 => jal 14 S x0 (x3 + 2) (fun v155 => jis 0 S x1 ∧ wp_X0_better S x1 v154 v155 (fun S156 r157 => jal 14 S156 x0 (x3 + 1) (fun v158 => jal 14 S156 x0 (x3 + 2) (fun v159 => jis 8 S156 x2 ∧ wp_X5_better S156 x2 v158 v159 (fun S160 r161 => ((r157 = r161) → wp_L_law_1276 S160 x0 x1 x2 x3 Kc18) ∧ ((¬ (r157 = r161)) → (0 : Int32) = 1)))))))) ∧ ((¬ ((v2 &&& 63) = 18)) → (((v2 &&& 63) = 19) → jal 14 S x0 (x3 + 1) (fun v164 => jis 0 S x1 ∧ wp_X0_fill S x1 v164 (fun S165 r166 => jal 14 S165 x0 (x3 + 1) (fun v167 => jis 8 S165 x2 ∧ wp_X5_fill S165 x2 v167 (fun S168 r169 => ((r166 = r169) → wp_L_law_1276 S168 x0 x1 x2 x3 Kc18) ∧ ((¬ (r166 = r169)) → (0 : Int32) = 1)))))) ∧ ((¬ ((v2 &&& 63) = 19)) → (((v2 &&& 63) = 20) → jal 14 S x0 (x3 + 1) (fun v172 => jal 14 S x0 (x3 + 2) (fun v173 => jis 0 S x1 ∧ wp_X0_come S x1 v172 v173 (fun S174 r175 => jal 14 S174 x0 (x3 + 1) (fun v176 => jal 14 S174 x0 (x3 + 2) (fun v177 => jis 8 S174 x2 ∧ wp_X5_come S174 x2 v176 v177 (fun S178 r179 => ((r175 = r179) → wp_L_law_1276 S178 x0 x1 x2 x3 Kc18) ∧ ((¬ (r175 = r179)) → (0 : Int32) = 1)))))))) ∧ ((¬ ((v2 &&& 63) = 20)) → (((v2 &&& 63) = 21) → jal 14 S x0 (x3 + 1) (fun v182 => jis 0 S x1 ∧ wp_X0_spare S x1 v182 (fun S183 r184 => jal 14 S183 x0 (x3 + 1) (fun v185 => jis 8 S183 x2 ∧ wp_X5_spare S183 x2 v185 (fun S186 r187 => ((r184 = r187) → wp_L_law_1276 S186 x0 x1 x2 x3 Kc18) ∧ ((¬ (r184 = r187)) → (0 : Int32) = 1)))))) ∧ ((¬ ((v2 &&& 63) = 21)) → (((v2 &&& 63) = 22) → jal 14 S x0 (x3 + 1) (fun v190 => jal 14 S x0 (x3 + 2) (fun v191 => jis 0 S x1 ∧ wp_X0_seen S x1 v190 v191 (fun S192 r193 => jal 14 S192 x0 (x3 + 1) (fun v194 => jal 14 S192 x0 (x3 + 2) (fun v195 => jis 8 S192 x2 ∧ wp_X5_seen S192 x2 v194 v195 (fun S196 r197 => ((r193 = r197) → wp_L_law_1276 S196 x0 x1 x2 x3 Kc18) ∧ ((¬ (r193 = r197)) → (0 : Int32) = 1)))))))) ∧ ((¬ ((v2 &&& 63) = 22)) → (((v2 &&& 63) = 23) → jis 0 S x1 ∧ wp_X0_forget S x1 (fun S200 r201 => jis 8 S200 x2 ∧ wp_X5_forget S200 x2 (fun S202 r203 => ((r201 = r203) → wp_L_law_1276 S202 x0 x1 x2 x3 Kc18) ∧ ((¬ (r201 = r203)) → (0 : Int32) = 1)))) ∧ ((¬ ((v2 &&& 63) = 23)) → (((v2 &&& 63) = 24) → jis 0 S x1 ∧ wp_X0_never S x1 (fun S206 r207 => jis 8 S206 x2 ∧ wp_X5_never S206 x2 (fun S208 r209 => ((r207 = r209) → wp_L_law_1276 S208 x0 x1 x2 x3 Kc18) ∧ ((¬ (r207 = r209)) → (0 : Int32) = 1)))) ∧ ((¬ ((v2 &&& 63) = 24)) → (((v2 &&& 63) = 25) → jis 0 S x1 ∧ wp_X0_waters S x1 (fun S212 r213 => jis 8 S212 x2 ∧ wp_X5_waters S212 x2 (fun S214 r215 => ((r213 = r215) → wp_L_law_1276 S214 x0 x1 x2 x3 Kc18) ∧ ((¬ (r213 = r215)) → (0 : Int32) = 1)))) ∧ ((¬ ((v2 &&& 63) = 25)) → (((v2 &&& 63) = 26) → jal 14 S x0 (x3 + 1) (fun v218 => jis 0 S x1 ∧ wp_X0_kind S x1 v218 (fun S219 r220 => jal 14 S219 x0 (x3 + 1) (fun v221 => jis 8 S219 x2 ∧ wp_X5_kind S219 x2 v221 (fun S222 r223 => ((r220 = r223) → wp_L_law_1276 S222 x0 x1 x2 x3 Kc18) ∧ ((¬ (r220 = r223)) → (0 : Int32) = 1)))))) ∧ ((¬ ((v2 &&& 63) = 26)) → (((v2 &&& 63) = 27) → jis 0 S x1 ∧ wp_X0_ask S x1 (fun S226 r227 => jis 8 S226 x2 ∧ wp_X5_ask S226 x2 (fun S228 r229 => ((r227 = r229) → wp_L_law_1276 S228 x0 x1 x2 x3 Kc18) ∧ ((¬ (r227 = r229)) → (0 : Int32) = 1)))) ∧ ((¬ ((v2 &&& 63) = 27)) → (((v2 &&& 63) = 28) → jal 14 S x0 (x3 + 1) (fun v232 => jal 14 S x0 (x3 + 2) (fun v233 => jal 14 S x0 (x3 + 3) (fun v234 => jis 0 S x1 ∧ wp_X0_chance S x1 v232 v233 v234 (fun S235 r236 => jal 14 S235 x0 (x3 + 1) (fun v237 => jal 14 S235 x0 (x3 + 2) (fun v238 => jal 14 S235 x0 (x3 + 3) (fun v239 => wp_L_law_929 S235 r236 x2 v237 v238 v239 x0 x1 x2 x3 Kc18)))))))) ∧ ((¬ ((v2 &&& 63) = 28)) → (((v2 &&& 63) = 29) → jal 14 S x0 (x3 + 1) (fun v241 => jal 14 S x0 (x3 + 2) (fun v242 => jal 14 S x0 (x3 + 3) (fun v243 => jis 0 S x1 ∧ wp_X0_evenings S x1 v241 v242 v243 (fun S244 r245 => jal 14 S244 x0 (x3 + 1) (fun v246 => jal 14 S244 x0 (x3 + 2) (fun v247 => jal 14 S244 x0 (x3 + 3) (fun v248 => wp_L_law_973 S244 r245 x2 v246 v247 v248 x0 x1 x2 x3 Kc18)))))))) ∧ ((¬ ((v2 &&& 63) = 29)) → (((v2 &&& 63) = 30) → jal 14 S x0 (x3 + 1) (fun v250 => jal 14 S x0 (x3 + 2) (fun v251 => jal 14 S x0 (x3 + 3) (fun v252 => jis 0 S x1 ∧ wp_X0_sheet S x1 v250 v251 v252 (fun S253 r254 => jal 14 S253 x0 (x3 + 1) (fun v255 => jal 14 S253 x0 (x3 + 2) (fun v256 => jal 14 S253 x0 (x3 + 3) (fun v257 => wp_L_law_1016 S253 r254 x2 v255 v256 v257 x0 x1 x2 x3 Kc18)))))))) ∧ ((¬ ((v2 &&& 63) = 30)) → (((v2 &&& 63) = 31) → jal 14 S x0 (x3 + 1) (fun v259 => jis 0 S x1 ∧ wp_X0_lose S x1 v259 (fun S260 r261 => jal 14 S260 x0 (x3 + 1) (fun v262 => jis 8 S260 x2 ∧ wp_X5_lose S260 x2 v262 (fun S263 r264 => ((r261 = r264) → wp_L_law_1276 S263 x0 x1 x2 x3 Kc18) ∧ ((¬ (r261 = r264)) → (0 : Int32) = 1)))))) ∧ ((¬ ((v2 &&& 63) = 31)) → (((v2 &&& 63) = 32) → jal 14 S x0 (x3 + 1) (fun v267 => jal 14 S x0 (x3 + 2) (fun v268 => jal 14 S x0 (x3 + 3) (fun v269 => jal 14 S x0 (x3 + 4) (fun v270 => jis 0 S x1 ∧ wp_X0_put S x1 v267 v268 v269 v270 (fun S271 r272 => jal 14 S271 x0 (x3 + 1) (fun v273 => jal 14 S271 x0 (x3 + 2) (fun v274 => wp_L_law_1082 S271 r272 x2 v273 v274 x0 x1 x2 x3 Kc18)))))))) ∧ ((¬ ((v2 &&& 63) = 32)) → (((v2 &&& 63) = 33) → jal 14 S x0 (x3 + 1) (fun v276 => jal 14 S x0 (x3 + 2) (fun v277 => jal 14 S x0 (x3 + 3) (fun v278 => jis 0 S x1 ∧ wp_X0_get S x1 v276 v277 v278 (fun S279 r280 => jal 14 S279 x0 (x3 + 1) (fun v281 => jal 14 S279 x0 (x3 + 2) (fun v282 => jal 14 S279 x0 (x3 + 3) (fun v283 => wp_L_law_1135 S279 r280 x2 v281 v282 v283 x0 x1 x2 x3 Kc18)))))))) ∧ ((¬ ((v2 &&& 63) = 33)) → (((v2 &&& 63) = 34) → jal 14 S x0 (x3 + 1) (fun v285 => jal 14 S x0 (x3 + 2) (fun v286 => jal 14 S x0 (x3 + 3) (fun v287 => jal 14 S x0 (x3 + 4) (fun v288 => jal 14 S x0 (x3 + 5) (fun v289 => jis 0 S x1 ∧ wp_X0_copy S x1 v285 v286 v287 v288 v289 (fun S290 r291 => jal 14 S290 x0 (x3 + 1) (fun v292 => wp_L_law_1178 S290 r291 x2 v292 x0 x1 x2 x3 Kc18)))))))) ∧ ((¬ ((v2 &&& 63) = 34)) → (((v2 &&& 63) = 35) → jal 14 S x0 (x3 + 1) (fun v294 => jal 14 S x0 (x3 + 2) (fun v295 => jis 0 S x1 ∧ wp_X0_write S x1 v294 v295 (fun S296 r297 => jal 14 S296 x0 (x3 + 1) (fun v298 => jal 14 S296 x0 (x3 + 2) (fun v299 => jis 8 S296 x2 ∧ wp_X5_write S296 x2 v298 v299 (fun S300 r301 => ((r297 = r301) → wp_L_law_1276 S300 x0 x1 x2 x3 Kc18) ∧ ((¬ (r297 = r301)) → (0 : Int32) = 1)))))))) ∧ ((¬ ((v2 &&& 63) = 35)) → (((v2 &&& 63) = 36) → jal 14 S x0 (x3 + 1) (fun v304 => jis 0 S x1 ∧ wp_X0_count S x1 v304 (fun S305 r306 => jal 14 S305 x0 (x3 + 1) (fun v307 => jis 8 S305 x2 ∧ wp_X5_count S305 x2 v307 (fun S308 r309 => ((r306 = r309) → wp_L_law_1276 S308 x0 x1 x2 x3 Kc18) ∧ ((¬ (r306 = r309)) → (0 : Int32) = 1)))))) ∧ ((¬ ((v2 &&& 63) = 36)) → (((v2 &&& 63) = 37) → jis 0 S x1 ∧ wp_X0_digest S x1 (fun S312 r313 => jis 8 S312 x2 ∧ wp_X5_digest S312 x2 (fun S314 r315 => (((lg_cmp r313 r315) = 0) → wp_L_law_1276 S314 x0 x1 x2 x3 Kc18) ∧ ((¬ ((lg_cmp r313 r315) = 0)) → (0 : Int32) = 1)))) ∧ ((¬ ((v2 &&& 63) = 37)) → wp_L_law_1276 S x0 x1 x2 x3 Kc18)))))))))))))))))))))))))))))))))))))))))
def wp_L_law_18_L (x0 : Nat) (x1 : Nat) (x2 : Nat) : (jS × Int32) → ((jS × Int32) → Prop) → Prop := fun z Kc18 => wp_L_law_18 z.1 x0 x1 x2 z.2 Kc18
def wp_L_law (S : jS) (x0 : Nat) : Prop :=
  jnew 0 24 tyX0 S (fun S1 a2 => wp_X0_init S1 a2 (fun S3 _ => jnew 8 53 tyX5 S3 (fun S4 a5 => wp_X5_init S4 a5 (fun S6 _ => ∃ n : Nat, jlp n (wp_L_law_18_L x0 a2 a5) (S6, 0)))))
theorem wk_L_law_1276 {X : jX} {G : jG} {Q : State → Prop} {y : MethodName} (C : jC (X, G, 4, Q) 1000 cL_law "SamovarLaw" ret y) (hQ : jLQ (X, G, 4, Q)) {S : jS} {x0 : Nat} {x1 : Nat} {x2 : Nat} {x3 : Int32} {Kc18 : jS × Int32 → Prop} (hc18 : ∀ z : jS × Int32, Kc18 z → jJ (X, G, 4, Q) z.1 [(0, .ref x0), (1, .ref x1), (2, .ref x2), (3, .int z.2)] 18 []) (h : wp_L_law_1276 S x0 x1 x2 x3 Kc18) : jJ (X, G, 4, Q) S [(0, .ref x0), (1, .ref x1), (2, .ref x2), (3, .int x3)] 1276 [] := by
  unfold wp_L_law_1276 at h
  refine jr_iinc (v := (x3 + 6)) (lv' := [(3, .int (x3 + 6)), (0, .ref x0), (1, .ref x1), (2, .ref x2)]) C 1279 rfl dL_law_1276 3 rfl rfl (Nat.le_of_ble_eq_true rfl) rfl ?_
  refine jr_goto C 18 dL_law_1279 (by decide) ?_
  exact jr_sub [1, 2, 3, 0] rfl (hc18 _ h)
theorem wk_L_law_436 {X : jX} {G : jG} {Q : State → Prop} {y : MethodName} (C : jC (X, G, 4, Q) 1000 cL_law "SamovarLaw" ret y) (hQ : jLQ (X, G, 4, Q)) {S : jS} {t0 : Int32} {t1 : Nat} {t2 : Int32} {t3 : Int32} {t4 : Int32} {x0 : Nat} {x1 : Nat} {x2 : Nat} {x3 : Int32} {Kc18 : jS × Int32 → Prop} (hc18 : ∀ z : jS × Int32, Kc18 z → jJ (X, G, 4, Q) z.1 [(0, .ref x0), (1, .ref x1), (2, .ref x2), (3, .int z.2)] 18 []) (h : wp_L_law_436 S t0 t1 t2 t3 t4 x0 x1 x2 x3 Kc18) : jJ (X, G, 4, Q) S [(0, .ref x0), (1, .ref x1), (2, .ref x2), (3, .int x3)] 436 [.int t4, .int t3, .int t2, .ref t1, .int t0] := by
  unfold wp_L_law_436 at h
  obtain ⟨⟨V, hb⟩, h⟩ := h
  refine jr_callVi (r0 := (RX5, TX5, 53)) (As := [.int t2, .int t3, .int t4]) (st := [.int t0]) C 439 rfl (m_X5_event C.2.2.2.2.2.2.2.2.2.2.2.2.2.2.2 h) rfl hb rfl q1514 q1515 q1516 q102 q1517 (by decide) (by decide) ndV_X5_event (Nat.le_of_ble_eq_true rfl) dL_law_436 (fun S1 r2 h => ?_)
  refine jr_icmp_eq C 1276 442 rfl dL_law_439 (by decide) (fun c3 => ?_) (fun c3 => ?_)
  · have h := h.1 c3
    exact (wk_L_law_1276 C hQ hc18 h)
  · have h := h.2 c3
    refine jr_iconst (v := 0) C 443 rfl dL_law_442 (by decide) ?_
    exact jr_lawret C hQ dL_law_443 h
theorem wk_L_law_548 {X : jX} {G : jG} {Q : State → Prop} {y : MethodName} (C : jC (X, G, 4, Q) 1000 cL_law "SamovarLaw" ret y) (hQ : jLQ (X, G, 4, Q)) {S : jS} {t0 : Int32} {t1 : Nat} {t2 : Int32} {t3 : Int32} {t4 : Int32} {x0 : Nat} {x1 : Nat} {x2 : Nat} {x3 : Int32} {Kc18 : jS × Int32 → Prop} (hc18 : ∀ z : jS × Int32, Kc18 z → jJ (X, G, 4, Q) z.1 [(0, .ref x0), (1, .ref x1), (2, .ref x2), (3, .int z.2)] 18 []) (h : wp_L_law_548 S t0 t1 t2 t3 t4 x0 x1 x2 x3 Kc18) : jJ (X, G, 4, Q) S [(0, .ref x0), (1, .ref x1), (2, .ref x2), (3, .int x3)] 548 [.int t4, .int t3, .int t2, .ref t1, .int t0] := by
  unfold wp_L_law_548 at h
  obtain ⟨⟨V, hb⟩, h⟩ := h
  refine jr_callVi (r0 := (RX5, TX5, 53)) (As := [.int t2, .int t3, .int t4]) (st := [.int t0]) C 551 rfl (m_X5_is C.2.2.2.2.2.2.2.2.2.2.2.2.2.2.2 h) rfl hb rfl q1592 q1593 q1594 q102 q1595 (by decide) (by decide) ndV_X5_is (Nat.le_of_ble_eq_true rfl) dL_law_548 (fun S1 r2 h => ?_)
  refine jr_icmp_eq C 1276 554 rfl dL_law_551 (by decide) (fun c3 => ?_) (fun c3 => ?_)
  · have h := h.1 c3
    exact (wk_L_law_1276 C hQ hc18 h)
  · have h := h.2 c3
    refine jr_iconst (v := 0) C 555 rfl dL_law_554 (by decide) ?_
    exact jr_lawret C hQ dL_law_555 h
theorem wk_L_law_929 {X : jX} {G : jG} {Q : State → Prop} {y : MethodName} (C : jC (X, G, 4, Q) 1000 cL_law "SamovarLaw" ret y) (hQ : jLQ (X, G, 4, Q)) {S : jS} {t0 : Int64} {t1 : Nat} {t2 : Int32} {t3 : Int32} {t4 : Int32} {x0 : Nat} {x1 : Nat} {x2 : Nat} {x3 : Int32} {Kc18 : jS × Int32 → Prop} (hc18 : ∀ z : jS × Int32, Kc18 z → jJ (X, G, 4, Q) z.1 [(0, .ref x0), (1, .ref x1), (2, .ref x2), (3, .int z.2)] 18 []) (h : wp_L_law_929 S t0 t1 t2 t3 t4 x0 x1 x2 x3 Kc18) : jJ (X, G, 4, Q) S [(0, .ref x0), (1, .ref x1), (2, .ref x2), (3, .int x3)] 929 [.int t4, .int t3, .int t2, .ref t1, .long t0] := by
  unfold wp_L_law_929 at h
  obtain ⟨⟨V, hb⟩, h⟩ := h
  refine jr_callVl (r0 := (RX5, TX5, 53)) (As := [.int t2, .int t3, .int t4]) (st := [.long t0]) C 932 rfl (m_X5_chance C.2.2.2.2.2.2.2.2.2.2.2.2.2.2.2 h) rfl hb rfl q1751 q1752 q1753 q102 q1754 (by decide) (by decide) ndV_X5_chance (Nat.le_of_ble_eq_true rfl) dL_law_929 (fun S1 r2 h => ?_)
  refine jr_lcmp C 933 rfl dL_law_932 ?_
  refine jr_if_eq C 1276 936 rfl dL_law_933 (by decide) (fun c3 => ?_) (fun c3 => ?_)
  · have h := h.1 c3
    exact (wk_L_law_1276 C hQ hc18 h)
  · have h := h.2 c3
    refine jr_iconst (v := 0) C 937 rfl dL_law_936 (by decide) ?_
    exact jr_lawret C hQ dL_law_937 h
theorem wk_L_law_973 {X : jX} {G : jG} {Q : State → Prop} {y : MethodName} (C : jC (X, G, 4, Q) 1000 cL_law "SamovarLaw" ret y) (hQ : jLQ (X, G, 4, Q)) {S : jS} {t0 : Int32} {t1 : Nat} {t2 : Int32} {t3 : Int32} {t4 : Int32} {x0 : Nat} {x1 : Nat} {x2 : Nat} {x3 : Int32} {Kc18 : jS × Int32 → Prop} (hc18 : ∀ z : jS × Int32, Kc18 z → jJ (X, G, 4, Q) z.1 [(0, .ref x0), (1, .ref x1), (2, .ref x2), (3, .int z.2)] 18 []) (h : wp_L_law_973 S t0 t1 t2 t3 t4 x0 x1 x2 x3 Kc18) : jJ (X, G, 4, Q) S [(0, .ref x0), (1, .ref x1), (2, .ref x2), (3, .int x3)] 973 [.int t4, .int t3, .int t2, .ref t1, .int t0] := by
  unfold wp_L_law_973 at h
  obtain ⟨⟨V, hb⟩, h⟩ := h
  refine jr_callVi (r0 := (RX5, TX5, 53)) (As := [.int t2, .int t3, .int t4]) (st := [.int t0]) C 976 rfl (m_X5_evenings C.2.2.2.2.2.2.2.2.2.2.2.2.2.2.2 h) rfl hb rfl q1766 q1767 q1768 q102 q1769 (by decide) (by decide) ndV_X5_evenings (Nat.le_of_ble_eq_true rfl) dL_law_973 (fun S1 r2 h => ?_)
  refine jr_icmp_eq C 1276 979 rfl dL_law_976 (by decide) (fun c3 => ?_) (fun c3 => ?_)
  · have h := h.1 c3
    exact (wk_L_law_1276 C hQ hc18 h)
  · have h := h.2 c3
    refine jr_iconst (v := 0) C 980 rfl dL_law_979 (by decide) ?_
    exact jr_lawret C hQ dL_law_980 h
theorem wk_L_law_1016 {X : jX} {G : jG} {Q : State → Prop} {y : MethodName} (C : jC (X, G, 4, Q) 1000 cL_law "SamovarLaw" ret y) (hQ : jLQ (X, G, 4, Q)) {S : jS} {t0 : Int32} {t1 : Nat} {t2 : Int32} {t3 : Int32} {t4 : Int32} {x0 : Nat} {x1 : Nat} {x2 : Nat} {x3 : Int32} {Kc18 : jS × Int32 → Prop} (hc18 : ∀ z : jS × Int32, Kc18 z → jJ (X, G, 4, Q) z.1 [(0, .ref x0), (1, .ref x1), (2, .ref x2), (3, .int z.2)] 18 []) (h : wp_L_law_1016 S t0 t1 t2 t3 t4 x0 x1 x2 x3 Kc18) : jJ (X, G, 4, Q) S [(0, .ref x0), (1, .ref x1), (2, .ref x2), (3, .int x3)] 1016 [.int t4, .int t3, .int t2, .ref t1, .int t0] := by
  unfold wp_L_law_1016 at h
  obtain ⟨⟨V, hb⟩, h⟩ := h
  refine jr_callVi (r0 := (RX5, TX5, 53)) (As := [.int t2, .int t3, .int t4]) (st := [.int t0]) C 1019 rfl (m_X5_sheet C.2.2.2.2.2.2.2.2.2.2.2.2.2.2.2 h) rfl hb rfl q1775 q1776 q1777 q102 q1778 (by decide) (by decide) ndV_X5_sheet (Nat.le_of_ble_eq_true rfl) dL_law_1016 (fun S1 r2 h => ?_)
  refine jr_icmp_eq C 1276 1022 rfl dL_law_1019 (by decide) (fun c3 => ?_) (fun c3 => ?_)
  · have h := h.1 c3
    exact (wk_L_law_1276 C hQ hc18 h)
  · have h := h.2 c3
    refine jr_iconst (v := 0) C 1023 rfl dL_law_1022 (by decide) ?_
    exact jr_lawret C hQ dL_law_1023 h
theorem wk_L_law_1082 {X : jX} {G : jG} {Q : State → Prop} {y : MethodName} (C : jC (X, G, 4, Q) 1000 cL_law "SamovarLaw" ret y) (hQ : jLQ (X, G, 4, Q)) {S : jS} {t0 : Int32} {t1 : Nat} {t2 : Int32} {t3 : Int32} {x0 : Nat} {x1 : Nat} {x2 : Nat} {x3 : Int32} {Kc18 : jS × Int32 → Prop} (hc18 : ∀ z : jS × Int32, Kc18 z → jJ (X, G, 4, Q) z.1 [(0, .ref x0), (1, .ref x1), (2, .ref x2), (3, .int z.2)] 18 []) (h : wp_L_law_1082 S t0 t1 t2 t3 x0 x1 x2 x3 Kc18) : jJ (X, G, 4, Q) S [(0, .ref x0), (1, .ref x1), (2, .ref x2), (3, .int x3)] 1082 [.int t3, .int t2, .ref t1, .int t0] := by
  unfold wp_L_law_1082 at h
  refine jr_aload_n C 1083 rfl dL_law_1082 rfl 0 rfl ?_
  refine jr_iload_n C 1084 rfl dL_law_1083 rfl 3 rfl ?_
  refine jr_iconst (v := 3) C 1085 rfl dL_law_1084 (by decide) ?_
  refine jr_iadd C 1086 rfl dL_law_1085 ?_
  refine jr_iald14 C 1087 rfl dL_law_1086 h (fun v1 h => ?_)
  refine jr_aload_n C 1088 rfl dL_law_1087 rfl 0 rfl ?_
  refine jr_iload_n C 1089 rfl dL_law_1088 rfl 3 rfl ?_
  refine jr_iconst (v := 4) C 1090 rfl dL_law_1089 (by decide) ?_
  refine jr_iadd C 1091 rfl dL_law_1090 ?_
  refine jr_iald14 C 1092 rfl dL_law_1091 h (fun v2 h => ?_)
  obtain ⟨⟨V, hb⟩, h⟩ := h
  refine jr_callVi (r0 := (RX5, TX5, 53)) (As := [.int t2, .int t3, .int v1, .int v2]) (st := [.int t0]) C 1095 rfl (m_X5_put C.2.2.2.2.2.2.2.2.2.2.2.2.2.2.2 h) rfl hb rfl q1783 q1784 q1785 q102 q1786 (by decide) (by decide) ndV_X5_put (Nat.le_of_ble_eq_true rfl) dL_law_1092 (fun S3 r4 h => ?_)
  refine jr_icmp_eq C 1276 1098 rfl dL_law_1095 (by decide) (fun c5 => ?_) (fun c5 => ?_)
  · have h := h.1 c5
    exact (wk_L_law_1276 C hQ hc18 h)
  · have h := h.2 c5
    refine jr_iconst (v := 0) C 1099 rfl dL_law_1098 (by decide) ?_
    exact jr_lawret C hQ dL_law_1099 h
theorem wk_L_law_1135 {X : jX} {G : jG} {Q : State → Prop} {y : MethodName} (C : jC (X, G, 4, Q) 1000 cL_law "SamovarLaw" ret y) (hQ : jLQ (X, G, 4, Q)) {S : jS} {t0 : Int32} {t1 : Nat} {t2 : Int32} {t3 : Int32} {t4 : Int32} {x0 : Nat} {x1 : Nat} {x2 : Nat} {x3 : Int32} {Kc18 : jS × Int32 → Prop} (hc18 : ∀ z : jS × Int32, Kc18 z → jJ (X, G, 4, Q) z.1 [(0, .ref x0), (1, .ref x1), (2, .ref x2), (3, .int z.2)] 18 []) (h : wp_L_law_1135 S t0 t1 t2 t3 t4 x0 x1 x2 x3 Kc18) : jJ (X, G, 4, Q) S [(0, .ref x0), (1, .ref x1), (2, .ref x2), (3, .int x3)] 1135 [.int t4, .int t3, .int t2, .ref t1, .int t0] := by
  unfold wp_L_law_1135 at h
  obtain ⟨⟨V, hb⟩, h⟩ := h
  refine jr_callVi (r0 := (RX5, TX5, 53)) (As := [.int t2, .int t3, .int t4]) (st := [.int t0]) C 1138 rfl (m_X5_get C.2.2.2.2.2.2.2.2.2.2.2.2.2.2.2 h) rfl hb rfl q1795 q1796 q1797 q102 q1798 (by decide) (by decide) ndV_X5_get (Nat.le_of_ble_eq_true rfl) dL_law_1135 (fun S1 r2 h => ?_)
  refine jr_icmp_eq C 1276 1141 rfl dL_law_1138 (by decide) (fun c3 => ?_) (fun c3 => ?_)
  · have h := h.1 c3
    exact (wk_L_law_1276 C hQ hc18 h)
  · have h := h.2 c3
    refine jr_iconst (v := 0) C 1142 rfl dL_law_1141 (by decide) ?_
    exact jr_lawret C hQ dL_law_1142 h
theorem wk_L_law_1178 {X : jX} {G : jG} {Q : State → Prop} {y : MethodName} (C : jC (X, G, 4, Q) 1000 cL_law "SamovarLaw" ret y) (hQ : jLQ (X, G, 4, Q)) {S : jS} {t0 : Int32} {t1 : Nat} {t2 : Int32} {x0 : Nat} {x1 : Nat} {x2 : Nat} {x3 : Int32} {Kc18 : jS × Int32 → Prop} (hc18 : ∀ z : jS × Int32, Kc18 z → jJ (X, G, 4, Q) z.1 [(0, .ref x0), (1, .ref x1), (2, .ref x2), (3, .int z.2)] 18 []) (h : wp_L_law_1178 S t0 t1 t2 x0 x1 x2 x3 Kc18) : jJ (X, G, 4, Q) S [(0, .ref x0), (1, .ref x1), (2, .ref x2), (3, .int x3)] 1178 [.int t2, .ref t1, .int t0] := by
  unfold wp_L_law_1178 at h
  refine jr_aload_n C 1179 rfl dL_law_1178 rfl 0 rfl ?_
  refine jr_iload_n C 1180 rfl dL_law_1179 rfl 3 rfl ?_
  refine jr_iconst (v := 2) C 1181 rfl dL_law_1180 (by decide) ?_
  refine jr_iadd C 1182 rfl dL_law_1181 ?_
  refine jr_iald14 C 1183 rfl dL_law_1182 h (fun v1 h => ?_)
  refine jr_aload_n C 1184 rfl dL_law_1183 rfl 0 rfl ?_
  refine jr_iload_n C 1185 rfl dL_law_1184 rfl 3 rfl ?_
  refine jr_iconst (v := 3) C 1186 rfl dL_law_1185 (by decide) ?_
  refine jr_iadd C 1187 rfl dL_law_1186 ?_
  refine jr_iald14 C 1188 rfl dL_law_1187 h (fun v2 h => ?_)
  refine jr_aload_n C 1189 rfl dL_law_1188 rfl 0 rfl ?_
  refine jr_iload_n C 1190 rfl dL_law_1189 rfl 3 rfl ?_
  refine jr_iconst (v := 4) C 1191 rfl dL_law_1190 (by decide) ?_
  refine jr_iadd C 1192 rfl dL_law_1191 ?_
  refine jr_iald14 C 1193 rfl dL_law_1192 h (fun v3 h => ?_)
  refine jr_aload_n C 1194 rfl dL_law_1193 rfl 0 rfl ?_
  refine jr_iload_n C 1195 rfl dL_law_1194 rfl 3 rfl ?_
  refine jr_iconst (v := 5) C 1196 rfl dL_law_1195 (by decide) ?_
  refine jr_iadd C 1197 rfl dL_law_1196 ?_
  refine jr_iald14 C 1198 rfl dL_law_1197 h (fun v4 h => ?_)
  obtain ⟨⟨V, hb⟩, h⟩ := h
  refine jr_callVi (r0 := (RX5, TX5, 53)) (As := [.int t2, .int v1, .int v2, .int v3, .int v4]) (st := [.int t0]) C 1201 rfl (m_X5_copy C.2.2.2.2.2.2.2.2.2.2.2.2.2.2.2 h) rfl hb rfl q1800 q1801 q1802 q102 q1803 (by decide) (by decide) ndV_X5_copy (Nat.le_of_ble_eq_true rfl) dL_law_1198 (fun S5 r6 h => ?_)
  refine jr_icmp_eq C 1276 1204 rfl dL_law_1201 (by decide) (fun c7 => ?_) (fun c7 => ?_)
  · have h := h.1 c7
    exact (wk_L_law_1276 C hQ hc18 h)
  · have h := h.2 c7
    refine jr_iconst (v := 0) C 1205 rfl dL_law_1204 (by decide) ?_
    exact jr_lawret C hQ dL_law_1205 h
theorem wk_L_law_18 {X : jX} {G : jG} {Q : State → Prop} {y : MethodName} (C : jC (X, G, 4, Q) 1000 cL_law "SamovarLaw" ret y) (hQ : jLQ (X, G, 4, Q)) {S : jS} {x0 : Nat} {x1 : Nat} {x2 : Nat} {x3 : Int32} {Kc18 : jS × Int32 → Prop} (hc18 : ∀ z : jS × Int32, Kc18 z → jJ (X, G, 4, Q) z.1 [(0, .ref x0), (1, .ref x1), (2, .ref x2), (3, .int z.2)] 18 []) (h : wp_L_law_18 S x0 x1 x2 x3 Kc18) : jJ (X, G, 4, Q) S [(0, .ref x0), (1, .ref x1), (2, .ref x2), (3, .int x3)] 18 [] := by
  unfold wp_L_law_18 at h
  refine jr_iload_n C 19 rfl dL_law_18 rfl 3 rfl ?_
  refine jr_aload_n C 20 rfl dL_law_19 rfl 0 rfl ?_
  refine jr_alen C 21 rfl dL_law_20 h (fun v1 h => ?_)
  refine jr_bipush (v := 6) C 23 rfl dL_law_21 (by decide) ?_
  refine jr_isub C 24 rfl dL_law_23 ?_
  refine jr_icmp_gt C 1282 27 rfl dL_law_24 (by decide) (fun c317 => ?_) (fun c317 => ?_)
  · have h := h.1 c317
    refine jr_iconst (v := 1) C 1283 rfl dL_law_1282 (by decide) ?_
    exact jr_lawret C hQ dL_law_1283 h
  · have h := h.2 c317
    refine jr_aload_n C 28 rfl dL_law_27 rfl 0 rfl ?_
    refine jr_iload_n C 29 rfl dL_law_28 rfl 3 rfl ?_
    refine jr_iald14 C 30 rfl dL_law_29 h (fun v2 h => ?_)
    refine jr_bipush (v := 63) C 32 rfl dL_law_30 (by decide) ?_
    refine jr_iand C 33 rfl dL_law_32 ?_
    by_cases c3 : (v2 &&& 63) = 0
    · have h := h.1 c3
      refine jr_tswIn (k0 := 0) C 200 dL_law_33 c3 (by decide) (by decide) (show _ = some 167 by decide) (by decide) ?_
      refine jr_aload_n C 201 rfl dL_law_200 rfl 1 rfl ?_
      refine jr_aload_n C 202 rfl dL_law_201 rfl 0 rfl ?_
      refine jr_iload_n C 203 rfl dL_law_202 rfl 3 rfl ?_
      refine jr_iconst (v := 1) C 204 rfl dL_law_203 (by decide) ?_
      refine jr_iadd C 205 rfl dL_law_204 ?_
      refine jr_iald14 C 206 rfl dL_law_205 h (fun v4 h => ?_)
      refine jr_aload_n C 207 rfl dL_law_206 rfl 0 rfl ?_
      refine jr_iload_n C 208 rfl dL_law_207 rfl 3 rfl ?_
      refine jr_iconst (v := 2) C 209 rfl dL_law_208 (by decide) ?_
      refine jr_iadd C 210 rfl dL_law_209 ?_
      refine jr_iald14 C 211 rfl dL_law_210 h (fun v5 h => ?_)
      obtain ⟨⟨V, hb⟩, h⟩ := h
      refine jr_callVi (r0 := (RX0, TX0, 24)) (As := [.int v4, .int v5]) (st := []) C 214 rfl (m_X0_type C.2.2.2.2.2.2.2.2.2.2.2.2.2.2.2 h) rfl hb rfl q301 q302 q303 q94 q304 (by decide) (by decide) ndV_X0_type (Nat.le_of_ble_eq_true rfl) dL_law_211 (fun S6 r7 h => ?_)
      refine jr_aload_n C 215 rfl dL_law_214 rfl 2 rfl ?_
      refine jr_aload_n C 216 rfl dL_law_215 rfl 0 rfl ?_
      refine jr_iload_n C 217 rfl dL_law_216 rfl 3 rfl ?_
      refine jr_iconst (v := 1) C 218 rfl dL_law_217 (by decide) ?_
      refine jr_iadd C 219 rfl dL_law_218 ?_
      refine jr_iald14 C 220 rfl dL_law_219 h (fun v8 h => ?_)
      refine jr_aload_n C 221 rfl dL_law_220 rfl 0 rfl ?_
      refine jr_iload_n C 222 rfl dL_law_221 rfl 3 rfl ?_
      refine jr_iconst (v := 2) C 223 rfl dL_law_222 (by decide) ?_
      refine jr_iadd C 224 rfl dL_law_223 ?_
      refine jr_iald14 C 225 rfl dL_law_224 h (fun v9 h => ?_)
      obtain ⟨⟨V, hb⟩, h⟩ := h
      refine jr_callVi (r0 := (RX5, TX5, 53)) (As := [.int v8, .int v9]) (st := [.int r7]) C 228 rfl (m_X5_type C.2.2.2.2.2.2.2.2.2.2.2.2.2.2.2 h) rfl hb rfl q1438 q1439 q1440 q102 q1441 (by decide) (by decide) ndV_X5_type (Nat.le_of_ble_eq_true rfl) dL_law_225 (fun S10 r11 h => ?_)
      refine jr_icmp_eq C 1276 231 rfl dL_law_228 (by decide) (fun c12 => ?_) (fun c12 => ?_)
      · have h := h.1 c12
        exact (wk_L_law_1276 C hQ hc18 h)
      · have h := h.2 c12
        refine jr_iconst (v := 0) C 232 rfl dL_law_231 (by decide) ?_
        exact jr_lawret C hQ dL_law_232 h
    have h := h.2 c3
    by_cases c13 : (v2 &&& 63) = 1
    · have h := h.1 c13
      refine jr_tswIn (k0 := 1) C 233 dL_law_33 c13 (by decide) (by decide) (show _ = some 200 by decide) (by decide) ?_
      refine jr_aload_n C 234 rfl dL_law_233 rfl 1 rfl ?_
      refine jr_aload_n C 235 rfl dL_law_234 rfl 0 rfl ?_
      refine jr_iload_n C 236 rfl dL_law_235 rfl 3 rfl ?_
      refine jr_iconst (v := 1) C 237 rfl dL_law_236 (by decide) ?_
      refine jr_iadd C 238 rfl dL_law_237 ?_
      refine jr_iald14 C 239 rfl dL_law_238 h (fun v14 h => ?_)
      obtain ⟨⟨V, hb⟩, h⟩ := h
      refine jr_callVi (r0 := (RX0, TX0, 24)) (As := [.int v14]) (st := []) C 242 rfl (m_X0_wipe C.2.2.2.2.2.2.2.2.2.2.2.2.2.2.2 h) rfl hb rfl q318 q319 q320 q94 q321 (by decide) (by decide) ndV_X0_wipe (Nat.le_of_ble_eq_true rfl) dL_law_239 (fun S15 r16 h => ?_)
      refine jr_aload_n C 243 rfl dL_law_242 rfl 2 rfl ?_
      refine jr_aload_n C 244 rfl dL_law_243 rfl 0 rfl ?_
      refine jr_iload_n C 245 rfl dL_law_244 rfl 3 rfl ?_
      refine jr_iconst (v := 1) C 246 rfl dL_law_245 (by decide) ?_
      refine jr_iadd C 247 rfl dL_law_246 ?_
      refine jr_iald14 C 248 rfl dL_law_247 h (fun v17 h => ?_)
      obtain ⟨⟨V, hb⟩, h⟩ := h
      refine jr_callVi (r0 := (RX5, TX5, 53)) (As := [.int v17]) (st := [.int r16]) C 251 rfl (m_X5_wipe C.2.2.2.2.2.2.2.2.2.2.2.2.2.2.2 h) rfl hb rfl q1448 q1449 q1450 q102 q1451 (by decide) (by decide) ndV_X5_wipe (Nat.le_of_ble_eq_true rfl) dL_law_248 (fun S18 r19 h => ?_)
      refine jr_icmp_eq C 1276 254 rfl dL_law_251 (by decide) (fun c20 => ?_) (fun c20 => ?_)
      · have h := h.1 c20
        exact (wk_L_law_1276 C hQ hc18 h)
      · have h := h.2 c20
        refine jr_iconst (v := 0) C 255 rfl dL_law_254 (by decide) ?_
        exact jr_lawret C hQ dL_law_255 h
    have h := h.2 c13
    by_cases c21 : (v2 &&& 63) = 2
    · have h := h.1 c21
      refine jr_tswIn (k0 := 2) C 256 dL_law_33 c21 (by decide) (by decide) (show _ = some 223 by decide) (by decide) ?_
      refine jr_aload_n C 257 rfl dL_law_256 rfl 1 rfl ?_
      refine jr_aload_n C 258 rfl dL_law_257 rfl 0 rfl ?_
      refine jr_iload_n C 259 rfl dL_law_258 rfl 3 rfl ?_
      refine jr_iconst (v := 1) C 260 rfl dL_law_259 (by decide) ?_
      refine jr_iadd C 261 rfl dL_law_260 ?_
      refine jr_iald14 C 262 rfl dL_law_261 h (fun v22 h => ?_)
      obtain ⟨⟨V, hb⟩, h⟩ := h
      refine jr_callVi (r0 := (RX0, TX0, 24)) (As := [.int v22]) (st := []) C 265 rfl (m_X0_undo C.2.2.2.2.2.2.2.2.2.2.2.2.2.2.2 h) rfl hb rfl q328 q329 q330 q94 q331 (by decide) (by decide) ndV_X0_undo (Nat.le_of_ble_eq_true rfl) dL_law_262 (fun S23 r24 h => ?_)
      refine jr_aload_n C 266 rfl dL_law_265 rfl 2 rfl ?_
      refine jr_aload_n C 267 rfl dL_law_266 rfl 0 rfl ?_
      refine jr_iload_n C 268 rfl dL_law_267 rfl 3 rfl ?_
      refine jr_iconst (v := 1) C 269 rfl dL_law_268 (by decide) ?_
      refine jr_iadd C 270 rfl dL_law_269 ?_
      refine jr_iald14 C 271 rfl dL_law_270 h (fun v25 h => ?_)
      obtain ⟨⟨V, hb⟩, h⟩ := h
      refine jr_callVi (r0 := (RX5, TX5, 53)) (As := [.int v25]) (st := [.int r24]) C 274 rfl (m_X5_undo C.2.2.2.2.2.2.2.2.2.2.2.2.2.2.2 h) rfl hb rfl q1452 q1453 q1454 q102 q1455 (by decide) (by decide) ndV_X5_undo (Nat.le_of_ble_eq_true rfl) dL_law_271 (fun S26 r27 h => ?_)
      refine jr_icmp_eq C 1276 277 rfl dL_law_274 (by decide) (fun c28 => ?_) (fun c28 => ?_)
      · have h := h.1 c28
        exact (wk_L_law_1276 C hQ hc18 h)
      · have h := h.2 c28
        refine jr_iconst (v := 0) C 278 rfl dL_law_277 (by decide) ?_
        exact jr_lawret C hQ dL_law_278 h
    have h := h.2 c21
    by_cases c29 : (v2 &&& 63) = 3
    · have h := h.1 c29
      refine jr_tswIn (k0 := 3) C 279 dL_law_33 c29 (by decide) (by decide) (show _ = some 246 by decide) (by decide) ?_
      refine jr_aload_n C 280 rfl dL_law_279 rfl 1 rfl ?_
      refine jr_aload_n C 281 rfl dL_law_280 rfl 0 rfl ?_
      refine jr_iload_n C 282 rfl dL_law_281 rfl 3 rfl ?_
      refine jr_iconst (v := 1) C 283 rfl dL_law_282 (by decide) ?_
      refine jr_iadd C 284 rfl dL_law_283 ?_
      refine jr_iald14 C 285 rfl dL_law_284 h (fun v30 h => ?_)
      obtain ⟨⟨V, hb⟩, h⟩ := h
      refine jr_callVi (r0 := (RX0, TX0, 24)) (As := [.int v30]) (st := []) C 288 rfl (m_X0_fault C.2.2.2.2.2.2.2.2.2.2.2.2.2.2.2 h) rfl hb rfl q338 q339 q340 q94 q341 (by decide) (by decide) ndV_X0_fault (Nat.le_of_ble_eq_true rfl) dL_law_285 (fun S31 r32 h => ?_)
      refine jr_aload_n C 289 rfl dL_law_288 rfl 2 rfl ?_
      refine jr_aload_n C 290 rfl dL_law_289 rfl 0 rfl ?_
      refine jr_iload_n C 291 rfl dL_law_290 rfl 3 rfl ?_
      refine jr_iconst (v := 1) C 292 rfl dL_law_291 (by decide) ?_
      refine jr_iadd C 293 rfl dL_law_292 ?_
      refine jr_iald14 C 294 rfl dL_law_293 h (fun v33 h => ?_)
      obtain ⟨⟨V, hb⟩, h⟩ := h
      refine jr_callVi (r0 := (RX5, TX5, 53)) (As := [.int v33]) (st := [.int r32]) C 297 rfl (m_X5_fault C.2.2.2.2.2.2.2.2.2.2.2.2.2.2.2 h) rfl hb rfl q1456 q1457 q1458 q102 q1459 (by decide) (by decide) ndV_X5_fault (Nat.le_of_ble_eq_true rfl) dL_law_294 (fun S34 r35 h => ?_)
      refine jr_icmp_eq C 1276 300 rfl dL_law_297 (by decide) (fun c36 => ?_) (fun c36 => ?_)
      · have h := h.1 c36
        exact (wk_L_law_1276 C hQ hc18 h)
      · have h := h.2 c36
        refine jr_iconst (v := 0) C 301 rfl dL_law_300 (by decide) ?_
        exact jr_lawret C hQ dL_law_301 h
    have h := h.2 c29
    by_cases c37 : (v2 &&& 63) = 4
    · have h := h.1 c37
      refine jr_tswIn (k0 := 4) C 302 dL_law_33 c37 (by decide) (by decide) (show _ = some 269 by decide) (by decide) ?_
      refine jr_aload_n C 303 rfl dL_law_302 rfl 1 rfl ?_
      refine jr_aload_n C 304 rfl dL_law_303 rfl 0 rfl ?_
      refine jr_iload_n C 305 rfl dL_law_304 rfl 3 rfl ?_
      refine jr_iconst (v := 1) C 306 rfl dL_law_305 (by decide) ?_
      refine jr_iadd C 307 rfl dL_law_306 ?_
      refine jr_iald14 C 308 rfl dL_law_307 h (fun v38 h => ?_)
      refine jr_aload_n C 309 rfl dL_law_308 rfl 0 rfl ?_
      refine jr_iload_n C 310 rfl dL_law_309 rfl 3 rfl ?_
      refine jr_iconst (v := 2) C 311 rfl dL_law_310 (by decide) ?_
      refine jr_iadd C 312 rfl dL_law_311 ?_
      refine jr_iald14 C 313 rfl dL_law_312 h (fun v39 h => ?_)
      obtain ⟨⟨V, hb⟩, h⟩ := h
      refine jr_callVi (r0 := (RX0, TX0, 24)) (As := [.int v38, .int v39]) (st := []) C 316 rfl (m_X0_piece C.2.2.2.2.2.2.2.2.2.2.2.2.2.2.2 h) rfl hb rfl q684 q685 q686 q94 q687 (by decide) (by decide) ndV_X0_piece (Nat.le_of_ble_eq_true rfl) dL_law_313 (fun S40 r41 h => ?_)
      refine jr_aload_n C 317 rfl dL_law_316 rfl 2 rfl ?_
      refine jr_aload_n C 318 rfl dL_law_317 rfl 0 rfl ?_
      refine jr_iload_n C 319 rfl dL_law_318 rfl 3 rfl ?_
      refine jr_iconst (v := 1) C 320 rfl dL_law_319 (by decide) ?_
      refine jr_iadd C 321 rfl dL_law_320 ?_
      refine jr_iald14 C 322 rfl dL_law_321 h (fun v42 h => ?_)
      refine jr_aload_n C 323 rfl dL_law_322 rfl 0 rfl ?_
      refine jr_iload_n C 324 rfl dL_law_323 rfl 3 rfl ?_
      refine jr_iconst (v := 2) C 325 rfl dL_law_324 (by decide) ?_
      refine jr_iadd C 326 rfl dL_law_325 ?_
      refine jr_iald14 C 327 rfl dL_law_326 h (fun v43 h => ?_)
      obtain ⟨⟨V, hb⟩, h⟩ := h
      refine jr_callVi (r0 := (RX5, TX5, 53)) (As := [.int v42, .int v43]) (st := [.int r41]) C 330 rfl (m_X5_piece C.2.2.2.2.2.2.2.2.2.2.2.2.2.2.2 h) rfl hb rfl q1479 q1480 q1481 q102 q1482 (by decide) (by decide) ndV_X5_piece (Nat.le_of_ble_eq_true rfl) dL_law_327 (fun S44 r45 h => ?_)
      refine jr_icmp_eq C 1276 333 rfl dL_law_330 (by decide) (fun c46 => ?_) (fun c46 => ?_)
      · have h := h.1 c46
        exact (wk_L_law_1276 C hQ hc18 h)
      · have h := h.2 c46
        refine jr_iconst (v := 0) C 334 rfl dL_law_333 (by decide) ?_
        exact jr_lawret C hQ dL_law_334 h
    have h := h.2 c37
    by_cases c47 : (v2 &&& 63) = 5
    · have h := h.1 c47
      refine jr_tswIn (k0 := 5) C 335 dL_law_33 c47 (by decide) (by decide) (show _ = some 302 by decide) (by decide) ?_
      refine jr_aload_n C 336 rfl dL_law_335 rfl 1 rfl ?_
      refine jr_aload_n C 337 rfl dL_law_336 rfl 0 rfl ?_
      refine jr_iload_n C 338 rfl dL_law_337 rfl 3 rfl ?_
      refine jr_iconst (v := 1) C 339 rfl dL_law_338 (by decide) ?_
      refine jr_iadd C 340 rfl dL_law_339 ?_
      refine jr_iald14 C 341 rfl dL_law_340 h (fun v48 h => ?_)
      refine jr_aload_n C 342 rfl dL_law_341 rfl 0 rfl ?_
      refine jr_iload_n C 343 rfl dL_law_342 rfl 3 rfl ?_
      refine jr_iconst (v := 2) C 344 rfl dL_law_343 (by decide) ?_
      refine jr_iadd C 345 rfl dL_law_344 ?_
      refine jr_iald14 C 346 rfl dL_law_345 h (fun v49 h => ?_)
      obtain ⟨⟨V, hb⟩, h⟩ := h
      refine jr_callVi (r0 := (RX0, TX0, 24)) (As := [.int v48, .int v49]) (st := []) C 349 rfl (m_X0_guest C.2.2.2.2.2.2.2.2.2.2.2.2.2.2.2 h) rfl hb rfl q736 q737 q738 q94 q739 (by decide) (by decide) ndV_X0_guest (Nat.le_of_ble_eq_true rfl) dL_law_346 (fun S50 r51 h => ?_)
      refine jr_aload_n C 350 rfl dL_law_349 rfl 2 rfl ?_
      refine jr_aload_n C 351 rfl dL_law_350 rfl 0 rfl ?_
      refine jr_iload_n C 352 rfl dL_law_351 rfl 3 rfl ?_
      refine jr_iconst (v := 1) C 353 rfl dL_law_352 (by decide) ?_
      refine jr_iadd C 354 rfl dL_law_353 ?_
      refine jr_iald14 C 355 rfl dL_law_354 h (fun v52 h => ?_)
      refine jr_aload_n C 356 rfl dL_law_355 rfl 0 rfl ?_
      refine jr_iload_n C 357 rfl dL_law_356 rfl 3 rfl ?_
      refine jr_iconst (v := 2) C 358 rfl dL_law_357 (by decide) ?_
      refine jr_iadd C 359 rfl dL_law_358 ?_
      refine jr_iald14 C 360 rfl dL_law_359 h (fun v53 h => ?_)
      obtain ⟨⟨V, hb⟩, h⟩ := h
      refine jr_callVi (r0 := (RX5, TX5, 53)) (As := [.int v52, .int v53]) (st := [.int r51]) C 363 rfl (m_X5_guest C.2.2.2.2.2.2.2.2.2.2.2.2.2.2.2 h) rfl hb rfl q1498 q1499 q1500 q102 q1501 (by decide) (by decide) ndV_X5_guest (Nat.le_of_ble_eq_true rfl) dL_law_360 (fun S54 r55 h => ?_)
      refine jr_icmp_eq C 1276 366 rfl dL_law_363 (by decide) (fun c56 => ?_) (fun c56 => ?_)
      · have h := h.1 c56
        exact (wk_L_law_1276 C hQ hc18 h)
      · have h := h.2 c56
        refine jr_iconst (v := 0) C 367 rfl dL_law_366 (by decide) ?_
        exact jr_lawret C hQ dL_law_367 h
    have h := h.2 c47
    by_cases c57 : (v2 &&& 63) = 6
    · have h := h.1 c57
      refine jr_tswIn (k0 := 6) C 368 dL_law_33 c57 (by decide) (by decide) (show _ = some 335 by decide) (by decide) ?_
      refine jr_aload_n C 369 rfl dL_law_368 rfl 1 rfl ?_
      refine jr_aload_n C 370 rfl dL_law_369 rfl 0 rfl ?_
      refine jr_iload_n C 371 rfl dL_law_370 rfl 3 rfl ?_
      refine jr_iconst (v := 1) C 372 rfl dL_law_371 (by decide) ?_
      refine jr_iadd C 373 rfl dL_law_372 ?_
      refine jr_iald14 C 374 rfl dL_law_373 h (fun v58 h => ?_)
      refine jr_aload_n C 375 rfl dL_law_374 rfl 0 rfl ?_
      refine jr_iload_n C 376 rfl dL_law_375 rfl 3 rfl ?_
      refine jr_iconst (v := 2) C 377 rfl dL_law_376 (by decide) ?_
      refine jr_iadd C 378 rfl dL_law_377 ?_
      refine jr_iald14 C 379 rfl dL_law_378 h (fun v59 h => ?_)
      obtain ⟨⟨V, hb⟩, h⟩ := h
      refine jr_callVi (r0 := (RX0, TX0, 24)) (As := [.int v58, .int v59]) (st := []) C 382 rfl (m_X0_set C.2.2.2.2.2.2.2.2.2.2.2.2.2.2.2 h) rfl hb rfl q765 q766 q767 q94 q768 (by decide) (by decide) ndV_X0_set (Nat.le_of_ble_eq_true rfl) dL_law_379 (fun S60 r61 h => ?_)
      refine jr_aload_n C 383 rfl dL_law_382 rfl 2 rfl ?_
      refine jr_aload_n C 384 rfl dL_law_383 rfl 0 rfl ?_
      refine jr_iload_n C 385 rfl dL_law_384 rfl 3 rfl ?_
      refine jr_iconst (v := 1) C 386 rfl dL_law_385 (by decide) ?_
      refine jr_iadd C 387 rfl dL_law_386 ?_
      refine jr_iald14 C 388 rfl dL_law_387 h (fun v62 h => ?_)
      refine jr_aload_n C 389 rfl dL_law_388 rfl 0 rfl ?_
      refine jr_iload_n C 390 rfl dL_law_389 rfl 3 rfl ?_
      refine jr_iconst (v := 2) C 391 rfl dL_law_390 (by decide) ?_
      refine jr_iadd C 392 rfl dL_law_391 ?_
      refine jr_iald14 C 393 rfl dL_law_392 h (fun v63 h => ?_)
      obtain ⟨⟨V, hb⟩, h⟩ := h
      refine jr_callVi (r0 := (RX5, TX5, 53)) (As := [.int v62, .int v63]) (st := [.int r61]) C 396 rfl (m_X5_set C.2.2.2.2.2.2.2.2.2.2.2.2.2.2.2 h) rfl hb rfl q1510 q1511 q1512 q102 q1513 (by decide) (by decide) ndV_X5_set (Nat.le_of_ble_eq_true rfl) dL_law_393 (fun S64 r65 h => ?_)
      refine jr_icmp_eq C 1276 399 rfl dL_law_396 (by decide) (fun c66 => ?_) (fun c66 => ?_)
      · have h := h.1 c66
        exact (wk_L_law_1276 C hQ hc18 h)
      · have h := h.2 c66
        refine jr_iconst (v := 0) C 400 rfl dL_law_399 (by decide) ?_
        exact jr_lawret C hQ dL_law_400 h
    have h := h.2 c57
    by_cases c67 : (v2 &&& 63) = 7
    · have h := h.1 c67
      refine jr_tswIn (k0 := 7) C 401 dL_law_33 c67 (by decide) (by decide) (show _ = some 368 by decide) (by decide) ?_
      refine jr_aload_n C 402 rfl dL_law_401 rfl 1 rfl ?_
      refine jr_aload_n C 403 rfl dL_law_402 rfl 0 rfl ?_
      refine jr_iload_n C 404 rfl dL_law_403 rfl 3 rfl ?_
      refine jr_iconst (v := 1) C 405 rfl dL_law_404 (by decide) ?_
      refine jr_iadd C 406 rfl dL_law_405 ?_
      refine jr_iald14 C 407 rfl dL_law_406 h (fun v68 h => ?_)
      refine jr_aload_n C 408 rfl dL_law_407 rfl 0 rfl ?_
      refine jr_iload_n C 409 rfl dL_law_408 rfl 3 rfl ?_
      refine jr_iconst (v := 2) C 410 rfl dL_law_409 (by decide) ?_
      refine jr_iadd C 411 rfl dL_law_410 ?_
      refine jr_iald14 C 412 rfl dL_law_411 h (fun v69 h => ?_)
      refine jr_aload_n C 413 rfl dL_law_412 rfl 0 rfl ?_
      refine jr_iload_n C 414 rfl dL_law_413 rfl 3 rfl ?_
      refine jr_iconst (v := 3) C 415 rfl dL_law_414 (by decide) ?_
      refine jr_iadd C 416 rfl dL_law_415 ?_
      refine jr_iald14 C 417 rfl dL_law_416 h (fun v70 h => ?_)
      obtain ⟨⟨V, hb⟩, h⟩ := h
      refine jr_callVi (r0 := (RX0, TX0, 24)) (As := [.int v68, .int v69, .int v70]) (st := []) C 420 rfl (m_X0_event C.2.2.2.2.2.2.2.2.2.2.2.2.2.2.2 h) rfl hb rfl q771 q772 q773 q94 q774 (by decide) (by decide) ndV_X0_event (Nat.le_of_ble_eq_true rfl) dL_law_417 (fun S71 r72 h => ?_)
      refine jr_aload_n C 421 rfl dL_law_420 rfl 2 rfl ?_
      refine jr_aload_n C 422 rfl dL_law_421 rfl 0 rfl ?_
      refine jr_iload_n C 423 rfl dL_law_422 rfl 3 rfl ?_
      refine jr_iconst (v := 1) C 424 rfl dL_law_423 (by decide) ?_
      refine jr_iadd C 425 rfl dL_law_424 ?_
      refine jr_iald14 C 426 rfl dL_law_425 h (fun v73 h => ?_)
      refine jr_aload_n C 427 rfl dL_law_426 rfl 0 rfl ?_
      refine jr_iload_n C 428 rfl dL_law_427 rfl 3 rfl ?_
      refine jr_iconst (v := 2) C 429 rfl dL_law_428 (by decide) ?_
      refine jr_iadd C 430 rfl dL_law_429 ?_
      refine jr_iald14 C 431 rfl dL_law_430 h (fun v74 h => ?_)
      refine jr_aload_n C 432 rfl dL_law_431 rfl 0 rfl ?_
      refine jr_iload_n C 433 rfl dL_law_432 rfl 3 rfl ?_
      refine jr_iconst (v := 3) C 434 rfl dL_law_433 (by decide) ?_
      refine jr_iadd C 435 rfl dL_law_434 ?_
      refine jr_iald14 C 436 rfl dL_law_435 h (fun v75 h => ?_)
      exact (wk_L_law_436 C hQ hc18 h)
    have h := h.2 c67
    by_cases c76 : (v2 &&& 63) = 8
    · have h := h.1 c76
      refine jr_tswIn (k0 := 8) C 444 dL_law_33 c76 (by decide) (by decide) (show _ = some 411 by decide) (by decide) ?_
      refine jr_aload_n C 445 rfl dL_law_444 rfl 1 rfl ?_
      obtain ⟨⟨V, hb⟩, h⟩ := h
      refine jr_callVi (r0 := (RX0, TX0, 24)) (As := []) (st := []) C 448 rfl (m_X0_back C.2.2.2.2.2.2.2.2.2.2.2.2.2.2.2 h) rfl hb rfl q781 q782 q783 q94 q784 (by decide) (by decide) ndV_X0_back (Nat.le_of_ble_eq_true rfl) dL_law_445 (fun S77 r78 h => ?_)
      refine jr_aload_n C 449 rfl dL_law_448 rfl 2 rfl ?_
      obtain ⟨⟨V, hb⟩, h⟩ := h
      refine jr_callVi (r0 := (RX5, TX5, 53)) (As := []) (st := [.int r78]) C 452 rfl (m_X5_back C.2.2.2.2.2.2.2.2.2.2.2.2.2.2.2 h) rfl hb rfl q1518 q1519 q1520 q102 q1521 (by decide) (by decide) ndV_X5_back (Nat.le_of_ble_eq_true rfl) dL_law_449 (fun S79 r80 h => ?_)
      refine jr_icmp_eq C 1276 455 rfl dL_law_452 (by decide) (fun c81 => ?_) (fun c81 => ?_)
      · have h := h.1 c81
        exact (wk_L_law_1276 C hQ hc18 h)
      · have h := h.2 c81
        refine jr_iconst (v := 0) C 456 rfl dL_law_455 (by decide) ?_
        exact jr_lawret C hQ dL_law_456 h
    have h := h.2 c76
    by_cases c82 : (v2 &&& 63) = 9
    · have h := h.1 c82
      refine jr_tswIn (k0 := 9) C 457 dL_law_33 c82 (by decide) (by decide) (show _ = some 424 by decide) (by decide) ?_
      refine jr_aload_n C 458 rfl dL_law_457 rfl 1 rfl ?_
      refine jr_aload_n C 459 rfl dL_law_458 rfl 0 rfl ?_
      refine jr_iload_n C 460 rfl dL_law_459 rfl 3 rfl ?_
      refine jr_iconst (v := 1) C 461 rfl dL_law_460 (by decide) ?_
      refine jr_iadd C 462 rfl dL_law_461 ?_
      refine jr_iald14 C 463 rfl dL_law_462 h (fun v83 h => ?_)
      obtain ⟨⟨V, hb⟩, h⟩ := h
      refine jr_callVi (r0 := (RX0, TX0, 24)) (As := [.int v83]) (st := []) C 466 rfl (m_X0_read C.2.2.2.2.2.2.2.2.2.2.2.2.2.2.2 h) rfl hb rfl q798 q799 q800 q94 q801 (by decide) (by decide) ndV_X0_read (Nat.le_of_ble_eq_true rfl) dL_law_463 (fun S84 r85 h => ?_)
      refine jr_aload_n C 467 rfl dL_law_466 rfl 2 rfl ?_
      refine jr_aload_n C 468 rfl dL_law_467 rfl 0 rfl ?_
      refine jr_iload_n C 469 rfl dL_law_468 rfl 3 rfl ?_
      refine jr_iconst (v := 1) C 470 rfl dL_law_469 (by decide) ?_
      refine jr_iadd C 471 rfl dL_law_470 ?_
      refine jr_iald14 C 472 rfl dL_law_471 h (fun v86 h => ?_)
      obtain ⟨⟨V, hb⟩, h⟩ := h
      refine jr_callVi (r0 := (RX5, TX5, 53)) (As := [.int v86]) (st := [.int r85]) C 475 rfl (m_X5_read C.2.2.2.2.2.2.2.2.2.2.2.2.2.2.2 h) rfl hb rfl q1522 q1523 q1524 q102 q1525 (by decide) (by decide) ndV_X5_read (Nat.le_of_ble_eq_true rfl) dL_law_472 (fun S87 r88 h => ?_)
      refine jr_icmp_eq C 1276 478 rfl dL_law_475 (by decide) (fun c89 => ?_) (fun c89 => ?_)
      · have h := h.1 c89
        exact (wk_L_law_1276 C hQ hc18 h)
      · have h := h.2 c89
        refine jr_iconst (v := 0) C 479 rfl dL_law_478 (by decide) ?_
        exact jr_lawret C hQ dL_law_479 h
    have h := h.2 c82
    by_cases c90 : (v2 &&& 63) = 10
    · have h := h.1 c90
      refine jr_tswIn (k0 := 10) C 480 dL_law_33 c90 (by decide) (by decide) (show _ = some 447 by decide) (by decide) ?_
      refine jr_aload_n C 481 rfl dL_law_480 rfl 1 rfl ?_
      refine jr_aload_n C 482 rfl dL_law_481 rfl 0 rfl ?_
      refine jr_iload_n C 483 rfl dL_law_482 rfl 3 rfl ?_
      refine jr_iconst (v := 1) C 484 rfl dL_law_483 (by decide) ?_
      refine jr_iadd C 485 rfl dL_law_484 ?_
      refine jr_iald14 C 486 rfl dL_law_485 h (fun v91 h => ?_)
      refine jr_aload_n C 487 rfl dL_law_486 rfl 0 rfl ?_
      refine jr_iload_n C 488 rfl dL_law_487 rfl 3 rfl ?_
      refine jr_iconst (v := 2) C 489 rfl dL_law_488 (by decide) ?_
      refine jr_iadd C 490 rfl dL_law_489 ?_
      refine jr_iald14 C 491 rfl dL_law_490 h (fun v92 h => ?_)
      obtain ⟨⟨V, hb⟩, h⟩ := h
      refine jr_callVi (r0 := (RX0, TX0, 24)) (As := [.int v91, .int v92]) (st := []) C 494 rfl (m_X0_at C.2.2.2.2.2.2.2.2.2.2.2.2.2.2.2 h) rfl hb rfl q827 q828 q829 q94 q830 (by decide) (by decide) ndV_X0_at (Nat.le_of_ble_eq_true rfl) dL_law_491 (fun S93 r94 h => ?_)
      refine jr_aload_n C 495 rfl dL_law_494 rfl 2 rfl ?_
      refine jr_aload_n C 496 rfl dL_law_495 rfl 0 rfl ?_
      refine jr_iload_n C 497 rfl dL_law_496 rfl 3 rfl ?_
      refine jr_iconst (v := 1) C 498 rfl dL_law_497 (by decide) ?_
      refine jr_iadd C 499 rfl dL_law_498 ?_
      refine jr_iald14 C 500 rfl dL_law_499 h (fun v95 h => ?_)
      refine jr_aload_n C 501 rfl dL_law_500 rfl 0 rfl ?_
      refine jr_iload_n C 502 rfl dL_law_501 rfl 3 rfl ?_
      refine jr_iconst (v := 2) C 503 rfl dL_law_502 (by decide) ?_
      refine jr_iadd C 504 rfl dL_law_503 ?_
      refine jr_iald14 C 505 rfl dL_law_504 h (fun v96 h => ?_)
      obtain ⟨⟨V, hb⟩, h⟩ := h
      refine jr_callVi (r0 := (RX5, TX5, 53)) (As := [.int v95, .int v96]) (st := [.int r94]) C 508 rfl (m_X5_at C.2.2.2.2.2.2.2.2.2.2.2.2.2.2.2 h) rfl hb rfl q1534 q1535 q1536 q102 q1537 (by decide) (by decide) ndV_X5_at (Nat.le_of_ble_eq_true rfl) dL_law_505 (fun S97 r98 h => ?_)
      refine jr_icmp_eq C 1276 511 rfl dL_law_508 (by decide) (fun c99 => ?_) (fun c99 => ?_)
      · have h := h.1 c99
        exact (wk_L_law_1276 C hQ hc18 h)
      · have h := h.2 c99
        refine jr_iconst (v := 0) C 512 rfl dL_law_511 (by decide) ?_
        exact jr_lawret C hQ dL_law_512 h
    have h := h.2 c90
    by_cases c100 : (v2 &&& 63) = 11
    · have h := h.1 c100
      refine jr_tswIn (k0 := 11) C 513 dL_law_33 c100 (by decide) (by decide) (show _ = some 480 by decide) (by decide) ?_
      refine jr_aload_n C 514 rfl dL_law_513 rfl 1 rfl ?_
      refine jr_aload_n C 515 rfl dL_law_514 rfl 0 rfl ?_
      refine jr_iload_n C 516 rfl dL_law_515 rfl 3 rfl ?_
      refine jr_iconst (v := 1) C 517 rfl dL_law_516 (by decide) ?_
      refine jr_iadd C 518 rfl dL_law_517 ?_
      refine jr_iald14 C 519 rfl dL_law_518 h (fun v101 h => ?_)
      refine jr_aload_n C 520 rfl dL_law_519 rfl 0 rfl ?_
      refine jr_iload_n C 521 rfl dL_law_520 rfl 3 rfl ?_
      refine jr_iconst (v := 2) C 522 rfl dL_law_521 (by decide) ?_
      refine jr_iadd C 523 rfl dL_law_522 ?_
      refine jr_iald14 C 524 rfl dL_law_523 h (fun v102 h => ?_)
      refine jr_aload_n C 525 rfl dL_law_524 rfl 0 rfl ?_
      refine jr_iload_n C 526 rfl dL_law_525 rfl 3 rfl ?_
      refine jr_iconst (v := 3) C 527 rfl dL_law_526 (by decide) ?_
      refine jr_iadd C 528 rfl dL_law_527 ?_
      refine jr_iald14 C 529 rfl dL_law_528 h (fun v103 h => ?_)
      obtain ⟨⟨V, hb⟩, h⟩ := h
      refine jr_callVi (r0 := (RX0, TX0, 24)) (As := [.int v101, .int v102, .int v103]) (st := []) C 532 rfl (m_X0_is C.2.2.2.2.2.2.2.2.2.2.2.2.2.2.2 h) rfl hb rfl q964 q965 q966 q94 q967 (by decide) (by decide) ndV_X0_is (Nat.le_of_ble_eq_true rfl) dL_law_529 (fun S104 r105 h => ?_)
      refine jr_aload_n C 533 rfl dL_law_532 rfl 2 rfl ?_
      refine jr_aload_n C 534 rfl dL_law_533 rfl 0 rfl ?_
      refine jr_iload_n C 535 rfl dL_law_534 rfl 3 rfl ?_
      refine jr_iconst (v := 1) C 536 rfl dL_law_535 (by decide) ?_
      refine jr_iadd C 537 rfl dL_law_536 ?_
      refine jr_iald14 C 538 rfl dL_law_537 h (fun v106 h => ?_)
      refine jr_aload_n C 539 rfl dL_law_538 rfl 0 rfl ?_
      refine jr_iload_n C 540 rfl dL_law_539 rfl 3 rfl ?_
      refine jr_iconst (v := 2) C 541 rfl dL_law_540 (by decide) ?_
      refine jr_iadd C 542 rfl dL_law_541 ?_
      refine jr_iald14 C 543 rfl dL_law_542 h (fun v107 h => ?_)
      refine jr_aload_n C 544 rfl dL_law_543 rfl 0 rfl ?_
      refine jr_iload_n C 545 rfl dL_law_544 rfl 3 rfl ?_
      refine jr_iconst (v := 3) C 546 rfl dL_law_545 (by decide) ?_
      refine jr_iadd C 547 rfl dL_law_546 ?_
      refine jr_iald14 C 548 rfl dL_law_547 h (fun v108 h => ?_)
      exact (wk_L_law_548 C hQ hc18 h)
    have h := h.2 c100
    by_cases c109 : (v2 &&& 63) = 12
    · have h := h.1 c109
      refine jr_tswIn (k0 := 12) C 556 dL_law_33 c109 (by decide) (by decide) (show _ = some 523 by decide) (by decide) ?_
      refine jr_aload_n C 557 rfl dL_law_556 rfl 1 rfl ?_
      refine jr_aload_n C 558 rfl dL_law_557 rfl 0 rfl ?_
      refine jr_iload_n C 559 rfl dL_law_558 rfl 3 rfl ?_
      refine jr_iconst (v := 1) C 560 rfl dL_law_559 (by decide) ?_
      refine jr_iadd C 561 rfl dL_law_560 ?_
      refine jr_iald14 C 562 rfl dL_law_561 h (fun v110 h => ?_)
      obtain ⟨⟨V, hb⟩, h⟩ := h
      refine jr_callVi (r0 := (RX0, TX0, 24)) (As := [.int v110]) (st := []) C 565 rfl (m_X0_line C.2.2.2.2.2.2.2.2.2.2.2.2.2.2.2 h) rfl hb rfl q968 q969 q970 q94 q971 (by decide) (by decide) ndV_X0_line (Nat.le_of_ble_eq_true rfl) dL_law_562 (fun S111 r112 h => ?_)
      refine jr_aload_n C 566 rfl dL_law_565 rfl 2 rfl ?_
      refine jr_aload_n C 567 rfl dL_law_566 rfl 0 rfl ?_
      refine jr_iload_n C 568 rfl dL_law_567 rfl 3 rfl ?_
      refine jr_iconst (v := 1) C 569 rfl dL_law_568 (by decide) ?_
      refine jr_iadd C 570 rfl dL_law_569 ?_
      refine jr_iald14 C 571 rfl dL_law_570 h (fun v113 h => ?_)
      obtain ⟨⟨V, hb⟩, h⟩ := h
      refine jr_callVi (r0 := (RX5, TX5, 53)) (As := [.int v113]) (st := [.int r112]) C 574 rfl (m_X5_line C.2.2.2.2.2.2.2.2.2.2.2.2.2.2.2 h) rfl hb rfl q1600 q1601 q1602 q102 q1603 (by decide) (by decide) ndV_X5_line (Nat.le_of_ble_eq_true rfl) dL_law_571 (fun S114 r115 h => ?_)
      refine jr_icmp_eq C 1276 577 rfl dL_law_574 (by decide) (fun c116 => ?_) (fun c116 => ?_)
      · have h := h.1 c116
        exact (wk_L_law_1276 C hQ hc18 h)
      · have h := h.2 c116
        refine jr_iconst (v := 0) C 578 rfl dL_law_577 (by decide) ?_
        exact jr_lawret C hQ dL_law_578 h
    have h := h.2 c109
    by_cases c117 : (v2 &&& 63) = 13
    · have h := h.1 c117
      refine jr_tswIn (k0 := 13) C 579 dL_law_33 c117 (by decide) (by decide) (show _ = some 546 by decide) (by decide) ?_
      refine jr_aload_n C 580 rfl dL_law_579 rfl 1 rfl ?_
      refine jr_aload_n C 581 rfl dL_law_580 rfl 0 rfl ?_
      refine jr_iload_n C 582 rfl dL_law_581 rfl 3 rfl ?_
      refine jr_iconst (v := 1) C 583 rfl dL_law_582 (by decide) ?_
      refine jr_iadd C 584 rfl dL_law_583 ?_
      refine jr_iald14 C 585 rfl dL_law_584 h (fun v118 h => ?_)
      obtain ⟨⟨V, hb⟩, h⟩ := h
      refine jr_callVi (r0 := (RX0, TX0, 24)) (As := [.int v118]) (st := []) C 588 rfl (m_X0_sum C.2.2.2.2.2.2.2.2.2.2.2.2.2.2.2 h) rfl hb rfl q972 q973 q974 q94 q975 (by decide) (by decide) ndV_X0_sum (Nat.le_of_ble_eq_true rfl) dL_law_585 (fun S119 r120 h => ?_)
      refine jr_aload_n C 589 rfl dL_law_588 rfl 2 rfl ?_
      refine jr_aload_n C 590 rfl dL_law_589 rfl 0 rfl ?_
      refine jr_iload_n C 591 rfl dL_law_590 rfl 3 rfl ?_
      refine jr_iconst (v := 1) C 592 rfl dL_law_591 (by decide) ?_
      refine jr_iadd C 593 rfl dL_law_592 ?_
      refine jr_iald14 C 594 rfl dL_law_593 h (fun v121 h => ?_)
      obtain ⟨⟨V, hb⟩, h⟩ := h
      refine jr_callVi (r0 := (RX5, TX5, 53)) (As := [.int v121]) (st := [.int r120]) C 597 rfl (m_X5_sum C.2.2.2.2.2.2.2.2.2.2.2.2.2.2.2 h) rfl hb rfl q1608 q1609 q1610 q102 q1611 (by decide) (by decide) ndV_X5_sum (Nat.le_of_ble_eq_true rfl) dL_law_594 (fun S122 r123 h => ?_)
      refine jr_icmp_eq C 1276 600 rfl dL_law_597 (by decide) (fun c124 => ?_) (fun c124 => ?_)
      · have h := h.1 c124
        exact (wk_L_law_1276 C hQ hc18 h)
      · have h := h.2 c124
        refine jr_iconst (v := 0) C 601 rfl dL_law_600 (by decide) ?_
        exact jr_lawret C hQ dL_law_601 h
    have h := h.2 c117
    by_cases c125 : (v2 &&& 63) = 14
    · have h := h.1 c125
      refine jr_tswIn (k0 := 14) C 602 dL_law_33 c125 (by decide) (by decide) (show _ = some 569 by decide) (by decide) ?_
      refine jr_aload_n C 603 rfl dL_law_602 rfl 1 rfl ?_
      obtain ⟨⟨V, hb⟩, h⟩ := h
      refine jr_callVi (r0 := (RX0, TX0, 24)) (As := []) (st := []) C 606 rfl (m_X0_first C.2.2.2.2.2.2.2.2.2.2.2.2.2.2.2 h) rfl hb rfl q989 q990 q991 q94 q992 (by decide) (by decide) ndV_X0_first (Nat.le_of_ble_eq_true rfl) dL_law_603 (fun S126 r127 h => ?_)
      refine jr_aload_n C 607 rfl dL_law_606 rfl 2 rfl ?_
      obtain ⟨⟨V, hb⟩, h⟩ := h
      refine jr_callVi (r0 := (RX5, TX5, 53)) (As := []) (st := [.int r127]) C 610 rfl (m_X5_first C.2.2.2.2.2.2.2.2.2.2.2.2.2.2.2 h) rfl hb rfl q1624 q1625 q1626 q102 q1627 (by decide) (by decide) ndV_X5_first (Nat.le_of_ble_eq_true rfl) dL_law_607 (fun S128 r129 h => ?_)
      refine jr_icmp_eq C 1276 613 rfl dL_law_610 (by decide) (fun c130 => ?_) (fun c130 => ?_)
      · have h := h.1 c130
        exact (wk_L_law_1276 C hQ hc18 h)
      · have h := h.2 c130
        refine jr_iconst (v := 0) C 614 rfl dL_law_613 (by decide) ?_
        exact jr_lawret C hQ dL_law_614 h
    have h := h.2 c125
    by_cases c131 : (v2 &&& 63) = 15
    · have h := h.1 c131
      refine jr_tswIn (k0 := 15) C 615 dL_law_33 c131 (by decide) (by decide) (show _ = some 582 by decide) (by decide) ?_
      refine jr_aload_n C 616 rfl dL_law_615 rfl 1 rfl ?_
      refine jr_aload_n C 617 rfl dL_law_616 rfl 0 rfl ?_
      refine jr_iload_n C 618 rfl dL_law_617 rfl 3 rfl ?_
      refine jr_iconst (v := 1) C 619 rfl dL_law_618 (by decide) ?_
      refine jr_iadd C 620 rfl dL_law_619 ?_
      refine jr_iald14 C 621 rfl dL_law_620 h (fun v132 h => ?_)
      obtain ⟨⟨V, hb⟩, h⟩ := h
      refine jr_callVi (r0 := (RX0, TX0, 24)) (As := [.int v132]) (st := []) C 624 rfl (m_X0_hottest C.2.2.2.2.2.2.2.2.2.2.2.2.2.2.2 h) rfl hb rfl q997 q998 q999 q94 q1000 (by decide) (by decide) ndV_X0_hottest (Nat.le_of_ble_eq_true rfl) dL_law_621 (fun S133 r134 h => ?_)
      refine jr_aload_n C 625 rfl dL_law_624 rfl 2 rfl ?_
      refine jr_aload_n C 626 rfl dL_law_625 rfl 0 rfl ?_
      refine jr_iload_n C 627 rfl dL_law_626 rfl 3 rfl ?_
      refine jr_iconst (v := 1) C 628 rfl dL_law_627 (by decide) ?_
      refine jr_iadd C 629 rfl dL_law_628 ?_
      refine jr_iald14 C 630 rfl dL_law_629 h (fun v135 h => ?_)
      obtain ⟨⟨V, hb⟩, h⟩ := h
      refine jr_callVi (r0 := (RX5, TX5, 53)) (As := [.int v135]) (st := [.int r134]) C 633 rfl (m_X5_hottest C.2.2.2.2.2.2.2.2.2.2.2.2.2.2.2 h) rfl hb rfl q1632 q1633 q1634 q102 q1635 (by decide) (by decide) ndV_X5_hottest (Nat.le_of_ble_eq_true rfl) dL_law_630 (fun S136 r137 h => ?_)
      refine jr_icmp_eq C 1276 636 rfl dL_law_633 (by decide) (fun c138 => ?_) (fun c138 => ?_)
      · have h := h.1 c138
        exact (wk_L_law_1276 C hQ hc18 h)
      · have h := h.2 c138
        refine jr_iconst (v := 0) C 637 rfl dL_law_636 (by decide) ?_
        exact jr_lawret C hQ dL_law_637 h
    have h := h.2 c131
    by_cases c139 : (v2 &&& 63) = 16
    · have h := h.1 c139
      refine jr_tswIn (k0 := 16) C 638 dL_law_33 c139 (by decide) (by decide) (show _ = some 605 by decide) (by decide) ?_
      refine jr_aload_n C 639 rfl dL_law_638 rfl 1 rfl ?_
      refine jr_aload_n C 640 rfl dL_law_639 rfl 0 rfl ?_
      refine jr_iload_n C 641 rfl dL_law_640 rfl 3 rfl ?_
      refine jr_iconst (v := 1) C 642 rfl dL_law_641 (by decide) ?_
      refine jr_iadd C 643 rfl dL_law_642 ?_
      refine jr_iald14 C 644 rfl dL_law_643 h (fun v140 h => ?_)
      obtain ⟨⟨V, hb⟩, h⟩ := h
      refine jr_callVi (r0 := (RX0, TX0, 24)) (As := [.int v140]) (st := []) C 647 rfl (m_X0_waited C.2.2.2.2.2.2.2.2.2.2.2.2.2.2.2 h) rfl hb rfl q1005 q1006 q1007 q94 q1008 (by decide) (by decide) ndV_X0_waited (Nat.le_of_ble_eq_true rfl) dL_law_644 (fun S141 r142 h => ?_)
      refine jr_aload_n C 648 rfl dL_law_647 rfl 2 rfl ?_
      refine jr_aload_n C 649 rfl dL_law_648 rfl 0 rfl ?_
      refine jr_iload_n C 650 rfl dL_law_649 rfl 3 rfl ?_
      refine jr_iconst (v := 1) C 651 rfl dL_law_650 (by decide) ?_
      refine jr_iadd C 652 rfl dL_law_651 ?_
      refine jr_iald14 C 653 rfl dL_law_652 h (fun v143 h => ?_)
      obtain ⟨⟨V, hb⟩, h⟩ := h
      refine jr_callVi (r0 := (RX5, TX5, 53)) (As := [.int v143]) (st := [.int r142]) C 656 rfl (m_X5_waited C.2.2.2.2.2.2.2.2.2.2.2.2.2.2.2 h) rfl hb rfl q1640 q1641 q1642 q102 q1643 (by decide) (by decide) ndV_X5_waited (Nat.le_of_ble_eq_true rfl) dL_law_653 (fun S144 r145 h => ?_)
      refine jr_icmp_eq C 1276 659 rfl dL_law_656 (by decide) (fun c146 => ?_) (fun c146 => ?_)
      · have h := h.1 c146
        exact (wk_L_law_1276 C hQ hc18 h)
      · have h := h.2 c146
        refine jr_iconst (v := 0) C 660 rfl dL_law_659 (by decide) ?_
        exact jr_lawret C hQ dL_law_660 h
    have h := h.2 c139
    by_cases c147 : (v2 &&& 63) = 17
    · have h := h.1 c147
      refine jr_tswIn (k0 := 17) C 661 dL_law_33 c147 (by decide) (by decide) (show _ = some 628 by decide) (by decide) ?_
      refine jr_aload_n C 662 rfl dL_law_661 rfl 1 rfl ?_
      obtain ⟨⟨V, hb⟩, h⟩ := h
      refine jr_callVi (r0 := (RX0, TX0, 24)) (As := []) (st := []) C 665 rfl (m_X0_thirst C.2.2.2.2.2.2.2.2.2.2.2.2.2.2.2 h) rfl hb rfl q1009 q1010 q1011 q94 q1012 (by decide) (by decide) ndV_X0_thirst (Nat.le_of_ble_eq_true rfl) dL_law_662 (fun S148 r149 h => ?_)
      refine jr_aload_n C 666 rfl dL_law_665 rfl 2 rfl ?_
      obtain ⟨⟨V, hb⟩, h⟩ := h
      refine jr_callVi (r0 := (RX5, TX5, 53)) (As := []) (st := [.int r149]) C 669 rfl (m_X5_thirst C.2.2.2.2.2.2.2.2.2.2.2.2.2.2.2 h) rfl hb rfl q1648 q1649 q1650 q102 q1651 (by decide) (by decide) ndV_X5_thirst (Nat.le_of_ble_eq_true rfl) dL_law_666 (fun S150 r151 h => ?_)
      refine jr_icmp_eq C 1276 672 rfl dL_law_669 (by decide) (fun c152 => ?_) (fun c152 => ?_)
      · have h := h.1 c152
        exact (wk_L_law_1276 C hQ hc18 h)
      · have h := h.2 c152
        refine jr_iconst (v := 0) C 673 rfl dL_law_672 (by decide) ?_
        exact jr_lawret C hQ dL_law_673 h
    have h := h.2 c147
    by_cases c153 : (v2 &&& 63) = 18
    · have h := h.1 c153
      refine jr_tswIn (k0 := 18) C 674 dL_law_33 c153 (by decide) (by decide) (show _ = some 641 by decide) (by decide) ?_
      refine jr_aload_n C 675 rfl dL_law_674 rfl 1 rfl ?_
      refine jr_aload_n C 676 rfl dL_law_675 rfl 0 rfl ?_
      refine jr_iload_n C 677 rfl dL_law_676 rfl 3 rfl ?_
      refine jr_iconst (v := 1) C 678 rfl dL_law_677 (by decide) ?_
      refine jr_iadd C 679 rfl dL_law_678 ?_
      refine jr_iald14 C 680 rfl dL_law_679 h (fun v154 h => ?_)
      refine jr_aload_n C 681 rfl dL_law_680 rfl 0 rfl ?_
      refine jr_iload_n C 682 rfl dL_law_681 rfl 3 rfl ?_
      refine jr_iconst (v := 2) C 683 rfl dL_law_682 (by decide) ?_
      refine jr_iadd C 684 rfl dL_law_683 ?_
      refine jr_iald14 C 685 rfl dL_law_684 h (fun v155 h => ?_)
      obtain ⟨⟨V, hb⟩, h⟩ := h
      refine jr_callVi (r0 := (RX0, TX0, 24)) (As := [.int v154, .int v155]) (st := []) C 688 rfl (m_X0_better C.2.2.2.2.2.2.2.2.2.2.2.2.2.2.2 h) rfl hb rfl q1017 q1018 q1019 q94 q1020 (by decide) (by decide) ndV_X0_better (Nat.le_of_ble_eq_true rfl) dL_law_685 (fun S156 r157 h => ?_)
      refine jr_aload_n C 689 rfl dL_law_688 rfl 2 rfl ?_
      refine jr_aload_n C 690 rfl dL_law_689 rfl 0 rfl ?_
      refine jr_iload_n C 691 rfl dL_law_690 rfl 3 rfl ?_
      refine jr_iconst (v := 1) C 692 rfl dL_law_691 (by decide) ?_
      refine jr_iadd C 693 rfl dL_law_692 ?_
      refine jr_iald14 C 694 rfl dL_law_693 h (fun v158 h => ?_)
      refine jr_aload_n C 695 rfl dL_law_694 rfl 0 rfl ?_
      refine jr_iload_n C 696 rfl dL_law_695 rfl 3 rfl ?_
      refine jr_iconst (v := 2) C 697 rfl dL_law_696 (by decide) ?_
      refine jr_iadd C 698 rfl dL_law_697 ?_
      refine jr_iald14 C 699 rfl dL_law_698 h (fun v159 h => ?_)
      obtain ⟨⟨V, hb⟩, h⟩ := h
      refine jr_callVi (r0 := (RX5, TX5, 53)) (As := [.int v158, .int v159]) (st := [.int r157]) C 702 rfl (m_X5_better C.2.2.2.2.2.2.2.2.2.2.2.2.2.2.2 h) rfl hb rfl q1656 q1657 q1658 q102 q1659 (by decide) (by decide) ndV_X5_better (Nat.le_of_ble_eq_true rfl) dL_law_699 (fun S160 r161 h => ?_)
      refine jr_icmp_eq C 1276 705 rfl dL_law_702 (by decide) (fun c162 => ?_) (fun c162 => ?_)
      · have h := h.1 c162
        exact (wk_L_law_1276 C hQ hc18 h)
      · have h := h.2 c162
        refine jr_iconst (v := 0) C 706 rfl dL_law_705 (by decide) ?_
        exact jr_lawret C hQ dL_law_706 h
    have h := h.2 c153
    by_cases c163 : (v2 &&& 63) = 19
    · have h := h.1 c163
      refine jr_tswIn (k0 := 19) C 707 dL_law_33 c163 (by decide) (by decide) (show _ = some 674 by decide) (by decide) ?_
      refine jr_aload_n C 708 rfl dL_law_707 rfl 1 rfl ?_
      refine jr_aload_n C 709 rfl dL_law_708 rfl 0 rfl ?_
      refine jr_iload_n C 710 rfl dL_law_709 rfl 3 rfl ?_
      refine jr_iconst (v := 1) C 711 rfl dL_law_710 (by decide) ?_
      refine jr_iadd C 712 rfl dL_law_711 ?_
      refine jr_iald14 C 713 rfl dL_law_712 h (fun v164 h => ?_)
      obtain ⟨⟨V, hb⟩, h⟩ := h
      refine jr_callVi (r0 := (RX0, TX0, 24)) (As := [.int v164]) (st := []) C 716 rfl (m_X0_fill C.2.2.2.2.2.2.2.2.2.2.2.2.2.2.2 h) rfl hb rfl q1026 q1027 q1028 q94 q1029 (by decide) (by decide) ndV_X0_fill (Nat.le_of_ble_eq_true rfl) dL_law_713 (fun S165 r166 h => ?_)
      refine jr_aload_n C 717 rfl dL_law_716 rfl 2 rfl ?_
      refine jr_aload_n C 718 rfl dL_law_717 rfl 0 rfl ?_
      refine jr_iload_n C 719 rfl dL_law_718 rfl 3 rfl ?_
      refine jr_iconst (v := 1) C 720 rfl dL_law_719 (by decide) ?_
      refine jr_iadd C 721 rfl dL_law_720 ?_
      refine jr_iald14 C 722 rfl dL_law_721 h (fun v167 h => ?_)
      obtain ⟨⟨V, hb⟩, h⟩ := h
      refine jr_callVi (r0 := (RX5, TX5, 53)) (As := [.int v167]) (st := [.int r166]) C 725 rfl (m_X5_fill C.2.2.2.2.2.2.2.2.2.2.2.2.2.2.2 h) rfl hb rfl q1672 q1673 q1674 q102 q1675 (by decide) (by decide) ndV_X5_fill (Nat.le_of_ble_eq_true rfl) dL_law_722 (fun S168 r169 h => ?_)
      refine jr_icmp_eq C 1276 728 rfl dL_law_725 (by decide) (fun c170 => ?_) (fun c170 => ?_)
      · have h := h.1 c170
        exact (wk_L_law_1276 C hQ hc18 h)
      · have h := h.2 c170
        refine jr_iconst (v := 0) C 729 rfl dL_law_728 (by decide) ?_
        exact jr_lawret C hQ dL_law_729 h
    have h := h.2 c163
    by_cases c171 : (v2 &&& 63) = 20
    · have h := h.1 c171
      refine jr_tswIn (k0 := 20) C 730 dL_law_33 c171 (by decide) (by decide) (show _ = some 697 by decide) (by decide) ?_
      refine jr_aload_n C 731 rfl dL_law_730 rfl 1 rfl ?_
      refine jr_aload_n C 732 rfl dL_law_731 rfl 0 rfl ?_
      refine jr_iload_n C 733 rfl dL_law_732 rfl 3 rfl ?_
      refine jr_iconst (v := 1) C 734 rfl dL_law_733 (by decide) ?_
      refine jr_iadd C 735 rfl dL_law_734 ?_
      refine jr_iald14 C 736 rfl dL_law_735 h (fun v172 h => ?_)
      refine jr_aload_n C 737 rfl dL_law_736 rfl 0 rfl ?_
      refine jr_iload_n C 738 rfl dL_law_737 rfl 3 rfl ?_
      refine jr_iconst (v := 2) C 739 rfl dL_law_738 (by decide) ?_
      refine jr_iadd C 740 rfl dL_law_739 ?_
      refine jr_iald14 C 741 rfl dL_law_740 h (fun v173 h => ?_)
      obtain ⟨⟨V, hb⟩, h⟩ := h
      refine jr_callVi (r0 := (RX0, TX0, 24)) (As := [.int v172, .int v173]) (st := []) C 744 rfl (m_X0_come C.2.2.2.2.2.2.2.2.2.2.2.2.2.2.2 h) rfl hb rfl q1034 q1035 q1036 q94 q1037 (by decide) (by decide) ndV_X0_come (Nat.le_of_ble_eq_true rfl) dL_law_741 (fun S174 r175 h => ?_)
      refine jr_aload_n C 745 rfl dL_law_744 rfl 2 rfl ?_
      refine jr_aload_n C 746 rfl dL_law_745 rfl 0 rfl ?_
      refine jr_iload_n C 747 rfl dL_law_746 rfl 3 rfl ?_
      refine jr_iconst (v := 1) C 748 rfl dL_law_747 (by decide) ?_
      refine jr_iadd C 749 rfl dL_law_748 ?_
      refine jr_iald14 C 750 rfl dL_law_749 h (fun v176 h => ?_)
      refine jr_aload_n C 751 rfl dL_law_750 rfl 0 rfl ?_
      refine jr_iload_n C 752 rfl dL_law_751 rfl 3 rfl ?_
      refine jr_iconst (v := 2) C 753 rfl dL_law_752 (by decide) ?_
      refine jr_iadd C 754 rfl dL_law_753 ?_
      refine jr_iald14 C 755 rfl dL_law_754 h (fun v177 h => ?_)
      obtain ⟨⟨V, hb⟩, h⟩ := h
      refine jr_callVi (r0 := (RX5, TX5, 53)) (As := [.int v176, .int v177]) (st := [.int r175]) C 758 rfl (m_X5_come C.2.2.2.2.2.2.2.2.2.2.2.2.2.2.2 h) rfl hb rfl q1680 q1681 q1682 q102 q1683 (by decide) (by decide) ndV_X5_come (Nat.le_of_ble_eq_true rfl) dL_law_755 (fun S178 r179 h => ?_)
      refine jr_icmp_eq C 1276 761 rfl dL_law_758 (by decide) (fun c180 => ?_) (fun c180 => ?_)
      · have h := h.1 c180
        exact (wk_L_law_1276 C hQ hc18 h)
      · have h := h.2 c180
        refine jr_iconst (v := 0) C 762 rfl dL_law_761 (by decide) ?_
        exact jr_lawret C hQ dL_law_762 h
    have h := h.2 c171
    by_cases c181 : (v2 &&& 63) = 21
    · have h := h.1 c181
      refine jr_tswIn (k0 := 21) C 763 dL_law_33 c181 (by decide) (by decide) (show _ = some 730 by decide) (by decide) ?_
      refine jr_aload_n C 764 rfl dL_law_763 rfl 1 rfl ?_
      refine jr_aload_n C 765 rfl dL_law_764 rfl 0 rfl ?_
      refine jr_iload_n C 766 rfl dL_law_765 rfl 3 rfl ?_
      refine jr_iconst (v := 1) C 767 rfl dL_law_766 (by decide) ?_
      refine jr_iadd C 768 rfl dL_law_767 ?_
      refine jr_iald14 C 769 rfl dL_law_768 h (fun v182 h => ?_)
      obtain ⟨⟨V, hb⟩, h⟩ := h
      refine jr_callVi (r0 := (RX0, TX0, 24)) (As := [.int v182]) (st := []) C 772 rfl (m_X0_spare C.2.2.2.2.2.2.2.2.2.2.2.2.2.2.2 h) rfl hb rfl q1042 q1043 q1044 q94 q1045 (by decide) (by decide) ndV_X0_spare (Nat.le_of_ble_eq_true rfl) dL_law_769 (fun S183 r184 h => ?_)
      refine jr_aload_n C 773 rfl dL_law_772 rfl 2 rfl ?_
      refine jr_aload_n C 774 rfl dL_law_773 rfl 0 rfl ?_
      refine jr_iload_n C 775 rfl dL_law_774 rfl 3 rfl ?_
      refine jr_iconst (v := 1) C 776 rfl dL_law_775 (by decide) ?_
      refine jr_iadd C 777 rfl dL_law_776 ?_
      refine jr_iald14 C 778 rfl dL_law_777 h (fun v185 h => ?_)
      obtain ⟨⟨V, hb⟩, h⟩ := h
      refine jr_callVi (r0 := (RX5, TX5, 53)) (As := [.int v185]) (st := [.int r184]) C 781 rfl (m_X5_spare C.2.2.2.2.2.2.2.2.2.2.2.2.2.2.2 h) rfl hb rfl q1688 q1689 q1690 q102 q1691 (by decide) (by decide) ndV_X5_spare (Nat.le_of_ble_eq_true rfl) dL_law_778 (fun S186 r187 h => ?_)
      refine jr_icmp_eq C 1276 784 rfl dL_law_781 (by decide) (fun c188 => ?_) (fun c188 => ?_)
      · have h := h.1 c188
        exact (wk_L_law_1276 C hQ hc18 h)
      · have h := h.2 c188
        refine jr_iconst (v := 0) C 785 rfl dL_law_784 (by decide) ?_
        exact jr_lawret C hQ dL_law_785 h
    have h := h.2 c181
    by_cases c189 : (v2 &&& 63) = 22
    · have h := h.1 c189
      refine jr_tswIn (k0 := 22) C 786 dL_law_33 c189 (by decide) (by decide) (show _ = some 753 by decide) (by decide) ?_
      refine jr_aload_n C 787 rfl dL_law_786 rfl 1 rfl ?_
      refine jr_aload_n C 788 rfl dL_law_787 rfl 0 rfl ?_
      refine jr_iload_n C 789 rfl dL_law_788 rfl 3 rfl ?_
      refine jr_iconst (v := 1) C 790 rfl dL_law_789 (by decide) ?_
      refine jr_iadd C 791 rfl dL_law_790 ?_
      refine jr_iald14 C 792 rfl dL_law_791 h (fun v190 h => ?_)
      refine jr_aload_n C 793 rfl dL_law_792 rfl 0 rfl ?_
      refine jr_iload_n C 794 rfl dL_law_793 rfl 3 rfl ?_
      refine jr_iconst (v := 2) C 795 rfl dL_law_794 (by decide) ?_
      refine jr_iadd C 796 rfl dL_law_795 ?_
      refine jr_iald14 C 797 rfl dL_law_796 h (fun v191 h => ?_)
      obtain ⟨⟨V, hb⟩, h⟩ := h
      refine jr_callVi (r0 := (RX0, TX0, 24)) (As := [.int v190, .int v191]) (st := []) C 800 rfl (m_X0_seen C.2.2.2.2.2.2.2.2.2.2.2.2.2.2.2 h) rfl hb rfl q1055 q1056 q1057 q94 q1058 (by decide) (by decide) ndV_X0_seen (Nat.le_of_ble_eq_true rfl) dL_law_797 (fun S192 r193 h => ?_)
      refine jr_aload_n C 801 rfl dL_law_800 rfl 2 rfl ?_
      refine jr_aload_n C 802 rfl dL_law_801 rfl 0 rfl ?_
      refine jr_iload_n C 803 rfl dL_law_802 rfl 3 rfl ?_
      refine jr_iconst (v := 1) C 804 rfl dL_law_803 (by decide) ?_
      refine jr_iadd C 805 rfl dL_law_804 ?_
      refine jr_iald14 C 806 rfl dL_law_805 h (fun v194 h => ?_)
      refine jr_aload_n C 807 rfl dL_law_806 rfl 0 rfl ?_
      refine jr_iload_n C 808 rfl dL_law_807 rfl 3 rfl ?_
      refine jr_iconst (v := 2) C 809 rfl dL_law_808 (by decide) ?_
      refine jr_iadd C 810 rfl dL_law_809 ?_
      refine jr_iald14 C 811 rfl dL_law_810 h (fun v195 h => ?_)
      obtain ⟨⟨V, hb⟩, h⟩ := h
      refine jr_callVi (r0 := (RX5, TX5, 53)) (As := [.int v194, .int v195]) (st := [.int r193]) C 814 rfl (m_X5_seen C.2.2.2.2.2.2.2.2.2.2.2.2.2.2.2 h) rfl hb rfl q1704 q1705 q1706 q102 q1707 (by decide) (by decide) ndV_X5_seen (Nat.le_of_ble_eq_true rfl) dL_law_811 (fun S196 r197 h => ?_)
      refine jr_icmp_eq C 1276 817 rfl dL_law_814 (by decide) (fun c198 => ?_) (fun c198 => ?_)
      · have h := h.1 c198
        exact (wk_L_law_1276 C hQ hc18 h)
      · have h := h.2 c198
        refine jr_iconst (v := 0) C 818 rfl dL_law_817 (by decide) ?_
        exact jr_lawret C hQ dL_law_818 h
    have h := h.2 c189
    by_cases c199 : (v2 &&& 63) = 23
    · have h := h.1 c199
      refine jr_tswIn (k0 := 23) C 819 dL_law_33 c199 (by decide) (by decide) (show _ = some 786 by decide) (by decide) ?_
      refine jr_aload_n C 820 rfl dL_law_819 rfl 1 rfl ?_
      obtain ⟨⟨V, hb⟩, h⟩ := h
      refine jr_callVi (r0 := (RX0, TX0, 24)) (As := []) (st := []) C 823 rfl (m_X0_forget C.2.2.2.2.2.2.2.2.2.2.2.2.2.2.2 h) rfl hb rfl q1059 q1060 q1061 q94 q1062 (by decide) (by decide) ndV_X0_forget (Nat.le_of_ble_eq_true rfl) dL_law_820 (fun S200 r201 h => ?_)
      refine jr_aload_n C 824 rfl dL_law_823 rfl 2 rfl ?_
      obtain ⟨⟨V, hb⟩, h⟩ := h
      refine jr_callVi (r0 := (RX5, TX5, 53)) (As := []) (st := [.int r201]) C 827 rfl (m_X5_forget C.2.2.2.2.2.2.2.2.2.2.2.2.2.2.2 h) rfl hb rfl q1708 q1709 q1710 q102 q1711 (by decide) (by decide) ndV_X5_forget (Nat.le_of_ble_eq_true rfl) dL_law_824 (fun S202 r203 h => ?_)
      refine jr_icmp_eq C 1276 830 rfl dL_law_827 (by decide) (fun c204 => ?_) (fun c204 => ?_)
      · have h := h.1 c204
        exact (wk_L_law_1276 C hQ hc18 h)
      · have h := h.2 c204
        refine jr_iconst (v := 0) C 831 rfl dL_law_830 (by decide) ?_
        exact jr_lawret C hQ dL_law_831 h
    have h := h.2 c199
    by_cases c205 : (v2 &&& 63) = 24
    · have h := h.1 c205
      refine jr_tswIn (k0 := 24) C 832 dL_law_33 c205 (by decide) (by decide) (show _ = some 799 by decide) (by decide) ?_
      refine jr_aload_n C 833 rfl dL_law_832 rfl 1 rfl ?_
      obtain ⟨⟨V, hb⟩, h⟩ := h
      refine jr_callVi (r0 := (RX0, TX0, 24)) (As := []) (st := []) C 836 rfl (m_X0_never C.2.2.2.2.2.2.2.2.2.2.2.2.2.2.2 h) rfl hb rfl q1063 q1064 q1065 q94 q1066 (by decide) (by decide) ndV_X0_never (Nat.le_of_ble_eq_true rfl) dL_law_833 (fun S206 r207 h => ?_)
      refine jr_aload_n C 837 rfl dL_law_836 rfl 2 rfl ?_
      obtain ⟨⟨V, hb⟩, h⟩ := h
      refine jr_callVi (r0 := (RX5, TX5, 53)) (As := []) (st := [.int r207]) C 840 rfl (m_X5_never C.2.2.2.2.2.2.2.2.2.2.2.2.2.2.2 h) rfl hb rfl q1712 q1713 q1714 q102 q1715 (by decide) (by decide) ndV_X5_never (Nat.le_of_ble_eq_true rfl) dL_law_837 (fun S208 r209 h => ?_)
      refine jr_icmp_eq C 1276 843 rfl dL_law_840 (by decide) (fun c210 => ?_) (fun c210 => ?_)
      · have h := h.1 c210
        exact (wk_L_law_1276 C hQ hc18 h)
      · have h := h.2 c210
        refine jr_iconst (v := 0) C 844 rfl dL_law_843 (by decide) ?_
        exact jr_lawret C hQ dL_law_844 h
    have h := h.2 c205
    by_cases c211 : (v2 &&& 63) = 25
    · have h := h.1 c211
      refine jr_tswIn (k0 := 25) C 845 dL_law_33 c211 (by decide) (by decide) (show _ = some 812 by decide) (by decide) ?_
      refine jr_aload_n C 846 rfl dL_law_845 rfl 1 rfl ?_
      obtain ⟨⟨V, hb⟩, h⟩ := h
      refine jr_callVi (r0 := (RX0, TX0, 24)) (As := []) (st := []) C 849 rfl (m_X0_waters C.2.2.2.2.2.2.2.2.2.2.2.2.2.2.2 h) rfl hb rfl q1075 q1076 q1077 q94 q1078 (by decide) (by decide) ndV_X0_waters (Nat.le_of_ble_eq_true rfl) dL_law_846 (fun S212 r213 h => ?_)
      refine jr_aload_n C 850 rfl dL_law_849 rfl 2 rfl ?_
      obtain ⟨⟨V, hb⟩, h⟩ := h
      refine jr_callVi (r0 := (RX5, TX5, 53)) (As := []) (st := [.int r213]) C 853 rfl (m_X5_waters C.2.2.2.2.2.2.2.2.2.2.2.2.2.2.2 h) rfl hb rfl q1724 q1725 q1726 q102 q1727 (by decide) (by decide) ndV_X5_waters (Nat.le_of_ble_eq_true rfl) dL_law_850 (fun S214 r215 h => ?_)
      refine jr_icmp_eq C 1276 856 rfl dL_law_853 (by decide) (fun c216 => ?_) (fun c216 => ?_)
      · have h := h.1 c216
        exact (wk_L_law_1276 C hQ hc18 h)
      · have h := h.2 c216
        refine jr_iconst (v := 0) C 857 rfl dL_law_856 (by decide) ?_
        exact jr_lawret C hQ dL_law_857 h
    have h := h.2 c211
    by_cases c217 : (v2 &&& 63) = 26
    · have h := h.1 c217
      refine jr_tswIn (k0 := 26) C 858 dL_law_33 c217 (by decide) (by decide) (show _ = some 825 by decide) (by decide) ?_
      refine jr_aload_n C 859 rfl dL_law_858 rfl 1 rfl ?_
      refine jr_aload_n C 860 rfl dL_law_859 rfl 0 rfl ?_
      refine jr_iload_n C 861 rfl dL_law_860 rfl 3 rfl ?_
      refine jr_iconst (v := 1) C 862 rfl dL_law_861 (by decide) ?_
      refine jr_iadd C 863 rfl dL_law_862 ?_
      refine jr_iald14 C 864 rfl dL_law_863 h (fun v218 h => ?_)
      obtain ⟨⟨V, hb⟩, h⟩ := h
      refine jr_callVi (r0 := (RX0, TX0, 24)) (As := [.int v218]) (st := []) C 867 rfl (m_X0_kind C.2.2.2.2.2.2.2.2.2.2.2.2.2.2.2 h) rfl hb rfl q1083 q1084 q1085 q94 q1086 (by decide) (by decide) ndV_X0_kind (Nat.le_of_ble_eq_true rfl) dL_law_864 (fun S219 r220 h => ?_)
      refine jr_aload_n C 868 rfl dL_law_867 rfl 2 rfl ?_
      refine jr_aload_n C 869 rfl dL_law_868 rfl 0 rfl ?_
      refine jr_iload_n C 870 rfl dL_law_869 rfl 3 rfl ?_
      refine jr_iconst (v := 1) C 871 rfl dL_law_870 (by decide) ?_
      refine jr_iadd C 872 rfl dL_law_871 ?_
      refine jr_iald14 C 873 rfl dL_law_872 h (fun v221 h => ?_)
      obtain ⟨⟨V, hb⟩, h⟩ := h
      refine jr_callVi (r0 := (RX5, TX5, 53)) (As := [.int v221]) (st := [.int r220]) C 876 rfl (m_X5_kind C.2.2.2.2.2.2.2.2.2.2.2.2.2.2.2 h) rfl hb rfl q1732 q1733 q1734 q102 q1735 (by decide) (by decide) ndV_X5_kind (Nat.le_of_ble_eq_true rfl) dL_law_873 (fun S222 r223 h => ?_)
      refine jr_icmp_eq C 1276 879 rfl dL_law_876 (by decide) (fun c224 => ?_) (fun c224 => ?_)
      · have h := h.1 c224
        exact (wk_L_law_1276 C hQ hc18 h)
      · have h := h.2 c224
        refine jr_iconst (v := 0) C 880 rfl dL_law_879 (by decide) ?_
        exact jr_lawret C hQ dL_law_880 h
    have h := h.2 c217
    by_cases c225 : (v2 &&& 63) = 27
    · have h := h.1 c225
      refine jr_tswIn (k0 := 27) C 881 dL_law_33 c225 (by decide) (by decide) (show _ = some 848 by decide) (by decide) ?_
      refine jr_aload_n C 882 rfl dL_law_881 rfl 1 rfl ?_
      obtain ⟨⟨V, hb⟩, h⟩ := h
      refine jr_callVi (r0 := (RX0, TX0, 24)) (As := []) (st := []) C 885 rfl (m_X0_ask C.2.2.2.2.2.2.2.2.2.2.2.2.2.2.2 h) rfl hb rfl q1091 q1092 q1093 q94 q1094 (by decide) (by decide) ndV_X0_ask (Nat.le_of_ble_eq_true rfl) dL_law_882 (fun S226 r227 h => ?_)
      refine jr_aload_n C 886 rfl dL_law_885 rfl 2 rfl ?_
      obtain ⟨⟨V, hb⟩, h⟩ := h
      refine jr_callVi (r0 := (RX5, TX5, 53)) (As := []) (st := [.int r227]) C 889 rfl (m_X5_ask C.2.2.2.2.2.2.2.2.2.2.2.2.2.2.2 h) rfl hb rfl q1740 q1741 q1742 q102 q1743 (by decide) (by decide) ndV_X5_ask (Nat.le_of_ble_eq_true rfl) dL_law_886 (fun S228 r229 h => ?_)
      refine jr_icmp_eq C 1276 892 rfl dL_law_889 (by decide) (fun c230 => ?_) (fun c230 => ?_)
      · have h := h.1 c230
        exact (wk_L_law_1276 C hQ hc18 h)
      · have h := h.2 c230
        refine jr_iconst (v := 0) C 893 rfl dL_law_892 (by decide) ?_
        exact jr_lawret C hQ dL_law_893 h
    have h := h.2 c225
    by_cases c231 : (v2 &&& 63) = 28
    · have h := h.1 c231
      refine jr_tswIn (k0 := 28) C 894 dL_law_33 c231 (by decide) (by decide) (show _ = some 861 by decide) (by decide) ?_
      refine jr_aload_n C 895 rfl dL_law_894 rfl 1 rfl ?_
      refine jr_aload_n C 896 rfl dL_law_895 rfl 0 rfl ?_
      refine jr_iload_n C 897 rfl dL_law_896 rfl 3 rfl ?_
      refine jr_iconst (v := 1) C 898 rfl dL_law_897 (by decide) ?_
      refine jr_iadd C 899 rfl dL_law_898 ?_
      refine jr_iald14 C 900 rfl dL_law_899 h (fun v232 h => ?_)
      refine jr_aload_n C 901 rfl dL_law_900 rfl 0 rfl ?_
      refine jr_iload_n C 902 rfl dL_law_901 rfl 3 rfl ?_
      refine jr_iconst (v := 2) C 903 rfl dL_law_902 (by decide) ?_
      refine jr_iadd C 904 rfl dL_law_903 ?_
      refine jr_iald14 C 905 rfl dL_law_904 h (fun v233 h => ?_)
      refine jr_aload_n C 906 rfl dL_law_905 rfl 0 rfl ?_
      refine jr_iload_n C 907 rfl dL_law_906 rfl 3 rfl ?_
      refine jr_iconst (v := 3) C 908 rfl dL_law_907 (by decide) ?_
      refine jr_iadd C 909 rfl dL_law_908 ?_
      refine jr_iald14 C 910 rfl dL_law_909 h (fun v234 h => ?_)
      obtain ⟨⟨V, hb⟩, h⟩ := h
      refine jr_callVl (r0 := (RX0, TX0, 24)) (As := [.int v232, .int v233, .int v234]) (st := []) C 913 rfl (m_X0_chance C.2.2.2.2.2.2.2.2.2.2.2.2.2.2.2 h) rfl hb rfl q1103 q1104 q1105 q94 q1106 (by decide) (by decide) ndV_X0_chance (Nat.le_of_ble_eq_true rfl) dL_law_910 (fun S235 r236 h => ?_)
      refine jr_aload_n C 914 rfl dL_law_913 rfl 2 rfl ?_
      refine jr_aload_n C 915 rfl dL_law_914 rfl 0 rfl ?_
      refine jr_iload_n C 916 rfl dL_law_915 rfl 3 rfl ?_
      refine jr_iconst (v := 1) C 917 rfl dL_law_916 (by decide) ?_
      refine jr_iadd C 918 rfl dL_law_917 ?_
      refine jr_iald14 C 919 rfl dL_law_918 h (fun v237 h => ?_)
      refine jr_aload_n C 920 rfl dL_law_919 rfl 0 rfl ?_
      refine jr_iload_n C 921 rfl dL_law_920 rfl 3 rfl ?_
      refine jr_iconst (v := 2) C 922 rfl dL_law_921 (by decide) ?_
      refine jr_iadd C 923 rfl dL_law_922 ?_
      refine jr_iald14 C 924 rfl dL_law_923 h (fun v238 h => ?_)
      refine jr_aload_n C 925 rfl dL_law_924 rfl 0 rfl ?_
      refine jr_iload_n C 926 rfl dL_law_925 rfl 3 rfl ?_
      refine jr_iconst (v := 3) C 927 rfl dL_law_926 (by decide) ?_
      refine jr_iadd C 928 rfl dL_law_927 ?_
      refine jr_iald14 C 929 rfl dL_law_928 h (fun v239 h => ?_)
      exact (wk_L_law_929 C hQ hc18 h)
    have h := h.2 c231
    by_cases c240 : (v2 &&& 63) = 29
    · have h := h.1 c240
      refine jr_tswIn (k0 := 29) C 938 dL_law_33 c240 (by decide) (by decide) (show _ = some 905 by decide) (by decide) ?_
      refine jr_aload_n C 939 rfl dL_law_938 rfl 1 rfl ?_
      refine jr_aload_n C 940 rfl dL_law_939 rfl 0 rfl ?_
      refine jr_iload_n C 941 rfl dL_law_940 rfl 3 rfl ?_
      refine jr_iconst (v := 1) C 942 rfl dL_law_941 (by decide) ?_
      refine jr_iadd C 943 rfl dL_law_942 ?_
      refine jr_iald14 C 944 rfl dL_law_943 h (fun v241 h => ?_)
      refine jr_aload_n C 945 rfl dL_law_944 rfl 0 rfl ?_
      refine jr_iload_n C 946 rfl dL_law_945 rfl 3 rfl ?_
      refine jr_iconst (v := 2) C 947 rfl dL_law_946 (by decide) ?_
      refine jr_iadd C 948 rfl dL_law_947 ?_
      refine jr_iald14 C 949 rfl dL_law_948 h (fun v242 h => ?_)
      refine jr_aload_n C 950 rfl dL_law_949 rfl 0 rfl ?_
      refine jr_iload_n C 951 rfl dL_law_950 rfl 3 rfl ?_
      refine jr_iconst (v := 3) C 952 rfl dL_law_951 (by decide) ?_
      refine jr_iadd C 953 rfl dL_law_952 ?_
      refine jr_iald14 C 954 rfl dL_law_953 h (fun v243 h => ?_)
      obtain ⟨⟨V, hb⟩, h⟩ := h
      refine jr_callVi (r0 := (RX0, TX0, 24)) (As := [.int v241, .int v242, .int v243]) (st := []) C 957 rfl (m_X0_evenings C.2.2.2.2.2.2.2.2.2.2.2.2.2.2.2 h) rfl hb rfl q1122 q1123 q1124 q94 q1125 (by decide) (by decide) ndV_X0_evenings (Nat.le_of_ble_eq_true rfl) dL_law_954 (fun S244 r245 h => ?_)
      refine jr_aload_n C 958 rfl dL_law_957 rfl 2 rfl ?_
      refine jr_aload_n C 959 rfl dL_law_958 rfl 0 rfl ?_
      refine jr_iload_n C 960 rfl dL_law_959 rfl 3 rfl ?_
      refine jr_iconst (v := 1) C 961 rfl dL_law_960 (by decide) ?_
      refine jr_iadd C 962 rfl dL_law_961 ?_
      refine jr_iald14 C 963 rfl dL_law_962 h (fun v246 h => ?_)
      refine jr_aload_n C 964 rfl dL_law_963 rfl 0 rfl ?_
      refine jr_iload_n C 965 rfl dL_law_964 rfl 3 rfl ?_
      refine jr_iconst (v := 2) C 966 rfl dL_law_965 (by decide) ?_
      refine jr_iadd C 967 rfl dL_law_966 ?_
      refine jr_iald14 C 968 rfl dL_law_967 h (fun v247 h => ?_)
      refine jr_aload_n C 969 rfl dL_law_968 rfl 0 rfl ?_
      refine jr_iload_n C 970 rfl dL_law_969 rfl 3 rfl ?_
      refine jr_iconst (v := 3) C 971 rfl dL_law_970 (by decide) ?_
      refine jr_iadd C 972 rfl dL_law_971 ?_
      refine jr_iald14 C 973 rfl dL_law_972 h (fun v248 h => ?_)
      exact (wk_L_law_973 C hQ hc18 h)
    have h := h.2 c240
    by_cases c249 : (v2 &&& 63) = 30
    · have h := h.1 c249
      refine jr_tswIn (k0 := 30) C 981 dL_law_33 c249 (by decide) (by decide) (show _ = some 948 by decide) (by decide) ?_
      refine jr_aload_n C 982 rfl dL_law_981 rfl 1 rfl ?_
      refine jr_aload_n C 983 rfl dL_law_982 rfl 0 rfl ?_
      refine jr_iload_n C 984 rfl dL_law_983 rfl 3 rfl ?_
      refine jr_iconst (v := 1) C 985 rfl dL_law_984 (by decide) ?_
      refine jr_iadd C 986 rfl dL_law_985 ?_
      refine jr_iald14 C 987 rfl dL_law_986 h (fun v250 h => ?_)
      refine jr_aload_n C 988 rfl dL_law_987 rfl 0 rfl ?_
      refine jr_iload_n C 989 rfl dL_law_988 rfl 3 rfl ?_
      refine jr_iconst (v := 2) C 990 rfl dL_law_989 (by decide) ?_
      refine jr_iadd C 991 rfl dL_law_990 ?_
      refine jr_iald14 C 992 rfl dL_law_991 h (fun v251 h => ?_)
      refine jr_aload_n C 993 rfl dL_law_992 rfl 0 rfl ?_
      refine jr_iload_n C 994 rfl dL_law_993 rfl 3 rfl ?_
      refine jr_iconst (v := 3) C 995 rfl dL_law_994 (by decide) ?_
      refine jr_iadd C 996 rfl dL_law_995 ?_
      refine jr_iald14 C 997 rfl dL_law_996 h (fun v252 h => ?_)
      obtain ⟨⟨V, hb⟩, h⟩ := h
      refine jr_callVWi (r0 := (RX0, TX0, 24)) (As := [.int v250, .int v251, .int v252]) (st := []) C 1000 rfl (m_X0_sheet C.2.2.2.2.2.2.2.2.2.2.2.2.2.2.2 h) rfl hb rfl q1142 q1143 q1144 q94 q1145 (by decide) (by decide) ndV_X0_sheet (Nat.le_of_ble_eq_true rfl) dL_law_997 (fun S253 r254 h => ?_)
      refine jr_aload_n C 1001 rfl dL_law_1000 rfl 2 rfl ?_
      refine jr_aload_n C 1002 rfl dL_law_1001 rfl 0 rfl ?_
      refine jr_iload_n C 1003 rfl dL_law_1002 rfl 3 rfl ?_
      refine jr_iconst (v := 1) C 1004 rfl dL_law_1003 (by decide) ?_
      refine jr_iadd C 1005 rfl dL_law_1004 ?_
      refine jr_iald14 C 1006 rfl dL_law_1005 h (fun v255 h => ?_)
      refine jr_aload_n C 1007 rfl dL_law_1006 rfl 0 rfl ?_
      refine jr_iload_n C 1008 rfl dL_law_1007 rfl 3 rfl ?_
      refine jr_iconst (v := 2) C 1009 rfl dL_law_1008 (by decide) ?_
      refine jr_iadd C 1010 rfl dL_law_1009 ?_
      refine jr_iald14 C 1011 rfl dL_law_1010 h (fun v256 h => ?_)
      refine jr_aload_n C 1012 rfl dL_law_1011 rfl 0 rfl ?_
      refine jr_iload_n C 1013 rfl dL_law_1012 rfl 3 rfl ?_
      refine jr_iconst (v := 3) C 1014 rfl dL_law_1013 (by decide) ?_
      refine jr_iadd C 1015 rfl dL_law_1014 ?_
      refine jr_iald14 C 1016 rfl dL_law_1015 h (fun v257 h => ?_)
      exact (wk_L_law_1016 C hQ hc18 h)
    have h := h.2 c249
    by_cases c258 : (v2 &&& 63) = 31
    · have h := h.1 c258
      refine jr_tswIn (k0 := 31) C 1024 dL_law_33 c258 (by decide) (by decide) (show _ = some 991 by decide) (by decide) ?_
      refine jr_aload_n C 1025 rfl dL_law_1024 rfl 1 rfl ?_
      refine jr_aload_n C 1026 rfl dL_law_1025 rfl 0 rfl ?_
      refine jr_iload_n C 1027 rfl dL_law_1026 rfl 3 rfl ?_
      refine jr_iconst (v := 1) C 1028 rfl dL_law_1027 (by decide) ?_
      refine jr_iadd C 1029 rfl dL_law_1028 ?_
      refine jr_iald14 C 1030 rfl dL_law_1029 h (fun v259 h => ?_)
      obtain ⟨⟨V, hb⟩, h⟩ := h
      refine jr_callVi (r0 := (RX0, TX0, 24)) (As := [.int v259]) (st := []) C 1033 rfl (m_X0_lose C.2.2.2.2.2.2.2.2.2.2.2.2.2.2.2 h) rfl hb rfl q1179 q1180 q1181 q94 q1182 (by decide) (by decide) ndV_X0_lose (Nat.le_of_ble_eq_true rfl) dL_law_1030 (fun S260 r261 h => ?_)
      refine jr_aload_n C 1034 rfl dL_law_1033 rfl 2 rfl ?_
      refine jr_aload_n C 1035 rfl dL_law_1034 rfl 0 rfl ?_
      refine jr_iload_n C 1036 rfl dL_law_1035 rfl 3 rfl ?_
      refine jr_iconst (v := 1) C 1037 rfl dL_law_1036 (by decide) ?_
      refine jr_iadd C 1038 rfl dL_law_1037 ?_
      refine jr_iald14 C 1039 rfl dL_law_1038 h (fun v262 h => ?_)
      obtain ⟨⟨V, hb⟩, h⟩ := h
      refine jr_callVi (r0 := (RX5, TX5, 53)) (As := [.int v262]) (st := [.int r261]) C 1042 rfl (m_X5_lose C.2.2.2.2.2.2.2.2.2.2.2.2.2.2.2 h) rfl hb rfl q1779 q1780 q1781 q102 q1782 (by decide) (by decide) ndV_X5_lose (Nat.le_of_ble_eq_true rfl) dL_law_1039 (fun S263 r264 h => ?_)
      refine jr_icmp_eq C 1276 1045 rfl dL_law_1042 (by decide) (fun c265 => ?_) (fun c265 => ?_)
      · have h := h.1 c265
        exact (wk_L_law_1276 C hQ hc18 h)
      · have h := h.2 c265
        refine jr_iconst (v := 0) C 1046 rfl dL_law_1045 (by decide) ?_
        exact jr_lawret C hQ dL_law_1046 h
    have h := h.2 c258
    by_cases c266 : (v2 &&& 63) = 32
    · have h := h.1 c266
      refine jr_tswIn (k0 := 32) C 1047 dL_law_33 c266 (by decide) (by decide) (show _ = some 1014 by decide) (by decide) ?_
      refine jr_aload_n C 1048 rfl dL_law_1047 rfl 1 rfl ?_
      refine jr_aload_n C 1049 rfl dL_law_1048 rfl 0 rfl ?_
      refine jr_iload_n C 1050 rfl dL_law_1049 rfl 3 rfl ?_
      refine jr_iconst (v := 1) C 1051 rfl dL_law_1050 (by decide) ?_
      refine jr_iadd C 1052 rfl dL_law_1051 ?_
      refine jr_iald14 C 1053 rfl dL_law_1052 h (fun v267 h => ?_)
      refine jr_aload_n C 1054 rfl dL_law_1053 rfl 0 rfl ?_
      refine jr_iload_n C 1055 rfl dL_law_1054 rfl 3 rfl ?_
      refine jr_iconst (v := 2) C 1056 rfl dL_law_1055 (by decide) ?_
      refine jr_iadd C 1057 rfl dL_law_1056 ?_
      refine jr_iald14 C 1058 rfl dL_law_1057 h (fun v268 h => ?_)
      refine jr_aload_n C 1059 rfl dL_law_1058 rfl 0 rfl ?_
      refine jr_iload_n C 1060 rfl dL_law_1059 rfl 3 rfl ?_
      refine jr_iconst (v := 3) C 1061 rfl dL_law_1060 (by decide) ?_
      refine jr_iadd C 1062 rfl dL_law_1061 ?_
      refine jr_iald14 C 1063 rfl dL_law_1062 h (fun v269 h => ?_)
      refine jr_aload_n C 1064 rfl dL_law_1063 rfl 0 rfl ?_
      refine jr_iload_n C 1065 rfl dL_law_1064 rfl 3 rfl ?_
      refine jr_iconst (v := 4) C 1066 rfl dL_law_1065 (by decide) ?_
      refine jr_iadd C 1067 rfl dL_law_1066 ?_
      refine jr_iald14 C 1068 rfl dL_law_1067 h (fun v270 h => ?_)
      obtain ⟨⟨V, hb⟩, h⟩ := h
      refine jr_callVWi (r0 := (RX0, TX0, 24)) (As := [.int v267, .int v268, .int v269, .int v270]) (st := []) C 1071 rfl (m_X0_put C.2.2.2.2.2.2.2.2.2.2.2.2.2.2.2 h) rfl hb rfl q1183 q1184 q1185 q94 q1186 (by decide) (by decide) ndV_X0_put (Nat.le_of_ble_eq_true rfl) dL_law_1068 (fun S271 r272 h => ?_)
      refine jr_aload_n C 1072 rfl dL_law_1071 rfl 2 rfl ?_
      refine jr_aload_n C 1073 rfl dL_law_1072 rfl 0 rfl ?_
      refine jr_iload_n C 1074 rfl dL_law_1073 rfl 3 rfl ?_
      refine jr_iconst (v := 1) C 1075 rfl dL_law_1074 (by decide) ?_
      refine jr_iadd C 1076 rfl dL_law_1075 ?_
      refine jr_iald14 C 1077 rfl dL_law_1076 h (fun v273 h => ?_)
      refine jr_aload_n C 1078 rfl dL_law_1077 rfl 0 rfl ?_
      refine jr_iload_n C 1079 rfl dL_law_1078 rfl 3 rfl ?_
      refine jr_iconst (v := 2) C 1080 rfl dL_law_1079 (by decide) ?_
      refine jr_iadd C 1081 rfl dL_law_1080 ?_
      refine jr_iald14 C 1082 rfl dL_law_1081 h (fun v274 h => ?_)
      exact (wk_L_law_1082 C hQ hc18 h)
    have h := h.2 c266
    by_cases c275 : (v2 &&& 63) = 33
    · have h := h.1 c275
      refine jr_tswIn (k0 := 33) C 1100 dL_law_33 c275 (by decide) (by decide) (show _ = some 1067 by decide) (by decide) ?_
      refine jr_aload_n C 1101 rfl dL_law_1100 rfl 1 rfl ?_
      refine jr_aload_n C 1102 rfl dL_law_1101 rfl 0 rfl ?_
      refine jr_iload_n C 1103 rfl dL_law_1102 rfl 3 rfl ?_
      refine jr_iconst (v := 1) C 1104 rfl dL_law_1103 (by decide) ?_
      refine jr_iadd C 1105 rfl dL_law_1104 ?_
      refine jr_iald14 C 1106 rfl dL_law_1105 h (fun v276 h => ?_)
      refine jr_aload_n C 1107 rfl dL_law_1106 rfl 0 rfl ?_
      refine jr_iload_n C 1108 rfl dL_law_1107 rfl 3 rfl ?_
      refine jr_iconst (v := 2) C 1109 rfl dL_law_1108 (by decide) ?_
      refine jr_iadd C 1110 rfl dL_law_1109 ?_
      refine jr_iald14 C 1111 rfl dL_law_1110 h (fun v277 h => ?_)
      refine jr_aload_n C 1112 rfl dL_law_1111 rfl 0 rfl ?_
      refine jr_iload_n C 1113 rfl dL_law_1112 rfl 3 rfl ?_
      refine jr_iconst (v := 3) C 1114 rfl dL_law_1113 (by decide) ?_
      refine jr_iadd C 1115 rfl dL_law_1114 ?_
      refine jr_iald14 C 1116 rfl dL_law_1115 h (fun v278 h => ?_)
      obtain ⟨⟨V, hb⟩, h⟩ := h
      refine jr_callVWi (r0 := (RX0, TX0, 24)) (As := [.int v276, .int v277, .int v278]) (st := []) C 1119 rfl (m_X0_get C.2.2.2.2.2.2.2.2.2.2.2.2.2.2.2 h) rfl hb rfl q1224 q1225 q1226 q94 q1227 (by decide) (by decide) ndV_X0_get (Nat.le_of_ble_eq_true rfl) dL_law_1116 (fun S279 r280 h => ?_)
      refine jr_aload_n C 1120 rfl dL_law_1119 rfl 2 rfl ?_
      refine jr_aload_n C 1121 rfl dL_law_1120 rfl 0 rfl ?_
      refine jr_iload_n C 1122 rfl dL_law_1121 rfl 3 rfl ?_
      refine jr_iconst (v := 1) C 1123 rfl dL_law_1122 (by decide) ?_
      refine jr_iadd C 1124 rfl dL_law_1123 ?_
      refine jr_iald14 C 1125 rfl dL_law_1124 h (fun v281 h => ?_)
      refine jr_aload_n C 1126 rfl dL_law_1125 rfl 0 rfl ?_
      refine jr_iload_n C 1127 rfl dL_law_1126 rfl 3 rfl ?_
      refine jr_iconst (v := 2) C 1128 rfl dL_law_1127 (by decide) ?_
      refine jr_iadd C 1129 rfl dL_law_1128 ?_
      refine jr_iald14 C 1130 rfl dL_law_1129 h (fun v282 h => ?_)
      refine jr_aload_n C 1131 rfl dL_law_1130 rfl 0 rfl ?_
      refine jr_iload_n C 1132 rfl dL_law_1131 rfl 3 rfl ?_
      refine jr_iconst (v := 3) C 1133 rfl dL_law_1132 (by decide) ?_
      refine jr_iadd C 1134 rfl dL_law_1133 ?_
      refine jr_iald14 C 1135 rfl dL_law_1134 h (fun v283 h => ?_)
      exact (wk_L_law_1135 C hQ hc18 h)
    have h := h.2 c275
    by_cases c284 : (v2 &&& 63) = 34
    · have h := h.1 c284
      refine jr_tswIn (k0 := 34) C 1143 dL_law_33 c284 (by decide) (by decide) (show _ = some 1110 by decide) (by decide) ?_
      refine jr_aload_n C 1144 rfl dL_law_1143 rfl 1 rfl ?_
      refine jr_aload_n C 1145 rfl dL_law_1144 rfl 0 rfl ?_
      refine jr_iload_n C 1146 rfl dL_law_1145 rfl 3 rfl ?_
      refine jr_iconst (v := 1) C 1147 rfl dL_law_1146 (by decide) ?_
      refine jr_iadd C 1148 rfl dL_law_1147 ?_
      refine jr_iald14 C 1149 rfl dL_law_1148 h (fun v285 h => ?_)
      refine jr_aload_n C 1150 rfl dL_law_1149 rfl 0 rfl ?_
      refine jr_iload_n C 1151 rfl dL_law_1150 rfl 3 rfl ?_
      refine jr_iconst (v := 2) C 1152 rfl dL_law_1151 (by decide) ?_
      refine jr_iadd C 1153 rfl dL_law_1152 ?_
      refine jr_iald14 C 1154 rfl dL_law_1153 h (fun v286 h => ?_)
      refine jr_aload_n C 1155 rfl dL_law_1154 rfl 0 rfl ?_
      refine jr_iload_n C 1156 rfl dL_law_1155 rfl 3 rfl ?_
      refine jr_iconst (v := 3) C 1157 rfl dL_law_1156 (by decide) ?_
      refine jr_iadd C 1158 rfl dL_law_1157 ?_
      refine jr_iald14 C 1159 rfl dL_law_1158 h (fun v287 h => ?_)
      refine jr_aload_n C 1160 rfl dL_law_1159 rfl 0 rfl ?_
      refine jr_iload_n C 1161 rfl dL_law_1160 rfl 3 rfl ?_
      refine jr_iconst (v := 4) C 1162 rfl dL_law_1161 (by decide) ?_
      refine jr_iadd C 1163 rfl dL_law_1162 ?_
      refine jr_iald14 C 1164 rfl dL_law_1163 h (fun v288 h => ?_)
      refine jr_aload_n C 1165 rfl dL_law_1164 rfl 0 rfl ?_
      refine jr_iload_n C 1166 rfl dL_law_1165 rfl 3 rfl ?_
      refine jr_iconst (v := 5) C 1167 rfl dL_law_1166 (by decide) ?_
      refine jr_iadd C 1168 rfl dL_law_1167 ?_
      refine jr_iald14 C 1169 rfl dL_law_1168 h (fun v289 h => ?_)
      obtain ⟨⟨V, hb⟩, h⟩ := h
      refine jr_callVWi (r0 := (RX0, TX0, 24)) (As := [.int v285, .int v286, .int v287, .int v288, .int v289]) (st := []) C 1172 rfl (m_X0_copy C.2.2.2.2.2.2.2.2.2.2.2.2.2.2.2 h) rfl hb rfl q1233 q1234 q1235 q94 q1236 (by decide) (by decide) ndV_X0_copy (Nat.le_of_ble_eq_true rfl) dL_law_1169 (fun S290 r291 h => ?_)
      refine jr_aload_n C 1173 rfl dL_law_1172 rfl 2 rfl ?_
      refine jr_aload_n C 1174 rfl dL_law_1173 rfl 0 rfl ?_
      refine jr_iload_n C 1175 rfl dL_law_1174 rfl 3 rfl ?_
      refine jr_iconst (v := 1) C 1176 rfl dL_law_1175 (by decide) ?_
      refine jr_iadd C 1177 rfl dL_law_1176 ?_
      refine jr_iald14 C 1178 rfl dL_law_1177 h (fun v292 h => ?_)
      exact (wk_L_law_1178 C hQ hc18 h)
    have h := h.2 c284
    by_cases c293 : (v2 &&& 63) = 35
    · have h := h.1 c293
      refine jr_tswIn (k0 := 35) C 1206 dL_law_33 c293 (by decide) (by decide) (show _ = some 1173 by decide) (by decide) ?_
      refine jr_aload_n C 1207 rfl dL_law_1206 rfl 1 rfl ?_
      refine jr_aload_n C 1208 rfl dL_law_1207 rfl 0 rfl ?_
      refine jr_iload_n C 1209 rfl dL_law_1208 rfl 3 rfl ?_
      refine jr_iconst (v := 1) C 1210 rfl dL_law_1209 (by decide) ?_
      refine jr_iadd C 1211 rfl dL_law_1210 ?_
      refine jr_iald14 C 1212 rfl dL_law_1211 h (fun v294 h => ?_)
      refine jr_aload_n C 1213 rfl dL_law_1212 rfl 0 rfl ?_
      refine jr_iload_n C 1214 rfl dL_law_1213 rfl 3 rfl ?_
      refine jr_iconst (v := 2) C 1215 rfl dL_law_1214 (by decide) ?_
      refine jr_iadd C 1216 rfl dL_law_1215 ?_
      refine jr_iald14 C 1217 rfl dL_law_1216 h (fun v295 h => ?_)
      obtain ⟨⟨V, hb⟩, h⟩ := h
      refine jr_callVi (r0 := (RX0, TX0, 24)) (As := [.int v294, .int v295]) (st := []) C 1220 rfl (m_X0_write C.2.2.2.2.2.2.2.2.2.2.2.2.2.2.2 h) rfl hb rfl q1239 q1240 q1241 q94 q1242 (by decide) (by decide) ndV_X0_write (Nat.le_of_ble_eq_true rfl) dL_law_1217 (fun S296 r297 h => ?_)
      refine jr_aload_n C 1221 rfl dL_law_1220 rfl 2 rfl ?_
      refine jr_aload_n C 1222 rfl dL_law_1221 rfl 0 rfl ?_
      refine jr_iload_n C 1223 rfl dL_law_1222 rfl 3 rfl ?_
      refine jr_iconst (v := 1) C 1224 rfl dL_law_1223 (by decide) ?_
      refine jr_iadd C 1225 rfl dL_law_1224 ?_
      refine jr_iald14 C 1226 rfl dL_law_1225 h (fun v298 h => ?_)
      refine jr_aload_n C 1227 rfl dL_law_1226 rfl 0 rfl ?_
      refine jr_iload_n C 1228 rfl dL_law_1227 rfl 3 rfl ?_
      refine jr_iconst (v := 2) C 1229 rfl dL_law_1228 (by decide) ?_
      refine jr_iadd C 1230 rfl dL_law_1229 ?_
      refine jr_iald14 C 1231 rfl dL_law_1230 h (fun v299 h => ?_)
      obtain ⟨⟨V, hb⟩, h⟩ := h
      refine jr_callVi (r0 := (RX5, TX5, 53)) (As := [.int v298, .int v299]) (st := [.int r297]) C 1234 rfl (m_X5_write C.2.2.2.2.2.2.2.2.2.2.2.2.2.2.2 h) rfl hb rfl q1804 q1805 q1806 q102 q1807 (by decide) (by decide) ndV_X5_write (Nat.le_of_ble_eq_true rfl) dL_law_1231 (fun S300 r301 h => ?_)
      refine jr_icmp_eq C 1276 1237 rfl dL_law_1234 (by decide) (fun c302 => ?_) (fun c302 => ?_)
      · have h := h.1 c302
        exact (wk_L_law_1276 C hQ hc18 h)
      · have h := h.2 c302
        refine jr_iconst (v := 0) C 1238 rfl dL_law_1237 (by decide) ?_
        exact jr_lawret C hQ dL_law_1238 h
    have h := h.2 c293
    by_cases c303 : (v2 &&& 63) = 36
    · have h := h.1 c303
      refine jr_tswIn (k0 := 36) C 1239 dL_law_33 c303 (by decide) (by decide) (show _ = some 1206 by decide) (by decide) ?_
      refine jr_aload_n C 1240 rfl dL_law_1239 rfl 1 rfl ?_
      refine jr_aload_n C 1241 rfl dL_law_1240 rfl 0 rfl ?_
      refine jr_iload_n C 1242 rfl dL_law_1241 rfl 3 rfl ?_
      refine jr_iconst (v := 1) C 1243 rfl dL_law_1242 (by decide) ?_
      refine jr_iadd C 1244 rfl dL_law_1243 ?_
      refine jr_iald14 C 1245 rfl dL_law_1244 h (fun v304 h => ?_)
      obtain ⟨⟨V, hb⟩, h⟩ := h
      refine jr_callVi (r0 := (RX0, TX0, 24)) (As := [.int v304]) (st := []) C 1248 rfl (m_X0_count C.2.2.2.2.2.2.2.2.2.2.2.2.2.2.2 h) rfl hb rfl q1243 q1244 q1245 q94 q1246 (by decide) (by decide) ndV_X0_count (Nat.le_of_ble_eq_true rfl) dL_law_1245 (fun S305 r306 h => ?_)
      refine jr_aload_n C 1249 rfl dL_law_1248 rfl 2 rfl ?_
      refine jr_aload_n C 1250 rfl dL_law_1249 rfl 0 rfl ?_
      refine jr_iload_n C 1251 rfl dL_law_1250 rfl 3 rfl ?_
      refine jr_iconst (v := 1) C 1252 rfl dL_law_1251 (by decide) ?_
      refine jr_iadd C 1253 rfl dL_law_1252 ?_
      refine jr_iald14 C 1254 rfl dL_law_1253 h (fun v307 h => ?_)
      obtain ⟨⟨V, hb⟩, h⟩ := h
      refine jr_callVi (r0 := (RX5, TX5, 53)) (As := [.int v307]) (st := [.int r306]) C 1257 rfl (m_X5_count C.2.2.2.2.2.2.2.2.2.2.2.2.2.2.2 h) rfl hb rfl q1808 q1809 q1810 q102 q1811 (by decide) (by decide) ndV_X5_count (Nat.le_of_ble_eq_true rfl) dL_law_1254 (fun S308 r309 h => ?_)
      refine jr_icmp_eq C 1276 1260 rfl dL_law_1257 (by decide) (fun c310 => ?_) (fun c310 => ?_)
      · have h := h.1 c310
        exact (wk_L_law_1276 C hQ hc18 h)
      · have h := h.2 c310
        refine jr_iconst (v := 0) C 1261 rfl dL_law_1260 (by decide) ?_
        exact jr_lawret C hQ dL_law_1261 h
    have h := h.2 c303
    by_cases c311 : (v2 &&& 63) = 37
    · have h := h.1 c311
      refine jr_tswIn (k0 := 37) C 1262 dL_law_33 c311 (by decide) (by decide) (show _ = some 1229 by decide) (by decide) ?_
      refine jr_aload_n C 1263 rfl dL_law_1262 rfl 1 rfl ?_
      obtain ⟨⟨V, hb⟩, h⟩ := h
      refine jr_callVl (r0 := (RX0, TX0, 24)) (As := []) (st := []) C 1266 rfl (m_X0_digest C.2.2.2.2.2.2.2.2.2.2.2.2.2.2.2 h) rfl hb rfl q1256 q1257 q1258 q94 q1259 (by decide) (by decide) ndV_X0_digest (Nat.le_of_ble_eq_true rfl) dL_law_1263 (fun S312 r313 h => ?_)
      refine jr_aload_n C 1267 rfl dL_law_1266 rfl 2 rfl ?_
      obtain ⟨⟨V, hb⟩, h⟩ := h
      refine jr_callVl (r0 := (RX5, TX5, 53)) (As := []) (st := [.long r313]) C 1270 rfl (m_X5_digest C.2.2.2.2.2.2.2.2.2.2.2.2.2.2.2 h) rfl hb rfl q1816 q1817 q1818 q102 q1819 (by decide) (by decide) ndV_X5_digest (Nat.le_of_ble_eq_true rfl) dL_law_1267 (fun S314 r315 h => ?_)
      refine jr_lcmp C 1271 rfl dL_law_1270 ?_
      refine jr_if_eq C 1276 1274 rfl dL_law_1271 (by decide) (fun c316 => ?_) (fun c316 => ?_)
      · have h := h.1 c316
        exact (wk_L_law_1276 C hQ hc18 h)
      · have h := h.2 c316
        refine jr_iconst (v := 0) C 1275 rfl dL_law_1274 (by decide) ?_
        exact jr_lawret C hQ dL_law_1275 h
    have h := h.2 c311
    refine jr_tswOut C 1276 dL_law_33 (by have e0 := lv_neT c3 (show (0 : Int32).toInt = 0 by decide); have e1 := lv_neT c13 (show (1 : Int32).toInt = 1 by decide); have e2 := lv_neT c21 (show (2 : Int32).toInt = 2 by decide); have e3 := lv_neT c29 (show (3 : Int32).toInt = 3 by decide); have e4 := lv_neT c37 (show (4 : Int32).toInt = 4 by decide); have e5 := lv_neT c47 (show (5 : Int32).toInt = 5 by decide); have e6 := lv_neT c57 (show (6 : Int32).toInt = 6 by decide); have e7 := lv_neT c67 (show (7 : Int32).toInt = 7 by decide); have e8 := lv_neT c76 (show (8 : Int32).toInt = 8 by decide); have e9 := lv_neT c82 (show (9 : Int32).toInt = 9 by decide); have e10 := lv_neT c90 (show (10 : Int32).toInt = 10 by decide); have e11 := lv_neT c100 (show (11 : Int32).toInt = 11 by decide); have e12 := lv_neT c109 (show (12 : Int32).toInt = 12 by decide); have e13 := lv_neT c117 (show (13 : Int32).toInt = 13 by decide); have e14 := lv_neT c125 (show (14 : Int32).toInt = 14 by decide); have e15 := lv_neT c131 (show (15 : Int32).toInt = 15 by decide); have e16 := lv_neT c139 (show (16 : Int32).toInt = 16 by decide); have e17 := lv_neT c147 (show (17 : Int32).toInt = 17 by decide); have e18 := lv_neT c153 (show (18 : Int32).toInt = 18 by decide); have e19 := lv_neT c163 (show (19 : Int32).toInt = 19 by decide); have e20 := lv_neT c171 (show (20 : Int32).toInt = 20 by decide); have e21 := lv_neT c181 (show (21 : Int32).toInt = 21 by decide); have e22 := lv_neT c189 (show (22 : Int32).toInt = 22 by decide); have e23 := lv_neT c199 (show (23 : Int32).toInt = 23 by decide); have e24 := lv_neT c205 (show (24 : Int32).toInt = 24 by decide); have e25 := lv_neT c211 (show (25 : Int32).toInt = 25 by decide); have e26 := lv_neT c217 (show (26 : Int32).toInt = 26 by decide); have e27 := lv_neT c225 (show (27 : Int32).toInt = 27 by decide); have e28 := lv_neT c231 (show (28 : Int32).toInt = 28 by decide); have e29 := lv_neT c240 (show (29 : Int32).toInt = 29 by decide); have e30 := lv_neT c249 (show (30 : Int32).toInt = 30 by decide); have e31 := lv_neT c258 (show (31 : Int32).toInt = 31 by decide); have e32 := lv_neT c266 (show (32 : Int32).toInt = 32 by decide); have e33 := lv_neT c275 (show (33 : Int32).toInt = 33 by decide); have e34 := lv_neT c284 (show (34 : Int32).toInt = 34 by decide); have e35 := lv_neT c293 (show (35 : Int32).toInt = 35 by decide); have e36 := lv_neT c303 (show (36 : Int32).toInt = 36 by decide); have e37 := lv_neT c311 (show (37 : Int32).toInt = 37 by decide); omega) (by decide) ?_
    exact (wk_L_law_1276 C hQ hc18 h)
theorem wk_L_law_18_L {X : jX} {G : jG} {Q : State → Prop} {y : MethodName} (C : jC (X, G, 4, Q) 1000 cL_law "SamovarLaw" ret y) (hQ : jLQ (X, G, 4, Q)) {x0 : Nat} {x1 : Nat} {x2 : Nat}  : ∀ (n : Nat) (z : jS × Int32), jlp n (wp_L_law_18_L x0 x1 x2) z → jJ (X, G, 4, Q) z.1 [(0, .ref x0), (1, .ref x1), (2, .ref x2), (3, .int z.2)] 18 [] := by
  intro n
  induction n with
  | zero => intro z h; exact h.elim
  | succ n ih => intro z h; exact wk_L_law_18 C hQ ih h
theorem wk_L_law_0 {X : jX} {G : jG} {Q : State → Prop} {y : MethodName} (C : jC (X, G, 4, Q) 1000 cL_law "SamovarLaw" ret y) (hQ : jLQ (X, G, 4, Q)) {S : jS} {x0 : Nat}  (h : wp_L_law S x0) : jJ (X, G, 4, Q) S [(0, .ref x0)] 0 [] := by
  unfold wp_L_law at h
  refine jr_new C 3 rfl (c := 0) (by decide) rfl in_X0 tyX0_ok q123 q124 q94 dL_law_0 h (fun S1 a2 h => ?_)
  refine jr_dup C 4 rfl dL_law_3 rfl ?_
  refine jr_callIv (As := []) (st := [.ref a2]) C 7 rfl (m_X0_init C.2.2.2.2.2.2.2.2.2.2.2.2.2.2.2 h) rfl rfl q125 q126 q94 q127 (by decide) (by decide) nd_X0_init (Nat.le_of_ble_eq_true rfl) dL_law_4 (fun S3 _ h => ?_)
  refine jr_astore_n (lv' := [(1, .ref a2), (0, .ref x0)]) C 8 rfl dL_law_7 rfl (Nat.le_of_ble_eq_true rfl) rfl ?_
  refine jr_new C 11 rfl (c := 8) (by decide) rfl in_X5 tyX5_ok q1271 q1272 q102 dL_law_8 h (fun S4 a5 h => ?_)
  refine jr_dup C 12 rfl dL_law_11 rfl ?_
  refine jr_callIv (As := []) (st := [.ref a5]) C 15 rfl (m_X5_init C.2.2.2.2.2.2.2.2.2.2.2.2.2.2.2 h) rfl rfl q1273 q1274 q102 q1275 (by decide) (by decide) nd_X5_init (Nat.le_of_ble_eq_true rfl) dL_law_12 (fun S6 _ h => ?_)
  refine jr_astore_n (lv' := [(2, .ref a5), (1, .ref a2), (0, .ref x0)]) C 16 rfl dL_law_15 rfl (Nat.le_of_ble_eq_true rfl) rfl ?_
  refine jr_iconst (v := 0) C 17 rfl dL_law_16 (by decide) ?_
  refine jr_istore_n (lv' := [(3, .int 0), (2, .ref a5), (1, .ref a2), (0, .ref x0)]) C 18 rfl dL_law_17 rfl (Nat.le_of_ble_eq_true rfl) rfl ?_
  obtain ⟨n, h⟩ := h
  exact jr_sub [3, 2, 1, 0] rfl (wk_L_law_18_L C hQ  n _ h)

