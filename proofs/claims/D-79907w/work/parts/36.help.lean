/-! HELPERS of the printed walks -/
theorem jFO.one {c k : Nat} {ref name desc : String} {own : String} {ty : FieldType} {fin : Bool} {C : String} {T : u_T} {N : Nat} {ty0 : Nat → FieldType} (h9 : c < 9 ∨ c = 14) (f1 : jcl[c]? = some (C, T, N)) (f2 : ∀ w ∈ u_ws C T N, w ∈ lw_all) (f3 : ∀ k, k < N → parseFieldDescriptor (T k).2.2.1 = some (ty0 k)) (f4 : ∀ a, a < N → ∀ b, b < N → a ≠ b → (T a).2.1 ≠ (T b).2.1) (f5 : k < N) (e : T k = (own, name, desc, fin)) (hd : parseFieldDescriptor (T k).2.2.1 = some ty) (hs : ∀ (args : Array Value) (s : State), (∀ w ∈ lw_all, w.before args s = true) → ∀ x, s.fieldFound? own name desc = some x → s.fieldFound? ref name desc = some x) : jFO [c] k ref name desc ty fin := by
  have hd2 := hd
  rw [e] at hd2
  refine ⟨hd2, fun c' hc => ?_⟩
  have hc2 : c' = c := List.mem_singleton.mp hc
  subst hc2
  exact ⟨h9, C, T, N, ty0, f1, f2, f3, f4, f5, by rw [e], by rw [e], by rw [e], fun a s h0 x hx => hs a s h0 x (by rw [e] at hx; exact hx)⟩
theorem jFO.two {c c2 k : Nat} {ref name desc : String} {ty : FieldType} {fin : Bool} (h : jFO [c] k ref name desc ty fin) (h2 : jFO [c2] k ref name desc ty fin) : jFO [c, c2] k ref name desc ty fin := by
  refine ⟨h.1, fun c' hc => ?_⟩
  rcases List.mem_cons.mp hc with e | e
  · exact h.2 c' (by rw [e]; exact List.mem_singleton.mpr rfl)
  · exact h2.2 c' e
theorem jdecl1 {c k : Nat} {own : String} {r0 : vw_C} (h : jcl[c]? = some r0) (hd : (r0.2.1 k).1 = own) : ∀ c' ∈ ([c] : List Nat), ∀ r : vw_C, jcl[c']? = some r → (r.2.1 k).1 = own := by
  intro c' hc r hr
  have hc2 : c' = c := List.mem_singleton.mp hc
  subst hc2
  rw [h] at hr
  cases hr
  exact hd
theorem jdecl2 {c c2 k : Nat} {own : String} {r0 r2 : vw_C} (h : jcl[c]? = some r0) (hd : (r0.2.1 k).1 = own) (h2 : jcl[c2]? = some r2) (hd2 : (r2.2.1 k).1 = own) : ∀ c' ∈ ([c, c2] : List Nat), ∀ r : vw_C, jcl[c']? = some r → (r.2.1 k).1 = own := by
  intro c' hc r hr
  rcases List.mem_cons.mp hc with e | e
  · exact jdecl1 h hd c' (by rw [e]; exact List.mem_singleton.mpr rfl) r hr
  · exact jdecl1 h2 hd2 c' e r hr
theorem j_nz {v : Int32} (h : v = 0 ∨ v = 1) : narrow .boolean (.int v) = .int v := by
  rcases h with e | e <;> (subst e; rfl)
theorem j_fz {v : Int32} (h : v = 0 ∨ v = 1) : fits .boolean (.int v) = true := by
  rcases h with e | e <;> (subst e; rfl)
theorem j_nr (r : Option Nat) {ty : FieldType} (h : ty.isReference = true) : narrow ty (va_rf r) = va_rf r := by
  cases r <;> cases ty <;> first | rfl | cases h
theorem j_fr (r : Option Nat) {ty : FieldType} (h : ty.isReference = true) : fits ty (va_rf r) = true := by
  cases r <;> cases ty <;> first | rfl | cases h
theorem j_cat (r : Option Nat) : (va_rf r).category = 1 := by
  cases r <;> rfl
theorem j_declW {args : Array Value} {s : State} {x : MethodName} {b : ByteArray} {m : Nat} {ret : Option FieldType} {hh : List (Nat × Nat × Nat × Nat)} (hi : (Cond.instanceMethod x).before args s = true) (hc : (Cond.codeWith x b m ret hh).before args s = true) : va_Decl s x := by
  obtain ⟨r0, r, hn, hrm, hst, -⟩ := Cond.instanceMethod_spec hi
  obtain ⟨m9, meth9, c9, hn9, h1, h2, h3, h4, h5, h6, h7, h8⟩ := Cond.codeWith_spec hc
  cases hn.symm.trans hn9
  cases hrm.symm.trans h1
  refine ⟨r0, r, hn, hrm, hst, ?_⟩
  first
    | assumption
    | exact h8.1
    | exact h8.2
    | exact h7.1
    | exact h7.2
