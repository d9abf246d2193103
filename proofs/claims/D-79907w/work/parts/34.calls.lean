/-! CONTRACTS over the abstract world: entry, ends, calls -/
def jQ {ρ : Type} (G : jG) (tv : ρ → Option Value) (K : jS → ρ → Prop) : Array Value → State → Outcome → State → Prop := fun _ st oc t => ∃ (S : jS) (r : ρ), oc = .returned (tv r) ∧ K S r ∧ jW G S t.heap ∧ st.heap.size ≤ t.heap.size
def jP (G : jG) (S : jS) (sz nz : Nat) : State → Prop := fun U => U.heap.size = sz ∧ jsl U.heap (gz G) = nz ∧ jW G S U.heap ∧ jK G U
def jrm (G : jG) (d sz nz : Nat) : Room := { frames := d, cells := gL G - sz, slots := gT G - nz, locals := 64 * d }
def jMet (l : Launch) (G : jG) (d : Nat) (y : MethodName) (ws : List Cond) (As : List Value) (S : jS) {ρ : Type} (tv : ρ → Option Value) (K : jS → ρ → Prop) : Prop :=
  ∀ sz nz : Nat, Met l y ws (jrm G d sz nz) (va_Pc As (jP G S sz nz)) (jQ G tv K) (gL G - sz) (gT G - nz) (fun q => gz G ≤ q)
/-- answers: int, long, reference, reference or null, none -/
def tvi (r : Int32) : Option Value := some (.int r)
def tvl (r : Int64) : Option Value := some (.long r)
def tvr (r : Nat) : Option Value := some (.ref r)
def tvo (r : Option Nat) : Option Value := some (va_rf r)
def tvv (_ : Unit) : Option Value := none
/-- a body's aim -/
def jA (X : jX) (G : jG) {ρ : Type} (tv : ρ → Option Value) (K : jS → ρ → Prop) : State → Prop := MQ X.2.2.2.2.2.2.2.1 (jQ G tv K) X.2.2.2.2.2.2.1 X.2.2.2.2.1 X.2.2.2.1.cells X.2.2.2.1.slots (fun q => gz G ≤ q)
theorem jro.warm {G : jG} {s U : State} {a : Nat} {e : jE} (hW : s.WarmedH U.vm) (h : jro G s a e) : jro G U a e := by
  obtain ⟨k, x | x | V⟩ := e
  · obtain ⟨cell, ty, h1, h2, h3, h4⟩ := h
    exact ⟨cell, ty, h1, h2, State.isArrayOf_alike hW.alike h3, h4⟩
  · obtain ⟨cell, ty, h1, h2, h3, h4⟩ := h
    exact ⟨cell, ty, h1, h2, State.isArrayOf_alike hW.alike h3, h4⟩
  · exact h
theorem jK.warm {G : jG} {s U : State} (hW : s.WarmedH U.vm) (h : jK G s) : jK G U :=
  ⟨fun c q hq h9 => u_Kn_moved hW.alike (h.1 c q hq h9), fun c q hq => by rw [hW.alike.findClass]; exact h.2.1 c q hq, fun k ty hk h9 => ⟨arrOfT_moved hW.alike (h.2.2.1 k ty hk h9).1, (h.2.2.1 k ty hk h9).2.moved hW.alike⟩, fun w hw => jxw_warm hW hw (h.2.2.2.1 w hw), ⟨fun q hq => (h.2.2.2.2.1.1 q hq).moved hW.alike, h.2.2.2.2.1.2.1, h.2.2.2.2.1.2.2.1, vx_L.moved hW.alike h.2.2.2.2.1.2.2.2.1, vx_L.moved hW.alike h.2.2.2.2.1.2.2.2.2⟩, fun i q hq => (h.2.2.2.2.2.1 i q hq).moved hW.alike,
   fun i q hq => by obtain ⟨a, h1, h2⟩ := h.2.2.2.2.2.2.1 i q hq; exact ⟨a, h1, h2.warm hW⟩, fun a e he => by obtain ⟨h1, h2, h3⟩ := h.2.2.2.2.2.2.2 a e he; exact ⟨h1, h2, jro.warm hW h3⟩⟩
theorem jP.calling {G : jG} {S : jS} {sz nz : Nat} {U : State} {g : JFrame} {mk : MethodId} {a : Array Value} (h : jP G S sz nz U) : jP G S sz nz (U.calling g mk a) :=
  ⟨h.1, h.2.1, h.2.2.1, jK.warm (s := U) (U := U.calling g mk a) (State.WarmedH.refl U) h.2.2.2⟩
section JCALL
variable {Z : jZ} {d : Nat} {cc : ByteArray} {own : String} {ret : Option FieldType} {y : MethodName} {pc : Nat} {S : jS} {lv : List (Nat × Value)} {st : List Value}
variable {y2 : MethodName} {bytes : ByteArray} {maxL d2 index : Nat} {ret2 : Option FieldType} {As : List Value} {H : Heap} {locs : List Loc}
theorem jP.now (C : jC Z d cc own ret y) (hW : jW Z.2.1 S H) : ∀ U : State, U.heap = H → (zs Z).WarmedH U.vm → jP Z.2.1 S H.size (jsl H (gz Z.2.1)) U := fun U hU hw => ⟨by rw [hU], by rw [hU], by rw [hU]; exact hW, jK.warm hw C.2.2.2.2.2.2.2.1⟩
theorem j_fix (C : jC Z d cc own ret y) : CallFix (zp Z) (zm Z) (zc Z) cc Z.2.2.1 (zs Z) (za Z) lw_all own := ⟨C.1, C.2.1, C.2.2.1, C.2.2.2.1, C.2.2.2.2.1⟩
theorem j_blind {G : jG} {As : List Value} {sz nz : Nat} : FrameBlind (va_Pc As (jP G S sz nz)) := fun _ _ _ _ h => ⟨h.1, jP.calling h.2⟩
/-- behind a call -/
theorem j_after {ρ : Type} {tv : ρ → Option Value} {K : jS → ρ → Prop} {rest st0 : List Value} {a : Array Value} {cells slots mc ms : Nat} {ls : Array Slot} (hL : ∀ q ∈ locs, gz Z.2.1 ≤ q.base) (hz : (zs Z).heap.size ≤ H.size) (hls : lv_has ls Z.2.2.1 lv)
    (hr : va_Run (zp Z) (zl Z) (ze Z) (zR Z) (zs Z) (zm Z) (za Z) (zb Z) (zt Z) (zc Z) H locs cells slots mc ms (F0 (zm Z) pc ls st0) rest (jQ Z.2.1 tv K a) (fun q => gz Z.2.1 ≤ q))
    (kk : ∀ (S1 : jS) (r : ρ), K S1 r → jJ Z S1 lv (pc + 3) ((tv r).toList ++ rest)) : W (zp Z) (zl Z) (ze Z) (zR Z) (zs Z) (zm Z) (za Z) (zb Z) (zt Z) (zc Z) H locs cells slots Z.2.2.2 (F0 (zm Z) pc ls st0) := by
  intro T hT X
  obtain ⟨v, st₀, t, T', L, h0, X', hL2, e1, e2, ⟨S1, r, hv, hk, hw, hz2⟩, st⟩ := hr T hT X
  cases hv
  rw [h0] at hz2
  obtain ⟨t2, a1, b1⟩ := kk S1 r hk T'.heap (locs ++ L) _ _ ls (by rw [e1]; exact hw) (by rw [e1]; exact Nat.le_trans hz hz2) (fun q hq => (List.mem_append.mp hq).elim (hL q) (hL2 q)) hls T' rfl X'
  exact ⟨t2, st t2 a1, b1⟩
theorem j_room (C : jC Z d cc own ret y) (hd : d2 + 1 ≤ d) (hm : maxL ≤ 45) (sz nz : Nat) : (jrm Z.2.1 d2 sz nz).frames + 1 ≤ (zR Z).frames ∧ 8 + (maxL + 11) + (jrm Z.2.1 d2 sz nz).locals ≤ (zR Z).locals := by
  have h1 := C.2.2.2.2.2.2.2.2.2.2.2.2.1
  have h2 := C.2.2.2.2.2.2.2.2.2.2.2.2.2.1
  refine ⟨?_, ?_⟩
  · show d2 + 1 ≤ _
    omega
  · show 8 + (maxL + 11) + 64 * d2 ≤ _
    omega
theorem j_fit (C : jC Z d cc own ret y) (hW : jW Z.2.1 S H) (hz : (zs Z).heap.size ≤ H.size) {k n : Nat} (hk : k + (zs Z).heap.size = H.size) (hn : n + jsl (zs Z).heap (gz Z.2.1) = jsl H (gz Z.2.1)) : k + (gL Z.2.1 - H.size) ≤ (zR Z).cells ∧ n + (gT Z.2.1 - jsl H (gz Z.2.1)) ≤ (zR Z).slots := by
  have g4 := hW.2.2.2.1
  have g5 := hW.2.2.2.2.1
  rw [C.2.2.2.2.2.2.2.2.2.2.1, C.2.2.2.2.2.2.2.2.2.2.2.1]
  omega
/-- an object of the world, as the receiver of a call -/
theorem j_recv (C : jC Z d cc own ret y) (hW : jW Z.2.1 S H) {b c : Nat} {V : Nat → Value} {r : vw_C} (h : S.1 b = some (c, .inr (.inr V))) (hc : jcl[c]? = some r) : ∃ cell : Cell, H[b]? = some cell ∧ cell.vm.isStatics = false ∧ (zs Z).vm.findClass r.1 = some cell.cls := by
  obtain ⟨r', cell, q0, q1, q2, q3, -⟩ := j_obj hW C.2.2.2.2.2.2.2.1 h
  cases q0.symm.trans hc
  exact ⟨cell, q1, q3, by rw [q2]; exact C.2.2.2.2.2.2.2.1.2.1 c r hc⟩

theorem j_runSU {p : Program} {l : Launch} {e : Env} {R : Room} {s : State} {m : MethodId} {args : Array Value} {below : List Frame} {meth : Method} {c : Code} {cells slots : Nat} {y : MethodName} {bytes cc : ByteArray} {maxL nL mc ms n index : Nat} {ret : Option FieldType} {ws : List Cond} {rm : Room} {Pc : Array Value → State → Prop} {Qc : Array Value → State → Outcome → State → Prop} {free : Addr → Prop} {Ts : List Cond} {own C : String} {b : Addr} {As rest : List Value} {g : JFrame}
    (S : CallFix p m c cc nL s args Ts own) (hM : Met l y ws rm Pc Qc mc ms free) (cw : va_CS R s args own index y bytes maxL ret ws rm mc ms n) (hp : PreV s H C b Pc As)
    (hg : g.method = m) (hn : As.length = n) (hsize : g.locals.size = nL) (hstack : g.stack = As.reverse ++ .ref b :: rest) (hW : 2 * g.monitorRoom + (rest.map fun v => v.category).sum ≤ 8) (hdg : decode cc g.pc = .ok (.invokespecial index, 3)) (hf : cells + mc ≤ R.cells ∧ slots + ms ≤ R.slots) :
    va_Run p l e R s m args below meth c H locs cells slots mc ms g rest (Qc (Value.ref b :: As).toArray) (free) := by
  obtain ⟨⟨hrc, hrs, hfr, hlo, hws, hcw⟩, hl1, hl2, hl3, hl4, hini, hcode, hno, hlen⟩ := cw
  have hK : Back l R p e below s args y 3 8 (PreOf R mc ms Pc) (PostOf Qc mc ms free) := back_of (bytes := bytes) (maxL := maxL) (ret := ret) hM hp.1 hrc hrs hfr hlo hws hcw (fun a' U hW => word_at hW (Or.inl (by first | rfl | simp [Cond.onTables, Cond.keeps, Cond.steady])) hini)
  obtain ⟨hx, hb, hml, ho, -⟩ := S
  obtain ⟨-, ⟨cellB, hcB, hoB, hclB⟩, hPc⟩ := hp
  obtain ⟨kB, hkB, -⟩ := Vm.findClass_spec hclB
  intro T hT X
  obtain ⟨v, vm₁, ⟨U', l2, c2, s2⟩, hW₁, X', ⟨g', mk, t, L, e1, e2, hq, h1, hL, h2, h3⟩, st⟩ := va_callSU X hx (bytes := bytes) (maxL := maxL) (ret := ret) ho hl1 hl2 hl3 hl4 hcode hno hK (by rw [hT]; exact hcB) hoB hkB hg (hsize.trans hml.symm) (argsL := As) (rest := rest) (fun sig h => hn.trans (hlen sig h)) hstack hW (by rw [hb]; exact hdg)
    (fun vm₁ hW₁ => ⟨hf.1, hf.2, hPc (T.setVm vm₁) hT hW₁⟩)
  dsimp only [Pt.U, Pt.locs, Pt.cells, Pt.slots] at X' e1 e2 h1 h2 h3 st
  subst h1; subst h2; subst h3
  exact ⟨v, (T.setVm vm₁).calling g' mk (Value.ref b :: As).toArray, t, U', L, hT, X', hL, e1, e2, hq, st⟩
theorem lw_SU {own : String} {idx : Nat} {y : MethodName} {b : ByteArray} {L : Nat} {r : Option FieldType} (h1 : Cond.methodLink own idx y ∈ lw_all) (h2 : Cond.sameMethod y.cls y.cls y.name y.desc ∈ lw_all) (h3 : Cond.superclass own y.cls ∈ lw_all) (h4 : Cond.instanceMethod y ∈ lw_all) (h5 : Cond.initialized y.cls ∈ lw_all) (h6 : Cond.code y b L r ∈ lw_all) : GoodIn lw_all (va_wsSU own idx y (ws_ y b L r)) := by
  refine lw_app ?_ (lw_meth h6)
  intro w hw
  simp only [List.mem_cons, List.not_mem_nil, or_false] at hw
  rcases hw with e | e | e | e | e
  · rw [e]; exact h1
  · rw [e]; exact h2
  · rw [e]; exact h3
  · rw [e]; exact h4
  · rw [e]; exact h5
theorem j_cwU {s : State} {args : Array Value} {R : Room} {own C owner : String} {index maxL mc ms : Nat} {x y : MethodName} {bytes : ByteArray} {ret : Option FieldType} {rm : Room} (n : Nat) (ht : ∀ w ∈ lw_all, w.before args s = true) (hcode : Cond.code y bytes maxL ret ∈ lw_all) (hini : (Cond.initialized y.cls).before args s = true) (hl : (Cond.methodLink own index x).before args s = true) (hsame : (Cond.sameMethod x.cls owner x.name x.desc).before args s = true) (hdc : va_Decl s ⟨owner, x.name, x.desc⟩) (hsel : (Cond.selects C x y).before args s = true) (hin : (Cond.instanceMethod y).before args s = true)
    (hd : owner ≠ "java/lang/invoke/MethodHandle" ∧ owner ≠ "java/lang/invoke/VarHandle" ∧ (parseMethodDescriptor x.desc).map (fun d => d.parameters.length) = some n) (hR : rm.frames + 1 ≤ R.frames ∧ 8 + (maxL + 11) + rm.locals ≤ R.locals) (hrc : rm.cells = mc := by rfl) (hrs : rm.slots = ms := by rfl) : va_CU R s args own C owner index x y bytes maxL ret (ws_ y bytes maxL ret) rm mc ms n := by
  refine ⟨⟨hrc, hrs, hR.1, hR.2, pay_in ht (lw_meth hcode), List.mem_cons_self⟩, ht _ hcode, hini, ⟨hd.1, hd.2.1⟩, fun sig h => ?_, hl, hsame, hdc, hsel, hin⟩
  have h2 := hd.2.2
  rw [h] at h2
  exact (Option.some.inj h2).symm
theorem jr_callSi (C : jC Z d cc own ret y) (pc' : Nat) (hp : pc + 3 = pc') {K : jS → Int32 → Prop} (hM : jMet (zl Z) Z.2.1 d2 y2 (ws_ y2 bytes maxL ret2) As S tvi K)  {stk : List Value} (hstk : As.reverse ++ st = stk) (q1 : Cond.methodLink own index y2 ∈ lw_all) (q2 : Cond.static y2 ∈ lw_all) (q3 : Cond.initialized y2.cls ∈ lw_all) (q4 : Cond.code y2 bytes maxL ret2 ∈ lw_all) (hd : d2 + 1 ≤ d) (hm : maxL ≤ 45) (hnd : y2.cls ≠ "java/lang/invoke/MethodHandle" ∧ y2.cls ≠ "java/lang/invoke/VarHandle" ∧ (parseMethodDescriptor y2.desc).map (fun d => d.parameters.length) = some As.length) (hst : (st.map fun v => v.category).sum ≤ 8) (hdg : decode cc pc = .ok (.invokestatic index, 3)) (kk : ∀ (S1 : jS) (r : Int32), K S1 r → jJ Z S1 lv pc' (.int r :: st)) : jJ Z S lv pc stk := by
  subst hp; subst hstk
  intro H locs cells slots ls hW hz hL hls
  have hts := C.2.2.2.2.1
  refine W.tight C.2.2.2.2.2.2.2.2.1 fun k n hk hn => ?_
  exact j_after hL hz hls (va_runS (As := As) (rest := st) (j_fix C) (hM H.size (jsl H (gz Z.2.1))) (va_cwS As.length hts (lw_S q1 q2 q3 q4) rfl rfl rfl hnd (j_room C hd hm _ _)) ⟨j_blind, fun U hU hw => ⟨rfl, jP.now C hW U hU hw⟩⟩ rfl rfl hls.1 rfl (lv_room hst) hdg (j_fit C hW hz hk hn)) kk

theorem jr_callSl (C : jC Z d cc own ret y) (pc' : Nat) (hp : pc + 3 = pc') {K : jS → Int64 → Prop} (hM : jMet (zl Z) Z.2.1 d2 y2 (ws_ y2 bytes maxL ret2) As S tvl K)  {stk : List Value} (hstk : As.reverse ++ st = stk) (q1 : Cond.methodLink own index y2 ∈ lw_all) (q2 : Cond.static y2 ∈ lw_all) (q3 : Cond.initialized y2.cls ∈ lw_all) (q4 : Cond.code y2 bytes maxL ret2 ∈ lw_all) (hd : d2 + 1 ≤ d) (hm : maxL ≤ 45) (hnd : y2.cls ≠ "java/lang/invoke/MethodHandle" ∧ y2.cls ≠ "java/lang/invoke/VarHandle" ∧ (parseMethodDescriptor y2.desc).map (fun d => d.parameters.length) = some As.length) (hst : (st.map fun v => v.category).sum ≤ 8) (hdg : decode cc pc = .ok (.invokestatic index, 3)) (kk : ∀ (S1 : jS) (r : Int64), K S1 r → jJ Z S1 lv pc' (.long r :: st)) : jJ Z S lv pc stk := by
  subst hp; subst hstk
  intro H locs cells slots ls hW hz hL hls
  have hts := C.2.2.2.2.1
  refine W.tight C.2.2.2.2.2.2.2.2.1 fun k n hk hn => ?_
  exact j_after hL hz hls (va_runS (As := As) (rest := st) (j_fix C) (hM H.size (jsl H (gz Z.2.1))) (va_cwS As.length hts (lw_S q1 q2 q3 q4) rfl rfl rfl hnd (j_room C hd hm _ _)) ⟨j_blind, fun U hU hw => ⟨rfl, jP.now C hW U hU hw⟩⟩ rfl rfl hls.1 rfl (lv_room hst) hdg (j_fit C hW hz hk hn)) kk

theorem jr_callSr (C : jC Z d cc own ret y) (pc' : Nat) (hp : pc + 3 = pc') {K : jS → Nat → Prop} (hM : jMet (zl Z) Z.2.1 d2 y2 (ws_ y2 bytes maxL ret2) As S tvr K)  {stk : List Value} (hstk : As.reverse ++ st = stk) (q1 : Cond.methodLink own index y2 ∈ lw_all) (q2 : Cond.static y2 ∈ lw_all) (q3 : Cond.initialized y2.cls ∈ lw_all) (q4 : Cond.code y2 bytes maxL ret2 ∈ lw_all) (hd : d2 + 1 ≤ d) (hm : maxL ≤ 45) (hnd : y2.cls ≠ "java/lang/invoke/MethodHandle" ∧ y2.cls ≠ "java/lang/invoke/VarHandle" ∧ (parseMethodDescriptor y2.desc).map (fun d => d.parameters.length) = some As.length) (hst : (st.map fun v => v.category).sum ≤ 8) (hdg : decode cc pc = .ok (.invokestatic index, 3)) (kk : ∀ (S1 : jS) (r : Nat), K S1 r → jJ Z S1 lv pc' (.ref r :: st)) : jJ Z S lv pc stk := by
  subst hp; subst hstk
  intro H locs cells slots ls hW hz hL hls
  have hts := C.2.2.2.2.1
  refine W.tight C.2.2.2.2.2.2.2.2.1 fun k n hk hn => ?_
  exact j_after hL hz hls (va_runS (As := As) (rest := st) (j_fix C) (hM H.size (jsl H (gz Z.2.1))) (va_cwS As.length hts (lw_S q1 q2 q3 q4) rfl rfl rfl hnd (j_room C hd hm _ _)) ⟨j_blind, fun U hU hw => ⟨rfl, jP.now C hW U hU hw⟩⟩ rfl rfl hls.1 rfl (lv_room hst) hdg (j_fit C hW hz hk hn)) kk

theorem jr_callSo (C : jC Z d cc own ret y) (pc' : Nat) (hp : pc + 3 = pc') {K : jS → Option Nat → Prop} (hM : jMet (zl Z) Z.2.1 d2 y2 (ws_ y2 bytes maxL ret2) As S tvo K)  {stk : List Value} (hstk : As.reverse ++ st = stk) (q1 : Cond.methodLink own index y2 ∈ lw_all) (q2 : Cond.static y2 ∈ lw_all) (q3 : Cond.initialized y2.cls ∈ lw_all) (q4 : Cond.code y2 bytes maxL ret2 ∈ lw_all) (hd : d2 + 1 ≤ d) (hm : maxL ≤ 45) (hnd : y2.cls ≠ "java/lang/invoke/MethodHandle" ∧ y2.cls ≠ "java/lang/invoke/VarHandle" ∧ (parseMethodDescriptor y2.desc).map (fun d => d.parameters.length) = some As.length) (hst : (st.map fun v => v.category).sum ≤ 8) (hdg : decode cc pc = .ok (.invokestatic index, 3)) (kk : ∀ (S1 : jS) (r : Option Nat), K S1 r → jJ Z S1 lv pc' (va_rf r :: st)) : jJ Z S lv pc stk := by
  subst hp; subst hstk
  intro H locs cells slots ls hW hz hL hls
  have hts := C.2.2.2.2.1
  refine W.tight C.2.2.2.2.2.2.2.2.1 fun k n hk hn => ?_
  exact j_after hL hz hls (va_runS (As := As) (rest := st) (j_fix C) (hM H.size (jsl H (gz Z.2.1))) (va_cwS As.length hts (lw_S q1 q2 q3 q4) rfl rfl rfl hnd (j_room C hd hm _ _)) ⟨j_blind, fun U hU hw => ⟨rfl, jP.now C hW U hU hw⟩⟩ rfl rfl hls.1 rfl (lv_room hst) hdg (j_fit C hW hz hk hn)) kk

theorem jr_callSv (C : jC Z d cc own ret y) (pc' : Nat) (hp : pc + 3 = pc') {K : jS → Unit → Prop} (hM : jMet (zl Z) Z.2.1 d2 y2 (ws_ y2 bytes maxL ret2) As S tvv K)  {stk : List Value} (hstk : As.reverse ++ st = stk) (q1 : Cond.methodLink own index y2 ∈ lw_all) (q2 : Cond.static y2 ∈ lw_all) (q3 : Cond.initialized y2.cls ∈ lw_all) (q4 : Cond.code y2 bytes maxL ret2 ∈ lw_all) (hd : d2 + 1 ≤ d) (hm : maxL ≤ 45) (hnd : y2.cls ≠ "java/lang/invoke/MethodHandle" ∧ y2.cls ≠ "java/lang/invoke/VarHandle" ∧ (parseMethodDescriptor y2.desc).map (fun d => d.parameters.length) = some As.length) (hst : (st.map fun v => v.category).sum ≤ 8) (hdg : decode cc pc = .ok (.invokestatic index, 3)) (kk : ∀ (S1 : jS) (r : Unit), K S1 r → jJ Z S1 lv pc' (st)) : jJ Z S lv pc stk := by
  subst hp; subst hstk
  intro H locs cells slots ls hW hz hL hls
  have hts := C.2.2.2.2.1
  refine W.tight C.2.2.2.2.2.2.2.2.1 fun k n hk hn => ?_
  exact j_after hL hz hls (va_runS (As := As) (rest := st) (j_fix C) (hM H.size (jsl H (gz Z.2.1))) (va_cwS As.length hts (lw_S q1 q2 q3 q4) rfl rfl rfl hnd (j_room C hd hm _ _)) ⟨j_blind, fun U hU hw => ⟨rfl, jP.now C hW U hU hw⟩⟩ rfl rfl hls.1 rfl (lv_room hst) hdg (j_fit C hW hz hk hn)) kk

theorem jr_callSNi (C : jC Z d cc own ret y) (pc' : Nat) (hp : pc + 3 = pc') {K : jS → Int32 → Prop} (hM : jMet (zl Z) Z.2.1 d2 y2 (ws_ y2 bytes maxL ret2) As S tvi K)  {stk : List Value} (hstk : As.reverse ++ st = stk) {host : String} (q1 : Cond.methodLinkNest own index y2 host ∈ jxw) (q2 : Cond.static y2 ∈ lw_all) (q3 : Cond.initialized y2.cls ∈ lw_all) (q4 : Cond.code y2 bytes maxL ret2 ∈ lw_all) (hd : d2 + 1 ≤ d) (hm : maxL ≤ 45) (hnd : y2.cls ≠ "java/lang/invoke/MethodHandle" ∧ y2.cls ≠ "java/lang/invoke/VarHandle" ∧ (parseMethodDescriptor y2.desc).map (fun d => d.parameters.length) = some As.length) (hst : (st.map fun v => v.category).sum ≤ 8) (hdg : decode cc pc = .ok (.invokestatic index, 3)) (kk : ∀ (S1 : jS) (r : Int32), K S1 r → jJ Z S1 lv pc' (.int r :: st)) : jJ Z S lv pc stk := by
  subst hp; subst hstk
  intro H locs cells slots ls hW hz hL hls
  have hts := C.2.2.2.2.1
  refine W.tight C.2.2.2.2.2.2.2.2.1 fun k n hk hn => ?_
  exact j_after hL hz hls (va_runSN (As := As) (rest := st) (j_fix C) (hM H.size (jsl H (gz Z.2.1))) ⟨va_cnB As.length hts (lw_meth q4) rfl rfl rfl (C.2.2.2.2.2.2.2.1.2.2.2.1 _ q1) (hts _ q3) hnd (j_room C hd hm _ _), hts _ q2, trivial⟩ ⟨j_blind, fun U hU hw => ⟨rfl, jP.now C hW U hU hw⟩⟩ rfl rfl hls.1 rfl (lv_room hst) hdg (j_fit C hW hz hk hn)) kk

theorem jr_callSNl (C : jC Z d cc own ret y) (pc' : Nat) (hp : pc + 3 = pc') {K : jS → Int64 → Prop} (hM : jMet (zl Z) Z.2.1 d2 y2 (ws_ y2 bytes maxL ret2) As S tvl K)  {stk : List Value} (hstk : As.reverse ++ st = stk) {host : String} (q1 : Cond.methodLinkNest own index y2 host ∈ jxw) (q2 : Cond.static y2 ∈ lw_all) (q3 : Cond.initialized y2.cls ∈ lw_all) (q4 : Cond.code y2 bytes maxL ret2 ∈ lw_all) (hd : d2 + 1 ≤ d) (hm : maxL ≤ 45) (hnd : y2.cls ≠ "java/lang/invoke/MethodHandle" ∧ y2.cls ≠ "java/lang/invoke/VarHandle" ∧ (parseMethodDescriptor y2.desc).map (fun d => d.parameters.length) = some As.length) (hst : (st.map fun v => v.category).sum ≤ 8) (hdg : decode cc pc = .ok (.invokestatic index, 3)) (kk : ∀ (S1 : jS) (r : Int64), K S1 r → jJ Z S1 lv pc' (.long r :: st)) : jJ Z S lv pc stk := by
  subst hp; subst hstk
  intro H locs cells slots ls hW hz hL hls
  have hts := C.2.2.2.2.1
  refine W.tight C.2.2.2.2.2.2.2.2.1 fun k n hk hn => ?_
  exact j_after hL hz hls (va_runSN (As := As) (rest := st) (j_fix C) (hM H.size (jsl H (gz Z.2.1))) ⟨va_cnB As.length hts (lw_meth q4) rfl rfl rfl (C.2.2.2.2.2.2.2.1.2.2.2.1 _ q1) (hts _ q3) hnd (j_room C hd hm _ _), hts _ q2, trivial⟩ ⟨j_blind, fun U hU hw => ⟨rfl, jP.now C hW U hU hw⟩⟩ rfl rfl hls.1 rfl (lv_room hst) hdg (j_fit C hW hz hk hn)) kk

theorem jr_callSNr (C : jC Z d cc own ret y) (pc' : Nat) (hp : pc + 3 = pc') {K : jS → Nat → Prop} (hM : jMet (zl Z) Z.2.1 d2 y2 (ws_ y2 bytes maxL ret2) As S tvr K)  {stk : List Value} (hstk : As.reverse ++ st = stk) {host : String} (q1 : Cond.methodLinkNest own index y2 host ∈ jxw) (q2 : Cond.static y2 ∈ lw_all) (q3 : Cond.initialized y2.cls ∈ lw_all) (q4 : Cond.code y2 bytes maxL ret2 ∈ lw_all) (hd : d2 + 1 ≤ d) (hm : maxL ≤ 45) (hnd : y2.cls ≠ "java/lang/invoke/MethodHandle" ∧ y2.cls ≠ "java/lang/invoke/VarHandle" ∧ (parseMethodDescriptor y2.desc).map (fun d => d.parameters.length) = some As.length) (hst : (st.map fun v => v.category).sum ≤ 8) (hdg : decode cc pc = .ok (.invokestatic index, 3)) (kk : ∀ (S1 : jS) (r : Nat), K S1 r → jJ Z S1 lv pc' (.ref r :: st)) : jJ Z S lv pc stk := by
  subst hp; subst hstk
  intro H locs cells slots ls hW hz hL hls
  have hts := C.2.2.2.2.1
  refine W.tight C.2.2.2.2.2.2.2.2.1 fun k n hk hn => ?_
  exact j_after hL hz hls (va_runSN (As := As) (rest := st) (j_fix C) (hM H.size (jsl H (gz Z.2.1))) ⟨va_cnB As.length hts (lw_meth q4) rfl rfl rfl (C.2.2.2.2.2.2.2.1.2.2.2.1 _ q1) (hts _ q3) hnd (j_room C hd hm _ _), hts _ q2, trivial⟩ ⟨j_blind, fun U hU hw => ⟨rfl, jP.now C hW U hU hw⟩⟩ rfl rfl hls.1 rfl (lv_room hst) hdg (j_fit C hW hz hk hn)) kk

theorem jr_callSNo (C : jC Z d cc own ret y) (pc' : Nat) (hp : pc + 3 = pc') {K : jS → Option Nat → Prop} (hM : jMet (zl Z) Z.2.1 d2 y2 (ws_ y2 bytes maxL ret2) As S tvo K)  {stk : List Value} (hstk : As.reverse ++ st = stk) {host : String} (q1 : Cond.methodLinkNest own index y2 host ∈ jxw) (q2 : Cond.static y2 ∈ lw_all) (q3 : Cond.initialized y2.cls ∈ lw_all) (q4 : Cond.code y2 bytes maxL ret2 ∈ lw_all) (hd : d2 + 1 ≤ d) (hm : maxL ≤ 45) (hnd : y2.cls ≠ "java/lang/invoke/MethodHandle" ∧ y2.cls ≠ "java/lang/invoke/VarHandle" ∧ (parseMethodDescriptor y2.desc).map (fun d => d.parameters.length) = some As.length) (hst : (st.map fun v => v.category).sum ≤ 8) (hdg : decode cc pc = .ok (.invokestatic index, 3)) (kk : ∀ (S1 : jS) (r : Option Nat), K S1 r → jJ Z S1 lv pc' (va_rf r :: st)) : jJ Z S lv pc stk := by
  subst hp; subst hstk
  intro H locs cells slots ls hW hz hL hls
  have hts := C.2.2.2.2.1
  refine W.tight C.2.2.2.2.2.2.2.2.1 fun k n hk hn => ?_
  exact j_after hL hz hls (va_runSN (As := As) (rest := st) (j_fix C) (hM H.size (jsl H (gz Z.2.1))) ⟨va_cnB As.length hts (lw_meth q4) rfl rfl rfl (C.2.2.2.2.2.2.2.1.2.2.2.1 _ q1) (hts _ q3) hnd (j_room C hd hm _ _), hts _ q2, trivial⟩ ⟨j_blind, fun U hU hw => ⟨rfl, jP.now C hW U hU hw⟩⟩ rfl rfl hls.1 rfl (lv_room hst) hdg (j_fit C hW hz hk hn)) kk

theorem jr_callSNv (C : jC Z d cc own ret y) (pc' : Nat) (hp : pc + 3 = pc') {K : jS → Unit → Prop} (hM : jMet (zl Z) Z.2.1 d2 y2 (ws_ y2 bytes maxL ret2) As S tvv K)  {stk : List Value} (hstk : As.reverse ++ st = stk) {host : String} (q1 : Cond.methodLinkNest own index y2 host ∈ jxw) (q2 : Cond.static y2 ∈ lw_all) (q3 : Cond.initialized y2.cls ∈ lw_all) (q4 : Cond.code y2 bytes maxL ret2 ∈ lw_all) (hd : d2 + 1 ≤ d) (hm : maxL ≤ 45) (hnd : y2.cls ≠ "java/lang/invoke/MethodHandle" ∧ y2.cls ≠ "java/lang/invoke/VarHandle" ∧ (parseMethodDescriptor y2.desc).map (fun d => d.parameters.length) = some As.length) (hst : (st.map fun v => v.category).sum ≤ 8) (hdg : decode cc pc = .ok (.invokestatic index, 3)) (kk : ∀ (S1 : jS) (r : Unit), K S1 r → jJ Z S1 lv pc' (st)) : jJ Z S lv pc stk := by
  subst hp; subst hstk
  intro H locs cells slots ls hW hz hL hls
  have hts := C.2.2.2.2.1
  refine W.tight C.2.2.2.2.2.2.2.2.1 fun k n hk hn => ?_
  exact j_after hL hz hls (va_runSN (As := As) (rest := st) (j_fix C) (hM H.size (jsl H (gz Z.2.1))) ⟨va_cnB As.length hts (lw_meth q4) rfl rfl rfl (C.2.2.2.2.2.2.2.1.2.2.2.1 _ q1) (hts _ q3) hnd (j_room C hd hm _ _), hts _ q2, trivial⟩ ⟨j_blind, fun U hU hw => ⟨rfl, jP.now C hW U hU hw⟩⟩ rfl rfl hls.1 rfl (lv_room hst) hdg (j_fit C hW hz hk hn)) kk

theorem jr_callVi (C : jC Z d cc own ret y) (pc' : Nat) (hp : pc + 3 = pc') {b : Nat} {K : jS → Int32 → Prop} (hM : jMet (zl Z) Z.2.1 d2 y2 (ws_ y2 bytes maxL ret2) (.ref b :: As) S tvi K)  {stk : List Value} (hstk : As.reverse ++ .ref b :: st = stk) {c : Nat} {V : Nat → Value} {r0 : vw_C} (hb : S.1 b = some (c, .inr (.inr V))) (hc : jcl[c]? = some r0) (q1 : Cond.methodLink own index y2 ∈ lw_all) (q2 : Cond.instanceMethod y2 ∈ lw_all) (q5 : Cond.selects r0.1 y2 y2 ∈ lw_all) (q3 : Cond.initialized r0.1 ∈ lw_all) (q4 : Cond.code y2 bytes maxL ret2 ∈ lw_all) (hd : d2 + 1 ≤ d) (hm : maxL ≤ 45) (hnd : y2.cls = r0.1 ∧ y2.cls ≠ "java/lang/invoke/MethodHandle" ∧ y2.cls ≠ "java/lang/invoke/VarHandle" ∧ (parseMethodDescriptor y2.desc).map (fun d => d.parameters.length) = some As.length) (hst : (st.map fun v => v.category).sum ≤ 8) (hdg : decode cc pc = .ok (.invokevirtual index, 3)) (kk : ∀ (S1 : jS) (r : Int32), K S1 r → jJ Z S1 lv pc' (.int r :: st)) : jJ Z S lv pc stk := by
  subst hp; subst hstk
  intro H locs cells slots ls hW hz hL hls
  have hts := C.2.2.2.2.1
  refine W.tight C.2.2.2.2.2.2.2.2.1 fun k n hk hn => ?_
  exact j_after hL hz hls (va_runV (As := As) (rest := st) (j_fix C) (hM H.size (jsl H (gz Z.2.1))) (cwV As.length hts (lw_V q1 q2 q5 q3 q4) rfl rfl rfl hnd (j_room C hd hm _ _)) ⟨j_blind, j_recv C hW hb hc, fun U hU hw => ⟨rfl, jP.now C hW U hU hw⟩⟩ rfl rfl hls.1 rfl (lv_room hst) hdg (j_fit C hW hz hk hn)) kk

theorem jr_callVl (C : jC Z d cc own ret y) (pc' : Nat) (hp : pc + 3 = pc') {b : Nat} {K : jS → Int64 → Prop} (hM : jMet (zl Z) Z.2.1 d2 y2 (ws_ y2 bytes maxL ret2) (.ref b :: As) S tvl K)  {stk : List Value} (hstk : As.reverse ++ .ref b :: st = stk) {c : Nat} {V : Nat → Value} {r0 : vw_C} (hb : S.1 b = some (c, .inr (.inr V))) (hc : jcl[c]? = some r0) (q1 : Cond.methodLink own index y2 ∈ lw_all) (q2 : Cond.instanceMethod y2 ∈ lw_all) (q5 : Cond.selects r0.1 y2 y2 ∈ lw_all) (q3 : Cond.initialized r0.1 ∈ lw_all) (q4 : Cond.code y2 bytes maxL ret2 ∈ lw_all) (hd : d2 + 1 ≤ d) (hm : maxL ≤ 45) (hnd : y2.cls = r0.1 ∧ y2.cls ≠ "java/lang/invoke/MethodHandle" ∧ y2.cls ≠ "java/lang/invoke/VarHandle" ∧ (parseMethodDescriptor y2.desc).map (fun d => d.parameters.length) = some As.length) (hst : (st.map fun v => v.category).sum ≤ 8) (hdg : decode cc pc = .ok (.invokevirtual index, 3)) (kk : ∀ (S1 : jS) (r : Int64), K S1 r → jJ Z S1 lv pc' (.long r :: st)) : jJ Z S lv pc stk := by
  subst hp; subst hstk
  intro H locs cells slots ls hW hz hL hls
  have hts := C.2.2.2.2.1
  refine W.tight C.2.2.2.2.2.2.2.2.1 fun k n hk hn => ?_
  exact j_after hL hz hls (va_runV (As := As) (rest := st) (j_fix C) (hM H.size (jsl H (gz Z.2.1))) (cwV As.length hts (lw_V q1 q2 q5 q3 q4) rfl rfl rfl hnd (j_room C hd hm _ _)) ⟨j_blind, j_recv C hW hb hc, fun U hU hw => ⟨rfl, jP.now C hW U hU hw⟩⟩ rfl rfl hls.1 rfl (lv_room hst) hdg (j_fit C hW hz hk hn)) kk

theorem jr_callVr (C : jC Z d cc own ret y) (pc' : Nat) (hp : pc + 3 = pc') {b : Nat} {K : jS → Nat → Prop} (hM : jMet (zl Z) Z.2.1 d2 y2 (ws_ y2 bytes maxL ret2) (.ref b :: As) S tvr K)  {stk : List Value} (hstk : As.reverse ++ .ref b :: st = stk) {c : Nat} {V : Nat → Value} {r0 : vw_C} (hb : S.1 b = some (c, .inr (.inr V))) (hc : jcl[c]? = some r0) (q1 : Cond.methodLink own index y2 ∈ lw_all) (q2 : Cond.instanceMethod y2 ∈ lw_all) (q5 : Cond.selects r0.1 y2 y2 ∈ lw_all) (q3 : Cond.initialized r0.1 ∈ lw_all) (q4 : Cond.code y2 bytes maxL ret2 ∈ lw_all) (hd : d2 + 1 ≤ d) (hm : maxL ≤ 45) (hnd : y2.cls = r0.1 ∧ y2.cls ≠ "java/lang/invoke/MethodHandle" ∧ y2.cls ≠ "java/lang/invoke/VarHandle" ∧ (parseMethodDescriptor y2.desc).map (fun d => d.parameters.length) = some As.length) (hst : (st.map fun v => v.category).sum ≤ 8) (hdg : decode cc pc = .ok (.invokevirtual index, 3)) (kk : ∀ (S1 : jS) (r : Nat), K S1 r → jJ Z S1 lv pc' (.ref r :: st)) : jJ Z S lv pc stk := by
  subst hp; subst hstk
  intro H locs cells slots ls hW hz hL hls
  have hts := C.2.2.2.2.1
  refine W.tight C.2.2.2.2.2.2.2.2.1 fun k n hk hn => ?_
  exact j_after hL hz hls (va_runV (As := As) (rest := st) (j_fix C) (hM H.size (jsl H (gz Z.2.1))) (cwV As.length hts (lw_V q1 q2 q5 q3 q4) rfl rfl rfl hnd (j_room C hd hm _ _)) ⟨j_blind, j_recv C hW hb hc, fun U hU hw => ⟨rfl, jP.now C hW U hU hw⟩⟩ rfl rfl hls.1 rfl (lv_room hst) hdg (j_fit C hW hz hk hn)) kk

theorem jr_callVo (C : jC Z d cc own ret y) (pc' : Nat) (hp : pc + 3 = pc') {b : Nat} {K : jS → Option Nat → Prop} (hM : jMet (zl Z) Z.2.1 d2 y2 (ws_ y2 bytes maxL ret2) (.ref b :: As) S tvo K)  {stk : List Value} (hstk : As.reverse ++ .ref b :: st = stk) {c : Nat} {V : Nat → Value} {r0 : vw_C} (hb : S.1 b = some (c, .inr (.inr V))) (hc : jcl[c]? = some r0) (q1 : Cond.methodLink own index y2 ∈ lw_all) (q2 : Cond.instanceMethod y2 ∈ lw_all) (q5 : Cond.selects r0.1 y2 y2 ∈ lw_all) (q3 : Cond.initialized r0.1 ∈ lw_all) (q4 : Cond.code y2 bytes maxL ret2 ∈ lw_all) (hd : d2 + 1 ≤ d) (hm : maxL ≤ 45) (hnd : y2.cls = r0.1 ∧ y2.cls ≠ "java/lang/invoke/MethodHandle" ∧ y2.cls ≠ "java/lang/invoke/VarHandle" ∧ (parseMethodDescriptor y2.desc).map (fun d => d.parameters.length) = some As.length) (hst : (st.map fun v => v.category).sum ≤ 8) (hdg : decode cc pc = .ok (.invokevirtual index, 3)) (kk : ∀ (S1 : jS) (r : Option Nat), K S1 r → jJ Z S1 lv pc' (va_rf r :: st)) : jJ Z S lv pc stk := by
  subst hp; subst hstk
  intro H locs cells slots ls hW hz hL hls
  have hts := C.2.2.2.2.1
  refine W.tight C.2.2.2.2.2.2.2.2.1 fun k n hk hn => ?_
  exact j_after hL hz hls (va_runV (As := As) (rest := st) (j_fix C) (hM H.size (jsl H (gz Z.2.1))) (cwV As.length hts (lw_V q1 q2 q5 q3 q4) rfl rfl rfl hnd (j_room C hd hm _ _)) ⟨j_blind, j_recv C hW hb hc, fun U hU hw => ⟨rfl, jP.now C hW U hU hw⟩⟩ rfl rfl hls.1 rfl (lv_room hst) hdg (j_fit C hW hz hk hn)) kk

theorem jr_callVv (C : jC Z d cc own ret y) (pc' : Nat) (hp : pc + 3 = pc') {b : Nat} {K : jS → Unit → Prop} (hM : jMet (zl Z) Z.2.1 d2 y2 (ws_ y2 bytes maxL ret2) (.ref b :: As) S tvv K)  {stk : List Value} (hstk : As.reverse ++ .ref b :: st = stk) {c : Nat} {V : Nat → Value} {r0 : vw_C} (hb : S.1 b = some (c, .inr (.inr V))) (hc : jcl[c]? = some r0) (q1 : Cond.methodLink own index y2 ∈ lw_all) (q2 : Cond.instanceMethod y2 ∈ lw_all) (q5 : Cond.selects r0.1 y2 y2 ∈ lw_all) (q3 : Cond.initialized r0.1 ∈ lw_all) (q4 : Cond.code y2 bytes maxL ret2 ∈ lw_all) (hd : d2 + 1 ≤ d) (hm : maxL ≤ 45) (hnd : y2.cls = r0.1 ∧ y2.cls ≠ "java/lang/invoke/MethodHandle" ∧ y2.cls ≠ "java/lang/invoke/VarHandle" ∧ (parseMethodDescriptor y2.desc).map (fun d => d.parameters.length) = some As.length) (hst : (st.map fun v => v.category).sum ≤ 8) (hdg : decode cc pc = .ok (.invokevirtual index, 3)) (kk : ∀ (S1 : jS) (r : Unit), K S1 r → jJ Z S1 lv pc' (st)) : jJ Z S lv pc stk := by
  subst hp; subst hstk
  intro H locs cells slots ls hW hz hL hls
  have hts := C.2.2.2.2.1
  refine W.tight C.2.2.2.2.2.2.2.2.1 fun k n hk hn => ?_
  exact j_after hL hz hls (va_runV (As := As) (rest := st) (j_fix C) (hM H.size (jsl H (gz Z.2.1))) (cwV As.length hts (lw_V q1 q2 q5 q3 q4) rfl rfl rfl hnd (j_room C hd hm _ _)) ⟨j_blind, j_recv C hW hb hc, fun U hU hw => ⟨rfl, jP.now C hW U hU hw⟩⟩ rfl rfl hls.1 rfl (lv_room hst) hdg (j_fit C hW hz hk hn)) kk

theorem jr_callVWi (C : jC Z d cc own ret y) (pc' : Nat) (hp : pc + 3 = pc') {hh : List (Nat × Nat × Nat × Nat)} {b : Nat} {K : jS → Int32 → Prop} (hM : jMet (zl Z) Z.2.1 d2 y2 (wsW_ y2 bytes maxL ret2 hh) (.ref b :: As) S tvi K)  {stk : List Value} (hstk : As.reverse ++ .ref b :: st = stk) {c : Nat} {V : Nat → Value} {r0 : vw_C} (hb : S.1 b = some (c, .inr (.inr V))) (hc : jcl[c]? = some r0) (q1 : Cond.methodLink own index y2 ∈ lw_all) (q2 : Cond.instanceMethod y2 ∈ lw_all) (q5 : Cond.selects r0.1 y2 y2 ∈ lw_all) (q3 : Cond.initialized r0.1 ∈ lw_all) (q4 : Cond.codeWith y2 bytes maxL ret2 hh ∈ lw_all) (hd : d2 + 1 ≤ d) (hm : maxL ≤ 45) (hnd : y2.cls = r0.1 ∧ y2.cls ≠ "java/lang/invoke/MethodHandle" ∧ y2.cls ≠ "java/lang/invoke/VarHandle" ∧ (parseMethodDescriptor y2.desc).map (fun d => d.parameters.length) = some As.length) (hst : (st.map fun v => v.category).sum ≤ 8) (hdg : decode cc pc = .ok (.invokevirtual index, 3)) (kk : ∀ (S1 : jS) (r : Int32), K S1 r → jJ Z S1 lv pc' (.int r :: st)) : jJ Z S lv pc stk := by
  subst hp; subst hstk
  intro H locs cells slots ls hW hz hL hls
  have hts := C.2.2.2.2.1
  refine W.tight C.2.2.2.2.2.2.2.2.1 fun k n hk hn => ?_
  exact j_after hL hz hls (vx_runVW (As := As) (rest := st) (j_fix C) (hM H.size (jsl H (gz Z.2.1))) (vx_cwVW As.length hts (lw_VW q1 q2 q5 q3 q4) rfl rfl rfl hnd (j_room C hd hm _ _)) ⟨j_blind, j_recv C hW hb hc, fun U hU hw => ⟨rfl, jP.now C hW U hU hw⟩⟩ rfl rfl hls.1 rfl (lv_room hst) hdg (j_fit C hW hz hk hn)) kk

theorem jr_callVWl (C : jC Z d cc own ret y) (pc' : Nat) (hp : pc + 3 = pc') {hh : List (Nat × Nat × Nat × Nat)} {b : Nat} {K : jS → Int64 → Prop} (hM : jMet (zl Z) Z.2.1 d2 y2 (wsW_ y2 bytes maxL ret2 hh) (.ref b :: As) S tvl K)  {stk : List Value} (hstk : As.reverse ++ .ref b :: st = stk) {c : Nat} {V : Nat → Value} {r0 : vw_C} (hb : S.1 b = some (c, .inr (.inr V))) (hc : jcl[c]? = some r0) (q1 : Cond.methodLink own index y2 ∈ lw_all) (q2 : Cond.instanceMethod y2 ∈ lw_all) (q5 : Cond.selects r0.1 y2 y2 ∈ lw_all) (q3 : Cond.initialized r0.1 ∈ lw_all) (q4 : Cond.codeWith y2 bytes maxL ret2 hh ∈ lw_all) (hd : d2 + 1 ≤ d) (hm : maxL ≤ 45) (hnd : y2.cls = r0.1 ∧ y2.cls ≠ "java/lang/invoke/MethodHandle" ∧ y2.cls ≠ "java/lang/invoke/VarHandle" ∧ (parseMethodDescriptor y2.desc).map (fun d => d.parameters.length) = some As.length) (hst : (st.map fun v => v.category).sum ≤ 8) (hdg : decode cc pc = .ok (.invokevirtual index, 3)) (kk : ∀ (S1 : jS) (r : Int64), K S1 r → jJ Z S1 lv pc' (.long r :: st)) : jJ Z S lv pc stk := by
  subst hp; subst hstk
  intro H locs cells slots ls hW hz hL hls
  have hts := C.2.2.2.2.1
  refine W.tight C.2.2.2.2.2.2.2.2.1 fun k n hk hn => ?_
  exact j_after hL hz hls (vx_runVW (As := As) (rest := st) (j_fix C) (hM H.size (jsl H (gz Z.2.1))) (vx_cwVW As.length hts (lw_VW q1 q2 q5 q3 q4) rfl rfl rfl hnd (j_room C hd hm _ _)) ⟨j_blind, j_recv C hW hb hc, fun U hU hw => ⟨rfl, jP.now C hW U hU hw⟩⟩ rfl rfl hls.1 rfl (lv_room hst) hdg (j_fit C hW hz hk hn)) kk

theorem jr_callVWr (C : jC Z d cc own ret y) (pc' : Nat) (hp : pc + 3 = pc') {hh : List (Nat × Nat × Nat × Nat)} {b : Nat} {K : jS → Nat → Prop} (hM : jMet (zl Z) Z.2.1 d2 y2 (wsW_ y2 bytes maxL ret2 hh) (.ref b :: As) S tvr K)  {stk : List Value} (hstk : As.reverse ++ .ref b :: st = stk) {c : Nat} {V : Nat → Value} {r0 : vw_C} (hb : S.1 b = some (c, .inr (.inr V))) (hc : jcl[c]? = some r0) (q1 : Cond.methodLink own index y2 ∈ lw_all) (q2 : Cond.instanceMethod y2 ∈ lw_all) (q5 : Cond.selects r0.1 y2 y2 ∈ lw_all) (q3 : Cond.initialized r0.1 ∈ lw_all) (q4 : Cond.codeWith y2 bytes maxL ret2 hh ∈ lw_all) (hd : d2 + 1 ≤ d) (hm : maxL ≤ 45) (hnd : y2.cls = r0.1 ∧ y2.cls ≠ "java/lang/invoke/MethodHandle" ∧ y2.cls ≠ "java/lang/invoke/VarHandle" ∧ (parseMethodDescriptor y2.desc).map (fun d => d.parameters.length) = some As.length) (hst : (st.map fun v => v.category).sum ≤ 8) (hdg : decode cc pc = .ok (.invokevirtual index, 3)) (kk : ∀ (S1 : jS) (r : Nat), K S1 r → jJ Z S1 lv pc' (.ref r :: st)) : jJ Z S lv pc stk := by
  subst hp; subst hstk
  intro H locs cells slots ls hW hz hL hls
  have hts := C.2.2.2.2.1
  refine W.tight C.2.2.2.2.2.2.2.2.1 fun k n hk hn => ?_
  exact j_after hL hz hls (vx_runVW (As := As) (rest := st) (j_fix C) (hM H.size (jsl H (gz Z.2.1))) (vx_cwVW As.length hts (lw_VW q1 q2 q5 q3 q4) rfl rfl rfl hnd (j_room C hd hm _ _)) ⟨j_blind, j_recv C hW hb hc, fun U hU hw => ⟨rfl, jP.now C hW U hU hw⟩⟩ rfl rfl hls.1 rfl (lv_room hst) hdg (j_fit C hW hz hk hn)) kk

theorem jr_callVWo (C : jC Z d cc own ret y) (pc' : Nat) (hp : pc + 3 = pc') {hh : List (Nat × Nat × Nat × Nat)} {b : Nat} {K : jS → Option Nat → Prop} (hM : jMet (zl Z) Z.2.1 d2 y2 (wsW_ y2 bytes maxL ret2 hh) (.ref b :: As) S tvo K)  {stk : List Value} (hstk : As.reverse ++ .ref b :: st = stk) {c : Nat} {V : Nat → Value} {r0 : vw_C} (hb : S.1 b = some (c, .inr (.inr V))) (hc : jcl[c]? = some r0) (q1 : Cond.methodLink own index y2 ∈ lw_all) (q2 : Cond.instanceMethod y2 ∈ lw_all) (q5 : Cond.selects r0.1 y2 y2 ∈ lw_all) (q3 : Cond.initialized r0.1 ∈ lw_all) (q4 : Cond.codeWith y2 bytes maxL ret2 hh ∈ lw_all) (hd : d2 + 1 ≤ d) (hm : maxL ≤ 45) (hnd : y2.cls = r0.1 ∧ y2.cls ≠ "java/lang/invoke/MethodHandle" ∧ y2.cls ≠ "java/lang/invoke/VarHandle" ∧ (parseMethodDescriptor y2.desc).map (fun d => d.parameters.length) = some As.length) (hst : (st.map fun v => v.category).sum ≤ 8) (hdg : decode cc pc = .ok (.invokevirtual index, 3)) (kk : ∀ (S1 : jS) (r : Option Nat), K S1 r → jJ Z S1 lv pc' (va_rf r :: st)) : jJ Z S lv pc stk := by
  subst hp; subst hstk
  intro H locs cells slots ls hW hz hL hls
  have hts := C.2.2.2.2.1
  refine W.tight C.2.2.2.2.2.2.2.2.1 fun k n hk hn => ?_
  exact j_after hL hz hls (vx_runVW (As := As) (rest := st) (j_fix C) (hM H.size (jsl H (gz Z.2.1))) (vx_cwVW As.length hts (lw_VW q1 q2 q5 q3 q4) rfl rfl rfl hnd (j_room C hd hm _ _)) ⟨j_blind, j_recv C hW hb hc, fun U hU hw => ⟨rfl, jP.now C hW U hU hw⟩⟩ rfl rfl hls.1 rfl (lv_room hst) hdg (j_fit C hW hz hk hn)) kk

theorem jr_callVWv (C : jC Z d cc own ret y) (pc' : Nat) (hp : pc + 3 = pc') {hh : List (Nat × Nat × Nat × Nat)} {b : Nat} {K : jS → Unit → Prop} (hM : jMet (zl Z) Z.2.1 d2 y2 (wsW_ y2 bytes maxL ret2 hh) (.ref b :: As) S tvv K)  {stk : List Value} (hstk : As.reverse ++ .ref b :: st = stk) {c : Nat} {V : Nat → Value} {r0 : vw_C} (hb : S.1 b = some (c, .inr (.inr V))) (hc : jcl[c]? = some r0) (q1 : Cond.methodLink own index y2 ∈ lw_all) (q2 : Cond.instanceMethod y2 ∈ lw_all) (q5 : Cond.selects r0.1 y2 y2 ∈ lw_all) (q3 : Cond.initialized r0.1 ∈ lw_all) (q4 : Cond.codeWith y2 bytes maxL ret2 hh ∈ lw_all) (hd : d2 + 1 ≤ d) (hm : maxL ≤ 45) (hnd : y2.cls = r0.1 ∧ y2.cls ≠ "java/lang/invoke/MethodHandle" ∧ y2.cls ≠ "java/lang/invoke/VarHandle" ∧ (parseMethodDescriptor y2.desc).map (fun d => d.parameters.length) = some As.length) (hst : (st.map fun v => v.category).sum ≤ 8) (hdg : decode cc pc = .ok (.invokevirtual index, 3)) (kk : ∀ (S1 : jS) (r : Unit), K S1 r → jJ Z S1 lv pc' (st)) : jJ Z S lv pc stk := by
  subst hp; subst hstk
  intro H locs cells slots ls hW hz hL hls
  have hts := C.2.2.2.2.1
  refine W.tight C.2.2.2.2.2.2.2.2.1 fun k n hk hn => ?_
  exact j_after hL hz hls (vx_runVW (As := As) (rest := st) (j_fix C) (hM H.size (jsl H (gz Z.2.1))) (vx_cwVW As.length hts (lw_VW q1 q2 q5 q3 q4) rfl rfl rfl hnd (j_room C hd hm _ _)) ⟨j_blind, j_recv C hW hb hc, fun U hU hw => ⟨rfl, jP.now C hW U hU hw⟩⟩ rfl rfl hls.1 rfl (lv_room hst) hdg (j_fit C hW hz hk hn)) kk

theorem jr_callUi (C : jC Z d cc own ret y) (pc' : Nat) (hp : pc + 3 = pc') {b : Nat} {K : jS → Int32 → Prop} (hM : jMet (zl Z) Z.2.1 d2 y2 (ws_ y2 bytes maxL ret2) (.ref b :: As) S tvi K)  {stk : List Value} (hstk : As.reverse ++ .ref b :: st = stk) {c : Nat} {V : Nat → Value} {r0 : vw_C} {x : MethodName} {owner : String} (hb : S.1 b = some (c, .inr (.inr V))) (hc : jcl[c]? = some r0) (hdc : va_Decl (zs Z) ⟨owner, x.name, x.desc⟩) (q1 : Cond.methodLink own index x ∈ lw_all) (q6 : Cond.sameMethod x.cls owner x.name x.desc ∈ lw_all) (q5 : (Cond.selects r0.1 x y2).before (za Z) (zs Z) = true) (q2 : Cond.instanceMethod y2 ∈ lw_all) (q3 : Cond.initialized y2.cls ∈ lw_all) (q4 : Cond.code y2 bytes maxL ret2 ∈ lw_all) (hd : d2 + 1 ≤ d) (hm : maxL ≤ 45) (hnd : owner ≠ "java/lang/invoke/MethodHandle" ∧ owner ≠ "java/lang/invoke/VarHandle" ∧ (parseMethodDescriptor x.desc).map (fun d => d.parameters.length) = some As.length) (hst : (st.map fun v => v.category).sum ≤ 8) (hdg : decode cc pc = .ok (.invokevirtual index, 3)) (kk : ∀ (S1 : jS) (r : Int32), K S1 r → jJ Z S1 lv pc' (.int r :: st)) : jJ Z S lv pc stk := by
  subst hp; subst hstk
  intro H locs cells slots ls hW hz hL hls
  have hts := C.2.2.2.2.1
  refine W.tight C.2.2.2.2.2.2.2.2.1 fun k n hk hn => ?_
  exact j_after hL hz hls (va_runU (As := As) (rest := st) (C := r0.1) (owner := owner) (x := x) (j_fix C) (hM H.size (jsl H (gz Z.2.1))) (j_cwU As.length hts q4 (hts _ q3) (hts _ q1) (hts _ q6) hdc q5 (hts _ q2) hnd (j_room C hd hm _ _)) ⟨j_blind, j_recv C hW hb hc, fun U hU hw => ⟨rfl, jP.now C hW U hU hw⟩⟩ rfl rfl hls.1 rfl (lv_room hst) hdg (j_fit C hW hz hk hn)) kk

theorem jr_callUl (C : jC Z d cc own ret y) (pc' : Nat) (hp : pc + 3 = pc') {b : Nat} {K : jS → Int64 → Prop} (hM : jMet (zl Z) Z.2.1 d2 y2 (ws_ y2 bytes maxL ret2) (.ref b :: As) S tvl K)  {stk : List Value} (hstk : As.reverse ++ .ref b :: st = stk) {c : Nat} {V : Nat → Value} {r0 : vw_C} {x : MethodName} {owner : String} (hb : S.1 b = some (c, .inr (.inr V))) (hc : jcl[c]? = some r0) (hdc : va_Decl (zs Z) ⟨owner, x.name, x.desc⟩) (q1 : Cond.methodLink own index x ∈ lw_all) (q6 : Cond.sameMethod x.cls owner x.name x.desc ∈ lw_all) (q5 : (Cond.selects r0.1 x y2).before (za Z) (zs Z) = true) (q2 : Cond.instanceMethod y2 ∈ lw_all) (q3 : Cond.initialized y2.cls ∈ lw_all) (q4 : Cond.code y2 bytes maxL ret2 ∈ lw_all) (hd : d2 + 1 ≤ d) (hm : maxL ≤ 45) (hnd : owner ≠ "java/lang/invoke/MethodHandle" ∧ owner ≠ "java/lang/invoke/VarHandle" ∧ (parseMethodDescriptor x.desc).map (fun d => d.parameters.length) = some As.length) (hst : (st.map fun v => v.category).sum ≤ 8) (hdg : decode cc pc = .ok (.invokevirtual index, 3)) (kk : ∀ (S1 : jS) (r : Int64), K S1 r → jJ Z S1 lv pc' (.long r :: st)) : jJ Z S lv pc stk := by
  subst hp; subst hstk
  intro H locs cells slots ls hW hz hL hls
  have hts := C.2.2.2.2.1
  refine W.tight C.2.2.2.2.2.2.2.2.1 fun k n hk hn => ?_
  exact j_after hL hz hls (va_runU (As := As) (rest := st) (C := r0.1) (owner := owner) (x := x) (j_fix C) (hM H.size (jsl H (gz Z.2.1))) (j_cwU As.length hts q4 (hts _ q3) (hts _ q1) (hts _ q6) hdc q5 (hts _ q2) hnd (j_room C hd hm _ _)) ⟨j_blind, j_recv C hW hb hc, fun U hU hw => ⟨rfl, jP.now C hW U hU hw⟩⟩ rfl rfl hls.1 rfl (lv_room hst) hdg (j_fit C hW hz hk hn)) kk

theorem jr_callUr (C : jC Z d cc own ret y) (pc' : Nat) (hp : pc + 3 = pc') {b : Nat} {K : jS → Nat → Prop} (hM : jMet (zl Z) Z.2.1 d2 y2 (ws_ y2 bytes maxL ret2) (.ref b :: As) S tvr K)  {stk : List Value} (hstk : As.reverse ++ .ref b :: st = stk) {c : Nat} {V : Nat → Value} {r0 : vw_C} {x : MethodName} {owner : String} (hb : S.1 b = some (c, .inr (.inr V))) (hc : jcl[c]? = some r0) (hdc : va_Decl (zs Z) ⟨owner, x.name, x.desc⟩) (q1 : Cond.methodLink own index x ∈ lw_all) (q6 : Cond.sameMethod x.cls owner x.name x.desc ∈ lw_all) (q5 : (Cond.selects r0.1 x y2).before (za Z) (zs Z) = true) (q2 : Cond.instanceMethod y2 ∈ lw_all) (q3 : Cond.initialized y2.cls ∈ lw_all) (q4 : Cond.code y2 bytes maxL ret2 ∈ lw_all) (hd : d2 + 1 ≤ d) (hm : maxL ≤ 45) (hnd : owner ≠ "java/lang/invoke/MethodHandle" ∧ owner ≠ "java/lang/invoke/VarHandle" ∧ (parseMethodDescriptor x.desc).map (fun d => d.parameters.length) = some As.length) (hst : (st.map fun v => v.category).sum ≤ 8) (hdg : decode cc pc = .ok (.invokevirtual index, 3)) (kk : ∀ (S1 : jS) (r : Nat), K S1 r → jJ Z S1 lv pc' (.ref r :: st)) : jJ Z S lv pc stk := by
  subst hp; subst hstk
  intro H locs cells slots ls hW hz hL hls
  have hts := C.2.2.2.2.1
  refine W.tight C.2.2.2.2.2.2.2.2.1 fun k n hk hn => ?_
  exact j_after hL hz hls (va_runU (As := As) (rest := st) (C := r0.1) (owner := owner) (x := x) (j_fix C) (hM H.size (jsl H (gz Z.2.1))) (j_cwU As.length hts q4 (hts _ q3) (hts _ q1) (hts _ q6) hdc q5 (hts _ q2) hnd (j_room C hd hm _ _)) ⟨j_blind, j_recv C hW hb hc, fun U hU hw => ⟨rfl, jP.now C hW U hU hw⟩⟩ rfl rfl hls.1 rfl (lv_room hst) hdg (j_fit C hW hz hk hn)) kk

theorem jr_callUo (C : jC Z d cc own ret y) (pc' : Nat) (hp : pc + 3 = pc') {b : Nat} {K : jS → Option Nat → Prop} (hM : jMet (zl Z) Z.2.1 d2 y2 (ws_ y2 bytes maxL ret2) (.ref b :: As) S tvo K)  {stk : List Value} (hstk : As.reverse ++ .ref b :: st = stk) {c : Nat} {V : Nat → Value} {r0 : vw_C} {x : MethodName} {owner : String} (hb : S.1 b = some (c, .inr (.inr V))) (hc : jcl[c]? = some r0) (hdc : va_Decl (zs Z) ⟨owner, x.name, x.desc⟩) (q1 : Cond.methodLink own index x ∈ lw_all) (q6 : Cond.sameMethod x.cls owner x.name x.desc ∈ lw_all) (q5 : (Cond.selects r0.1 x y2).before (za Z) (zs Z) = true) (q2 : Cond.instanceMethod y2 ∈ lw_all) (q3 : Cond.initialized y2.cls ∈ lw_all) (q4 : Cond.code y2 bytes maxL ret2 ∈ lw_all) (hd : d2 + 1 ≤ d) (hm : maxL ≤ 45) (hnd : owner ≠ "java/lang/invoke/MethodHandle" ∧ owner ≠ "java/lang/invoke/VarHandle" ∧ (parseMethodDescriptor x.desc).map (fun d => d.parameters.length) = some As.length) (hst : (st.map fun v => v.category).sum ≤ 8) (hdg : decode cc pc = .ok (.invokevirtual index, 3)) (kk : ∀ (S1 : jS) (r : Option Nat), K S1 r → jJ Z S1 lv pc' (va_rf r :: st)) : jJ Z S lv pc stk := by
  subst hp; subst hstk
  intro H locs cells slots ls hW hz hL hls
  have hts := C.2.2.2.2.1
  refine W.tight C.2.2.2.2.2.2.2.2.1 fun k n hk hn => ?_
  exact j_after hL hz hls (va_runU (As := As) (rest := st) (C := r0.1) (owner := owner) (x := x) (j_fix C) (hM H.size (jsl H (gz Z.2.1))) (j_cwU As.length hts q4 (hts _ q3) (hts _ q1) (hts _ q6) hdc q5 (hts _ q2) hnd (j_room C hd hm _ _)) ⟨j_blind, j_recv C hW hb hc, fun U hU hw => ⟨rfl, jP.now C hW U hU hw⟩⟩ rfl rfl hls.1 rfl (lv_room hst) hdg (j_fit C hW hz hk hn)) kk

theorem jr_callUv (C : jC Z d cc own ret y) (pc' : Nat) (hp : pc + 3 = pc') {b : Nat} {K : jS → Unit → Prop} (hM : jMet (zl Z) Z.2.1 d2 y2 (ws_ y2 bytes maxL ret2) (.ref b :: As) S tvv K)  {stk : List Value} (hstk : As.reverse ++ .ref b :: st = stk) {c : Nat} {V : Nat → Value} {r0 : vw_C} {x : MethodName} {owner : String} (hb : S.1 b = some (c, .inr (.inr V))) (hc : jcl[c]? = some r0) (hdc : va_Decl (zs Z) ⟨owner, x.name, x.desc⟩) (q1 : Cond.methodLink own index x ∈ lw_all) (q6 : Cond.sameMethod x.cls owner x.name x.desc ∈ lw_all) (q5 : (Cond.selects r0.1 x y2).before (za Z) (zs Z) = true) (q2 : Cond.instanceMethod y2 ∈ lw_all) (q3 : Cond.initialized y2.cls ∈ lw_all) (q4 : Cond.code y2 bytes maxL ret2 ∈ lw_all) (hd : d2 + 1 ≤ d) (hm : maxL ≤ 45) (hnd : owner ≠ "java/lang/invoke/MethodHandle" ∧ owner ≠ "java/lang/invoke/VarHandle" ∧ (parseMethodDescriptor x.desc).map (fun d => d.parameters.length) = some As.length) (hst : (st.map fun v => v.category).sum ≤ 8) (hdg : decode cc pc = .ok (.invokevirtual index, 3)) (kk : ∀ (S1 : jS) (r : Unit), K S1 r → jJ Z S1 lv pc' (st)) : jJ Z S lv pc stk := by
  subst hp; subst hstk
  intro H locs cells slots ls hW hz hL hls
  have hts := C.2.2.2.2.1
  refine W.tight C.2.2.2.2.2.2.2.2.1 fun k n hk hn => ?_
  exact j_after hL hz hls (va_runU (As := As) (rest := st) (C := r0.1) (owner := owner) (x := x) (j_fix C) (hM H.size (jsl H (gz Z.2.1))) (j_cwU As.length hts q4 (hts _ q3) (hts _ q1) (hts _ q6) hdc q5 (hts _ q2) hnd (j_room C hd hm _ _)) ⟨j_blind, j_recv C hW hb hc, fun U hU hw => ⟨rfl, jP.now C hW U hU hw⟩⟩ rfl rfl hls.1 rfl (lv_room hst) hdg (j_fit C hW hz hk hn)) kk

theorem jr_callIv (C : jC Z d cc own ret y) (pc' : Nat) (hp : pc + 3 = pc') {b : Nat} {K : jS → Unit → Prop} (hM : jMet (zl Z) Z.2.1 d2 y2 (ws_ y2 bytes maxL none) (.ref b :: As) S tvv K)  {stk : List Value} (hstk : As.reverse ++ .ref b :: st = stk) (hy1 : y2.name = "<init>") (q1 : Cond.methodLink own index y2 ∈ lw_all) (q2 : Cond.instanceMethod y2 ∈ lw_all) (q3 : Cond.initialized y2.cls ∈ lw_all) (q4 : Cond.code y2 bytes maxL none ∈ lw_all) (hd : d2 + 1 ≤ d) (hm : maxL ≤ 45) (hnd : y2.cls ≠ "java/lang/invoke/MethodHandle" ∧ y2.cls ≠ "java/lang/invoke/VarHandle" ∧ (parseMethodDescriptor y2.desc).map (fun d => d.parameters.length) = some As.length) (hst : (st.map fun v => v.category).sum ≤ 8) (hdg : decode cc pc = .ok (.invokespecial index, 3)) (kk : ∀ (S1 : jS) (r : Unit), K S1 r → jJ Z S1 lv pc' (st)) : jJ Z S lv pc stk := by
  subst hp; subst hstk
  intro H locs cells slots ls hW hz hL hls
  have hts := C.2.2.2.2.1
  refine W.tight C.2.2.2.2.2.2.2.2.1 fun k n hk hn => ?_
  exact j_after hL hz hls (va_runI (As := As) (rest := st) (j_fix C) (hM H.size (jsl H (gz Z.2.1))) (cwI As.length hts (lw_meth q4) rfl rfl rfl (hts _ q3) (hts _ q1) (hts _ q2) hy1 hnd (j_room C hd hm _ _)) ⟨j_blind, fun U hU hw => ⟨rfl, jP.now C hW U hU hw⟩⟩ rfl rfl hls.1 rfl (lv_room hst) hdg (j_fit C hW hz hk hn)) kk

theorem jr_callINv (C : jC Z d cc own ret y) (pc' : Nat) (hp : pc + 3 = pc') {b : Nat} {K : jS → Unit → Prop} (hM : jMet (zl Z) Z.2.1 d2 y2 (ws_ y2 bytes maxL none) (.ref b :: As) S tvv K)  {stk : List Value} (hstk : As.reverse ++ .ref b :: st = stk) {host : String} (hy1 : y2.name = "<init>") (q1 : Cond.methodLinkNest own index y2 host ∈ jxw) (q2 : Cond.instanceMethod y2 ∈ lw_all) (q3 : Cond.initialized y2.cls ∈ lw_all) (q4 : Cond.code y2 bytes maxL none ∈ lw_all) (hd : d2 + 1 ≤ d) (hm : maxL ≤ 45) (hnd : y2.cls ≠ "java/lang/invoke/MethodHandle" ∧ y2.cls ≠ "java/lang/invoke/VarHandle" ∧ (parseMethodDescriptor y2.desc).map (fun d => d.parameters.length) = some As.length) (hst : (st.map fun v => v.category).sum ≤ 8) (hdg : decode cc pc = .ok (.invokespecial index, 3)) (kk : ∀ (S1 : jS) (r : Unit), K S1 r → jJ Z S1 lv pc' (st)) : jJ Z S lv pc stk := by
  subst hp; subst hstk
  intro H locs cells slots ls hW hz hL hls
  have hts := C.2.2.2.2.1
  refine W.tight C.2.2.2.2.2.2.2.2.1 fun k n hk hn => ?_
  exact j_after hL hz hls (va_runIN (As := As) (rest := st) (j_fix C) (hM H.size (jsl H (gz Z.2.1))) ⟨va_cnB As.length hts (lw_meth q4) rfl rfl rfl (C.2.2.2.2.2.2.2.1.2.2.2.1 _ q1) (hts _ q3) hnd (j_room C hd hm _ _), hy1, hts _ q2⟩ ⟨j_blind, fun U hU hw => ⟨rfl, jP.now C hW U hU hw⟩⟩ rfl rfl hls.1 rfl (lv_room hst) hdg (j_fit C hW hz hk hn)) kk

theorem jr_callSUi (C : jC Z d cc own ret y) (pc' : Nat) (hp : pc + 3 = pc') {b : Nat} {K : jS → Int32 → Prop} (hM : jMet (zl Z) Z.2.1 d2 y2 (ws_ y2 bytes maxL ret2) (.ref b :: As) S tvi K)  {stk : List Value} (hstk : As.reverse ++ .ref b :: st = stk) {c : Nat} {V : Nat → Value} (hb : S.1 b = some (c, .inr (.inr V))) (hno : y2.name ≠ "<init>") (q1 : Cond.methodLink own index y2 ∈ lw_all) (q6 : Cond.sameMethod y2.cls y2.cls y2.name y2.desc ∈ lw_all) (q7 : Cond.superclass own y2.cls ∈ lw_all) (q2 : Cond.instanceMethod y2 ∈ lw_all) (q3 : Cond.initialized y2.cls ∈ lw_all) (q4 : Cond.code y2 bytes maxL ret2 ∈ lw_all) (hd : d2 + 1 ≤ d) (hm : maxL ≤ 45) (hnd : (parseMethodDescriptor y2.desc).map (fun d => d.parameters.length) = some As.length) (hst : (st.map fun v => v.category).sum ≤ 8) (hdg : decode cc pc = .ok (.invokespecial index, 3)) (kk : ∀ (S1 : jS) (r : Int32), K S1 r → jJ Z S1 lv pc' (.int r :: st)) : jJ Z S lv pc stk := by
  subst hp; subst hstk
  intro H locs cells slots ls hW hz hL hls
  have hts := C.2.2.2.2.1
  refine W.tight C.2.2.2.2.2.2.2.2.1 fun k n hk hn => ?_
  obtain ⟨r0, -, hc, -⟩ := j_obj hW C.2.2.2.2.2.2.2.1 hb
  exact j_after hL hz hls (j_runSU (As := As) (rest := st) (C := r0.1) (j_fix C) (hM H.size (jsl H (gz Z.2.1))) (va_cwSU As.length hts (lw_SU q1 q6 q7 q2 q3 q4) rfl rfl rfl ⟨hno, hnd⟩ (j_room C hd hm _ _)) ⟨j_blind, j_recv C hW hb hc, fun U hU hw => ⟨rfl, jP.now C hW U hU hw⟩⟩ rfl rfl hls.1 rfl (lv_room hst) hdg (j_fit C hW hz hk hn)) kk

theorem jr_callSUl (C : jC Z d cc own ret y) (pc' : Nat) (hp : pc + 3 = pc') {b : Nat} {K : jS → Int64 → Prop} (hM : jMet (zl Z) Z.2.1 d2 y2 (ws_ y2 bytes maxL ret2) (.ref b :: As) S tvl K)  {stk : List Value} (hstk : As.reverse ++ .ref b :: st = stk) {c : Nat} {V : Nat → Value} (hb : S.1 b = some (c, .inr (.inr V))) (hno : y2.name ≠ "<init>") (q1 : Cond.methodLink own index y2 ∈ lw_all) (q6 : Cond.sameMethod y2.cls y2.cls y2.name y2.desc ∈ lw_all) (q7 : Cond.superclass own y2.cls ∈ lw_all) (q2 : Cond.instanceMethod y2 ∈ lw_all) (q3 : Cond.initialized y2.cls ∈ lw_all) (q4 : Cond.code y2 bytes maxL ret2 ∈ lw_all) (hd : d2 + 1 ≤ d) (hm : maxL ≤ 45) (hnd : (parseMethodDescriptor y2.desc).map (fun d => d.parameters.length) = some As.length) (hst : (st.map fun v => v.category).sum ≤ 8) (hdg : decode cc pc = .ok (.invokespecial index, 3)) (kk : ∀ (S1 : jS) (r : Int64), K S1 r → jJ Z S1 lv pc' (.long r :: st)) : jJ Z S lv pc stk := by
  subst hp; subst hstk
  intro H locs cells slots ls hW hz hL hls
  have hts := C.2.2.2.2.1
  refine W.tight C.2.2.2.2.2.2.2.2.1 fun k n hk hn => ?_
  obtain ⟨r0, -, hc, -⟩ := j_obj hW C.2.2.2.2.2.2.2.1 hb
  exact j_after hL hz hls (j_runSU (As := As) (rest := st) (C := r0.1) (j_fix C) (hM H.size (jsl H (gz Z.2.1))) (va_cwSU As.length hts (lw_SU q1 q6 q7 q2 q3 q4) rfl rfl rfl ⟨hno, hnd⟩ (j_room C hd hm _ _)) ⟨j_blind, j_recv C hW hb hc, fun U hU hw => ⟨rfl, jP.now C hW U hU hw⟩⟩ rfl rfl hls.1 rfl (lv_room hst) hdg (j_fit C hW hz hk hn)) kk

theorem jr_callSUr (C : jC Z d cc own ret y) (pc' : Nat) (hp : pc + 3 = pc') {b : Nat} {K : jS → Nat → Prop} (hM : jMet (zl Z) Z.2.1 d2 y2 (ws_ y2 bytes maxL ret2) (.ref b :: As) S tvr K)  {stk : List Value} (hstk : As.reverse ++ .ref b :: st = stk) {c : Nat} {V : Nat → Value} (hb : S.1 b = some (c, .inr (.inr V))) (hno : y2.name ≠ "<init>") (q1 : Cond.methodLink own index y2 ∈ lw_all) (q6 : Cond.sameMethod y2.cls y2.cls y2.name y2.desc ∈ lw_all) (q7 : Cond.superclass own y2.cls ∈ lw_all) (q2 : Cond.instanceMethod y2 ∈ lw_all) (q3 : Cond.initialized y2.cls ∈ lw_all) (q4 : Cond.code y2 bytes maxL ret2 ∈ lw_all) (hd : d2 + 1 ≤ d) (hm : maxL ≤ 45) (hnd : (parseMethodDescriptor y2.desc).map (fun d => d.parameters.length) = some As.length) (hst : (st.map fun v => v.category).sum ≤ 8) (hdg : decode cc pc = .ok (.invokespecial index, 3)) (kk : ∀ (S1 : jS) (r : Nat), K S1 r → jJ Z S1 lv pc' (.ref r :: st)) : jJ Z S lv pc stk := by
  subst hp; subst hstk
  intro H locs cells slots ls hW hz hL hls
  have hts := C.2.2.2.2.1
  refine W.tight C.2.2.2.2.2.2.2.2.1 fun k n hk hn => ?_
  obtain ⟨r0, -, hc, -⟩ := j_obj hW C.2.2.2.2.2.2.2.1 hb
  exact j_after hL hz hls (j_runSU (As := As) (rest := st) (C := r0.1) (j_fix C) (hM H.size (jsl H (gz Z.2.1))) (va_cwSU As.length hts (lw_SU q1 q6 q7 q2 q3 q4) rfl rfl rfl ⟨hno, hnd⟩ (j_room C hd hm _ _)) ⟨j_blind, j_recv C hW hb hc, fun U hU hw => ⟨rfl, jP.now C hW U hU hw⟩⟩ rfl rfl hls.1 rfl (lv_room hst) hdg (j_fit C hW hz hk hn)) kk

theorem jr_callSUo (C : jC Z d cc own ret y) (pc' : Nat) (hp : pc + 3 = pc') {b : Nat} {K : jS → Option Nat → Prop} (hM : jMet (zl Z) Z.2.1 d2 y2 (ws_ y2 bytes maxL ret2) (.ref b :: As) S tvo K)  {stk : List Value} (hstk : As.reverse ++ .ref b :: st = stk) {c : Nat} {V : Nat → Value} (hb : S.1 b = some (c, .inr (.inr V))) (hno : y2.name ≠ "<init>") (q1 : Cond.methodLink own index y2 ∈ lw_all) (q6 : Cond.sameMethod y2.cls y2.cls y2.name y2.desc ∈ lw_all) (q7 : Cond.superclass own y2.cls ∈ lw_all) (q2 : Cond.instanceMethod y2 ∈ lw_all) (q3 : Cond.initialized y2.cls ∈ lw_all) (q4 : Cond.code y2 bytes maxL ret2 ∈ lw_all) (hd : d2 + 1 ≤ d) (hm : maxL ≤ 45) (hnd : (parseMethodDescriptor y2.desc).map (fun d => d.parameters.length) = some As.length) (hst : (st.map fun v => v.category).sum ≤ 8) (hdg : decode cc pc = .ok (.invokespecial index, 3)) (kk : ∀ (S1 : jS) (r : Option Nat), K S1 r → jJ Z S1 lv pc' (va_rf r :: st)) : jJ Z S lv pc stk := by
  subst hp; subst hstk
  intro H locs cells slots ls hW hz hL hls
  have hts := C.2.2.2.2.1
  refine W.tight C.2.2.2.2.2.2.2.2.1 fun k n hk hn => ?_
  obtain ⟨r0, -, hc, -⟩ := j_obj hW C.2.2.2.2.2.2.2.1 hb
  exact j_after hL hz hls (j_runSU (As := As) (rest := st) (C := r0.1) (j_fix C) (hM H.size (jsl H (gz Z.2.1))) (va_cwSU As.length hts (lw_SU q1 q6 q7 q2 q3 q4) rfl rfl rfl ⟨hno, hnd⟩ (j_room C hd hm _ _)) ⟨j_blind, j_recv C hW hb hc, fun U hU hw => ⟨rfl, jP.now C hW U hU hw⟩⟩ rfl rfl hls.1 rfl (lv_room hst) hdg (j_fit C hW hz hk hn)) kk

theorem jr_callSUv (C : jC Z d cc own ret y) (pc' : Nat) (hp : pc + 3 = pc') {b : Nat} {K : jS → Unit → Prop} (hM : jMet (zl Z) Z.2.1 d2 y2 (ws_ y2 bytes maxL ret2) (.ref b :: As) S tvv K)  {stk : List Value} (hstk : As.reverse ++ .ref b :: st = stk) {c : Nat} {V : Nat → Value} (hb : S.1 b = some (c, .inr (.inr V))) (hno : y2.name ≠ "<init>") (q1 : Cond.methodLink own index y2 ∈ lw_all) (q6 : Cond.sameMethod y2.cls y2.cls y2.name y2.desc ∈ lw_all) (q7 : Cond.superclass own y2.cls ∈ lw_all) (q2 : Cond.instanceMethod y2 ∈ lw_all) (q3 : Cond.initialized y2.cls ∈ lw_all) (q4 : Cond.code y2 bytes maxL ret2 ∈ lw_all) (hd : d2 + 1 ≤ d) (hm : maxL ≤ 45) (hnd : (parseMethodDescriptor y2.desc).map (fun d => d.parameters.length) = some As.length) (hst : (st.map fun v => v.category).sum ≤ 8) (hdg : decode cc pc = .ok (.invokespecial index, 3)) (kk : ∀ (S1 : jS) (r : Unit), K S1 r → jJ Z S1 lv pc' (st)) : jJ Z S lv pc stk := by
  subst hp; subst hstk
  intro H locs cells slots ls hW hz hL hls
  have hts := C.2.2.2.2.1
  refine W.tight C.2.2.2.2.2.2.2.2.1 fun k n hk hn => ?_
  obtain ⟨r0, -, hc, -⟩ := j_obj hW C.2.2.2.2.2.2.2.1 hb
  exact j_after hL hz hls (j_runSU (As := As) (rest := st) (C := r0.1) (j_fix C) (hM H.size (jsl H (gz Z.2.1))) (va_cwSU As.length hts (lw_SU q1 q6 q7 q2 q3 q4) rfl rfl rfl ⟨hno, hnd⟩ (j_room C hd hm _ _)) ⟨j_blind, j_recv C hW hb hc, fun U hU hw => ⟨rfl, jP.now C hW U hU hw⟩⟩ rfl rfl hls.1 rfl (lv_room hst) hdg (j_fit C hW hz hk hn)) kk

end JCALL
