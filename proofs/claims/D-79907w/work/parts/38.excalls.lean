/-! CONTRACTS of methods that may throw, over the abstract world -/
def jex : List String := ["Samovar$Torn", "java/lang/ClassCastException", "java/lang/ArrayIndexOutOfBoundsException", "java/lang/NegativeArraySizeException"]
def jXC (G : jG) (KX : jS → Nat → Nat → Prop) : Addr → String → State → State → Prop := fun q E st t => ∃ (S : jS) (e : Nat), jex[e]? = some E ∧ KX S e q ∧ jW G S t.heap ∧ st.heap.size ≤ t.heap.size
def jXMet (l : Launch) (G : jG) (d : Nat) (y : MethodName) (ws : List Cond) (As : List Value) (S : jS) {ρ : Type} (tv : ρ → Option Value) (K : jS → ρ → Prop) (KX : jS → Nat → Nat → Prop) : Prop :=
  ∀ sz nz : Nat, vq_Met l y ws (jrm G d sz nz) (va_Pc As (jP G S sz nz)) (jQ G tv K) (jXC G KX) (gL G - sz) (gT G - nz) (fun q => gz G ≤ q)
def jAX (X : jX) (G : jG) {ρ : Type} (tv : ρ → Option Value) (K : jS → ρ → Prop) (KX : jS → Nat → Nat → Prop) : State → Prop := vq_MQ X.2.2.2.2.2.2.2.1 (jQ G tv K) (jXC G KX) X.2.2.2.2.2.2.1 X.2.2.2.2.1 X.2.2.2.1.cells X.2.2.2.1.slots (fun q => gz G ≤ q)
/-- q of the class e has been thrown at pc -/
def jT (Z : jZ) (S : jS) (lv : List (Nat × Value)) (pc : Nat) (st : List Value) (e q : Nat) : Prop :=
  ∀ (H : Heap) (locs : List Loc) (cells slots : Nat) (ls : Array Slot) (E : String) (ce : Cell), jW Z.2.1 S H → (zs Z).heap.size ≤ H.size → (∀ q ∈ locs, gz Z.2.1 ≤ q.base) → lv_has ls Z.2.2.1 lv → jex[e]? = some E → H[q]? = some ce → ce.vm = .none → (zs Z).vm.findClass E = some ce.cls →
    vx_W (zp Z) (zl Z) (ze Z) (zR Z) (zs Z) (zm Z) (za Z) (zb Z) (zt Z) (zc Z) H locs cells slots Z.2.2.2 (F0 (zm Z) pc ls st) q
section JX1
variable {X : jX} {G : jG} {nL d : Nat} {cc : ByteArray} {own : String} {ret : Option FieldType} {y : MethodName} {pc : Nat} {S : jS} {lv : List (Nat × Value)} {st : List Value}
theorem jr_athrow {Q : State → Prop} (C : jC (X, G, nL, Q) d cc own ret y) (hdg : decode cc pc = .ok (.athrow, 1)) {q : Nat} (h : jis 7 S q) (k : jT (X, G, nL, Q) S lv pc st 0 q) : jJ (X, G, nL, Q) S lv pc (.ref q :: st) := by
  intro H locs cells slots ls hW hz hL hls
  obtain ⟨V, h⟩ := h
  obtain ⟨r, cell, q0, q1, q2, q3, q5, q6, q4⟩ := j_obj hW C.2.2.2.2.2.2.2.1 h
  cases q0
  exact vx_athrow C.1 C.2.1 hdg (k H locs cells slots ls _ cell hW hz hL hls rfl q1 (q6 (by decide)).1 (by rw [q2]; exact C.2.2.2.2.2.2.2.1.2.1 7 _ rfl))
theorem j_endT {Q : State → Prop} {locs : List Loc} {cells slots : Nat} {H : Heap} {g : JFrame} {q : Addr} (C : jC (X, G, nL, Q) d cc own ret y) (hW : jW G S H) (hzz : X.2.2.2.2.1.heap.size ≤ H.size) (kk : vx_W X.1 X.2.1 X.2.2.1 X.2.2.2.1 X.2.2.2.2.1 X.2.2.2.2.2.1 X.2.2.2.2.2.2.1 X.2.2.2.2.2.2.2.1 X.2.2.2.2.2.2.2.2.1 X.2.2.2.2.2.2.2.2.2 H locs X.2.2.2.1.cells X.2.2.2.1.slots Q g q) : vx_W X.1 X.2.1 X.2.2.1 X.2.2.2.1 X.2.2.2.2.1 X.2.2.2.2.2.1 X.2.2.2.2.2.2.1 X.2.2.2.2.2.2.2.1 X.2.2.2.2.2.2.2.2.1 X.2.2.2.2.2.2.2.2.2 H locs cells slots Q g q := by
  intro T hT X9
  have g4 := hW.2.2.2.1
  have g5 := hW.2.2.2.2.1
  have r1 := C.2.2.2.2.2.2.2.2.2.2.1
  have r2 := C.2.2.2.2.2.2.2.2.2.2.2.1
  have r3 := C.2.2.2.2.2.2.2.2.1
  dsimp only [zs, zR] at r1 r2 r3
  obtain ⟨h1, h2, h3, h4, h5, h6⟩ := X9.same
  have hH : (T.setVm X.2.2.2.2.1.vm).heap = H := hT
  rw [hH] at h2 h3 h4 h5 h6
  have hsz : ∀ a : Nat, a < X.2.2.2.2.1.heap.size → (H[a]?).map (fun c => c.slots.size) = (X.2.2.2.2.1.heap[a]?).map (fun c => c.slots.size) := by
    intro a ha
    obtain ⟨c', q1, -, q3, -⟩ := h6 a _ (Array.getElem?_eq_getElem ha)
    rw [q1, Array.getElem?_eq_getElem ha]
    simp [q3]
  have hn2 := jsl_split r3 h2 hsz
  have e5 : jsl H X.2.2.2.2.1.heap.size = ((H.toList.drop X.2.2.2.2.1.heap.size).map (fun c => c.slots.size)).sum := rfl
  refine kk T hT { X9 with same := ⟨h1, by rw [hH]; exact h2, by rw [hH, r1]; omega, by rw [hH]; exact h4, ?_, by rw [hH]; exact h6⟩ }
  rw [hH, r2]
  show ((H.toList.drop X.2.2.2.2.1.heap.size).map (fun c => c.slots.size)).sum ≤ _
  rw [← e5]
  omega
theorem jx_out {ρ : Type} {tv : ρ → Option Value} {K : jS → ρ → Prop} {KX : jS → Nat → Nat → Prop} {e q : Nat} (C : jC (X, G, nL, jAX X G tv K KX) d cc own ret y) {tbl : List ExceptionTableEntry} (hT : (zc (X, G, nL, jAX X G tv K KX)).exceptionTable.toList = tbl) (hout : ∀ x ∈ tbl, covers x pc = false) (h : KX S e q) : jT (X, G, nL, jAX X G tv K KX) S lv pc st e q := by
  intro H locs cells slots ls E ce hW hz hL hls hE hce hv hcl
  exact j_endT C hW hz (vq_out (by rw [hT]; exact hout) C.2.2.2.2.2.2.1 hce hv hcl (fun t ht _ => ⟨S, e, hE, h, by rw [ht]; exact hW, by rw [ht]; exact hz⟩) hL (Nat.le_refl _) (Nat.le_refl _))
theorem jx_catch {Q : State → Prop} {e q : Nat} (C : jC (X, G, nL, Q) d cc own ret y) {E name : String} (hE : jex[e]? = some E) (pre : List ExceptionTableEntry) (x : ExceptionTableEntry) (suf : List ExceptionTableEntry) (hT : (zc (X, G, nL, Q)).exceptionTable.toList = pre ++ x :: suf)
    (hpass : ∀ z ∈ pre, covers z pc = false ∨ (z.catchType ≠ 0 ∧ ∃ nm : String, Cond.classLink own z.catchType nm ∈ lw_all ∧ (E, nm) ∈ jnc)) (hx : covers x pc = true) (h0 : x.catchType ≠ 0) (hlink : Cond.classLink own x.catchType name ∈ lw_all) (hcast : Cond.castable E name ∈ jxw)
    (kk : jJ (X, G, nL, Q) S lv x.handlerPc [.ref q]) : jT (X, G, nL, Q) S lv pc st e q := by
  intro H locs cells slots ls E' ce hW hz hL hls hE' hce hv hcl
  cases hE.symm.trans hE'
  exact vx_catch C.2.2.2.1 pre x suf hT (fun z hz => (hpass z hz).imp id (fun h => ⟨h.1, by obtain ⟨-, nm, h1, h2⟩ := h; exact ⟨nm, C.2.2.2.2.1 _ h1, C.2.2.2.2.2.2.2.1.2.2.2.2.1.1 _ h2⟩⟩)) hx h0 (C.2.2.2.2.1 _ hlink) (va_Nw.use rfl (C.2.2.2.2.2.2.2.1.2.2.2.1 _ hcast)) hce hv hcl (kk H locs cells slots ls hW hz hL hls)
theorem jx_retW {ρ : Type} {tv : ρ → Option Value} {K : jS → ρ → Prop} {KX : jS → Nat → Nat → Prop} (k : jJ (X, G, nL, jA X G tv K) S lv pc st) : jJ (X, G, nL, jAX X G tv K KX) S lv pc st :=
  fun H locs cells slots ls hW hz hL hls => vq_ret (k H locs cells slots ls hW hz hL hls)
theorem jC.aim {Q Q2 : State → Prop} (C : jC (X, G, nL, Q) d cc own ret y) : jC (X, G, nL, Q2) d cc own ret y := C
theorem jXMet.of {l : Launch} {ρ : Type} {tv : ρ → Option Value} {K : jS → ρ → Prop} {KX : jS → Nat → Nat → Prop} {As : List Value} (hl : l.stackTraces = false) (ho : y.cls = own) (hy : plainName y.cls = true) (hsz : (lg_sl As).length ≤ nL)
    (body : ∀ X : jX, jC (X, G, nL, jAX X G tv K KX) d cc own ret y → (zc (X, G, nL, jAX X G tv K KX)).exceptionTable.toList = [] → jJ (X, G, nL, jAX X G tv K KX) S (lv_args 0 As) 0 []) : jXMet l G d y (ws_ y cc nL ret) As S tv K KX := by
  intro sz nz
  refine vq_ofW (cc := cc) (maxL := nL) (ret := ret) hy rfl ?_
  intro p e s m args below meth c s₁ B hml hT hv
  obtain ⟨rfl, hsz1, hnz, hW, hK⟩ := hv
  have hts := atoms_spec (ws := ws_ y cc nL ret) B.pre
  have hts : ∀ w ∈ lw_all, w.before _ s = true := fun w h => hts w (List.mem_cons_of_mem _ h)
  have C : jC ((p, l, e, (headSpec (ws_ y cc nL ret) (jrm G d sz nz)).room, s, m, As.toArray, below, meth, c), G, nL, jAX (p, l, e, (headSpec (ws_ y cc nL ret) (jrm G d sz nz)).room, s, m, As.toArray, below, meth, c) G tv K KX) d cc own ret y :=
    ⟨B.exec, B.bytes, hml, by rw [← ho]; exact findClass_of_methodNamed B.named, hts, B.returns, B.notSynchronized, hK, hW.2.1, hW.2.2.1, by rw [← hsz1]; rfl, by rw [← hnz]; rfl, Nat.le_refl _, Nat.le_refl _, (name_of_methodNamed B.named B.method).1, hl⟩
  have hls := lv_entry As (n := nL) hsz
  have hbody := body _ C (List.eq_nil_iff_forall_not_mem.mpr fun x hx => hT x hx) s.heap [] 0 0 ((lg_sl As ++ List.replicate (nL - (lg_sl As).length) Slot.unset).toArray) hW (Nat.le_refl _) (fun q h => by cases h) hls
  rw [lg_entry_eq]
  have e1 : (headSpec (ws_ y cc nL ret) (jrm G d sz nz)).room.cells = gL G - sz := rfl
  exact hbody
end JX1
section JX2
variable {Z : jZ} {d : Nat} {cc : ByteArray} {own : String} {ret : Option FieldType} {y : MethodName} {pc : Nat} {S : jS} {lv : List (Nat × Value)} {st : List Value}
variable {y2 : MethodName} {bytes : ByteArray} {maxL d2 index : Nat} {ret2 : Option FieldType} {As : List Value} {H : Heap} {locs : List Loc}
theorem j_afterX {ρ : Type} {tv : ρ → Option Value} {K : jS → ρ → Prop} {KX : jS → Nat → Nat → Prop} {rest st0 : List Value} {a : Array Value} {cells slots mc ms : Nat} {ls : Array Slot} (hL : ∀ q ∈ locs, gz Z.2.1 ≤ q.base) (hz : (zs Z).heap.size ≤ H.size) (hls : lv_has ls Z.2.2.1 lv)
    (hr : vq_Run (zp Z) (zl Z) (ze Z) (zR Z) (zs Z) (zm Z) (za Z) (zb Z) (zt Z) (zc Z) H locs cells slots mc ms (F0 (zm Z) pc ls st0) rest (jQ Z.2.1 tv K a) (jXC Z.2.1 KX) (fun q => gz Z.2.1 ≤ q))
    (kk : ∀ (S1 : jS) (r : ρ), K S1 r → jJ Z S1 lv (pc + 3) ((tv r).toList ++ rest)) (kx : ∀ (S1 : jS) (e q : Nat), KX S1 e q → jT Z S1 lv pc rest e q) : W (zp Z) (zl Z) (ze Z) (zR Z) (zs Z) (zm Z) (za Z) (zb Z) (zt Z) (zc Z) H locs cells slots Z.2.2.2 (F0 (zm Z) pc ls st0) := by
  intro T hT X
  rcases hr T hT X with ⟨v, st₀, t, T', L, h0, X', hL2, e1, e2, ⟨S1, r, hv, hk, hw, hz2⟩, st⟩ | ⟨q, st₀, t, T', L, E, ce, h0, X', hL2, e1, e2, ⟨S1, e, hE, hk, hw, hz2⟩, hce, hcv, hcl, st⟩
  · cases hv
    rw [h0] at hz2
    obtain ⟨t2, a1, b1⟩ := kk S1 r hk T'.heap (locs ++ L) _ _ ls (by rw [e1]; exact hw) (by rw [e1]; exact Nat.le_trans hz hz2) (fun q hq => (List.mem_append.mp hq).elim (hL q) (hL2 q)) hls T' rfl X'
    exact ⟨t2, st t2 a1, b1⟩
  · rw [h0] at hz2
    obtain ⟨t2, a1, b1⟩ := kx S1 e q hk T'.heap (locs ++ L) _ _ ls E ce (by rw [e1]; exact hw) (by rw [e1]; exact Nat.le_trans hz hz2) (fun q hq => (List.mem_append.mp hq).elim (hL q) (hL2 q)) hls hE (by rw [e1]; exact hce) hcv hcl T' rfl X'
    exact ⟨t2, st.trans a1, b1⟩

theorem jr_callXVi (C : jC Z d cc own ret y) (pc' : Nat) (hp : pc + 3 = pc') {b : Nat} {K : jS → Int32 → Prop} {KX : jS → Nat → Nat → Prop} (hM : jXMet (zl Z) Z.2.1 d2 y2 (ws_ y2 bytes maxL ret2) (.ref b :: As) S tvi K KX) {stk : List Value} (hstk : As.reverse ++ .ref b :: st = stk) {c : Nat} {V : Nat → Value} {r0 : vw_C} (hb : S.1 b = some (c, .inr (.inr V))) (hc : jcl[c]? = some r0) (q1 : Cond.methodLink own index y2 ∈ lw_all) (q2 : Cond.instanceMethod y2 ∈ lw_all) (q5 : Cond.selects r0.1 y2 y2 ∈ lw_all) (q3 : Cond.initialized r0.1 ∈ lw_all) (q4 : Cond.code y2 bytes maxL ret2 ∈ lw_all) (hd : d2 + 1 ≤ d) (hm : maxL ≤ 45) (hnd : y2.cls = r0.1 ∧ y2.cls ≠ "java/lang/invoke/MethodHandle" ∧ y2.cls ≠ "java/lang/invoke/VarHandle" ∧ (parseMethodDescriptor y2.desc).map (fun d => d.parameters.length) = some As.length) (hst : (st.map fun v => v.category).sum ≤ 8) (hdg : decode cc pc = .ok (.invokevirtual index, 3)) (kk : ∀ (S1 : jS) (r : Int32), K S1 r → jJ Z S1 lv pc' (.int r :: st)) (kx : ∀ (S1 : jS) (e q : Nat), KX S1 e q → jT Z S1 lv pc st e q) : jJ Z S lv pc stk := by
  subst hp; subst hstk
  intro H locs cells slots ls hW hz hL hls
  have hts := C.2.2.2.2.1
  refine W.tight C.2.2.2.2.2.2.2.2.1 fun k n hk hn => ?_
  exact j_afterX hL hz hls (vq_runV (As := As) (rest := st) (j_fix C) (hM H.size (jsl H (gz Z.2.1))) (cwV As.length hts (lw_V q1 q2 q5 q3 q4) rfl rfl rfl hnd (j_room C hd hm _ _)) ⟨j_blind, j_recv C hW hb hc, fun U hU hw => ⟨rfl, jP.now C hW U hU hw⟩⟩ rfl rfl hls.1 rfl (lv_room hst) hdg (j_fit C hW hz hk hn)) kk kx
theorem jr_callXSi (C : jC Z d cc own ret y) (pc' : Nat) (hp : pc + 3 = pc') {K : jS → Int32 → Prop} {KX : jS → Nat → Nat → Prop} (hM : jXMet (zl Z) Z.2.1 d2 y2 (ws_ y2 bytes maxL ret2) As S tvi K KX) {stk : List Value} (hstk : As.reverse ++ st = stk) (q1 : Cond.methodLink own index y2 ∈ lw_all) (q2 : Cond.static y2 ∈ lw_all) (q3 : Cond.initialized y2.cls ∈ lw_all) (q4 : Cond.code y2 bytes maxL ret2 ∈ lw_all) (hd : d2 + 1 ≤ d) (hm : maxL ≤ 45) (hnd : y2.cls ≠ "java/lang/invoke/MethodHandle" ∧ y2.cls ≠ "java/lang/invoke/VarHandle" ∧ (parseMethodDescriptor y2.desc).map (fun d => d.parameters.length) = some As.length) (hst : (st.map fun v => v.category).sum ≤ 8) (hdg : decode cc pc = .ok (.invokestatic index, 3)) (kk : ∀ (S1 : jS) (r : Int32), K S1 r → jJ Z S1 lv pc' (.int r :: st)) (kx : ∀ (S1 : jS) (e q : Nat), KX S1 e q → jT Z S1 lv pc st e q) : jJ Z S lv pc stk := by
  subst hp; subst hstk
  intro H locs cells slots ls hW hz hL hls
  have hts := C.2.2.2.2.1
  refine W.tight C.2.2.2.2.2.2.2.2.1 fun k n hk hn => ?_
  exact j_afterX hL hz hls (vq_runS (As := As) (rest := st) (j_fix C) (hM H.size (jsl H (gz Z.2.1))) (va_cwS As.length hts (lw_S q1 q2 q3 q4) rfl rfl rfl hnd (j_room C hd hm _ _)) ⟨j_blind, fun U hU hw => ⟨rfl, jP.now C hW U hU hw⟩⟩ rfl rfl hls.1 rfl (lv_room hst) hdg (j_fit C hW hz hk hn)) kk kx
theorem jr_callXUi (C : jC Z d cc own ret y) (pc' : Nat) (hp : pc + 3 = pc') {b : Nat} {K : jS → Int32 → Prop} {KX : jS → Nat → Nat → Prop} (hM : jXMet (zl Z) Z.2.1 d2 y2 (ws_ y2 bytes maxL ret2) (.ref b :: As) S tvi K KX) {stk : List Value} (hstk : As.reverse ++ .ref b :: st = stk) {c : Nat} {V : Nat → Value} {r0 : vw_C} {x : MethodName} {owner : String} (hb : S.1 b = some (c, .inr (.inr V))) (hc : jcl[c]? = some r0) (hdc : va_Decl (zs Z) ⟨owner, x.name, x.desc⟩) (q1 : Cond.methodLink own index x ∈ lw_all) (q6 : Cond.sameMethod x.cls owner x.name x.desc ∈ lw_all) (q5 : (Cond.selects r0.1 x y2).before (za Z) (zs Z) = true) (q2 : Cond.instanceMethod y2 ∈ lw_all) (q3 : Cond.initialized y2.cls ∈ lw_all) (q4 : Cond.code y2 bytes maxL ret2 ∈ lw_all) (hd : d2 + 1 ≤ d) (hm : maxL ≤ 45) (hnd : owner ≠ "java/lang/invoke/MethodHandle" ∧ owner ≠ "java/lang/invoke/VarHandle" ∧ (parseMethodDescriptor x.desc).map (fun d => d.parameters.length) = some As.length) (hst : (st.map fun v => v.category).sum ≤ 8) (hdg : decode cc pc = .ok (.invokevirtual index, 3)) (kk : ∀ (S1 : jS) (r : Int32), K S1 r → jJ Z S1 lv pc' (.int r :: st)) (kx : ∀ (S1 : jS) (e q : Nat), KX S1 e q → jT Z S1 lv pc st e q) : jJ Z S lv pc stk := by
  subst hp; subst hstk
  intro H locs cells slots ls hW hz hL hls
  have hts := C.2.2.2.2.1
  refine W.tight C.2.2.2.2.2.2.2.2.1 fun k n hk hn => ?_
  exact j_afterX hL hz hls (vq_runU (As := As) (rest := st) (C := r0.1) (owner := owner) (x := x) (j_fix C) (hM H.size (jsl H (gz Z.2.1))) (j_cwU As.length hts q4 (hts _ q3) (hts _ q1) (hts _ q6) hdc q5 (hts _ q2) hnd (j_room C hd hm _ _)) ⟨j_blind, j_recv C hW hb hc, fun U hU hw => ⟨rfl, jP.now C hW U hU hw⟩⟩ rfl rfl hls.1 rfl (lv_room hst) hdg (j_fit C hW hz hk hn)) kk kx
theorem jr_callXVr (C : jC Z d cc own ret y) (pc' : Nat) (hp : pc + 3 = pc') {b : Nat} {K : jS → Nat → Prop} {KX : jS → Nat → Nat → Prop} (hM : jXMet (zl Z) Z.2.1 d2 y2 (ws_ y2 bytes maxL ret2) (.ref b :: As) S tvr K KX) {stk : List Value} (hstk : As.reverse ++ .ref b :: st = stk) {c : Nat} {V : Nat → Value} {r0 : vw_C} (hb : S.1 b = some (c, .inr (.inr V))) (hc : jcl[c]? = some r0) (q1 : Cond.methodLink own index y2 ∈ lw_all) (q2 : Cond.instanceMethod y2 ∈ lw_all) (q5 : Cond.selects r0.1 y2 y2 ∈ lw_all) (q3 : Cond.initialized r0.1 ∈ lw_all) (q4 : Cond.code y2 bytes maxL ret2 ∈ lw_all) (hd : d2 + 1 ≤ d) (hm : maxL ≤ 45) (hnd : y2.cls = r0.1 ∧ y2.cls ≠ "java/lang/invoke/MethodHandle" ∧ y2.cls ≠ "java/lang/invoke/VarHandle" ∧ (parseMethodDescriptor y2.desc).map (fun d => d.parameters.length) = some As.length) (hst : (st.map fun v => v.category).sum ≤ 8) (hdg : decode cc pc = .ok (.invokevirtual index, 3)) (kk : ∀ (S1 : jS) (r : Nat), K S1 r → jJ Z S1 lv pc' (.ref r :: st)) (kx : ∀ (S1 : jS) (e q : Nat), KX S1 e q → jT Z S1 lv pc st e q) : jJ Z S lv pc stk := by
  subst hp; subst hstk
  intro H locs cells slots ls hW hz hL hls
  have hts := C.2.2.2.2.1
  refine W.tight C.2.2.2.2.2.2.2.2.1 fun k n hk hn => ?_
  exact j_afterX hL hz hls (vq_runV (As := As) (rest := st) (j_fix C) (hM H.size (jsl H (gz Z.2.1))) (cwV As.length hts (lw_V q1 q2 q5 q3 q4) rfl rfl rfl hnd (j_room C hd hm _ _)) ⟨j_blind, j_recv C hW hb hc, fun U hU hw => ⟨rfl, jP.now C hW U hU hw⟩⟩ rfl rfl hls.1 rfl (lv_room hst) hdg (j_fit C hW hz hk hn)) kk kx
theorem jr_callXSr (C : jC Z d cc own ret y) (pc' : Nat) (hp : pc + 3 = pc') {K : jS → Nat → Prop} {KX : jS → Nat → Nat → Prop} (hM : jXMet (zl Z) Z.2.1 d2 y2 (ws_ y2 bytes maxL ret2) As S tvr K KX) {stk : List Value} (hstk : As.reverse ++ st = stk) (q1 : Cond.methodLink own index y2 ∈ lw_all) (q2 : Cond.static y2 ∈ lw_all) (q3 : Cond.initialized y2.cls ∈ lw_all) (q4 : Cond.code y2 bytes maxL ret2 ∈ lw_all) (hd : d2 + 1 ≤ d) (hm : maxL ≤ 45) (hnd : y2.cls ≠ "java/lang/invoke/MethodHandle" ∧ y2.cls ≠ "java/lang/invoke/VarHandle" ∧ (parseMethodDescriptor y2.desc).map (fun d => d.parameters.length) = some As.length) (hst : (st.map fun v => v.category).sum ≤ 8) (hdg : decode cc pc = .ok (.invokestatic index, 3)) (kk : ∀ (S1 : jS) (r : Nat), K S1 r → jJ Z S1 lv pc' (.ref r :: st)) (kx : ∀ (S1 : jS) (e q : Nat), KX S1 e q → jT Z S1 lv pc st e q) : jJ Z S lv pc stk := by
  subst hp; subst hstk
  intro H locs cells slots ls hW hz hL hls
  have hts := C.2.2.2.2.1
  refine W.tight C.2.2.2.2.2.2.2.2.1 fun k n hk hn => ?_
  exact j_afterX hL hz hls (vq_runS (As := As) (rest := st) (j_fix C) (hM H.size (jsl H (gz Z.2.1))) (va_cwS As.length hts (lw_S q1 q2 q3 q4) rfl rfl rfl hnd (j_room C hd hm _ _)) ⟨j_blind, fun U hU hw => ⟨rfl, jP.now C hW U hU hw⟩⟩ rfl rfl hls.1 rfl (lv_room hst) hdg (j_fit C hW hz hk hn)) kk kx
theorem jr_callXUr (C : jC Z d cc own ret y) (pc' : Nat) (hp : pc + 3 = pc') {b : Nat} {K : jS → Nat → Prop} {KX : jS → Nat → Nat → Prop} (hM : jXMet (zl Z) Z.2.1 d2 y2 (ws_ y2 bytes maxL ret2) (.ref b :: As) S tvr K KX) {stk : List Value} (hstk : As.reverse ++ .ref b :: st = stk) {c : Nat} {V : Nat → Value} {r0 : vw_C} {x : MethodName} {owner : String} (hb : S.1 b = some (c, .inr (.inr V))) (hc : jcl[c]? = some r0) (hdc : va_Decl (zs Z) ⟨owner, x.name, x.desc⟩) (q1 : Cond.methodLink own index x ∈ lw_all) (q6 : Cond.sameMethod x.cls owner x.name x.desc ∈ lw_all) (q5 : (Cond.selects r0.1 x y2).before (za Z) (zs Z) = true) (q2 : Cond.instanceMethod y2 ∈ lw_all) (q3 : Cond.initialized y2.cls ∈ lw_all) (q4 : Cond.code y2 bytes maxL ret2 ∈ lw_all) (hd : d2 + 1 ≤ d) (hm : maxL ≤ 45) (hnd : owner ≠ "java/lang/invoke/MethodHandle" ∧ owner ≠ "java/lang/invoke/VarHandle" ∧ (parseMethodDescriptor x.desc).map (fun d => d.parameters.length) = some As.length) (hst : (st.map fun v => v.category).sum ≤ 8) (hdg : decode cc pc = .ok (.invokevirtual index, 3)) (kk : ∀ (S1 : jS) (r : Nat), K S1 r → jJ Z S1 lv pc' (.ref r :: st)) (kx : ∀ (S1 : jS) (e q : Nat), KX S1 e q → jT Z S1 lv pc st e q) : jJ Z S lv pc stk := by
  subst hp; subst hstk
  intro H locs cells slots ls hW hz hL hls
  have hts := C.2.2.2.2.1
  refine W.tight C.2.2.2.2.2.2.2.2.1 fun k n hk hn => ?_
  exact j_afterX hL hz hls (vq_runU (As := As) (rest := st) (C := r0.1) (owner := owner) (x := x) (j_fix C) (hM H.size (jsl H (gz Z.2.1))) (j_cwU As.length hts q4 (hts _ q3) (hts _ q1) (hts _ q6) hdc q5 (hts _ q2) hnd (j_room C hd hm _ _)) ⟨j_blind, j_recv C hW hb hc, fun U hU hw => ⟨rfl, jP.now C hW U hU hw⟩⟩ rfl rfl hls.1 rfl (lv_room hst) hdg (j_fit C hW hz hk hn)) kk kx
theorem jr_callXVv (C : jC Z d cc own ret y) (pc' : Nat) (hp : pc + 3 = pc') {b : Nat} {K : jS → Unit → Prop} {KX : jS → Nat → Nat → Prop} (hM : jXMet (zl Z) Z.2.1 d2 y2 (ws_ y2 bytes maxL ret2) (.ref b :: As) S tvv K KX) {stk : List Value} (hstk : As.reverse ++ .ref b :: st = stk) {c : Nat} {V : Nat → Value} {r0 : vw_C} (hb : S.1 b = some (c, .inr (.inr V))) (hc : jcl[c]? = some r0) (q1 : Cond.methodLink own index y2 ∈ lw_all) (q2 : Cond.instanceMethod y2 ∈ lw_all) (q5 : Cond.selects r0.1 y2 y2 ∈ lw_all) (q3 : Cond.initialized r0.1 ∈ lw_all) (q4 : Cond.code y2 bytes maxL ret2 ∈ lw_all) (hd : d2 + 1 ≤ d) (hm : maxL ≤ 45) (hnd : y2.cls = r0.1 ∧ y2.cls ≠ "java/lang/invoke/MethodHandle" ∧ y2.cls ≠ "java/lang/invoke/VarHandle" ∧ (parseMethodDescriptor y2.desc).map (fun d => d.parameters.length) = some As.length) (hst : (st.map fun v => v.category).sum ≤ 8) (hdg : decode cc pc = .ok (.invokevirtual index, 3)) (kk : ∀ (S1 : jS) (r : Unit), K S1 r → jJ Z S1 lv pc' (st)) (kx : ∀ (S1 : jS) (e q : Nat), KX S1 e q → jT Z S1 lv pc st e q) : jJ Z S lv pc stk := by
  subst hp; subst hstk
  intro H locs cells slots ls hW hz hL hls
  have hts := C.2.2.2.2.1
  refine W.tight C.2.2.2.2.2.2.2.2.1 fun k n hk hn => ?_
  exact j_afterX hL hz hls (vq_runV (As := As) (rest := st) (j_fix C) (hM H.size (jsl H (gz Z.2.1))) (cwV As.length hts (lw_V q1 q2 q5 q3 q4) rfl rfl rfl hnd (j_room C hd hm _ _)) ⟨j_blind, j_recv C hW hb hc, fun U hU hw => ⟨rfl, jP.now C hW U hU hw⟩⟩ rfl rfl hls.1 rfl (lv_room hst) hdg (j_fit C hW hz hk hn)) kk kx
theorem jr_callXSv (C : jC Z d cc own ret y) (pc' : Nat) (hp : pc + 3 = pc') {K : jS → Unit → Prop} {KX : jS → Nat → Nat → Prop} (hM : jXMet (zl Z) Z.2.1 d2 y2 (ws_ y2 bytes maxL ret2) As S tvv K KX) {stk : List Value} (hstk : As.reverse ++ st = stk) (q1 : Cond.methodLink own index y2 ∈ lw_all) (q2 : Cond.static y2 ∈ lw_all) (q3 : Cond.initialized y2.cls ∈ lw_all) (q4 : Cond.code y2 bytes maxL ret2 ∈ lw_all) (hd : d2 + 1 ≤ d) (hm : maxL ≤ 45) (hnd : y2.cls ≠ "java/lang/invoke/MethodHandle" ∧ y2.cls ≠ "java/lang/invoke/VarHandle" ∧ (parseMethodDescriptor y2.desc).map (fun d => d.parameters.length) = some As.length) (hst : (st.map fun v => v.category).sum ≤ 8) (hdg : decode cc pc = .ok (.invokestatic index, 3)) (kk : ∀ (S1 : jS) (r : Unit), K S1 r → jJ Z S1 lv pc' (st)) (kx : ∀ (S1 : jS) (e q : Nat), KX S1 e q → jT Z S1 lv pc st e q) : jJ Z S lv pc stk := by
  subst hp; subst hstk
  intro H locs cells slots ls hW hz hL hls
  have hts := C.2.2.2.2.1
  refine W.tight C.2.2.2.2.2.2.2.2.1 fun k n hk hn => ?_
  exact j_afterX hL hz hls (vq_runS (As := As) (rest := st) (j_fix C) (hM H.size (jsl H (gz Z.2.1))) (va_cwS As.length hts (lw_S q1 q2 q3 q4) rfl rfl rfl hnd (j_room C hd hm _ _)) ⟨j_blind, fun U hU hw => ⟨rfl, jP.now C hW U hU hw⟩⟩ rfl rfl hls.1 rfl (lv_room hst) hdg (j_fit C hW hz hk hn)) kk kx
theorem jr_callXUv (C : jC Z d cc own ret y) (pc' : Nat) (hp : pc + 3 = pc') {b : Nat} {K : jS → Unit → Prop} {KX : jS → Nat → Nat → Prop} (hM : jXMet (zl Z) Z.2.1 d2 y2 (ws_ y2 bytes maxL ret2) (.ref b :: As) S tvv K KX) {stk : List Value} (hstk : As.reverse ++ .ref b :: st = stk) {c : Nat} {V : Nat → Value} {r0 : vw_C} {x : MethodName} {owner : String} (hb : S.1 b = some (c, .inr (.inr V))) (hc : jcl[c]? = some r0) (hdc : va_Decl (zs Z) ⟨owner, x.name, x.desc⟩) (q1 : Cond.methodLink own index x ∈ lw_all) (q6 : Cond.sameMethod x.cls owner x.name x.desc ∈ lw_all) (q5 : (Cond.selects r0.1 x y2).before (za Z) (zs Z) = true) (q2 : Cond.instanceMethod y2 ∈ lw_all) (q3 : Cond.initialized y2.cls ∈ lw_all) (q4 : Cond.code y2 bytes maxL ret2 ∈ lw_all) (hd : d2 + 1 ≤ d) (hm : maxL ≤ 45) (hnd : owner ≠ "java/lang/invoke/MethodHandle" ∧ owner ≠ "java/lang/invoke/VarHandle" ∧ (parseMethodDescriptor x.desc).map (fun d => d.parameters.length) = some As.length) (hst : (st.map fun v => v.category).sum ≤ 8) (hdg : decode cc pc = .ok (.invokevirtual index, 3)) (kk : ∀ (S1 : jS) (r : Unit), K S1 r → jJ Z S1 lv pc' (st)) (kx : ∀ (S1 : jS) (e q : Nat), KX S1 e q → jT Z S1 lv pc st e q) : jJ Z S lv pc stk := by
  subst hp; subst hstk
  intro H locs cells slots ls hW hz hL hls
  have hts := C.2.2.2.2.1
  refine W.tight C.2.2.2.2.2.2.2.2.1 fun k n hk hn => ?_
  exact j_afterX hL hz hls (vq_runU (As := As) (rest := st) (C := r0.1) (owner := owner) (x := x) (j_fix C) (hM H.size (jsl H (gz Z.2.1))) (j_cwU As.length hts q4 (hts _ q3) (hts _ q1) (hts _ q6) hdc q5 (hts _ q2) hnd (j_room C hd hm _ _)) ⟨j_blind, j_recv C hW hb hc, fun U hU hw => ⟨rfl, jP.now C hW U hU hw⟩⟩ rfl rfl hls.1 rfl (lv_room hst) hdg (j_fit C hW hz hk hn)) kk kx
end JX2
