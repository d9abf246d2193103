/-! FURTHER ROWS -/
section JM1
variable {G : jG} {nL d : Nat} {cc : ByteArray} {own : String} {ret : Option FieldType} {y : MethodName} {S : jS}
theorem jMet.ofF {l : Launch} {ρ : Type} {tv : ρ → Option Value} {K : jS → ρ → Prop} {As : List Value} (hl : l.stackTraces = false) (ho : y.cls = own) (hy : plainFor y = true) (hsz : (lg_sl As).length ≤ nL)
    (body : ∀ X : jX, jC (X, G, nL, jA X G tv K) d cc own ret y → jJ (X, G, nL, jA X G tv K) S (lv_args 0 As) 0 []) : jMet l G d y (ws_ y cc nL ret) As S tv K := by
  intro sz nz
  refine MetFree.of_bodySF (code := cc) (maxLocals := nL) (ret := ret) hy ?_ ?_
  · intro args s m h hn
    obtain ⟨meth, c, h1, h2, h3, h4, h5, h6, -, -⟩ := Cond.code_spec hn (atoms_spec (ws := ws_ y cc nL ret) h _ List.mem_cons_self)
    exact ⟨meth, c, h1, h2, h3, h4, h5, h6⟩
  intro p e s m args below meth c s₁ B hml hv _
  obtain ⟨rfl, hsz1, hnz, hW, hK⟩ := hv
  have hts := atoms_spec (ws := ws_ y cc nL ret) B.pre
  have hts : ∀ w ∈ lw_all, w.before _ s = true := fun w h => hts w (List.mem_cons_of_mem _ h)
  have C : jC ((p, l, e, (headSpec (ws_ y cc nL ret) (jrm G d sz nz)).room, s, m, As.toArray, below, meth, c), G, nL, jA (p, l, e, (headSpec (ws_ y cc nL ret) (jrm G d sz nz)).room, s, m, As.toArray, below, meth, c) G tv K) d cc own ret y :=
    ⟨B.exec, B.bytes, hml, by rw [← ho]; exact findClass_of_methodNamed B.named, hts, B.returns, B.notSynchronized, hK, hW.2.1, hW.2.2.1, by rw [← hsz1]; rfl, by rw [← hnz]; rfl, Nat.le_refl _, Nat.le_refl _, (name_of_methodNamed B.named B.method).1, hl⟩
  have hls := lv_entry As (n := nL) hsz
  have hbody := body _ C s.heap [] 0 0 ((lg_sl As ++ List.replicate (nL - (lg_sl As).length) Slot.unset).toArray) hW (Nat.le_refl _) (fun q h => by cases h) hls
  rw [← lg_entry_eq] at hbody
  have hh0 : s₁.heap = s.heap := by rw [B.state]; rfl
  obtain ⟨t, a1, o, b1, b2, b3⟩ := hbody s₁ hh0 (Stand.of_body B)
  exact ⟨t, o, a1, b1, b2, ⟨b3.1, b3.2⟩⟩
end JM1
section JM1
variable {X : jX} {G : jG} {nL d : Nat} {cc : ByteArray} {own : String} {ret : Option FieldType} {y : MethodName} {pc : Nat} {S : jS} {lv : List (Nat × Value)}
theorem jr_breturn {K : jS → Int32 → Prop} (C : jC (X, G, nL, jA X G tvi K) d cc own (some .byte) y) (hdg : decode cc pc = .ok (.ireturn, 1)) {v : Int32} (h : narrow .byte (.int v) = .int v ∧ K S v) : jJ (X, G, nL, jA X G tvi K) S lv pc [.int v] := by
  intro H locs cells slots ls hW hz hL hls
  exact j_end C hW (W.zret C.1 C.2.1 C.2.2.2.2.2.1 h.1 (fun t ht hw => ⟨S, v, rfl, h.2, by rw [ht]; exact hW, by rw [ht]; exact hz⟩) hL hdg C.2.2.2.2.2.2.1)
end JM1
section JM2
variable {Z : jZ} {d : Nat} {cc : ByteArray} {own : String} {ret : Option FieldType} {y : MethodName} {pc : Nat} {S : jS} {lv : List (Nat × Value)} {st : List Value}
variable {y2 : MethodName} {bytes : ByteArray} {maxL d2 index : Nat} {ret2 : Option FieldType} {As : List Value} {H : Heap} {locs : List Loc}
theorem jr_callUWi (C : jC Z d cc own ret y) (pc' : Nat) (hp : pc + 3 = pc') {hh : List (Nat × Nat × Nat × Nat)} {b : Nat} {K : jS → Int32 → Prop} (hM : jMet (zl Z) Z.2.1 d2 y2 (wsW_ y2 bytes maxL ret2 hh) (.ref b :: As) S tvi K) {stk : List Value} (hstk : As.reverse ++ .ref b :: st = stk) {c : Nat} {V : Nat → Value} {r0 : vw_C} (hb : S.1 b = some (c, .inr (.inr V))) (hc : jcl[c]? = some r0) (q1 : Cond.methodLink own index y2 ∈ lw_all) (q2 : Cond.instanceMethod y2 ∈ lw_all) (q5 : (Cond.selects r0.1 y2 y2).before (za Z) (zs Z) = true) (q3 : Cond.initialized y2.cls ∈ lw_all) (q4 : Cond.codeWith y2 bytes maxL ret2 hh ∈ lw_all) (hd : d2 + 1 ≤ d) (hm : maxL ≤ 45) (hnd : y2.cls ≠ "java/lang/invoke/MethodHandle" ∧ y2.cls ≠ "java/lang/invoke/VarHandle" ∧ (parseMethodDescriptor y2.desc).map (fun d => d.parameters.length) = some As.length) (hst : (st.map fun v => v.category).sum ≤ 8) (hdg : decode cc pc = .ok (.invokevirtual index, 3)) (kk : ∀ (S1 : jS) (r : Int32), K S1 r → jJ Z S1 lv pc' (.int r :: st)) : jJ Z S lv pc stk := by
  subst hp; subst hstk
  intro H locs cells slots ls hW hz hL hls
  have hts := C.2.2.2.2.1
  refine W.tight C.2.2.2.2.2.2.2.2.1 fun k n hk hn => ?_
  have hR := j_room C hd hm H.size (jsl H (gz Z.2.1))
  have cw : vx_CVW (zR Z) (zs Z) (za Z) own r0.1 index y2 bytes maxL ret2 hh (wsW_ y2 bytes maxL ret2 hh) (jrm Z.2.1 d2 H.size (jsl H (gz Z.2.1))) (gL Z.2.1 - H.size) (gT Z.2.1 - jsl H (gz Z.2.1)) As.length :=
    ⟨⟨rfl, rfl, hR.1, hR.2, pay_in hts (lw_methW q4), List.mem_cons_self⟩, hts _ q4, hts _ q3, ⟨hnd.1, hnd.2.1⟩, (fun sig h => by have h2 := hnd.2.2; rw [h] at h2; exact (Option.some.inj h2).symm), hts _ q1, hts _ q2, q5⟩
  exact j_after hL hz hls (vx_runVW (As := As) (rest := st) (j_fix C) (hM H.size (jsl H (gz Z.2.1))) cw ⟨j_blind, j_recv C hW hb hc, fun U hU hw => ⟨rfl, jP.now C hW U hU hw⟩⟩ rfl rfl hls.1 rfl (lv_room hst) hdg (j_fit C hW hz hk hn)) kk
end JM2
def jcq (t : Nat) (cs : List Nat) (S : jS) (a : Nat) (i : Int32) (b : Nat) (j n : Int32) (K : jS → Prop) : Prop := a = b ∧ ∃ (m : Nat) (f : Nat → Option Nat), S.1 b = some (t, .inr (.inl (m, f))) ∧ ¬ i < 0 ∧ ¬ j < 0 ∧ ¬ n < 0 ∧ i.toNatClampNeg + n.toNatClampNeg ≤ m ∧ j.toNatClampNeg + n.toNatClampNeg ≤ m ∧ (∀ k : Nat, k < n.toNatClampNeg → ∀ y : Nat, f (i.toNatClampNeg + k) = some y → ∃ (c : Nat) (V : Nat → Value), S.1 y = some (c, .inr (.inr V)) ∧ c ∈ cs) ∧ K (jset S b (t, .inr (.inl (m, va_cpy f f i.toNatClampNeg j.toNatClampNeg n.toNatClampNeg))))
def jcp (t : Nat) (S : jS) (a : Nat) (i : Int32) (b : Nat) (j n : Int32) (K : jS → Prop) : Prop := ∃ (m1 m2 : Nat) (f g : Nat → Int32), S.1 a = some (t, .inl (m1, f)) ∧ S.1 b = some (t, .inl (m2, g)) ∧ ¬ i < 0 ∧ ¬ j < 0 ∧ ¬ n < 0 ∧ i.toNatClampNeg + n.toNatClampNeg ≤ m1 ∧ j.toNatClampNeg + n.toNatClampNeg ≤ m2 ∧ (∀ k : Nat, k < n.toNatClampNeg → ∀ ty : FieldType, jty[t]? = some ty → fits ty (.int (f (i.toNatClampNeg + k))) = true) ∧ K (jset S b (t, .inl (m2, va_cpy f g i.toNatClampNeg j.toNatClampNeg n.toNatClampNeg)))
theorem j_nn : ∀ z : Int32, ¬ z < 0 → z.toInt = (z.toNatClampNeg : Int) := by
  intro z hz
  have hz0 : (0 : Int) ≤ z.toInt := by
    have := Int32.not_lt.mp hz
    simpa using Int32.le_iff_toInt_le.mp this
  show z.toInt = ((z.toInt.toNat : Nat) : Int)
  omega
section JM3
variable {Z : jZ} {d : Nat} {cc : ByteArray} {own : String} {ret : Option FieldType} {y : MethodName} {pc : Nat} {S : jS} {lv : List (Nat × Value)} {st : List Value}
theorem j_acroom (C : jC Z d cc own ret y) (hd : 1 ≤ d) (hst : (st.map fun v => v.category).sum ≤ 8) : 1 ≤ (zR Z).frames ∧ (st.map fun v => v.category).sum + (nativeFrameWords "java/lang/System" "arraycopy" 5 + 11) ≤ (zR Z).locals := by
  have h1 := C.2.2.2.2.2.2.2.2.2.2.2.2.1
  have h2 := C.2.2.2.2.2.2.2.2.2.2.2.2.2.1
  have h3 : nativeFrameWords "java/lang/System" "arraycopy" 5 + 11 ≤ 56 := by decide +kernel
  omega
theorem jr_copyq (C : jC Z d cc own ret y) (pc' : Nat) (hp : pc + 3 = pc') {t : Nat} {E : String} {cs : List Nat} (ht : jty[t]? = some (.object E)) (h9 : t < 10) (hcan : jCan E cs) {index : Nat} (q1 : Cond.methodLink own index arraycopyName ∈ lw_all) (hdg : decode cc pc = .ok (.invokestatic index, 3)) (hd : 1 ≤ d) (hst : (st.map fun v => v.category).sum ≤ 8) {a b : Nat} {sp dp n : Int32} {K : jS → Prop} (h : jcq t cs S a sp b dp n K) (kk : ∀ S1 : jS, K S1 → jJ Z S1 lv pc' st) : jJ Z S lv pc (.int n :: .int dp :: .ref b :: .int sp :: .ref a :: st) := by
  subst hp
  intro H locs cells slots ls hW hz hL hls
  obtain ⟨hab, m0, f, g0, h1, h2, h3, h4, h5, hel, hk⟩ := h
  subst hab
  have hja := j_rw hW g0 (show t < 10 from h9)
  have hc0 : H[a]? = some (vp_cell (gA Z.2.1 t) (m0, .inr (.inr (.inr (.inr f))))) := hja.1
  have hTA := C.2.2.2.2.2.2.2.1.2.2.1 t _ ht h9
  obtain ⟨-, k0, hk0, cm0, hkk0⟩ := hTA.1 m0 (fun j => va_rf (f j))
  have hroom := j_acroom C hd hst
  have hts := C.2.2.2.2.1
  intro T hT X
  obtain ⟨vm', X', step⟩ := X.arraycopy C.1 C.2.2.2.1 (hts _ q1) (hts _ q652) (hts _ q651) (hts _ q115) (src := a) (dst := a) (cs := vp_cell (gA Z.2.1 t) (m0, .inr (.inr (.inr (.inr f))))) (cd := vp_cell (gA Z.2.1 t) (m0, .inr (.inr (.inr (.inr f))))) (srcPos := sp) (destPos := dp) (n := n) (by rw [hT]; exact hc0) (by rw [hT]; exact hc0)
    (fun _ h => by cases h) (fun _ h => by cases h) (fun h => by cases h) (fun h => by cases h) hk0 hk0 hkk0 hkk0 rfl h1 h2 h3
    (by rw [j_nn sp h1, j_nn n h3]; show ¬ _ > ((arrV _ m0 (fun j => va_rf (f j))).slots.size : Int); rw [arrV_size]; omega)
    (by rw [j_nn dp h2, j_nn n h3]; show ¬ _ > ((arrV _ m0 (fun j => va_rf (f j))).slots.size : Int); rw [arrV_size]; omega)
    (fun vm₁ hal i hi => by
      have e : (vp_cell (gA Z.2.1 t) (m0, .inr (.inr (.inr (.inr f))))).slots.getD (sp.toNatClampNeg + i) .null = va_rf (f (sp.toNatClampNeg + i)) := by
        show (arrV _ m0 (fun j => va_rf (f j))).slots.getD _ _ = _
        rw [Array.getD_eq_getD_getElem?, arrV_read _ _ (by omega)]
        rfl
      rw [e]
      cases hy : f (sp.toNatClampNeg + i) with
      | none => exact ⟨rfl, trivial⟩
      | some yy =>
        obtain ⟨c, V, g1, g2⟩ := hel i hi yy hy
        obtain ⟨r, cell, r0, r1, r2, r3, r5, -, r4⟩ := j_obj hW C.2.2.2.2.2.2.2.1 g1
        have hfc := C.2.2.2.2.2.2.2.1.2.1 c _ r0
        obtain ⟨kA, comp, w1, w2, w3, -⟩ := hTA.2
        cases hk0.symm.trans w1
        cases hkk0.symm.trans w2
        obtain ⟨kC, hkC, -⟩ := Vm.findClass_spec hfc
        obtain ⟨kE, hkE, -⟩ := Vm.findClass_spec w3
        obtain ⟨kC', hkC', -⟩ := hal.2.2 _ _ hkC
        obtain ⟨kE', hkE', -⟩ := hal.2.2 _ _ hkE
        refine ⟨rfl, cell, (show T.heap[yy]? = some cell by rw [hT]; exact r1), (fun q h => by rw [h] at r3; cases r3), ⟨kC', by rw [r2]; exact hkC'⟩, ?_, ?_⟩
        · exact ⟨kE', hkE'⟩
        · show vm₁.assignable _ _ = true
          rw [hal.assignable, r2]
          rcases hcan c g2 r r0 with hE | hE
          · exact vb_asgS _ _ w3 (by rw [← hE]; exact hfc)
          · exact vb_asgC (C.2.2.2.2.2.2.2.1.2.2.2.1 _ hE) _ _ w3 hfc)
    (g := F0 (zm Z) pc ls (.int n :: .int dp :: .ref a :: .int sp :: .ref a :: st)) rfl (by rw [C.2.2.1]; exact hls.1) (rest := st) rfl (by rw [C.2.1]; exact hdg) hroom.1 (by show 2 * 0 + _ + _ ≤ _; have := hroom.2; omega)
  have e1 : copied (vp_cell (gA Z.2.1 t) (m0, .inr (.inr (.inr (.inr f))))) (vp_cell (gA Z.2.1 t) (m0, .inr (.inr (.inr (.inr f))))) sp dp n = vp_cell (gA Z.2.1 t) (m0, .inr (.inr (.inr (.inr (va_cpy f f sp.toNatClampNeg dp.toNatClampNeg n.toNatClampNeg))))) := by
    rw [vp_cell_q, vp_cell_q]
    exact va_copied (fun z => va_rf z) _ _ f f h4
  rw [e1] at X' step
  have hl : a < H.size := (Array.getElem?_eq_some_iff.mp hc0).1
  have oq : ∀ q : Nat, q ≠ a → (H.setIfInBounds a (vp_cell (gA Z.2.1 t) (m0, .inr (.inr (.inr (.inr (va_cpy f f sp.toNatClampNeg dp.toNatClampNeg n.toNatClampNeg)))))))[q]? = H[q]? := fun q hq => by simp [Array.getElem?_setIfInBounds, Ne.symm hq]
  have eq : (H.setIfInBounds a (vp_cell (gA Z.2.1 t) (m0, .inr (.inr (.inr (.inr (va_cpy f f sp.toNatClampNeg dp.toNatClampNeg n.toNatClampNeg)))))))[a]? = some (vp_cell (gA Z.2.1 t) (m0, .inr (.inr (.inr (.inr (va_cpy f f sp.toNatClampNeg dp.toNatClampNeg n.toNatClampNeg)))))) := by simp [Array.getElem?_setIfInBounds, hl]
  have hW1 : jW Z.2.1 (jset S a (t, .inr (.inl (m0, va_cpy f f sp.toNatClampNeg dp.toNatClampNeg n.toNatClampNeg)))) (H.setIfInBounds a (vp_cell (gA Z.2.1 t) (m0, .inr (.inr (.inr (.inr (va_cpy f f sp.toNatClampNeg dp.toNatClampNeg n.toNatClampNeg))))))) :=
    jW.set hW g0 (show jAt _ _ (_, .inr (.inl _)) _ from eq) (show t < 10 from h9) (by simp) oq hc0 eq (by rw [vp_cell_q, vp_cell_q, arrV_size, arrV_size]) (show t < 10 from h9)
  obtain ⟨t9, a1, b1⟩ := kk _ hk (H.setIfInBounds a (vp_cell (gA Z.2.1 t) (m0, .inr (.inr (.inr (.inr (va_cpy f f sp.toNatClampNeg dp.toNatClampNeg n.toNatClampNeg))))))) (locs ++ List.map (fun q => ({ base := a, slot := dp.toNatClampNeg + q.snd } : Loc)) ((vp_cell (gA Z.2.1 t) (m0, .inr (.inr (.inr (.inr f))))).stretch sp.toNatClampNeg n.toNatClampNeg).zipIdx) cells slots ls hW1 (by simp; exact hz) (fun q hq => by
      rcases List.mem_append.mp hq with h | h
      · exact hL q h
      · obtain ⟨z, -, hz⟩ := List.mem_map.mp h
        rw [← hz]
        exact hja.2) hls ((T.setVm vm').setCell a (vp_cell (gA Z.2.1 t) (m0, .inr (.inr (.inr (.inr (va_cpy f f sp.toNatClampNeg dp.toNatClampNeg n.toNatClampNeg))))))) (by rw [← hT]; rfl) X'
  exact ⟨t9, step t9 a1, b1⟩
end JM3
