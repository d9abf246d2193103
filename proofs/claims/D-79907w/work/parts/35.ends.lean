/-! ENDS, ENTRY, statics, casts, switches -/
def jis (c : Nat) (S : jS) (b : Nat) : Prop := ∃ V : Nat → Value, S.1 b = some (c, .inr (.inr V))
def jgs (i : Nat) (S : jS) (K : Nat → Prop) : Prop := ∃ q : Nat, S.2.2.2 i = .ref q ∧ K q
def jgsi (i : Nat) (S : jS) (K : Int32 → Prop) : Prop := ∃ q : Int32, S.2.2.2 i = .int q ∧ K q
def jgso (i : Nat) (S : jS) (K : Option Nat → Prop) : Prop := ∃ r : Option Nat, S.2.2.2 i = va_rf r ∧ K r
def jgsv (i : Nat) (S : jS) (K : Option Nat → Prop) : Prop := ∀ r : Option Nat, S.2.2.2 i = va_rf r → K r
def jany (S : jS) (b : Nat) : Prop := ∃ (c : Nat) (V : Nat → Value), S.1 b = some (c, .inr (.inr V))
/-- a reference is none or an object of one of these classes -/
def jco (cs : List Nat) (S : jS) (b : Nat) : Prop := ∃ (c : Nat) (V : Nat → Value), S.1 b = some (c, .inr (.inr V)) ∧ c ∈ cs
section JE
variable {X : jX} {G : jG} {nL d : Nat} {cc : ByteArray} {own : String} {ret : Option FieldType} {y : MethodName} {pc : Nat} {S : jS} {lv : List (Nat × Value)} {st : List Value}
theorem j_end {Q : State → Prop} {locs : List Loc} {cells slots : Nat} {H : Heap} {g : JFrame} (C : jC (X, G, nL, Q) d cc own ret y) (hW : jW G S H) (kk : W X.1 X.2.1 X.2.2.1 X.2.2.2.1 X.2.2.2.2.1 X.2.2.2.2.2.1 X.2.2.2.2.2.2.1 X.2.2.2.2.2.2.2.1 X.2.2.2.2.2.2.2.2.1 X.2.2.2.2.2.2.2.2.2 H locs X.2.2.2.1.cells X.2.2.2.1.slots Q g) : W X.1 X.2.1 X.2.2.1 X.2.2.2.1 X.2.2.2.2.1 X.2.2.2.2.2.1 X.2.2.2.2.2.2.1 X.2.2.2.2.2.2.2.1 X.2.2.2.2.2.2.2.2.1 X.2.2.2.2.2.2.2.2.2 H locs cells slots Q g := by
  refine W.tight C.2.2.2.2.2.2.2.2.1 fun k n hk hn => ?_
  have g4 := hW.2.2.2.1
  have g5 := hW.2.2.2.2.1
  have r1 := C.2.2.2.2.2.2.2.2.2.2.1
  have r2 := C.2.2.2.2.2.2.2.2.2.2.2.1
  dsimp only [zs, zR] at hk hn r1 r2
  exact W.widen (by rw [r1]; omega) (by rw [r2]; omega) kk
theorem jr_ireturn {K : jS → Int32 → Prop} (C : jC (X, G, nL, jA X G tvi K) d cc own (some .int) y) (hdg : decode cc pc = .ok (.ireturn, 1)) {v : Int32} (h : K S v) : jJ (X, G, nL, jA X G tvi K) S lv pc [.int v] := by
  intro H locs cells slots ls hW hz hL hls
  exact j_end C hW (W.iret C.1 C.2.1 C.2.2.2.2.2.1 (fun t ht hw => ⟨S, v, rfl, h, by rw [ht]; exact hW, by rw [ht]; exact hz⟩) hL hdg C.2.2.2.2.2.2.1)
theorem jr_zreturn {K : jS → Int32 → Prop} (C : jC (X, G, nL, jA X G tvi K) d cc own (some .boolean) y) (hdg : decode cc pc = .ok (.ireturn, 1)) {v : Int32} (h : (v = 0 ∨ v = 1) ∧ K S v) : jJ (X, G, nL, jA X G tvi K) S lv pc [.int v] := by
  intro H locs cells slots ls hW hz hL hls
  exact j_end C hW (W.zret C.1 C.2.1 C.2.2.2.2.2.1 (by rcases h.1 with e | e <;> (rw [e]; rfl)) (fun t ht hw => ⟨S, v, rfl, h.2, by rw [ht]; exact hW, by rw [ht]; exact hz⟩) hL hdg C.2.2.2.2.2.2.1)
theorem jr_lreturn {K : jS → Int64 → Prop} (C : jC (X, G, nL, jA X G tvl K) d cc own (some .long) y) (hdg : decode cc pc = .ok (.lreturn, 1)) {v : Int64} (h : K S v) : jJ (X, G, nL, jA X G tvl K) S lv pc [.long v] := by
  intro H locs cells slots ls hW hz hL hls
  exact j_end C hW (W.lret C.1 C.2.1 C.2.2.2.2.2.1 (fun t ht hw => ⟨S, v, rfl, h, by rw [ht]; exact hW, by rw [ht]; exact hz⟩) hL hdg C.2.2.2.2.2.2.1)
theorem jr_return {K : jS → Unit → Prop} (C : jC (X, G, nL, jA X G tvv K) d cc own none y) (hdg : decode cc pc = .ok (.return_, 1)) (h : K S ()) : jJ (X, G, nL, jA X G tvv K) S lv pc [] := by
  intro H locs cells slots ls hW hz hL hls
  exact j_end C hW (W.vret C.1 C.2.1 C.2.2.2.2.2.1 (fun t ht hw => ⟨S, (), rfl, h, by rw [ht]; exact hW, by rw [ht]; exact hz⟩) hL hdg C.2.2.2.2.2.2.1)
theorem jr_areturn {K : jS → Nat → Prop} {rt : FieldType} (hrt : (∃ n, rt = .object n) ∨ ∃ t, rt = .array t) (C : jC (X, G, nL, jA X G tvr K) d cc own (some rt) y) (hdg : decode cc pc = .ok (.areturn, 1)) {v : Nat} (h : K S v) : jJ (X, G, nL, jA X G tvr K) S lv pc [.ref v] := by
  intro H locs cells slots ls hW hz hL hls
  exact j_end C hW (W.aret C.1 C.2.1 C.2.2.2.2.2.1 hrt (Or.inr ⟨v, rfl⟩) (fun t ht hw => ⟨S, v, rfl, h, by rw [ht]; exact hW, by rw [ht]; exact hz⟩) hL hdg C.2.2.2.2.2.2.1)
theorem jr_oreturn {K : jS → Option Nat → Prop} {rt : FieldType} (hrt : (∃ n, rt = .object n) ∨ ∃ t, rt = .array t) (C : jC (X, G, nL, jA X G tvo K) d cc own (some rt) y) (hdg : decode cc pc = .ok (.areturn, 1)) {v : Option Nat} (h : K S v) : jJ (X, G, nL, jA X G tvo K) S lv pc [va_rf v] := by
  intro H locs cells slots ls hW hz hL hls
  exact j_end C hW (W.aret C.1 C.2.1 C.2.2.2.2.2.1 hrt (by cases v with | none => exact Or.inl rfl | some q => exact Or.inr ⟨q, rfl⟩) (fun t ht hw => ⟨S, v, rfl, h, by rw [ht]; exact hW, by rw [ht]; exact hz⟩) hL hdg C.2.2.2.2.2.2.1)
theorem jMet.of {l : Launch} {ρ : Type} {tv : ρ → Option Value} {K : jS → ρ → Prop} {As : List Value} (hl : l.stackTraces = false) (ho : y.cls = own) (hy : plainName y.cls = true) (hsz : (lg_sl As).length ≤ nL)
    (body : ∀ X : jX, jC (X, G, nL, jA X G tv K) d cc own ret y → jJ (X, G, nL, jA X G tv K) S (lv_args 0 As) 0 []) : jMet l G d y (ws_ y cc nL ret) As S tv K := by
  intro sz nz
  refine Met.ofW (cc := cc) (maxL := nL) (ret := ret) hy rfl ?_
  intro p e s m args below meth c s₁ B hml hv
  obtain ⟨rfl, hsz1, hnz, hW, hK⟩ := hv
  have hts := atoms_spec (ws := ws_ y cc nL ret) B.pre
  have hts : ∀ w ∈ lw_all, w.before _ s = true := fun w h => hts w (List.mem_cons_of_mem _ h)
  have C : jC ((p, l, e, (headSpec (ws_ y cc nL ret) (jrm G d sz nz)).room, s, m, As.toArray, below, meth, c), G, nL, jA (p, l, e, (headSpec (ws_ y cc nL ret) (jrm G d sz nz)).room, s, m, As.toArray, below, meth, c) G tv K) d cc own ret y :=
    ⟨B.exec, B.bytes, hml, by rw [← ho]; exact findClass_of_methodNamed B.named, hts, B.returns, B.notSynchronized, hK, hW.2.1, hW.2.2.1, by rw [← hsz1]; rfl, by rw [← hnz]; rfl, Nat.le_refl _, Nat.le_refl _, (name_of_methodNamed B.named B.method).1, hl⟩
  have hls := lv_entry As (n := nL) hsz
  have hbody := body _ C s.heap [] 0 0 ((lg_sl As ++ List.replicate (nL - (lg_sl As).length) Slot.unset).toArray) hW (Nat.le_refl _) (fun q h => by cases h) hls
  rw [lg_entry_eq]
  exact hbody
theorem jMet.ofH {l : Launch} {hh : List (Nat × Nat × Nat × Nat)} {ρ : Type} {tv : ρ → Option Value} {K : jS → ρ → Prop} {As : List Value} (hl : l.stackTraces = false) (ho : y.cls = own) (hy : plainName y.cls = true) (hsz : (lg_sl As).length ≤ nL)
    (body : ∀ X : jX, jC (X, G, nL, jA X G tv K) d cc own ret y → jJ (X, G, nL, jA X G tv K) S (lv_args 0 As) 0 []) : jMet l G d y (wsW_ y cc nL ret hh) As S tv K := by
  intro sz nz
  refine MetFree.of_bodyS (code := cc) (maxLocals := nL) (ret := ret) hy ?_ ?_
  · intro args s m h hn
    obtain ⟨m9, meth, c, hn9, h1, h2, h3, h4, -, h5, h6, -⟩ := Cond.codeWith_spec (atoms_spec (ws := wsW_ y cc nL ret hh) h _ List.mem_cons_self)
    cases hn.symm.trans hn9
    exact ⟨meth, c, h1, h2, h3, h4, h5, h6⟩
  intro p e s m args below meth c s₁ B hml hv _
  obtain ⟨rfl, hsz1, hnz, hW, hK⟩ := hv
  have hts := atoms_spec (ws := wsW_ y cc nL ret hh) B.pre
  have hts : ∀ w ∈ lw_all, w.before _ s = true := fun w h => hts w (List.mem_cons_of_mem _ h)
  have C : jC ((p, l, e, (headSpec (wsW_ y cc nL ret hh) (jrm G d sz nz)).room, s, m, As.toArray, below, meth, c), G, nL, jA (p, l, e, (headSpec (wsW_ y cc nL ret hh) (jrm G d sz nz)).room, s, m, As.toArray, below, meth, c) G tv K) d cc own ret y :=
    ⟨B.exec, B.bytes, hml, by rw [← ho]; exact findClass_of_methodNamed B.named, hts, B.returns, B.notSynchronized, hK, hW.2.1, hW.2.2.1, by rw [← hsz1]; rfl, by rw [← hnz]; rfl, Nat.le_refl _, Nat.le_refl _, (name_of_methodNamed B.named B.method).1, hl⟩
  have hls := lv_entry As (n := nL) hsz
  have hbody := body _ C s.heap [] 0 0 ((lg_sl As ++ List.replicate (nL - (lg_sl As).length) Slot.unset).toArray) hW (Nat.le_refl _) (fun q h => by cases h) hls
  rw [← lg_entry_eq] at hbody
  have hh0 : s₁.heap = s.heap := by rw [B.state]; rfl
  obtain ⟨t, a1, o, b1, b2, b3⟩ := hbody s₁ hh0 (Stand.of_body B)
  exact ⟨t, o, a1, b1, b2, ⟨b3.1, b3.2⟩⟩
theorem jMet.ofHT {l : Launch} {hh : List (Nat × Nat × Nat × Nat)} {ρ : Type} {tv : ρ → Option Value} {K : jS → ρ → Prop} {As : List Value} (hl : l.stackTraces = false) (ho : y.cls = own) (hy : plainName y.cls = true) (hsz : (lg_sl As).length ≤ nL)
    (body : ∀ X : jX, jC (X, G, nL, jA X G tv K) d cc own ret y → (zc (X, G, nL, jA X G tv K)).exceptionTable.toList = tableOf hh → jJ (X, G, nL, jA X G tv K) S (lv_args 0 As) 0 []) : jMet l G d y (wsW_ y cc nL ret hh) As S tv K := by
  intro sz nz
  refine MetFree.of_bodyS (code := cc) (maxLocals := nL) (ret := ret) hy ?_ ?_
  · intro args s m h hn
    obtain ⟨m9, meth, c, hn9, h1, h2, h3, h4, -, h5, h6, -⟩ := Cond.codeWith_spec (atoms_spec (ws := wsW_ y cc nL ret hh) h _ List.mem_cons_self)
    cases hn.symm.trans hn9
    exact ⟨meth, c, h1, h2, h3, h4, h5, h6⟩
  intro p e s m args below meth c s₁ B hml hv _
  obtain ⟨rfl, hsz1, hnz, hW, hK⟩ := hv
  have hts := atoms_spec (ws := wsW_ y cc nL ret hh) B.pre
  have hts : ∀ w ∈ lw_all, w.before _ s = true := fun w h => hts w (List.mem_cons_of_mem _ h)
  have C : jC ((p, l, e, (headSpec (wsW_ y cc nL ret hh) (jrm G d sz nz)).room, s, m, As.toArray, below, meth, c), G, nL, jA (p, l, e, (headSpec (wsW_ y cc nL ret hh) (jrm G d sz nz)).room, s, m, As.toArray, below, meth, c) G tv K) d cc own ret y :=
    ⟨B.exec, B.bytes, hml, by rw [← ho]; exact findClass_of_methodNamed B.named, hts, B.returns, B.notSynchronized, hK, hW.2.1, hW.2.2.1, by rw [← hsz1]; rfl, by rw [← hnz]; rfl, Nat.le_refl _, Nat.le_refl _, (name_of_methodNamed B.named B.method).1, hl⟩
  have hls := lv_entry As (n := nL) hsz
  have hbody := body _ C (vx_table (x := y) B (atoms_spec (ws := wsW_ y cc nL ret hh) B.pre _ List.mem_cons_self)) s.heap [] 0 0 ((lg_sl As ++ List.replicate (nL - (lg_sl As).length) Slot.unset).toArray) hW (Nat.le_refl _) (fun q h => by cases h) hls
  rw [← lg_entry_eq] at hbody
  have hh0 : s₁.heap = s.heap := by rw [B.state]; rfl
  obtain ⟨t, a1, o, b1, b2, b3⟩ := hbody s₁ hh0 (Stand.of_body B)
  exact ⟨t, o, a1, b1, b2, ⟨b3.1, b3.2⟩⟩
end JE
section JF
variable {Z : jZ} {d : Nat} {cc : ByteArray} {own : String} {ret : Option FieldType} {y : MethodName} {pc : Nat} {S : jS} {lv : List (Nat × Value)} {st : List Value}
theorem jr_objInit (C : jC Z d cc own ret y) (pc' : Nat) (hp : pc + 3 = pc') (hd : 1 ≤ d) {index : Nat} (q1 : Cond.methodLink own index objectInit ∈ lw_all) (q2 : Cond.instanceMethod objectInit ∈ lw_all) (q3 : Cond.code objectInit ⟨#[0xb1]⟩ 1 none ∈ lw_all) (hst : (st.map fun v => v.category).sum ≤ 8) (hdg : decode cc pc = .ok (.invokespecial index, 3)) {a : Nat} (kk : jJ Z S lv pc' st) : jJ Z S lv pc (.ref a :: st) := by
  subst hp
  intro H locs cells slots ls hW hz hL hls
  have hts := C.2.2.2.2.1
  have r1 := C.2.2.2.2.2.2.2.2.2.2.2.2.1
  have r2 := C.2.2.2.2.2.2.2.2.2.2.2.2.2.1
  exact W.objInit C.1 C.2.1 C.2.2.2.1 (hts _ q1) (hts _ q2) (hts _ q3) rfl (by rw [C.2.2.1]; exact hls.1) rfl hdg (by omega) (by show 2 * 0 + _ + _ ≤ _; omega) (kk H locs cells slots ls hW hz hL hls)
theorem jr_getsv (C : jC Z d cc own ret y) (pc' : Nat) (hp : pc + 3 = pc') {i : Nat} {cn n ds ref : String} (hi : jst[i]? = some (cn, n, ds)) {index : Nat} (hl : Cond.fieldLink own index cn n ds ∈ lw_all) (hdg : decode cc pc = .ok (.getstatic index, 3)) (kk : jJ Z S lv pc' (S.2.2.2 i :: st)) : jJ Z S lv pc st := by
  subst hp
  intro H locs cells slots ls hW hz hL hls
  obtain ⟨cf, kf, fi, f, a, cell, h1, h2, h3, h4, h5, h6, h7, h8⟩ := C.2.2.2.2.2.2.2.1.2.2.2.2.2.1 i _ hi
  have kk := kk H locs cells slots ls hW hz hL hls
  rw [hW.2.2.2.2.2] at kk
  exact W.gets C.1 C.2.1 C.2.2.2.1 (C.2.2.2.2.1 _ hl) h1 h2 h3 h4 (by rw [hW.2.2.1 a (Nat.not_le.mp h8)]; exact h5) (fun e => by rw [e] at h6; cases h6) h7 rfl hdg kk
theorem jr_getsvN (C : jC Z d cc own ret y) (pc' : Nat) (hp : pc + 3 = pc') {i : Nat} {cn n ds host : String} (hi : jst[i]? = some (cn, n, ds)) {index : Nat} (hl : Cond.fieldLinkNest own index cn n ds host ∈ jxw) (hdg : decode cc pc = .ok (.getstatic index, 3)) (kk : jJ Z S lv pc' (S.2.2.2 i :: st)) : jJ Z S lv pc st := by
  subst hp
  intro H locs cells slots ls hW hz hL hls
  obtain ⟨cf, kf, fi, f, a, cell, h1, h2, h3, h4, h5, h6, h7, h8⟩ := C.2.2.2.2.2.2.2.1.2.2.2.2.2.1 i _ hi
  have kk := kk H locs cells slots ls hW hz hL hls
  rw [hW.2.2.2.2.2] at kk
  exact va_WgetsN C.1 C.2.1 C.2.2.2.1 (va_Nw.use rfl (C.2.2.2.2.2.2.2.1.2.2.2.1 _ hl)) h1 h2 h3 h4 (by rw [hW.2.2.1 a (Nat.not_le.mp h8)]; exact h5) (fun e => by rw [e] at h6; cases h6) h7 rfl hdg kk
theorem jr_gets (C : jC Z d cc own ret y) (pc' : Nat) (hp : pc + 3 = pc') {i : Nat} {cn n ds : String} (hi : jst[i]? = some (cn, n, ds)) {index : Nat} (hl : Cond.fieldLink own index cn n ds ∈ lw_all) (hdg : decode cc pc = .ok (.getstatic index, 3)) {K : Nat → Prop} (h : jgs i S K) (kk : ∀ q : Nat, K q → jJ Z S lv pc' (.ref q :: st)) : jJ Z S lv pc st := by
  obtain ⟨q, h1, h2⟩ := h
  refine jr_getsv C pc' hp (ref := cn) hi hl hdg ?_
  rw [h1]
  exact kk q h2
theorem jr_getsN (C : jC Z d cc own ret y) (pc' : Nat) (hp : pc + 3 = pc') {i : Nat} {cn n ds host : String} (hi : jst[i]? = some (cn, n, ds)) {index : Nat} (hl : Cond.fieldLinkNest own index cn n ds host ∈ jxw) (hdg : decode cc pc = .ok (.getstatic index, 3)) {K : Nat → Prop} (h : jgs i S K) (kk : ∀ q : Nat, K q → jJ Z S lv pc' (.ref q :: st)) : jJ Z S lv pc st := by
  obtain ⟨q, h1, h2⟩ := h
  refine jr_getsvN C pc' hp hi hl hdg ?_
  rw [h1]
  exact kk q h2
theorem jr_getsi (C : jC Z d cc own ret y) (pc' : Nat) (hp : pc + 3 = pc') {i : Nat} {cn n ds : String} (hi : jst[i]? = some (cn, n, ds)) {index : Nat} (hl : Cond.fieldLink own index cn n ds ∈ lw_all) (hdg : decode cc pc = .ok (.getstatic index, 3)) {K : Int32 → Prop} (h : jgsi i S K) (kk : ∀ q : Int32, K q → jJ Z S lv pc' (.int q :: st)) : jJ Z S lv pc st := by
  obtain ⟨q, h1, h2⟩ := h
  refine jr_getsv C pc' hp (ref := cn) hi hl hdg ?_
  rw [h1]
  exact kk q h2
theorem jr_getso (C : jC Z d cc own ret y) (pc' : Nat) (hp : pc + 3 = pc') {i : Nat} {cn n ds : String} (hi : jst[i]? = some (cn, n, ds)) {index : Nat} (hl : Cond.fieldLink own index cn n ds ∈ lw_all) (hdg : decode cc pc = .ok (.getstatic index, 3)) {K : Option Nat → Prop} (h : jgso i S K) (kk : ∀ q : Option Nat, K q → jJ Z S lv pc' (va_rf q :: st)) : jJ Z S lv pc st := by
  obtain ⟨q, h1, h2⟩ := h
  refine jr_getsv C pc' hp (ref := cn) hi hl hdg ?_
  rw [h1]
  exact kk q h2
/-- a String constant -/
theorem jr_ldcs (C : jC Z d cc own ret y) (pc' : Nat) (hp : pc + 2 = pc') {i index : Nat} {tx : String} (hi : jstr[i]? = some (own, index, tx)) (hdg : decode cc pc = .ok (.ldc index, 2)) {K : Nat → Prop} (h : jgs (20 + i) S K) (kk : ∀ q : Nat, K q → jJ Z S lv pc' (.ref q :: st)) : jJ Z S lv pc st := by
  subst hp
  intro H locs cells slots ls hW hz hL hls
  obtain ⟨q, h1, h2⟩ := h
  obtain ⟨a, g1, g2⟩ := C.2.2.2.2.2.2.2.1.2.2.2.2.2.2.1 i _ hi
  have e : q = a := by
    rw [hW.2.2.2.2.2, g1] at h1
    cases h1
    rfl
  subst e
  exact va_ldcS C.1 C.2.1 C.2.2.2.1 g2 hdg (kk q h2 H locs cells slots ls hW hz hL hls)
/-- a checkcast that passes: an object of a class of cs -/
theorem jr_cast (C : jC Z d cc own ret y) (pc' : Nat) (hp : pc + 3 = pc') {cs : List Nat} {E : String} (hcan : jCan E cs) (h9 : ∀ c ∈ cs, c < 9 ∨ c = 14) {index : Nat} (hl : Cond.classLink own index E ∈ lw_all) (hdg : decode cc pc = .ok (.checkcast index, 3)) {a : Nat} (h : jco cs S a) (kk : jJ Z S lv pc' (.ref a :: st)) : jJ Z S lv pc (.ref a :: st) := by
  subst hp
  intro H locs cells slots ls hW hz hL hls
  obtain ⟨c, V, h1, h2⟩ := h
  obtain ⟨r, cell, q0, q1, q2, q3, -⟩ := j_obj hW C.2.2.2.2.2.2.2.1 h1
  have hr : ∃ cell : Cell, H[a]? = some cell ∧ cell.vm.isStatics = false ∧ (zs Z).vm.findClass r.1 = some cell.cls := ⟨cell, q1, q3, by rw [q2]; exact C.2.2.2.2.2.2.2.1.2.1 c r q0⟩
  have kk := kk H locs cells slots ls hW hz hL hls
  rcases hcan c h2 r q0 with hE | hE
  · subst hE
    exact va_castS C.1 C.2.1 C.2.2.2.1 (C.2.2.2.2.1 _ hl) (C.2.2.2.2.2.2.2.1.1 c r q0 (h9 c h2)).2 hr hdg kk
  · exact va_castY C.1 C.2.1 C.2.2.2.1 (C.2.2.2.2.1 _ hl) (C.2.2.2.2.2.2.2.1.2.2.2.1 _ hE) hr hdg kk
theorem jr_tswIn (C : jC Z d cc own ret y) (tgt : Nat) {dflt lo hi off : Int} {offs : Array Int} {len : Nat} {x k0 : Int32} (hdg : decode cc pc = .ok (.tableswitch dflt lo hi offs, len)) (hx : x = k0) (h1 : ¬ k0.toInt < lo) (h2 : ¬ hi < k0.toInt) (ho : offs[(k0.toInt - lo).toNat]? = some off) (ht : (pc : Int) + off = (tgt : Int)) (k : jJ Z S lv tgt st) : jJ Z S lv pc (.int x :: st) := by
  subst hx
  exact fun H locs cells slots ls hW hz hL hl => lv_tableIn C.1 C.2.1 hdg h1 h2 ho ht (k H locs cells slots ls hW hz hL hl)
theorem jr_tswOut (C : jC Z d cc own ret y) (tgt : Nat) {dflt lo hi : Int} {offs : Array Int} {len : Nat} {x : Int32} (hdg : decode cc pc = .ok (.tableswitch dflt lo hi offs, len)) (h : x.toInt < lo ∨ hi < x.toInt) (ht : (pc : Int) + dflt = (tgt : Int)) (k : jJ Z S lv tgt st) : jJ Z S lv pc (.int x :: st) :=
  fun H locs cells slots ls hW hz hL hl => lv_tableOut C.1 C.2.1 hdg h ht (k H locs cells slots ls hW hz hL hl)
theorem jr_lsw (C : jC Z d cc own ret y) (tgt : Nat) {dflt off : Int} {ps : Array (Int × Int)} {len : Nat} {x : Int32} (hdg : decode cc pc = .ok (.lookupswitch dflt ps, len)) (hp : (ps.toList.zip (ps.toList.drop 1)).all (fun (a, next) => a.1 < next.1) = true) (ho : Op.lookupswitch.offset ps.toList dflt x.toInt = off) (ht : (pc : Int) + off = (tgt : Int)) (k : jJ Z S lv tgt st) : jJ Z S lv pc (.int x :: st) :=
  fun H locs cells slots ls hW hz hL hl => lv_lookup C.1 C.2.1 hdg hp ho ht (k H locs cells slots ls hW hz hL hl)
end JF
